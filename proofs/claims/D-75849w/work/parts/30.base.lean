set_option maxRecDepth 100000
/-! ===== the plain side: memory's laws, folds ===== -/
def kt_gx (gr : kt_g × kt_M) : kt_g := fun a t => gr.1 a t ∨ gr.2.1 ≤ a
theorem kt_gx_sub (gr : kt_g × kt_M) : kt_sub (kt_gx gr) gr := fun a _ h h' => h'.resolve_right (by omega)
theorem kt_gx_wr {gr : kt_g × kt_M} {M M1 M' : kt_M} {a : Nat} (h : kt_wr gr M a) (e : (M'.2.2 a).1 = (M.2.2 a).1) : kt_wr (kt_gx gr, M1) M' a := by
  refine ⟨by rw [e]; exact h.1, fun _ => ?_⟩
  show gr.1 a _ ∨ gr.2.1 ≤ a
  by_cases h9 : a < gr.2.1
  · rw [e]; exact Or.inl (h.2 h9)
  · exact Or.inr (by omega)
theorem kt_cc {w : kt_W} {gr : kt_g × kt_M} {d : Nat} {y : MethodName} {cw : Cond} {av : List Value} {M : kt_M} {P : Option Value → kt_M → Prop} {X : String → Nat → kt_M → Prop} (h : kt_Sp w (kt_gx gr) d y cw av M P X) : kt_Ca w gr d y cw av M P X := ⟨_, kt_gx_sub gr, h⟩
/-- reading an int array -/
theorem kt_eli {M : kt_M} {a k t n i : Nat} {f : Nat → Int32} (h : M.2.2 a = (t + 1, .inl (k, n, .inl f))) (hi : i < n) (h31 : n ≤ 2 ^ 31) : kt_el k M a (nI i) = some (.int (f i)) := by
  have hc : (nI i).toNatClampNeg = i := nI_clamp (by omega)
  unfold kt_el
  rw [h]
  show (if k = k then (if nI i < 0 ∨ n ≤ (nI i).toNatClampNeg then none else some (Value.int (f (nI i).toNatClampNeg))) else none) = _
  rw [if_pos rfl, hc, if_neg]
  intro h
  rcases h with h | h
  · exact nI_pos (by omega) h
  · omega
theorem kt_hiiw {gr : kt_g × kt_M} {M : kt_M} {a k t n i : Nat} {f : Nat → Int32} (hw : kt_wr gr M a) (h : M.2.2 a = (t, .inl (k, n, .inl f))) (hi : i < n) (h31 : n ≤ 2 ^ 31) : kt_hii gr k M a (nI i) := by
  refine ⟨hw, t, n, f, h, fun h => ?_⟩
  rw [nI_clamp (by omega)] at h
  rcases h with h | h
  · exact nI_pos (by omega) h
  · omega
theorem kt_siu {M : kt_M} {a k t n i : Nat} {f : Nat → Int32} {v : Int32} (h : M.2.2 a = (t, .inl (k, n, .inl f))) (hi : i < 2 ^ 31) : kt_si M a (nI i) v = kt_up M a (t, .inl (k, n, .inl (upd f i v))) := by
  unfold kt_si
  rw [h, nI_clamp hi]
theorem kt_up_same (M : kt_M) (a : Nat) (c : kt_C) : (kt_up M a c).2.2 a = c := va_up_self _ _ _
theorem kt_up_ne (M : kt_M) {a b : Nat} (c : kt_C) (h : b ≠ a) : (kt_up M a c).2.2 b = M.2.2 b := va_up_ne _ _ h
theorem kt_up_up (M : kt_M) (a : Nat) (c c' : kt_C) : kt_up (kt_up M a c) a c' = kt_up M a c' := by
  show (M.1, M.2.1, va_up (va_up M.2.2 a c) a c') = (M.1, M.2.1, va_up M.2.2 a c')
  have h : va_up (va_up M.2.2 a c) a c' = va_up M.2.2 a c' := by
    funext b
    by_cases h : b = a
    · subst h; rw [va_up_self, va_up_self]
    · rw [va_up_ne _ _ h, va_up_ne _ _ h, va_up_ne _ _ h]
  rw [h]
theorem kt_up_id {M : kt_M} {a : Nat} {c : kt_C} (h : M.2.2 a = c) : kt_up M a c = M := by
  obtain ⟨x, y, f⟩ := M
  unfold kt_up
  refine congrArg _ (congrArg _ ?_)
  funext b
  by_cases h9 : b = a
  · rw [h9, va_up_self]; exact h.symm
  · rw [va_up_ne _ _ h9]
/-- ints as numbers -/
theorem kt_lit (n : Nat) : (OfNat.ofNat n : Int32) = nI n := rfl
theorem nI_mul (a b : Nat) : nI a * nI b = nI (a * b) := (Int32.ofNat_mul a b).symm
/-- folds below n: the greatest; how many; a set; the greatest of values -/
def kG (p : Nat → Bool) : Nat → Int32
  | 0 => -1
  | n + 1 => if p n then nI n else kG p n
def kC (p : Nat → Bool) : Nat → Nat
  | 0 => 0
  | n + 1 => kC p n + (if p n then 1 else 0)
def kS (p : Nat → Bool) : Nat → Int32
  | 0 => 0
  | n + 1 => kS p n ||| (if p n then 1 <<< (nI n &&& 31) else 0)
def kX (p : Nat → Bool) (f : Nat → Int32) : Nat → Int32
  | 0 => -1
  | n + 1 => if p n then (if kX p f n < f n then f n else kX p f n) else kX p f n
theorem kC_le (p : Nat → Bool) : ∀ n, kC p n ≤ n
  | 0 => Nat.le_refl _
  | n + 1 => by
    have := kC_le p n
    unfold kC
    split <;> omega
def kB (b : Bool) : Int32 := if b then 1 else 0
theorem kB_0 {b : Bool} : kB b = 0 ↔ b = false := by cases b <;> decide
theorem kB_n0 {b : Bool} : ¬ kB b = 0 ↔ b = true := by cases b <;> decide
