set_option maxRecDepth 100000
/-! ===== native members: arraycopy, clone, getClass, floatToRawIntBits ===== -/
theorem kt_foC {w : kt_W} {s : State} {H : Heap} {M : kt_M} {kd b : Nat} (G : kt_G w) (hW : (kt_s0 w).WarmedH s.vm) (hH : kt_H w M H) (h : kt_fo kd M b) {comp : ClassId} {E : String} (hE : kt_ty kd = .object E) (r3 : s.vm.findClass E = some comp) : ∃ cellV : Cell, H[b]? = some cellV ∧ cellV.vm.isStatics = false ∧ (∃ kC : Class, s.vm.classes[cellV.cls]? = some kC) ∧ s.vm.assignable cellV.cls comp = true := by
  have hK : va_K (kt_D w) kt_cl (kt_tyl w) s := va_K.moved hW.alike G.2.1
  match kd, h, hE with
  | 3, hb9, hE =>
    cases hE
    rcases hb9 with ⟨c9, h1, h2⟩ | ⟨t9, x9, h1, h2⟩
    · obtain ⟨cellV, g1, g2, g3⟩ := kt_clsOf G hW hH h1 h2.1
      obtain ⟨kC, hkC, -⟩ := Vm.findClass_spec g3
      exact ⟨cellV, g1, g2, ⟨kC, hkC⟩, kt_asg G hW h2 r3 g3⟩
    · have hat := hH.2.2.2.2.2.2 b
      rw [h1] at hat
      obtain ⟨tn, rfl⟩ : ∃ tn, t9 = tn + 2 := ⟨t9 - 2, by omega⟩
      obtain ⟨-, g1, -⟩ := hat
      rw [kt_cell_v] at g1
      have hf0 : s.vm.findClass "[I" = some (kt_dA w 0) := (hK.2 0 _ (kt_tyl_at w (by decide))).2
      obtain ⟨kC, hkC, -⟩ := Vm.findClass_spec hf0
      exact ⟨_, g1, rfl, ⟨kC, hkC⟩, vb_asgC (kt_castN G hW q3076) comp _ r3 hf0⟩
  | 5, hb9, hE =>
    cases hE
    obtain ⟨cellV, g1, g2, g3⟩ := kt_clsOf G hW hH hb9 (by decide)
    obtain ⟨kC, hkC, -⟩ := Vm.findClass_spec g3
    cases g3.symm.trans r3
    exact ⟨cellV, g1, g2, ⟨kC, hkC⟩, va_asg _ _⟩
/-- a stretch copied -/
def kt_cpy (x y : vp_A) (sp dp n : Nat) : vp_A := match x, y with
  | (_, .inl f), (m, .inl g) => (m, .inl (va_cpy f g sp dp n))
  | (_, .inr (.inl f)), (m, .inr (.inl g)) => (m, .inr (.inl (va_cpy f g sp dp n)))
  | (_, .inr (.inr (.inr (.inr f)))), (m, .inr (.inr (.inr (.inr g)))) => (m, .inr (.inr (.inr (.inr (va_cpy f g sp dp n)))))
  | _, y => y
/-- the arrays are alike -/
def kt_alike (x y : vp_A) : Prop := match x, y with
  | (_, .inl _), (_, .inl _) => True
  | (_, .inr (.inl _)), (_, .inr (.inl _)) => True
  | (_, .inr (.inr (.inr (.inr _)))), (_, .inr (.inr (.inr (.inr _)))) => True
  | _, _ => False
/-- an element fits an array of kind k -/
def kt_fit (kd : Nat) (M : kt_M) (v : Value) : Prop := fits (kt_ty kd) v = true ∧ ∀ b, v = .ref b → kt_fo kd M b
/-- System.arraycopy at s from sp to t at dp, n elements -/
def kt_ac (gr : kt_g × kt_M) (M : kt_M) (s : Nat) (sp : Int32) (t : Nat) (dp n : Int32) : Prop := ¬ sp < 0 ∧ ¬ dp < 0 ∧ ¬ n < 0 ∧ kt_wr gr M t ∧ ∃ kd ts tt x y, M.2.2 s = (ts + 2, .inl (kd, x)) ∧ M.2.2 t = (tt, .inl (kd, y)) ∧ kt_alike x y ∧ sp.toNatClampNeg + n.toNatClampNeg ≤ x.1 ∧ dp.toNatClampNeg + n.toNatClampNeg ≤ y.1 ∧ ∀ i, i < n.toNatClampNeg → kt_fit kd M (kt_v x (sp.toNatClampNeg + i))
def kt_acp (M : kt_M) (s : Nat) (sp : Int32) (t : Nat) (dp n : Int32) : kt_M := match M.2.2 s, M.2.2 t with
  | (_, .inl (_, x)), (tt, .inl (kd, y)) => kt_up M t (tt, .inl (kd, kt_cpy x y sp.toNatClampNeg dp.toNatClampNeg n.toNatClampNeg))
  | _, _ => M
theorem kt_cpy_ok {cA : ClassId} {x y : vp_A} {sp dp n : Nat} (ha : kt_alike x y) (h : sp + n ≤ x.1) : (vp_cell cA y).storeRun dp ((vp_cell cA x).stretch sp n) = vp_cell cA (kt_cpy x y sp dp n) ∧ (kt_cpy x y sp dp n).1 = y.1 := by
  obtain ⟨n0, f | f | f | f | f⟩ := x <;> obtain ⟨n1, g | g | g | g | g⟩ := y <;> first | exact ha.elim | skip
  · exact ⟨va_copied (fun z => .int z) cA cA f g h, rfl⟩
  · exact ⟨va_copied (fun z => .long z) cA cA f g h, rfl⟩
  · refine ⟨?_, rfl⟩
    show (vp_cell cA (n1, .inr (.inr (.inr (.inr g))))).storeRun dp ((vp_cell cA (n0, .inr (.inr (.inr (.inr f))))).stretch sp n) = vp_cell cA (n1, .inr (.inr (.inr (.inr (va_cpy f g sp dp n)))))
    rw [vp_cell_q, vp_cell_q, vp_cell_q]
    exact va_copied (fun z => va_rf z) cA cA f g h
theorem kt_nn {z : Int32} (hz : ¬ z < 0) : z.toInt = (z.toNatClampNeg : Int) := by
  have hz0 : (0 : Int) ≤ z.toInt := by
    have := Int32.not_lt.mp hz
    simpa using Int32.le_iff_toInt_le.mp this
  show z.toInt = ((z.toInt.toNat : Nat) : Int)
  omega
section KNA
variable {w : kt_W} {x : kt_X} {gr : kt_g × kt_M} {d nL : Nat} {Q : State → Prop} {M : kt_M} {pc : Nat} {L : List (Nat × Value)} {st : List Value} {cc : ByteArray} {own : String} {nm : String × String} {ret : Option FieldType} {hh : List (Nat × Nat × Nat × Nat)}
theorem kr_arraycopy {idx a b : Nat} {sp dp n : Int32} (O : kt_O w x gr (d + 1) cc own nL nm ret hh) (hd : decode cc pc = .ok (.invokestatic idx, 3)) (hq : Cond.methodLink own idx arraycopyName ∈ lw_all) (hg : kt_ac gr M a sp b dp n) (hst : st.length ≤ 8) (k : kt_S w x nL Q (kt_acp M a sp b dp n) (pc + 3) L st) : kt_S w x nL Q M pc L (.int n :: .int dp :: va_rf (some b) :: .int sp :: va_rf (some a) :: st) := by
  obtain ⟨p, e, g, d0, M0, s, m, args, below, meth, c⟩ := x
  obtain ⟨hx, hb, hml, hown, hts, hlk, hW, hH0, hnm, hret, htab, G, hgr, hdd⟩ := O
  subst hgr hdd
  intro H locs ls k1 n1 hH hl1 hz hs
  obtain ⟨h1, h2, h3, hw, kd, ts, tt, x, y, e1, e2, hal, h4, h5, hv⟩ := hg
  have hM : kt_acp M a sp b dp n = kt_up M b (tt, .inl (kd, kt_cpy x y sp.toNatClampNeg dp.toNatClampNeg n.toNatClampNeg)) := by unfold kt_acp; rw [e1, e2]
  rw [hM] at k
  have hata := hH.2.2.2.2.2.2 a
  have hatb := hH.2.2.2.2.2.2 b
  have hwr := hw.1
  rw [e1] at hata
  rw [e2] at hatb hwr
  obtain ⟨tn, rfl⟩ : ∃ tn, tt = tn + 2 := ⟨tt - 2, by have : 2 ≤ tt := hwr; omega⟩
  obtain ⟨hk6, q1, -⟩ := hata
  obtain ⟨-, q2, hN0⟩ := hatb
  have hK : va_K (kt_D w) kt_cl (kt_tyl w) s := va_K.moved hW.alike G.2.1
  have hty := hK.2 kd _ (kt_tyl_at w hk6)
  obtain ⟨hcop, hy1⟩ := kt_cpy_ok (cA := kt_dA w kd) (dp := dp.toNatClampNeg) hal h4
  obtain ⟨-, k0, hk0, cm0, hkk0⟩ := hty.1 x.1 (kt_v x)
  intro T hT X
  rw [kt_cell_v] at q1 q2
  obtain ⟨vm', X', step⟩ := X.arraycopy hx hown (hts _ hq) (hts _ q423) (hts _ q422) (hts _ q122) (src := a) (dst := b) (cs := arrV (kt_dA w kd) x.1 (kt_v x)) (cd := arrV (kt_dA w kd) y.1 (kt_v y)) (srcPos := sp) (destPos := dp) (n := n) (by rw [hT]; exact q1) (by rw [hT]; exact q2)
    (fun _ h => by cases h) (fun _ h => by cases h) (fun h => by cases h) (fun h => by cases h) hk0 hk0 hkk0 hkk0 (by simp) h1 h2 h3
    (by rw [kt_nn h1, kt_nn h3, arrV_size]; omega) (by rw [kt_nn h2, kt_nn h3, arrV_size]; omega)
    (fun vm₁ hal i hi => by
      have e : (arrV (kt_dA w kd) x.1 (kt_v x)).slots.getD (sp.toNatClampNeg + i) .null = kt_v x (sp.toNatClampNeg + i) := by
        rw [Array.getD_eq_getD_getElem?, arrV_read _ _ (by omega)]
        rfl
      rw [e]
      obtain ⟨f1, f2⟩ := hv i hi
      refine ⟨f1, ?_⟩
      generalize hvv : kt_v x (sp.toNatClampNeg + i) = v at f1 f2
      cases v with
      | ref b9 =>
        have hfo := f2 b9 rfl
        have h3k : ∃ E, kt_ty kd = .object E := by
          unfold kt_ty at f1 ⊢
          rcases (show kd = 0 ∨ kd = 1 ∨ kd = 2 ∨ kd = 3 ∨ kd = 4 ∨ kd = 5 by omega) with rfl | rfl | rfl | rfl | rfl | rfl <;> first | exact ⟨_, rfl⟩ | (simp [fits] at f1)
        obtain ⟨E, hE⟩ := h3k
        have hra := hty.2
        rw [hE] at hra
        obtain ⟨kA, comp, r1, r2, r3, -⟩ := hra
        cases hk0.symm.trans r1
        rw [hkk0] at r2
        injection r2 with r2 _
        subst r2
        obtain ⟨cellV, g1, g2, ⟨kC, hkC⟩, hasg⟩ := kt_foC G hW hH hfo hE r3
        obtain ⟨kE, hkE, -⟩ := Vm.findClass_spec r3
        obtain ⟨kC', hkC', -⟩ := hal.2.2 _ _ hkC
        obtain ⟨kE', hkE', -⟩ := hal.2.2 _ _ hkE
        exact ⟨cellV, (show T.heap[b9]? = some cellV by rw [hT]; exact g1), (fun q h => by rw [h] at g2; cases g2), ⟨kC', hkC'⟩, ⟨kE', hkE'⟩, by
          show vm₁.assignable _ _ = true
          rw [hal.assignable]
          exact hasg⟩
      | _ => trivial)
    (g := F0 m pc ls (.int n :: .int dp :: .ref b :: .int sp :: .ref a :: st)) rfl (by show ls.size = c.maxLocals; rw [hs.1, hml]) (rest := st) rfl (by rw [hb]; exact hd) (by show 1 ≤ d + 1; omega) (by
      show 2 * 0 + _ + _ ≤ 100 * (d + 1)
      have := kt_rest hst
      have h9 : nativeFrameWords "java/lang/System" "arraycopy" 5 ≤ 40 := by decide +kernel
      omega)
  have e9 : copied (arrV (kt_dA w kd) x.1 (kt_v x)) (arrV (kt_dA w kd) y.1 (kt_v y)) sp dp n = vp_cell (kt_dA w kd) (kt_cpy x y sp.toNatClampNeg dp.toNatClampNeg n.toNatClampNeg) := by
    rw [← kt_cell_v, ← kt_cell_v]; exact hcop
  rw [e9] at X' step
  have hl : b < H.size := (Array.getElem?_eq_some_iff.mp q2).1
  generalize hC : vp_cell (kt_dA w kd) (kt_cpy x y sp.toNatClampNeg dp.toNatClampNeg n.toNatClampNeg) = C9 at X' step
  have hheap : ((T.setVm vm').setCell b C9).heap = H.setIfInBounds b C9 := by rw [← hT]; rfl
  have oq : ∀ q : Nat, q ≠ b → (H.setIfInBounds b C9)[q]? = H[q]? := fun q hq => by simp [Array.getElem?_setIfInBounds, Ne.symm hq]
  have hb9 : (H.setIfInBounds b C9)[b]? = some C9 := by simp [Array.getElem?_setIfInBounds, hl]
  obtain ⟨t, a1, b1⟩ := k _ _ ls _ _ (kt_H_up hH (by simp) oq hN0 (fun c0 c1 g0 g1 => by
      rw [q2] at g0; cases g0
      rw [hb9] at g1; cases g1
      rw [← hC, kt_cell_v, arrV_size, arrV_size, hy1]) ⟨hk6, by rw [hC]; exact hb9, hN0⟩) (kt_le_up hl1 hw) (fun q hq => by
      rcases List.mem_append.mp hq with h | h
      · exact hz q h
      · obtain ⟨z, -, hz⟩ := List.mem_map.mp h
        rw [← hz]
        exact hN0) hs _ hheap X'
  exact ⟨t, step t a1, b1⟩
theorem kr_f2i {idx : Nat} {b : UInt32} (O : kt_O w x gr (d + 1) cc own nL nm ret hh) (hd : decode cc pc = .ok (.invokestatic idx, 3)) (hq : Cond.methodLink own idx ⟨"java/lang/Float", "floatToRawIntBits", "(F)I"⟩ ∈ lw_all) (hst : st.length ≤ 8) (k : kt_S w x nL Q M (pc + 3) L (.int b.toInt32 :: st)) : kt_S w x nL Q M pc L (.float b :: st) := by
  obtain ⟨p, e, g, d0, M0, s, m, args, below, meth, c⟩ := x
  obtain ⟨hx, hb, hml, hown, hts, hlk, hW, hH0, hnm, hret, htab, G, hgr, hdd⟩ := O
  subst hgr hdd
  intro H locs ls k1 n1 hH hl1 hz hs
  exact vn_f2i hx hb (by rw [hs.1, hml]) hown (hts _ hq) (hts _ q2007) (hts _ q2006) (hts _ q155) (by show 1 ≤ d + 1; omega) (by
    show _ ≤ 100 * (d + 1)
    have := kt_rest hst
    omega) hd (k H locs ls k1 n1 hH hl1 hz hs)
theorem kr_getClass {idx a t : Nat} {y : vp_A} (O : kt_O w x gr (d + 1) cc own nL nm ret hh) (hd : decode cc pc = .ok (.invokevirtual idx, 3)) (hq : Cond.methodLink own idx ⟨"java/lang/Object", "getClass", "()Ljava/lang/Class;"⟩ ∈ lw_all) (hc : M.2.2 a = (t + 2, .inl (3, y))) (hst : st.length ≤ 8) (k : kt_S w x nL Q M (pc + 3) L (va_rf (some (kt_cA w 90)) :: st)) : kt_S w x nL Q M pc L (va_rf (some a) :: st) := by
  obtain ⟨p, e, g, d0, M0, s, m, args, below, meth, c⟩ := x
  obtain ⟨hx, hb, hml, hown, hts, hlk, hW, hH0, hnm, hret, htab, G, hgr, hdd⟩ := O
  subst hgr hdd
  intro H locs ls k1 n1 hH hl1 hz hs
  have hat := hH.2.2.2.2.2.2 a
  rw [hc] at hat
  obtain ⟨hk6, h2, -⟩ := hat
  have hK : va_K (kt_D w) kt_cl (kt_tyl w) s := va_K.moved hW.alike G.2.1
  obtain ⟨kA, comp, -, -, -, r4⟩ := (hK.2 3 _ (kt_tyl_at w hk6)).2
  refine va_getC (C := "[Ljava/lang/Object;") hx hb (by rw [hs.1, hml]) hown (hts _ hq) (kt_face G hW q3073 rfl rfl) (hts _ q3072) (hts _ q377) (hts _ q412) ?_ ⟨_, h2, by rw [kt_cell_v]; rfl, by rw [kt_cell_v]; exact r4⟩ (by show 1 ≤ d + 1; omega) (by
    show _ ≤ 100 * (d + 1)
    have := kt_rest hst
    omega) hd (k H locs ls k1 n1 hH hl1 hz hs)
  exact va_Mi.moved hW.alike G.2.2.2.2.2.2.2.1
/-- an array that may be cloned, n its length -/
def kt_cln (w : kt_W) (kd : Nat) (M : kt_M) (a n : Nat) : Prop := (∃ t y, M.2.2 a = (t + 2, .inl (kd, y)) ∧ y.1 = n ∧ ∀ i, i < n → fits (kt_ty kd) (kt_v y i) = true) ∨ (kd = 4 ∧ a = kt_cA w 4 ∧ n = 4 ∧ M.2.2 a = (1, .inl (4, kt_vals w)))
theorem kr_clone {idx a n : Nat} {ad : String} (kd t : Nat) (O : kt_O w x gr (d + 1) cc own nL nm ret hh) (hd : decode cc pc = .ok (.invokevirtual idx, 3)) (had : "[" ++ (kt_ty kd).toString = ad) (hq : Cond.methodLink own idx ⟨ad, "clone", "()Ljava/lang/Object;"⟩ ∈ lw_all) (hsm : Cond.sameMethod ad "java/lang/Object" "clone" "()Ljava/lang/Object;" ∈ lw_all) (hse : Cond.selects ad ⟨ad, "clone", "()Ljava/lang/Object;"⟩ ⟨"java/lang/Object", "clone", "()Ljava/lang/Object;"⟩ ∈ lw_all) (hca : Cond.castable ad "java/lang/Cloneable" ∈ lw_tbl)
    (hc : kt_cln w kd M a n) (hf : kt_fits w M n) (hst : st.length ≤ 8) (k : kt_S w x nL Q (kt_new M n (t + 2, (M.2.2 a).2)) (pc + 3) L (va_rf (some M.1) :: st)) : kt_S w x nL Q M pc L (va_rf (some a) :: st) := by
  obtain ⟨p, e, g, d0, M0, s, m, args, below, meth, c⟩ := x
  obtain ⟨hx, hb, hml, hown, hts, hlk, hW, hH0, hnm, hret, htab, G, hgr, hdd⟩ := O
  subst hgr hdd
  intro H locs ls k1 n1 hH hl1 hz hs
  have hN : kt_N0 w ≤ s.heap.size := by rw [hH0.1]; exact hH0.2.1
  refine kt_Wt hN fun g1 g2 => ?_
  have a1 := hH0.1
  have a2 := hH.1
  have a3 := hH0.2.2.2.1
  have a4 := hH.2.2.2.1
  have hK : va_K (kt_D w) kt_cl (kt_tyl w) s := va_K.moved hW.alike G.2.1
  have key : ∃ tt y, M.2.2 a = (tt, .inl (kd, y)) ∧ kd < 6 ∧ y.1 = n ∧ H[a]? = some (vp_cell (kt_dA w kd) y) ∧ ∀ i, i < n → fits (kt_ty kd) (kt_v y i) = true := by
    rcases hc with ⟨t9, y, h1, h2, h3⟩ | ⟨rfl, rfl, rfl, h1⟩
    · have hat := hH.2.2.2.2.2.2 a
      rw [h1] at hat
      exact ⟨_, y, h1, hat.1, h2, hat.2.1, h3⟩
    · refine ⟨_, _, h1, by decide, rfl, ?_, fun i hi => rfl⟩
      rw [hH.2.2.1 _ G.2.2.2.2.2.2.2.2.2.2.2.1.2.1]
      exact G.2.2.2.2.2.2.2.2.2.2.2.1.1
  obtain ⟨tt, y, e1, hk6, hyn, hcell, hfit⟩ := key
  rw [e1] at k
  have hty := hK.2 kd _ (kt_tyl_at w hk6)
  have hnm2 : s.vm.findClass ad = some (kt_dA w kd) := by
    have hr := hty.2
    rw [← had]
    rcases (show kd = 0 ∨ kd = 1 ∨ kd = 2 ∨ kd = 3 ∨ kd = 4 ∨ kd = 5 by omega) with rfl | rfl | rfl | rfl | rfl | rfl
    · exact hr
    · exact hr
    · exact hr
    · exact hr.choose_spec.choose_spec.2.2.2
    · exact hr.choose_spec.choose_spec.2.2.2
    · exact hr.choose_spec.choose_spec.2.2.2
  rw [kt_cell_v] at hcell
  obtain ⟨c0, t0', f1, f2, f3⟩ := Cond.castable_spec (kt_face (args := args) G hW hca rfl rfl)
  cases hnm2.symm.trans f1
  intro T hT X
  obtain ⟨-, kA, hkA, comp, hkind⟩ := State.isArrayOf_alike X.warmed.alike (hty.1 0 (fun _ => .null))
  obtain ⟨-, kS, hkS, compS, hkindS⟩ := hty.1 0 (fun _ => .null)
  obtain ⟨vm', X', st9⟩ := X.cloneArray hx hown (hts _ hq) (hts _ hsm) (hts _ q803) (hts _ q804) (hts _ hse) (a := a) (cell := arrV (kt_dA w kd) y.1 (kt_v y)) (by rw [hT]; exact hcell) (fun k h => by cases h) (fun h => by cases h) hnm2 f2 f3
    (fun i v hv => by
      have hk' : T.vm.classes[kt_dA w kd]? = some kA := hkA
      have hi : i < y.1 := by
        have := (Array.getElem?_eq_some_iff.mp hv).1
        rw [arrV_size] at this
        exact this
      rw [arrV_read _ _ hi] at hv
      cases hv
      simpa [State.fitsSlot, State.slotType?, hk', hkind, arrV] using hfit i (by omega))
    (g := F0 m pc ls (.ref a :: st)) rfl (by show ls.size = c.maxLocals; rw [hs.1, hml]) rfl (by rw [hb]; exact hd) (by show 1 ≤ d + 1; omega) (by
      show 2 * 0 + _ + 14 ≤ 100 * (d + 1)
      have := kt_rest hst
      omega) (by
      show _ + 1 ≤ kt_cN w - M0.1
      have := hf.1
      omega) (by
      show _ + (arrV (kt_dA w kd) y.1 (kt_v y)).slots.size ≤ kt_cS - M0.2.1
      rw [arrV_size]
      have := hf.2
      omega) (hloader := Vm.clonesLoader_of_array hkS hkindS)
  generalize hH1 : H.push (arrV (kt_dA w kd) y.1 (kt_v y)) = H1
  have z1 : H1.size = M.1 + 1 := by rw [← hH1, Array.size_push, a2]
  have e9 : H1[M.1]? = some (arrV (kt_dA w kd) y.1 (kt_v y)) := by rw [← hH1, ← a2, Array.getElem?_push_size]
  have o1 : ∀ q : Nat, q < M.1 → H1[q]? = H[q]? := fun q hq => by rw [← hH1, Array.getElem?_push, if_neg (by omega)]
  have key2 := fun kk nn => k H1 locs ls kk nn (kt_H_new hH hf e9 z1 o1 (by rw [arrV_size]; exact hyn) ⟨hk6, by rw [e9, kt_cell_v], hH.2.1⟩) (kt_le_new hl1) hz hs
  obtain ⟨t', b1, b2⟩ := key2 _ _ _ (by rw [← hH1, ← hT]; rfl) X'
  refine ⟨t', st9 t' ?_, b2⟩
  rw [← a2, ← hT] at b1
  exact b1
end KNA
