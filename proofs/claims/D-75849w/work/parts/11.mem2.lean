set_option maxRecDepth 100000
/-! ===== rows: arrays, new objects and arrays, casts, constants ===== -/
/-- the place i of the array at a, of kind k, may be written -/
def kt_hii (gr : kt_g × kt_M) (k : Nat) (M : kt_M) (a : Nat) (i : Int32) : Prop := kt_wr gr M a ∧ ∃ t n f, M.2.2 a = (t, .inl (k, n, .inl f)) ∧ ¬ (i < 0 ∨ n ≤ i.toNatClampNeg)
def kt_hil (gr : kt_g × kt_M) (k : Nat) (M : kt_M) (a : Nat) (i : Int32) : Prop := kt_wr gr M a ∧ ∃ t n f, M.2.2 a = (t, .inl (k, n, .inr (.inl f))) ∧ ¬ (i < 0 ∨ n ≤ i.toNatClampNeg)
def kt_hiq (gr : kt_g × kt_M) (k : Nat) (M : kt_M) (a : Nat) (i : Int32) : Prop := kt_wr gr M a ∧ ∃ t n f, M.2.2 a = (t, .inl (k, n, .inr (.inr (.inr (.inr f))))) ∧ ¬ (i < 0 ∨ n ≤ i.toNatClampNeg)
/-- an object of class c may be cast to T -/
def kt_is (c : Nat) (T : String) : Prop := c < 22 ∧ (Cond.castable (kt_cl.getD c default).1 T ∈ lw_tbl ∨ (kt_cl.getD c default).1 = T)
/-- the object at b may lie in an array of kind k -/
def kt_fo (k : Nat) (M : kt_M) (b : Nat) : Prop := match k with
  | 3 => (∃ c, kt_co M b = some c ∧ kt_is c "java/lang/Object") ∨ ∃ t x, M.2.2 b = (t, .inl (0, x)) ∧ 2 ≤ t
  | 5 => kt_co M b = some 20
  | _ => False
theorem kt_clsOf {w : kt_W} {s : State} {H : Heap} {M : kt_M} {a c : Nat} (G : kt_G w) (hW : (kt_s0 w).WarmedH s.vm) (hH : kt_H w M H) (hc : kt_co M a = some c) (h22 : c < 22) : ∃ cell : Cell, H[a]? = some cell ∧ cell.vm.isStatics = false ∧ s.vm.findClass (kt_cl.getD c default).1 = some cell.cls := by
  obtain ⟨t, fs, e1, e2⟩ := kt_co_spec hc
  have hat := hH.2.2.2.2.2.2 a
  rw [e1] at hat
  obtain ⟨cell, q1, q2, q3, q4, q5, q6⟩ := kt_at_obj e2 hat
  obtain ⟨hcl, -⟩ := q5 (by omega)
  have hr : kt_cl[c]? = some (kt_cl.getD c default) := by
    rw [List.getD_eq_getElem?_getD]
    have : kt_cl[c]? = some kt_cl[c] := List.getElem?_eq_getElem hcl
    rw [this]; rfl
  have hK : va_K (kt_D w) kt_cl (kt_tyl w) s := va_K.moved hW.alike G.2.1
  obtain ⟨hS, hfc, -⟩ := hK.1 c _ hr
  exact ⟨cell, q1, q4, by rw [q2]; exact hfc⟩
theorem kt_asg {w : kt_W} {s : State} {c : Nat} {T : String} (G : kt_G w) (hW : (kt_s0 w).WarmedH s.vm) (h : kt_is c T) {comp c0 : ClassId} (h1 : s.vm.findClass T = some comp) (h2 : s.vm.findClass (kt_cl.getD c default).1 = some c0) : s.vm.assignable c0 comp = true := by
  rcases h.2 with h | h
  · exact vb_asgC (kt_castN G hW h) comp c0 h1 h2
  · rw [h] at h2
    cases h1.symm.trans h2
    exact va_asg _ _
theorem kt_ty_obj {k : Nat} (h : 3 ≤ k) : ∃ E, kt_ty k = .object E := by
  unfold kt_ty
  split <;> first | omega | exact ⟨_, rfl⟩
section KA
variable {w : kt_W} {x : kt_X} {gr : kt_g × kt_M} {dd nL : Nat} {Q : State → Prop} {M : kt_M} {pc : Nat} {L : List (Nat × Value)} {st : List Value} {cc : ByteArray} {own : String} {nm : String × String} {ret : Option FieldType} {hh : List (Nat × Nat × Nat × Nat)}
theorem kr_iaload {a : Nat} {i v : Int32} (O : kt_O w x gr dd cc own nL nm ret hh) (hd : decode cc pc = .ok (.iaload, 1)) (hg : kt_el 0 M a i = some (.int v)) (k : kt_S w x nL Q M (pc + 1) L (.int v :: st)) : kt_S w x nL Q M pc L (.int i :: va_rf (some a) :: st) := by
  obtain ⟨p, e, g, d, M0, s, m, args, below, meth, c⟩ := x
  obtain ⟨hx, hb, hml, hown, hts, hlk, hW, hH0, hnm, hret, htab, G, hgr, hdd⟩ := O
  intro H locs ls k1 n1 hH hl1 hz hs
  obtain ⟨t, y, e1, e2, e3, e4⟩ := kt_el_spec hg
  have hat := hH.2.2.2.2.2.2 a
  rw [e1] at hat
  obtain ⟨hk, cell, q1, q2, q3, q4, q5, q6, q7⟩ := kt_at_arr G e2 hat
  have hlt : i.toNatClampNeg < y.1 := Nat.not_le.mp fun q => e3 (Or.inr q)
  exact W.iald hx hb q1 (State.isArrayOf_alike hW.alike q2) q3 (fun q => e3 (q.imp id fun h => Nat.le_trans q5 h)) (by rw [q7 _ hlt, ← e4]) rfl rfl hd (k H locs ls k1 n1 hH hl1 hz hs)
theorem kr_laload {a : Nat} {i : Int32} {v : Int64} (O : kt_O w x gr dd cc own nL nm ret hh) (hd : decode cc pc = .ok (.laload, 1)) (hg : kt_el 1 M a i = some (.long v)) (k : kt_S w x nL Q M (pc + 1) L (.long v :: st)) : kt_S w x nL Q M pc L (.int i :: va_rf (some a) :: st) := by
  obtain ⟨p, e, g, d, M0, s, m, args, below, meth, c⟩ := x
  obtain ⟨hx, hb, hml, hown, hts, hlk, hW, hH0, hnm, hret, htab, G, hgr, hdd⟩ := O
  intro H locs ls k1 n1 hH hl1 hz hs
  obtain ⟨t, y, e1, e2, e3, e4⟩ := kt_el_spec hg
  have hat := hH.2.2.2.2.2.2 a
  rw [e1] at hat
  obtain ⟨hk, cell, q1, q2, q3, q4, q5, q6, q7⟩ := kt_at_arr G e2 hat
  have hlt : i.toNatClampNeg < y.1 := Nat.not_le.mp fun q => e3 (Or.inr q)
  exact W.lald hx hb q1 (State.isArrayOf_alike hW.alike q2) q3 (fun q => e3 (q.imp id fun h => Nat.le_trans q5 h)) (by rw [q7 _ hlt, ← e4]) rfl rfl hd (k H locs ls k1 n1 hH hl1 hz hs)
theorem kr_baload {a : Nat} {i v : Int32} (O : kt_O w x gr dd cc own nL nm ret hh) (hd : decode cc pc = .ok (.baload, 1)) (hg : kt_el 2 M a i = some (.int v)) (k : kt_S w x nL Q M (pc + 1) L (.int v :: st)) : kt_S w x nL Q M pc L (.int i :: va_rf (some a) :: st) := by
  obtain ⟨p, e, g, d, M0, s, m, args, below, meth, c⟩ := x
  obtain ⟨hx, hb, hml, hown, hts, hlk, hW, hH0, hnm, hret, htab, G, hgr, hdd⟩ := O
  intro H locs ls k1 n1 hH hl1 hz hs
  obtain ⟨t, y, e1, e2, e3, e4⟩ := kt_el_spec hg
  have hat := hH.2.2.2.2.2.2 a
  rw [e1] at hat
  obtain ⟨hk, cell, q1, q2, q3, q4, q5, q6, q7⟩ := kt_at_arr G e2 hat
  have hlt : i.toNatClampNeg < y.1 := Nat.not_le.mp fun q => e3 (Or.inr q)
  exact W.bald hx hb q1 (State.isArrayOf_alike hW.alike q2) q3 (fun q => e3 (q.imp id fun h => Nat.le_trans q5 h)) (by rw [q7 _ hlt, ← e4]) rfl rfl hd (k H locs ls k1 n1 hH hl1 hz hs)
theorem kr_aaload {a : Nat} {i : Int32} {r : Option Nat} (kd : Nat) (h3 : 3 ≤ kd) (O : kt_O w x gr dd cc own nL nm ret hh) (hd : decode cc pc = .ok (.aaload, 1)) (hg : kt_el kd M a i = some (va_rf r)) (k : kt_S w x nL Q M (pc + 1) L (va_rf r :: st)) : kt_S w x nL Q M pc L (.int i :: va_rf (some a) :: st) := by
  obtain ⟨p, e, g, d, M0, s, m, args, below, meth, c⟩ := x
  obtain ⟨hx, hb, hml, hown, hts, hlk, hW, hH0, hnm, hret, htab, G, hgr, hdd⟩ := O
  intro H locs ls k1 n1 hH hl1 hz hs
  obtain ⟨t, y, e1, e2, e3, e4⟩ := kt_el_spec hg
  have hat := hH.2.2.2.2.2.2 a
  rw [e1] at hat
  obtain ⟨hk, cell, q1, q2, q3, q4, q5, q6, q7⟩ := kt_at_arr G e2 hat
  have hlt : i.toNatClampNeg < y.1 := Nat.not_le.mp fun q => e3 (Or.inr q)
  obtain ⟨E, hE⟩ := kt_ty_obj h3
  exact W.aald (ty := kt_ty kd) hx hb q1 (State.isArrayOf_alike hW.alike q2) (by rw [hE]; rfl) q3 (fun q => e3 (q.imp id fun h => Nat.le_trans q5 h)) (by rw [q7 _ hlt, ← e4]) rfl rfl hd (k H locs ls k1 n1 hH hl1 hz hs)
theorem kr_alen {a n : Nat} (O : kt_O w x gr dd cc own nL nm ret hh) (hd : decode cc pc = .ok (.arraylength, 1)) (hg : kt_len M a = some n) (k : kt_S w x nL Q M (pc + 1) L (.int (nI n) :: st)) : kt_S w x nL Q M pc L (va_rf (some a) :: st) := by
  obtain ⟨p, e, g, d, M0, s, m, args, below, meth, c⟩ := x
  obtain ⟨hx, hb, hml, hown, hts, hlk, hW, hH0, hnm, hret, htab, G, hgr, hdd⟩ := O
  intro H locs ls k1 n1 hH hl1 hz hs
  obtain ⟨t, kd, y, e1, e2, e3⟩ := kt_len_spec hg
  have hat := hH.2.2.2.2.2.2 a
  rw [e1] at hat
  obtain ⟨hk, cell, q1, q2, q3, q4, q5, q6, q7⟩ := kt_at_arr G e2 hat
  exact W.alen hx hb q1 (State.isArrayOf_alike hW.alike q2) (by rw [q6, e3]; rfl) rfl rfl hd (k H locs ls k1 n1 hH hl1 hz hs)
/-- what stands behind a store into an array -/
theorem kt_stored {w : kt_W} {M M0 : kt_M} {H H1 : Heap} {g : kt_g} {a k n j : Nat} {y y' : vp_A} {locs : List Loc} {v : Value} (G : kt_G w) (hH : kt_H w M H) (hl : kt_le g M0 M) (hz : ∀ z ∈ locs, kt_fr w z.base) (hm : kt_wr (g, M0) M a) (e1 : M.2.2 a = (n, .inl (k, y))) (e : H1[a]? = some ((arrV (kt_dA w k) y.1 (kt_v y)).setSlot j v)) (z : H1.size = H.size) (oq : ∀ q, q ≠ a → H1[q]? = H[q]?)
    (hy : y'.1 = y.1) (hv : ∀ i, kt_v y' i = updV (kt_v y) j v i) : kt_H w (kt_up M a (n, .inl (k, y'))) H1 ∧ kt_le g M0 (kt_up M a (n, .inl (k, y'))) ∧ ∀ z ∈ locs ++ [⟨a, j⟩], kt_fr w z.base := by
  have hat := hH.2.2.2.2.2.2 a
  have hmw := hm
  unfold kt_wr at hm
  rw [e1] at hat hm
  have ht2 := hm.1
  have hN0 := kt_at_N0 hat ht2
  obtain ⟨tn, rfl⟩ : ∃ tn, n = tn + 2 := ⟨n - 2, by have : 2 ≤ n := ht2; omega⟩
  obtain ⟨q1, q2, q3⟩ := hat
  refine ⟨kt_H_up hH z oq hN0 (fun c0 c1 h0 h1 => ?_) ⟨q1, ?_, hN0⟩, kt_le_up hl hmw, fun z h => ?_⟩
  · rw [q2] at h0
    cases h0
    rw [e] at h1
    cases h1
    rw [kt_cell_v, k2_slotsz]
  · rw [e, arrV_store, kt_cell_v, hy]
    congr 2
    funext i
    exact (hv i).symm
  · rcases List.mem_append.mp h with h | h
    · exact hz z h
    · rw [List.mem_singleton] at h; subst h; exact hN0
theorem kt_strong {w : kt_W} {M : kt_M} {H : Heap} {gr : kt_g × kt_M} {a n k : Nat} {y : vp_A} (hH : kt_H w M H) (hm : kt_wr gr M a) (e1 : M.2.2 a = (n, .inl (k, y))) : k < 6 ∧ H[a]? = some (arrV (kt_dA w k) y.1 (kt_v y)) := by
  have hat := hH.2.2.2.2.2.2 a
  have hmw := hm
  unfold kt_wr at hm
  rw [e1] at hat hm
  have ht2 := hm.1
  obtain ⟨tn, rfl⟩ : ∃ tn, n = tn + 2 := ⟨n - 2, by have : 2 ≤ n := ht2; omega⟩
  obtain ⟨q1, q2, q3⟩ := hat
  exact ⟨q1, by rw [q2, kt_cell_v]⟩
theorem kr_iastore {a : Nat} {i v : Int32} (O : kt_O w x gr dd cc own nL nm ret hh) (hd : decode cc pc = .ok (.iastore, 1)) (hg : kt_hii gr 0 M a i) (k : kt_S w x nL Q (kt_si M a i v) (pc + 1) L st) : kt_S w x nL Q M pc L (.int v :: .int i :: va_rf (some a) :: st) := by
  obtain ⟨p, e, g, d, M0, s, m, args, below, meth, c⟩ := x
  obtain ⟨hx, hb, hml, hown, hts, hlk, hW, hH0, hnm, hret, htab, G, hgr, hdd⟩ := O
  subst hgr
  intro H locs ls k1 n1 hH hl1 hz hs
  obtain ⟨hm, t, n, f, e1, e3⟩ := hg
  obtain ⟨hk, q2⟩ := kt_strong hH hm e1
  have hM : kt_si M a i v = kt_up M a (t, .inl (0, n, .inl (upd f i.toNatClampNeg v))) := by unfold kt_si; rw [e1]
  refine W.iast hx hb q2 (State.isArrayOf_alike hW.alike ((G.2.1.2 0 _ (kt_tyl_at w hk)).1 _ _)) (fun h => nomatch h) (by rw [arrV_size]; exact e3) rfl rfl hd fun H1 e z oq => ?_
  obtain ⟨r1, r2, r3⟩ := kt_stored (y' := (n, .inl (upd f i.toNatClampNeg v))) G hH hl1 hz hm e1 e z oq rfl (fun q => by
    by_cases hq : q = i.toNatClampNeg
    · simp [kt_v, updV, upd, hq]
    · simp [kt_v, updV, upd, hq])
  rw [← hM] at r1 r2
  exact k _ _ ls k1 n1 r1 r2 r3 hs
theorem kr_bastore {a : Nat} {i v : Int32} (O : kt_O w x gr dd cc own nL nm ret hh) (hd : decode cc pc = .ok (.bastore, 1)) (hg : kt_hii gr 2 M a i) (k : kt_S w x nL Q (kt_si M a i v.toInt8.toInt32) (pc + 1) L st) : kt_S w x nL Q M pc L (.int v :: .int i :: va_rf (some a) :: st) := by
  obtain ⟨p, e, g, d, M0, s, m, args, below, meth, c⟩ := x
  obtain ⟨hx, hb, hml, hown, hts, hlk, hW, hH0, hnm, hret, htab, G, hgr, hdd⟩ := O
  subst hgr
  intro H locs ls k1 n1 hH hl1 hz hs
  obtain ⟨hm, t, n, f, e1, e3⟩ := hg
  obtain ⟨hk, q2⟩ := kt_strong hH hm e1
  have hM : kt_si M a i v.toInt8.toInt32 = kt_up M a (t, .inl (2, n, .inl (upd f i.toNatClampNeg v.toInt8.toInt32))) := by unfold kt_si; rw [e1]
  refine W.bast hx hb q2 (State.isArrayOf_alike hW.alike ((G.2.1.2 2 _ (kt_tyl_at w hk)).1 _ _)) (fun h => nomatch h) (by rw [arrV_size]; exact e3) rfl rfl hd fun H1 e z oq => ?_
  obtain ⟨r1, r2, r3⟩ := kt_stored (y' := (n, .inl (upd f i.toNatClampNeg v.toInt8.toInt32))) G hH hl1 hz hm e1 e z oq rfl (fun q => by
    by_cases hq : q = i.toNatClampNeg
    · simp [kt_v, updV, upd, hq, narrow]
    · simp [kt_v, updV, upd, hq])
  rw [← hM] at r1 r2
  exact k _ _ ls k1 n1 r1 r2 r3 hs
theorem kr_lastore {a : Nat} {i : Int32} {v : Int64} (O : kt_O w x gr dd cc own nL nm ret hh) (hd : decode cc pc = .ok (.lastore, 1)) (hg : kt_hil gr 1 M a i) (k : kt_S w x nL Q (kt_sl M a i v) (pc + 1) L st) : kt_S w x nL Q M pc L (.long v :: .int i :: va_rf (some a) :: st) := by
  obtain ⟨p, e, g, d, M0, s, m, args, below, meth, c⟩ := x
  obtain ⟨hx, hb, hml, hown, hts, hlk, hW, hH0, hnm, hret, htab, G, hgr, hdd⟩ := O
  subst hgr
  intro H locs ls k1 n1 hH hl1 hz hs
  obtain ⟨hm, t, n, f, e1, e3⟩ := hg
  obtain ⟨hk, q2⟩ := kt_strong hH hm e1
  have hM : kt_sl M a i v = kt_up M a (t, .inl (1, n, .inr (.inl (vp_updL f i.toNatClampNeg v)))) := by unfold kt_sl; rw [e1]
  refine W.last hx hb q2 (State.isArrayOf_alike hW.alike ((G.2.1.2 1 _ (kt_tyl_at w hk)).1 _ _)) (fun h => nomatch h) (by rw [arrV_size]; exact e3) rfl rfl hd fun H1 e z oq => ?_
  obtain ⟨r1, r2, r3⟩ := kt_stored (y' := (n, .inr (.inl (vp_updL f i.toNatClampNeg v)))) G hH hl1 hz hm e1 e z oq rfl (fun q => by
    by_cases hq : q = i.toNatClampNeg
    · simp [kt_v, updV, vp_updL, hq]
    · simp [kt_v, updV, vp_updL, hq])
  rw [← hM] at r1 r2
  exact k _ _ ls k1 n1 r1 r2 r3 hs
theorem kr_aastore {a : Nat} {i : Int32} {r : Option Nat} (kd : Nat) (h3 : 3 ≤ kd) (O : kt_O w x gr dd cc own nL nm ret hh) (hd : decode cc pc = .ok (.aastore, 1)) (hg : kt_hiq gr kd M a i) (hr : ∀ b, r = some b → kt_fo kd M b) (k : kt_S w x nL Q (kt_sq M a i r) (pc + 1) L st) : kt_S w x nL Q M pc L (va_rf r :: .int i :: va_rf (some a) :: st) := by
  obtain ⟨p, e, g, d, M0, s, m, args, below, meth, c⟩ := x
  obtain ⟨hx, hb, hml, hown, hts, hlk, hW, hH0, hnm, hret, htab, G, hgr, hdd⟩ := O
  subst hgr
  intro H locs ls k1 n1 hH hl1 hz hs
  obtain ⟨hm, t, n, f, e1, e3⟩ := hg
  obtain ⟨hk, q2⟩ := kt_strong hH hm e1
  have hM : kt_sq M a i r = kt_up M a (t, .inl (kd, n, .inr (.inr (.inr (.inr (va_up f i.toNatClampNeg r)))))) := by unfold kt_sq; rw [e1]
  obtain ⟨E, hE⟩ := kt_ty_obj h3
  have hK : va_K (kt_D w) kt_cl (kt_tyl w) s := va_K.moved hW.alike G.2.1
  have hty := hK.2 kd _ (kt_tyl_at w hk)
  have harr : s.isArrayOf (arrV (kt_dA w kd) n (kt_v (n, .inr (.inr (.inr (.inr f)))))) (.object E) := by rw [← hE]; exact hty.1 _ _
  have hfin : ∀ (H1 : Heap), H1[a]? = some ((arrV (kt_dA w kd) n (kt_v (n, .inr (.inr (.inr (.inr f)))))).setSlot i.toNatClampNeg (va_rf r)) → H1.size = H.size → (∀ q, q ≠ a → H1[q]? = H[q]?) → W p w.1 e (kt_rm w d M0) s m args below meth c H1 (locs ++ [⟨a, i.toNatClampNeg⟩]) k1 n1 Q (F0 m (pc + 1) ls st) := by
    intro H1 e z oq
    obtain ⟨r1, r2, r3⟩ := kt_stored (y' := (n, .inr (.inr (.inr (.inr (va_up f i.toNatClampNeg r)))))) G hH hl1 hz hm e1 e z oq rfl (fun q => by
      by_cases hq : q = i.toNatClampNeg
      · simp [kt_v, updV, va_up, hq]
      · simp [kt_v, updV, va_up, hq])
    rw [← hM] at r1 r2
    exact k _ _ ls k1 n1 r1 r2 r3 hs
  cases r with
  | none => exact va_WaastN hx hb q2 harr (fun h => nomatch h) (by rw [arrV_size]; exact e3) rfl rfl hd hfin
  | some b =>
    have hb9 := hr b rfl
    have hra := hty.2
    rw [hE] at hra
    obtain ⟨kA, comp, r1, r2, r3, -⟩ := hra
    obtain ⟨kE, hkE, -⟩ := Vm.findClass_spec r3
    have key : ∃ cellV : Cell, H[b]? = some cellV ∧ cellV.vm.isStatics = false ∧ (∃ kC : Class, s.vm.classes[cellV.cls]? = some kC) ∧ s.vm.assignable cellV.cls comp = true := by
      match kd, hb9, hE with
      | 3, hb9, hE =>
        cases hE
        rcases hb9 with ⟨c9, h1, h2⟩ | ⟨t9, x9, h1, h2⟩
        · obtain ⟨cellV, g1, g2, g3⟩ := kt_clsOf G hW hH h1 h2.1
          obtain ⟨kC, hkC, -⟩ := Vm.findClass_spec g3
          exact ⟨cellV, g1, g2, ⟨kC, hkC⟩, kt_asg G hW h2 r3 g3⟩
        · have hat := hH.2.2.2.2.2.2 b
          rw [h1] at hat
          obtain ⟨tn, rfl⟩ : ∃ tn, t9 = tn + 2 := ⟨t9 - 2, by omega⟩
          obtain ⟨-, g1, -⟩ := hat
          rw [kt_cell_v] at g1
          have hf0 : s.vm.findClass "[I" = some (kt_dA w 0) := (hK.2 0 _ (kt_tyl_at w (by decide))).2
          obtain ⟨kC, hkC, -⟩ := Vm.findClass_spec hf0
          exact ⟨_, g1, rfl, ⟨kC, hkC⟩, vb_asgC (kt_castN G hW q3076) comp _ r3 hf0⟩
      | 5, hb9, hE =>
        cases hE
        obtain ⟨cellV, g1, g2, g3⟩ := kt_clsOf G hW hH hb9 (by decide)
        obtain ⟨kC, hkC, -⟩ := Vm.findClass_spec g3
        cases g3.symm.trans r3
        exact ⟨cellV, g1, g2, ⟨kC, hkC⟩, va_asg _ _⟩
    obtain ⟨cellV, g1, g2, ⟨kC, hkC⟩, hasg⟩ := key
    exact W.aast hx hb q2 (fun q h => nomatch h) (fun h => nomatch h) r1 r2 rfl hkE ⟨fun q => e3 (Or.inl q), by rw [arrV_size]; exact Nat.not_le.mp fun q => e3 (Or.inr q)⟩ g1 (fun q h => by rw [h] at g2; cases g2) hkC hasg rfl rfl hd hfin
end KA
