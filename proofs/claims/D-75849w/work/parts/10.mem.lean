set_option maxRecDepth 100000
/-! ===== rows that read and write memory ===== -/
theorem kt_cl_len : kt_cl.length = 22 := rfl
theorem kt_fl_big (c : Nat) (h : 22 ≤ c) : kt_fl c = [] := by
  unfold kt_fl
  split <;> first | omega | rfl
theorem kt_at_obj {w : kt_W} {H : Heap} {a t c : Nat} {fs : List Value} (ht : t ≠ 0) (h : kt_at w H a (t, .inr (c, fs))) : kt_wO w H a c fs := by
  match t, ht, h with
  | 1, _, h => exact h.1
  | n + 2, _, h =>
    obtain ⟨⟨cell, h1, h2, h3, h4, h5⟩, -⟩ := h
    exact ⟨cell, h1, h2, by rw [h3]; exact (fun e => nomatch e), by rw [h3]; rfl, h4, h5⟩
theorem kt_at_arr {w : kt_W} {H : Heap} {a t k : Nat} {x : vp_A} (G : kt_G w) (ht : t ≠ 0) (h : kt_at w H a (t, .inl (k, x))) : k < 6 ∧ kt_wA w H a k x := by
  match t, ht, h with
  | 1, _, h => exact ⟨h.1, h.2.1⟩
  | n + 2, _, h =>
    obtain ⟨h1, h2, -⟩ := h
    refine ⟨h1, _, h2, ?_, ?_, ?_, ?_, ?_, ?_⟩
    · rw [kt_cell_v]; exact (G.2.1.2 k _ (kt_tyl_at w h1)).1 _ _
    · rw [kt_cell_v]; exact fun e => by cases e
    · rw [kt_cell_v]; rfl
    · rw [kt_cell_v, arrV_size]; exact Nat.le_refl _
    · rw [kt_cell_v, arrV_size]
    · rw [kt_cell_v]; exact fun j hj => arrV_read _ _ hj
theorem kt_gf_spec {M : kt_M} {a f : Nat} {v : Value} (h : kt_gf M a f = some v) : ∃ (t c : Nat) (fs : List Value) (j : Nat), M.2.2 a = (t, .inr (c, fs)) ∧ t ≠ 0 ∧ (kt_fl c).findIdx? (· == f) = some j ∧ fs[j]? = some v := by
  unfold kt_gf at h
  generalize hc : M.2.2 a = ce at h
  match ce, h with
  | (0, _), h => cases h
  | (t + 1, .inr (c, fs)), h =>
    obtain ⟨j, h1, h2⟩ := Option.bind_eq_some_iff.mp h
    exact ⟨t + 1, c, fs, j, rfl, by omega, h1, h2⟩
  | (t + 1, .inl _), h => cases h
theorem kt_el_spec {k : Nat} {M : kt_M} {a : Nat} {i : Int32} {v : Value} (h : kt_el k M a i = some v) : ∃ (t : Nat) (x : vp_A), M.2.2 a = (t, .inl (k, x)) ∧ t ≠ 0 ∧ ¬ (i < 0 ∨ x.1 ≤ i.toNatClampNeg) ∧ v = kt_v x i.toNatClampNeg := by
  unfold kt_el at h
  generalize hc : M.2.2 a = ce at h
  match ce, h with
  | (0, _), h => cases h
  | (t + 1, .inr (c, fs)), h => cases h
  | (t + 1, .inl (k', x)), h =>
    have h9 : (if k' = k then (if i < 0 ∨ x.1 ≤ i.toNatClampNeg then none else some (kt_v x i.toNatClampNeg)) else none) = some v := h
    clear h
    by_cases e : k' = k
    · subst e
      rw [if_pos rfl] at h9
      by_cases hn : i < 0 ∨ x.1 ≤ i.toNatClampNeg
      · rw [if_pos hn] at h9; cases h9
      · rw [if_neg hn] at h9
        exact ⟨t + 1, x, rfl, by omega, hn, (Option.some.inj h9).symm⟩
    · rw [if_neg e] at h9; cases h9
theorem kt_len_spec {M : kt_M} {a n : Nat} (h : kt_len M a = some n) : ∃ (t k : Nat) (x : vp_A), M.2.2 a = (t, .inl (k, x)) ∧ t ≠ 0 ∧ x.1 = n := by
  unfold kt_len at h
  generalize hc : M.2.2 a = ce at h
  match ce, h with
  | (0, _), h => cases h
  | (t + 1, .inr (c, fs)), h => cases h
  | (t + 1, .inl (k', x)), h => exact ⟨t + 1, k', x, rfl, by omega, Option.some.inj h⟩
theorem kt_co_spec {M : kt_M} {a c : Nat} (h : kt_co M a = some c) : ∃ (t : Nat) (fs : List Value), M.2.2 a = (t, .inr (c, fs)) ∧ t ≠ 0 := by
  unfold kt_co at h
  generalize hc : M.2.2 a = ce at h
  match ce, h with
  | (0, _), h => cases h
  | (t + 1, .inr (c, fs)), h => exact ⟨t + 1, fs, by rw [Option.some.inj h], by omega⟩
  | (t + 1, .inl _), h => cases h
/-- what stands behind a field read -/
theorem kt_fact {w : kt_W} {s : State} {args : Array Value} {H : Heap} {M : kt_M} {a f : Nat} {v : Value} (G : kt_G w) (hW : (kt_s0 w).WarmedH s.vm) (hts : ∀ v ∈ lw_all, v.before args s = true) (hH : kt_H w M H) (hg : kt_gf M a f = some v) :
    ∃ (t c : Nat) (fs : List Value) (j : Nat) (r : vw_C) (cell : Cell) (cf : ClassId) (kf : Class) (fi : Nat) (fd : Field), M.2.2 a = (t, .inr (c, fs)) ∧ t ≠ 0 ∧ (kt_fl c).findIdx? (· == f) = some j ∧ fs[j]? = some v ∧ kt_cl[c]? = some r ∧ j < r.2.2 ∧ (r.2.1 j).1 = (kt_fT f).1 ∧ (r.2.1 j).2.1 = (kt_fT f).2.1 ∧ (r.2.1 j).2.2.1 = (kt_fT f).2.2 ∧ (r.2.1 j).2.2.2 = kt_ffin f ∧ kt_tys c j = kt_fty f ∧ fs.length = r.2.2 ∧
      H[a]? = some cell ∧ cell.cls = (kt_D w).1 c ∧ cell.vm ≠ .unknown ∧ s.fieldFound? (kt_fT f).1 (kt_fT f).2.1 (kt_fT f).2.2 = some (cf, kf, fi, fd) ∧ fd.isStatic = false ∧ fd.slot = (kt_D w).2 c j ∧ cell.slots[fd.slot]? = some v ∧ va_K (kt_D w) kt_cl (kt_tyl w) s := by
  obtain ⟨t, c, fs, j, e1, e2, e3, e4⟩ := kt_gf_spec hg
  have hat := hH.2.2.2.2.2.2 a
  rw [e1] at hat
  obtain ⟨cell, q1, q2, q3, q4, q5, q6⟩ := kt_at_obj e2 hat
  have hj : j < (kt_fl c).length := (List.findIdx?_eq_some_iff_getElem.mp e3).1
  have hc22 : c < 22 := by
    rcases Nat.lt_or_ge c 22 with h | h
    · exact h
    · rw [kt_fl_big c h] at hj; exact absurd hj (Nat.not_lt_zero _)
  obtain ⟨hcl, hlen⟩ := q5 (by omega)
  have hr : kt_cl[c]? = some (kt_cl.getD c default) := by
    rw [List.getD_eq_getElem?_getD]
    have : kt_cl[c]? = some kt_cl[c] := List.getElem?_eq_getElem hcl
    rw [this]; rfl
  have hfj : (kt_fl c).getD j 0 = f := by
    have h9 := (List.findIdx?_eq_some_iff_getElem.mp e3).2.1
    rw [List.getD_eq_getElem?_getD, List.getElem?_eq_getElem hj]
    simpa using h9
  obtain ⟨p1, p2, p3, p4, p5⟩ := kt_fl_ok c hc22 j hj
  rw [hfj] at p1 p2 p3 p4 p5
  have hN : (kt_fl c).length = (kt_cl.getD c default).2.2 := kt_fl_len c hc22
  have hK : va_K (kt_D w) kt_cl (kt_tyl w) s := va_K.moved hW.alike G.2.1
  obtain ⟨hS, hfc, kC, hkC, hkind⟩ := hK.1 c _ hr
  have hjN : j < (kt_cl.getD c default).2.2 := by rw [← hN]; exact hj
  obtain ⟨cf, kf, fi, fd, hi, hsl⟩ := hS j hjN
  have hst := (u_facts hfc hkC (u_lays hts (kt_in c _ hr) hjN) hi).1
  have hty : kt_tys c j = kt_fty f := by
    have h8 := kt_ty_ok c _ hr j hjN
    rw [p3, kt_fty_ok f p5] at h8
    exact (Option.some.inj h8).symm
  rw [p1, p2, p3] at hi
  refine ⟨t, c, fs, j, _, cell, cf, kf, fi, fd, e1, e2, e3, e4, hr, hjN, p1, p2, p3, p4, hty, by rw [hlen, hN], q1, q2, q3, hi, hst, hsl, ?_, hK⟩
  rw [hsl, q6 j (by rw [hlen]; exact hj)]
  simp [vp_V, e4]
/-- a field's link at a place of a class's pool: of one's own, or of a nest mate -/
def kt_FL (own : String) (idx f : Nat) : Prop :=
  (∃ ref, Cond.fieldLink own idx ref (kt_fT f).2.1 (kt_fT f).2.2 ∈ lw_all ∧ (ref = (kt_fT f).1 ∨ Cond.sameField ref (kt_fT f).1 (kt_fT f).2.1 (kt_fT f).2.2 ∈ lw_all)) ∨
  (∃ ref host, Cond.fieldLinkNest own idx ref (kt_fT f).2.1 (kt_fT f).2.2 host ∈ lw_tbl ∧ (ref = (kt_fT f).1 ∨ Cond.sameField ref (kt_fT f).1 (kt_fT f).2.1 (kt_fT f).2.2 ∈ lw_all))
theorem kt_same {s : State} {args : Array Value} {ref o n d : String} {y : ClassId × Class × Nat × Field} (hts : ∀ v ∈ lw_all, v.before args s = true) (h : ref = o ∨ Cond.sameField ref o n d ∈ lw_all) (hi : s.fieldFound? o n d = some y) : s.fieldFound? ref n d = some y := by
  rcases h with rfl | h
  · exact hi
  · exact u_same (hts _ h) y hi
theorem kt_nestF {w : kt_W} {s : State} {args : Array Value} {a : String} {i : Nat} {b n d h : String} (G : kt_G w) (hW : (kt_s0 w).WarmedH s.vm) (hq : Cond.fieldLinkNest a i b n d h ∈ lw_tbl) : (Cond.fieldLinkNest a i b n d h).before args s = true :=
  va_Nw.use rfl (va_Nw.warmF hW (va_Nw.of rfl (G.2.2.1 _ hq)))
theorem kt_nestM {w : kt_W} {s : State} {args : Array Value} {a : String} {i : Nat} {y : MethodName} {h : String} (G : kt_G w) (hW : (kt_s0 w).WarmedH s.vm) (hq : Cond.methodLinkNest a i y h ∈ lw_tbl) : (Cond.methodLinkNest a i y h).before args s = true :=
  va_Nw.use rfl (va_Nw.warmM hW (va_Nw.of rfl (G.2.2.1 _ hq)))
theorem kt_castN {w : kt_W} {s : State} {C T : String} (G : kt_G w) (hW : (kt_s0 w).WarmedH s.vm) (hq : Cond.castable C T ∈ lw_tbl) : va_Nw (.castable C T) s := va_Nw.warmC hW (va_Nw.of rfl (G.2.2.1 _ hq))
/-- memory where one cell has changed -/
theorem kt_at_kept {w : kt_W} {H H1 : Heap} {b : Nat} {c : kt_C} (h : kt_at w H b c) (e : H1[b]? = H[b]?) : kt_at w H1 b c := by
  match c, h with
  | (0, _), _ => trivial
  | (1, .inl (k, x)), h =>
    obtain ⟨h1, ⟨cell, q1, q2⟩, h3⟩ := h
    exact ⟨h1, ⟨cell, by rw [e]; exact q1, q2⟩, h3⟩
  | (1, .inr (c, fs)), h =>
    obtain ⟨⟨cell, q1, q2⟩, h3⟩ := h
    exact ⟨⟨cell, by rw [e]; exact q1, q2⟩, h3⟩
  | (n + 2, .inl (k, x)), h =>
    obtain ⟨h1, h2, h3⟩ := h
    exact ⟨h1, by rw [e]; exact h2, h3⟩
  | (n + 2, .inr (c, fs)), h =>
    obtain ⟨⟨cell, q1, q2⟩, h3⟩ := h
    exact ⟨⟨cell, by rw [e]; exact q1, q2⟩, h3⟩
theorem kt_at_N0 {w : kt_W} {H : Heap} {a : Nat} {c : kt_C} (h : kt_at w H a c) (ht : 2 ≤ c.1) : kt_N0 w ≤ a := by
  match c, h, ht with
  | (n + 2, .inl (k, x)), h, _ => exact h.2.2
  | (n + 2, .inr (c, fs)), h, _ => exact h.2
  | (0, _), _, h => exact absurd h (show ¬ 2 ≤ 0 by decide)
  | (1, _), _, h => exact absurd h (show ¬ 2 ≤ 1 by decide)
theorem kt_H_up {w : kt_W} {M : kt_M} {H H1 : Heap} {a : Nat} {c : kt_C} (h : kt_H w M H) (z : H1.size = H.size) (o : ∀ q, q ≠ a → H1[q]? = H[q]?) (ha : kt_N0 w ≤ a) (hsz : ∀ (c0 c1 : Cell), H[a]? = some c0 → H1[a]? = some c1 → c1.slots.size = c0.slots.size) (hc : kt_at w H1 a c) : kt_H w (kt_up M a c) H1 := by
  obtain ⟨h1, h2, h3, h4, h5, h6, h7⟩ := h
  refine ⟨z.trans h1, h2, fun q hq => (o q (Nat.ne_of_lt (Nat.lt_of_lt_of_le hq ha))).trans (h3 q hq), ?_, h5, h6, fun b => ?_⟩
  · refine (kt_ss_congr z fun q c0 c1 e0 e1 => ?_).trans h4
    by_cases hq : q = a
    · subst hq; exact hsz c0 c1 e0 e1
    · rw [o q hq, e0] at e1; cases e1; rfl
  · by_cases hb : b = a
    · subst hb
      show kt_at w H1 b (va_up M.2.2 b c b)
      rw [va_up_self]; exact hc
    · show kt_at w H1 b (va_up M.2.2 a c b)
      rw [va_up_ne _ _ hb]; exact kt_at_kept (h7 b) (o b hb)
theorem kt_le_up {g : kt_g} {M0 M : kt_M} {a : Nat} {c : kt_C} (h : kt_le g M0 M) (hm : kt_wr (g, M0) M a) : kt_le g M0 (kt_up M a c) := by
  refine ⟨h.1, h.2.1, fun b hb ht => ?_⟩
  by_cases e : b = a
  · subst e
    have := h.2.2 b hb ht
    have hm2 := hm.2 hb
    rw [this] at hm2
    exact absurd hm2 ht
  · show va_up M.2.2 a c b = _
    rw [va_up_ne _ _ e]; exact h.2.2 b hb ht
/-- a value that a field of f's type takes -/
def kt_ok (f : Nat) (v : Value) : Prop := narrow (kt_fty f) v = v ∧ fits (kt_fty f) v = true
theorem kt_ok_rf {f : Nat} {n : String} (r : Option Nat) (h : kt_fty f = .object n) : kt_ok f (va_rf r) := by unfold kt_ok; rw [h]; cases r <;> exact ⟨rfl, rfl⟩
theorem kt_ok_ra {f : Nat} {t : FieldType} (r : Option Nat) (h : kt_fty f = .array t) : kt_ok f (va_rf r) := by unfold kt_ok; rw [h]; cases r <;> exact ⟨rfl, rfl⟩
def kt_hf (gr : kt_g × kt_M) (M : kt_M) (a f : Nat) : Prop := kt_wr gr M a ∧ ∃ v, kt_gf M a f = some v
section KM
variable {w : kt_W} {x : kt_X} {gr : kt_g × kt_M} {dd nL : Nat} {Q : State → Prop} {M : kt_M} {pc : Nat} {L : List (Nat × Value)} {st : List Value} {cc : ByteArray} {own : String} {nm : String × String} {ret : Option FieldType} {hh : List (Nat × Nat × Nat × Nat)}
theorem kr_getf {idx f a : Nat} {v : Value} (O : kt_O w x gr dd cc own nL nm ret hh) (hd : decode cc pc = .ok (.getfield idx, 3)) (hq : kt_FL own idx f) (hg : kt_gf M a f = some v) (k : kt_S w x nL Q M (pc + 3) L (v :: st)) : kt_S w x nL Q M pc L (va_rf (some a) :: st) := by
  obtain ⟨p, e, g, d, M0, s, m, args, below, meth, c⟩ := x
  obtain ⟨hx, hb, hml, hown, hts, hlk, hW, hH0, hnm, hret, htab, G, hgr, hdd⟩ := O
  intro H locs ls k1 n1 hH hl1 hz hs
  obtain ⟨t, c', fs, j, r, cell, cf, kf, fi, fd, e1, e2, e3, e4, e5, e6, e7, e8, e9, e10, e11, e12, e13, e14, e15, e16, e17, e18, e19, e20⟩ := kt_fact G hW hts hH hg
  rcases hq with ⟨ref, h1, h2⟩ | ⟨ref, host, h1, h2⟩
  · exact W.getf hx hb hown (hts _ h1) (kt_same hts h2 e16) e17 e13 e15 e19 rfl rfl hd (k H locs ls k1 n1 hH hl1 hz hs)
  · exact va_Wgetf hx hb hown (kt_nestF G hW h1) (kt_same hts h2 e16) e17 e13 e15 e19 rfl rfl hd (k H locs ls k1 n1 hH hl1 hz hs)
theorem kr_putf {idx f a : Nat} {v : Value} (O : kt_O w x gr dd cc own nL nm ret hh) (hd : decode cc pc = .ok (.putfield idx, 3)) (hq : kt_FL own idx f) (hfin : kt_ffin f = false ∨ (nm.1 = "<init>" ∧ (kt_fT f).1 = own)) (hv : kt_ok f v) (hg : kt_hf gr M a f) (k : kt_S w x nL Q (kt_pf M a f v) (pc + 3) L st) : kt_S w x nL Q M pc L (v :: va_rf (some a) :: st) := by
  obtain ⟨p, e, g, d, M0, s, m, args, below, meth, c⟩ := x
  obtain ⟨hx, hb, hml, hown, hts, hlk, hW, hH0, hnm, hret, htab, G, hgr, hdd⟩ := O
  subst hgr
  intro H locs ls k1 n1 hH hl1 hz hs
  obtain ⟨hm, v0, hg⟩ := hg
  obtain ⟨t, c', fs, j, r, cell, cf, kf, fi, fd, e1, e2, e3, e4, e5, e6, e7, e8, e9, e10, e11, e12, e13, e14, e15, e16, e17, e18, e19, e20⟩ := kt_fact G hW hts hH hg
  have hap := kt_apart hts e20 e5
  have hin := kt_in c' r e5
  obtain ⟨hS, hfc, kC, hkC, hkind⟩ := e20.1 c' r e5
  have hlay := u_lays hts hin e6
  have htyp : parseFieldDescriptor (r.2.1 j).2.2.1 = some (kt_fty f) := by rw [← e11]; exact kt_ty_ok c' r e5 j e6
  have hi' : s.fieldFound? (r.2.1 j).1 (r.2.1 j).2.1 (r.2.1 j).2.2.1 = some (cf, kf, fi, fd) := by rw [e7, e8, e9]; exact e16
  have hat := hH.2.2.2.2.2.2 a
  have hmw := hm
  unfold kt_wr at hm
  rw [e1] at hat hm
  have ht2 := hm.1
  have hN0 := kt_at_N0 hat ht2
  have hmat : ∃ n, t = n + 2 := ⟨t - 2, by have : 2 ≤ t := ht2; omega⟩
  obtain ⟨tn, rfl⟩ := hmat
  obtain ⟨⟨cell', q1, q2, q3, q4, q5⟩, -⟩ := hat
  cases e13.symm.trans q1
  have hlt : fd.slot < cell.slots.size := (Array.getElem?_eq_some_iff.mp e19).1
  have hnf : narrow fd.type v = v ∧ s.fitsSlot cell.cls cell.vm fd.slot v = true := by
    have := u_fits hfc hkC hkind hlay hi' htyp hv.1 hv.2
    rw [q3, q2]; exact this
  have hfinal : hasFlag fd.accessFlags Acc.final = false ∨ (m.cls = cf ∧ meth.name = "<init>") := by
    have hl := hts _ (hin _ (u_in_lay e6))
    unfold u_lay at hl
    rw [e10] at hl
    rcases hfin with h | ⟨h1, h2⟩
    · rw [h, if_neg (by decide)] at hl
      exact Or.inl (u_store hfc hkC hkind hl hi' htyp hv.1 hv.2).1
    · cases hff : kt_ffin f with
      | false =>
        rw [hff, if_neg (by decide)] at hl
        exact Or.inl (u_store hfc hkC hkind hl hi' htyp hv.1 hv.2).1
      | true =>
        rw [hff, if_pos rfl] at hl
        obtain ⟨_, _, c9, _, _, _, -, -, hf9, -, -, -, hown2, -⟩ := Cond.laysFinal_spec hl
        have e21 : c9 = cf := by have := hi'.symm.trans hf9; simp at this; exact this.1.symm
        rw [e7, h2] at hown2
        exact Or.inr ⟨by rw [← e21]; exact Option.some.inj (hown.symm.trans hown2), hnm.1.trans h1⟩
  have hlt2 : a < H.size := (Array.getElem?_eq_some_iff.mp e13).1
  have hjl : j < fs.length := by rw [e12]; exact e6
  have hM' : kt_pf M a f v = kt_up M a (tn + 2, .inr (c', fs.set j v)) := by unfold kt_pf; rw [e1]; dsimp only; rw [e3]
  have hnew : kt_H w (kt_pf M a f v) (H.setIfInBounds a (cell.setSlot fd.slot v)) := by
    rw [hM']
    refine kt_H_up hH (by simp) (fun q hq => by simp [Array.getElem?_setIfInBounds, Ne.symm hq]) hN0 (fun c0 c1 h0 h1 => ?_) ?_
    · rw [e13] at h0
      cases h0
      have : (H.setIfInBounds a (cell.setSlot fd.slot v))[a]? = some (cell.setSlot fd.slot v) := by simp [Array.getElem?_setIfInBounds, hlt2]
      rw [this] at h1
      cases h1
      exact k2_slotsz _ _ _
    · refine ⟨⟨cell.setSlot fd.slot v, by simp [Array.getElem?_setIfInBounds, hlt2], q2, q3, fun h => ?_, ?_⟩, hN0⟩
      · rw [List.length_set]; exact q4 h
      · intro k hk
        rw [List.length_set] at hk
        have hk' : k < r.2.2 := by rw [← e12]; exact hk
        rw [e18]
        have hsz := q5
        show (cell.slots.setIfInBounds ((kt_D w).2 c' j) v)[(kt_D w).2 c' k]? = _
        by_cases hkj : k = j
        · subst hkj
          rw [e18] at hlt
          simp [Array.getElem?_setIfInBounds, hlt, vp_V, hjl]
        · have := hap k j hk' e6 hkj
          rw [Array.getElem?_setIfInBounds, if_neg (Ne.symm this), q5 k hk]
          simp [vp_V, List.getElem?_set, Ne.symm hkj]
  have hle : kt_le g M0 (kt_pf M a f v) := by
    rw [hM']; exact kt_le_up hl1 hmw
  have hz' : ∀ z ∈ locs ++ [⟨a, fd.slot⟩], kt_fr w z.base := by
    intro z h
    rcases List.mem_append.mp h with h | h
    · exact hz z h
    · rw [List.mem_singleton] at h; subst h; exact hN0
  rcases hq with ⟨ref, h1, h2⟩ | ⟨ref, host, h1, h2⟩
  · exact W.putf hx hb hown (hts _ h1) (kt_same hts h2 e16) e17 hfinal e13 e15 hlt hnf.1 hnf.2 rfl rfl hd (k _ _ ls k1 n1 hnew hle hz' hs)
  · exact va_Wputf hx hb hown (kt_nestF G hW h1) (kt_same hts h2 e16) e17 hfinal e13 e15 hlt hnf.1 hnf.2 rfl rfl hd (k _ _ ls k1 n1 hnew hle hz' hs)
end KM
