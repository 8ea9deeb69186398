set_option maxRecDepth 100000
/-! ===== rows: new objects and arrays, casts, constants ===== -/
theorem kt_H_new {w : kt_W} {M : kt_M} {H H1 : Heap} {n : Nat} {c : kt_C} {cell : Cell} (h : kt_H w M H) (hf : kt_fits w M n) (e : H1[M.1]? = some cell) (z : H1.size = M.1 + 1) (o : ∀ q, q < M.1 → H1[q]? = H[q]?) (hn : cell.slots.size = n) (hc : kt_at w H1 M.1 c) : kt_H w (kt_new M n c) H1 := by
  obtain ⟨h1, h2, h3, h4, h5, h6, h7⟩ := h
  refine ⟨z, Nat.le_succ_of_le h2, fun q hq => (o q (Nat.lt_of_lt_of_le hq h2)).trans (h3 q hq), ?_, hf.1, hf.2, fun b => ?_⟩
  · rw [kt_ss_push h1 h2 e z o, h4, hn]; rfl
  · by_cases hb : b = M.1
    · subst hb
      show kt_at w H1 M.1 (va_up M.2.2 M.1 c M.1)
      rw [va_up_self]; exact hc
    · show kt_at w H1 b (va_up M.2.2 M.1 c b)
      rw [va_up_ne _ _ hb]
      have h8 := h7 b
      by_cases hl : b < M.1
      · exact kt_at_kept h8 (o b hl)
      · match hce : M.2.2 b, h8 with
        | (0, _), _ => trivial
        | (1, .inl (k, x)), h8 => exact absurd (Nat.lt_of_lt_of_le h8.2.2 h2) hl
        | (1, .inr (c, fs)), h8 => exact absurd (Nat.lt_of_lt_of_le h8.2 h2) hl
        | (t + 2, .inl (k, x)), h8 =>
          have : b < H.size := (Array.getElem?_eq_some_iff.mp h8.2.1).1
          omega
        | (t + 2, .inr (c, fs)), h8 =>
          obtain ⟨⟨cell, h9, -⟩, -⟩ := h8
          have : b < H.size := (Array.getElem?_eq_some_iff.mp h9).1
          omega
theorem kt_le_new {g : kt_g} {M0 M : kt_M} {n : Nat} {c : kt_C} (h : kt_le g M0 M) : kt_le g M0 (kt_new M n c) :=
  ⟨Nat.le_succ_of_le h.1, Nat.le_trans h.2.1 (Nat.le_add_right _ _), fun a ha ht => by
    show va_up M.2.2 M.1 c a = _
    rw [va_up_ne _ _ (Nat.ne_of_lt (Nat.lt_of_lt_of_le ha h.1))]; exact h.2.2 a ha ht⟩
/-- a new array of kind k and length n -/
def kt_z (k n : Nat) : vp_A := match k with
  | 0 => (n, .inl fun _ => 0)
  | 1 => (n, .inr (.inl fun _ => 0))
  | 2 => (n, .inl fun _ => 0)
  | _ => (n, .inr (.inr (.inr (.inr fun _ => none))))
theorem kt_z_1 (k n : Nat) : (kt_z k n).1 = n := by unfold kt_z; split <;> rfl
theorem kt_f0_len (c : Nat) : (kt_f0 c).length = (kt_fl c).length := by simp [kt_f0]
section KN
variable {w : kt_W} {x : kt_X} {gr : kt_g × kt_M} {dd nL : Nat} {Q : State → Prop} {M : kt_M} {pc : Nat} {L : List (Nat × Value)} {st : List Value} {cc : ByteArray} {own : String} {nm : String × String} {ret : Option FieldType} {hh : List (Nat × Nat × Nat × Nat)}
theorem kr_new {idx n c : Nat} {r : vw_C} {fs : List Value} (t : Nat) (O : kt_O w x gr dd cc own nL nm ret hh) (hd : decode cc pc = .ok (.new idx, 3)) (hc : kt_cl[c]? = some r) (hq : Cond.classLink own idx r.1 ∈ lw_all) (hi : Cond.instantiable r.1 n ∈ lw_all) (hini : Cond.initialized r.1 ∈ lw_all) (hfs : kt_f0 c = fs) (hf : kt_fits w M n) (k : kt_S w x nL Q (kt_new M n (t + 2, .inr (c, fs))) (pc + 3) L (va_rf (some M.1) :: st)) : kt_S w x nL Q M pc L st := by
  obtain ⟨p, e, g, d, M0, s, m, args, below, meth, c0⟩ := x
  obtain ⟨hx, hb, hml, hown, hts, hlk, hW, hH0, hnm, hret, htab, G, hgr, hdd⟩ := O
  intro H locs ls k1 n1 hH hl1 hz hs
  have hN : kt_N0 w ≤ s.heap.size := by rw [hH0.1]; exact hH0.2.1
  refine kt_Wt hN fun g1 g2 => ?_
  have a1 := hH0.1
  have a2 := hH.1
  have a3 := hH0.2.2.2.1
  have a4 := hH.2.2.2.1
  have hK : va_K (kt_D w) kt_cl (kt_tyl w) s := va_K.moved hW.alike G.2.1
  have hKn := hK.1 c r hc
  have hc22 : c < kt_cl.length := (List.getElem?_eq_some_iff.mp hc).1
  refine W.newc hx hb hown (hts _ hq) (hts _ hi) (hts _ hini) rfl hd ?_ ?_ fun cC kC h1 h2 h3 h4 => ?_
  · show _ + 1 ≤ kt_cN w - M0.1
    have := hf.1
    omega
  · show _ + n ≤ kt_cS - M0.2.1
    have := hf.2
    omega
  · rw [a2]
    have hcC : cC = (kt_D w).1 c := Option.some.inj (h1.symm.trans hKn.2.1)
    subst hcC
    generalize hH1 : H.push ({ cls := (kt_D w).1 c, slots := kC.instanceTypes.map defaultValue, vm := .none } : Cell) = H1
    have e1 : H1[M.1]? = some (blank ((kt_D w).1 c) kC) := by rw [← hH1, ← a2, Array.getElem?_push_size]; rfl
    have z1 : H1.size = M.1 + 1 := by rw [← hH1, Array.size_push, a2]
    have o1 : ∀ q, q < M.1 → H1[q]? = H[q]? := fun q hq => by rw [← hH1, Array.getElem?_push, if_neg (by omega)]
    obtain ⟨cell, b1, b2, b3, b4⟩ := u_born (kt_tys c) hts (kt_in c r hc) hKn h2 e1 (kt_ty_ok c r hc)
    cases e1.symm.trans b1
    have hlen : (kt_fl c).length = r.2.2 := by
      have := kt_fl_len c hc22
      rw [this, List.getD_eq_getElem?_getD, hc]; rfl
    refine k _ _ ls _ _ (kt_H_new hH hf e1 z1 o1 (by simp [blank, h4]) ⟨⟨_, e1, b2, b3, fun _ => ⟨hc22, ?_⟩, fun j hj => ?_⟩, hH.2.1⟩) (kt_le_new hl1) hz hs
    · rw [← hfs, kt_f0_len]
    · rw [← hfs, kt_f0_len, hlen] at hj
      rw [b4 j hj, ← hfs]
      have hj2 : j < (kt_fl c).length := by rw [hlen]; exact hj
      simp [vp_V, kt_f0, hj2]
theorem kr_newarr {v : Int32} {n : Nat} {at_ : ArrayType} (t kd : Nat) (O : kt_O w x gr dd cc own nL nm ret hh) (hd : decode cc pc = .ok (.newarray at_, 2)) (hk : kd < 3) (hty : newarray.typeOf at_ = kt_ty kd) (hq : Cond.arrayClass (newarray.typeOf at_) ∈ lw_all) (hv : v = nI n) (hn : n < 2 ^ 31) (hf : kt_fits w M n) (k : kt_S w x nL Q (kt_new M n (t + 2, .inl (kd, kt_z kd n))) (pc + 2) L (va_rf (some M.1) :: st)) : kt_S w x nL Q M pc L (.int v :: st) := by
  subst hv
  obtain ⟨p, e, g, d, M0, s, m, args, below, meth, c0⟩ := x
  obtain ⟨hx, hb, hml, hown, hts, hlk, hW, hH0, hnm, hret, htab, G, hgr, hdd⟩ := O
  intro H locs ls k1 n1 hH hl1 hz hs
  have hN : kt_N0 w ≤ s.heap.size := by rw [hH0.1]; exact hH0.2.1
  refine kt_Wt hN fun g1 g2 => ?_
  have a1 := hH0.1
  have a2 := hH.1
  have a3 := hH0.2.2.2.1
  have a4 := hH.2.2.2.1
  have hK : va_K (kt_D w) kt_cl (kt_tyl w) s := va_K.moved hW.alike G.2.1
  have hcap : M.2.1 + n ≤ 5501818 := hf.2
  have hcb : componentBytes (newarray.typeOf at_) ≤ 8 := by rw [hty]; rcases (show kd = 0 ∨ kd = 1 ∨ kd = 2 by omega) with rfl | rfl | rfl <;> decide
  refine va_newaK hx hb (hts _ hq) rfl hd rfl (nI_pos hn) (nI_clamp hn) (Nat.le_trans (Nat.mul_le_mul_left n hcb) (by omega)) ?_ ?_ a2 fun H1 cA e1 z1 o1 hAr hnm2 => ?_
  · show _ + 1 ≤ kt_cN w - M0.1
    have := hf.1
    omega
  · show _ + n ≤ kt_cS - M0.2.1
    have := hf.2
    omega
  · have hcA : cA = kt_dA w kd := by
      have hr := (hK.2 kd _ (kt_tyl_at w (by omega))).2
      rw [hty] at hnm2
      rcases (show kd = 0 ∨ kd = 1 ∨ kd = 2 by omega) with rfl | rfl | rfl <;> exact Option.some.inj (hnm2.symm.trans hr)
    subst hcA
    refine k _ _ ls _ _ (kt_H_new hH hf e1 z1 o1 (by rw [arrV_size]) ⟨by omega, ?_, hH.2.1⟩) (kt_le_new hl1) hz hs
    rw [e1, kt_cell_v, kt_z_1, hty]
    congr 2
    rcases (show kd = 0 ∨ kd = 1 ∨ kd = 2 by omega) with rfl | rfl | rfl <;> rfl
theorem kr_anew {v : Int32} {n idx : Nat} {C : String} (t kd : Nat) (O : kt_O w x gr dd cc own nL nm ret hh) (hd : decode cc pc = .ok (.anewarray idx, 3)) (hk : 3 ≤ kd) (hk6 : kd < 6) (hty : kt_ty kd = .object C) (hq : Cond.classLink own idx C ∈ lw_all) (ho : Cond.arrayOver (.object C) ∈ lw_tbl) (hv : v = nI n) (hn : n < 2 ^ 31) (hf : kt_fits w M n) (k : kt_S w x nL Q (kt_new M n (t + 2, .inl (kd, kt_z kd n))) (pc + 3) L (va_rf (some M.1) :: st)) : kt_S w x nL Q M pc L (.int v :: st) := by
  subst hv
  obtain ⟨p, e, g, d, M0, s, m, args, below, meth, c0⟩ := x
  obtain ⟨hx, hb, hml, hown, hts, hlk, hW, hH0, hnm, hret, htab, G, hgr, hdd⟩ := O
  intro H locs ls k1 n1 hH hl1 hz hs
  have hN : kt_N0 w ≤ s.heap.size := by rw [hH0.1]; exact hH0.2.1
  refine kt_Wt hN fun g1 g2 => ?_
  have a1 := hH0.1
  have a2 := hH.1
  have a3 := hH0.2.2.2.1
  have a4 := hH.2.2.2.1
  have hK : va_K (kt_D w) kt_cl (kt_tyl w) s := va_K.moved hW.alike G.2.1
  have hcap : M.2.1 + n ≤ 5501818 := hf.2
  have hAO : va_AO C s := va_AO.moved hW.alike (va_AO.of (G.2.2.1 _ ho))
  refine W.anew hx hb hown (hts _ hq) (va_AO.use hAO) rfl hd rfl (nI_pos hn) (by rw [nI_clamp hn]; omega) ?_ ?_ fun cA kA comp f1 f2 f3 f4 => ?_
  · show _ + 1 ≤ kt_cN w - M0.1
    have := hf.1
    omega
  · show _ + _ ≤ kt_cS - M0.2.1
    rw [nI_clamp hn]
    have := hf.2
    omega
  · rw [nI_clamp hn, a2]
    have hcA : cA = kt_dA w kd := by
      have hr := (hK.2 kd _ (kt_tyl_at w hk6)).2
      rw [hty] at hr
      obtain ⟨-, -, -, -, -, r4⟩ := hr
      exact Option.some.inj (f1.symm.trans r4)
    subst hcA
    generalize hH1 : H.push ({ cls := kt_dA w kd, slots := Array.replicate n .null, vm := .none } : Cell) = H1
    have e1 : H1[M.1]? = some (arrV (kt_dA w kd) n (fun _ => .null)) := by rw [← hH1, ← a2, Array.getElem?_push_size, ← arrV_new]
    have z1 : H1.size = M.1 + 1 := by rw [← hH1, Array.size_push, a2]
    have o1 : ∀ q, q < M.1 → H1[q]? = H[q]? := fun q hq => by rw [← hH1, Array.getElem?_push, if_neg (by omega)]
    refine k _ _ ls _ _ (kt_H_new hH hf e1 z1 o1 (by rw [arrV_size]) ⟨hk6, ?_, hH.2.1⟩) (kt_le_new hl1) hz hs
    rw [e1, kt_cell_v, kt_z_1]
    congr 2
    rcases (show kd = 3 ∨ kd = 4 ∨ kd = 5 by omega) with rfl | rfl | rfl <;> rfl
theorem kr_castN {idx : Nat} (O : kt_O w x gr dd cc own nL nm ret hh) (hd : decode cc pc = .ok (.checkcast idx, 3)) (k : kt_S w x nL Q M (pc + 3) L (va_rf none :: st)) : kt_S w x nL Q M pc L (va_rf none :: st) := by
  obtain ⟨p, e, g, d, M0, s, m, args, below, meth, c0⟩ := x
  obtain ⟨hx, hb, -⟩ := O
  exact fun H locs ls k1 n1 hH hl1 hz hs => lv_castN hx hb hd (k H locs ls k1 n1 hH hl1 hz hs)
theorem kr_cast {idx a c : Nat} {T : String} (O : kt_O w x gr dd cc own nL nm ret hh) (hd : decode cc pc = .ok (.checkcast idx, 3)) (hq : Cond.classLink own idx T ∈ lw_all) (hc : kt_co M a = some c) (hi : kt_is c T) (k : kt_S w x nL Q M (pc + 3) L (va_rf (some a) :: st)) : kt_S w x nL Q M pc L (va_rf (some a) :: st) := by
  obtain ⟨p, e, g, d, M0, s, m, args, below, meth, c0⟩ := x
  obtain ⟨hx, hb, hml, hown, hts, hlk, hW, hH0, hnm, hret, htab, G, hgr, hdd⟩ := O
  intro H locs ls k1 n1 hH hl1 hz hs
  have hr := kt_clsOf G hW hH hc hi.1
  rcases hi.2 with h | h
  · exact va_castY hx hb hown (hts _ hq) (kt_castN G hW h) hr hd (k H locs ls k1 n1 hH hl1 hz hs)
  · rw [h] at hr
    exact va_castE hx hb hown (hts _ hq) hr hd (k H locs ls k1 n1 hH hl1 hz hs)
theorem kr_instY {idx a c : Nat} {T : String} (O : kt_O w x gr dd cc own nL nm ret hh) (hd : decode cc pc = .ok (.instanceof idx, 3)) (hq : Cond.classLink own idx T ∈ lw_all) (hc : kt_co M a = some c) (hi : kt_is c T) (k : kt_S w x nL Q M (pc + 3) L (.int 1 :: st)) : kt_S w x nL Q M pc L (va_rf (some a) :: st) := by
  obtain ⟨p, e, g, d, M0, s, m, args, below, meth, c0⟩ := x
  obtain ⟨hx, hb, hml, hown, hts, hlk, hW, hH0, hnm, hret, htab, G, hgr, hdd⟩ := O
  intro H locs ls k1 n1 hH hl1 hz hs
  have hr := kt_clsOf G hW hH hc hi.1
  rcases hi.2 with h | h
  · exact va_instY hx hb hown (hts _ hq) (kt_castN G hW h) hr hd (k H locs ls k1 n1 hH hl1 hz hs)
  · rw [h] at hr
    exact va_instE hx hb hown (hts _ hq) hr hd (k H locs ls k1 n1 hH hl1 hz hs)
theorem kr_instN {idx a c : Nat} {T : String} (O : kt_O w x gr dd cc own nL nm ret hh) (hd : decode cc pc = .ok (.instanceof idx, 3)) (hq : Cond.classLink own idx T ∈ lw_all) (hc : kt_co M a = some c) (hc22 : c < 22) (hi : kt_G w → va_Nc (kt_cl.getD c default).1 T (kt_s0 w)) (k : kt_S w x nL Q M (pc + 3) L (.int 0 :: st)) : kt_S w x nL Q M pc L (va_rf (some a) :: st) := by
  obtain ⟨p, e, g, d, M0, s, m, args, below, meth, c0⟩ := x
  obtain ⟨hx, hb, hml, hown, hts, hlk, hW, hH0, hnm, hret, htab, G, hgr, hdd⟩ := O
  intro H locs ls k1 n1 hH hl1 hz hs
  exact va_instNo hx hb hown (hts _ hq) (va_Nc.moved hW.alike (hi G)) (kt_clsOf G hW hH hc hc22) hd (k H locs ls k1 n1 hH hl1 hz hs)
/-- a cast to an array's class -/
theorem kr_castA {idx a t kd : Nat} {y : vp_A} {T : String} (O : kt_O w x gr dd cc own nL nm ret hh) (hd : decode cc pc = .ok (.checkcast idx, 3)) (hq : Cond.classLink own idx T ∈ lw_all) (hT : "[" ++ (kt_ty kd).toString = T) (hc : M.2.2 a = (t + 2, .inl (kd, y))) (k : kt_S w x nL Q M (pc + 3) L (va_rf (some a) :: st)) : kt_S w x nL Q M pc L (va_rf (some a) :: st) := by
  obtain ⟨p, e, g, d, M0, s, m, args, below, meth, c0⟩ := x
  obtain ⟨hx, hb, hml, hown, hts, hlk, hW, hH0, hnm, hret, htab, G, hgr, hdd⟩ := O
  intro H locs ls k1 n1 hH hl1 hz hs
  have hat := hH.2.2.2.2.2.2 a
  rw [hc] at hat
  obtain ⟨hk6, h2, -⟩ := hat
  have hK : va_K (kt_D w) kt_cl (kt_tyl w) s := va_K.moved hW.alike G.2.1
  have hr := (hK.2 kd _ (kt_tyl_at w hk6)).2
  have hn : s.vm.findClass T = some (kt_dA w kd) := by
    rw [← hT]
    rcases (show kd = 0 ∨ kd = 1 ∨ kd = 2 ∨ kd = 3 ∨ kd = 4 ∨ kd = 5 by omega) with rfl | rfl | rfl | rfl | rfl | rfl
    · exact hr
    · exact hr
    · exact hr
    · exact hr.choose_spec.choose_spec.2.2.2
    · exact hr.choose_spec.choose_spec.2.2.2
    · exact hr.choose_spec.choose_spec.2.2.2
  exact va_castA (D := kt_D w) (cl := kt_cl) (ws := [(a, .inl (kt_dA w kd, y))]) hx hb hown (hts _ hq) (fun j q hj => by
    have hj0 : j = 0 := by have := (List.getElem?_eq_some_iff.mp hj).1; simp at this; exact this
    subst hj0
    cases hj
    exact h2) 0 rfl hn hd (k H locs ls k1 n1 hH hl1 hz hs)
theorem kt_statics {w : kt_W} {p : Program} {s : State} {M0 M : kt_M} {H : Heap} {locs : List Loc} {g : kt_g} (hH0 : kt_H w M0 s.heap) (hH : kt_H w M H) (hl : kt_le g M0 M) (hz : ∀ z ∈ locs, kt_fr w z.base) : va_S (kt_fr w) s.heap H locs :=
  ⟨by rw [hH0.1, hH.1]; exact hl.1, fun q _ h2 => by
    have hq : q < kt_N0 w := Nat.not_le.mp h2
    rw [hH.2.2.1 q hq, hH0.2.2.1 q hq], hz⟩
theorem kr_gets {idx i : Nat} {C n ds : String} (O : kt_O w x gr dd cc own nL nm ret hh) (hd : decode cc pc = .ok (.getstatic idx, 3)) (hq : Cond.fieldLink own idx C n ds ∈ lw_all) (hi : (C, n, ds, i) ∈ kt_stT) (k : kt_S w x nL Q M (pc + 3) L (va_rf (some (kt_cA w i)) :: st)) : kt_S w x nL Q M pc L st := by
  obtain ⟨p, e, g, d, M0, s, m, args, below, meth, c0⟩ := x
  obtain ⟨hx, hb, hml, hown, hts, hlk, hW, hH0, hnm, hret, htab, G, hgr, hdd⟩ := O
  intro H locs ls k1 n1 hH hl1 hz hs
  have hZ := va_Z.moved hW.alike ((G.2.2.2.2.1 _ hi).kept fun a ha hna => hH0.2.2.1 a (Nat.not_le.mp hna))
  exact va_gets hx hb hZ (kt_statics (p := p) hH0 hH hl1 hz) hown (hts _ hq) (fun _ h => h) hd (k H locs ls k1 n1 hH hl1 hz hs)
theorem kr_getsI {idx : Nat} {v : Int32} {C n ds : String} (O : kt_O w x gr dd cc own nL nm ret hh) (hd : decode cc pc = .ok (.getstatic idx, 3)) (hq : Cond.fieldLink own idx C n ds ∈ lw_all) (hi : (C, n, ds, v) ∈ kt_stI) (k : kt_S w x nL Q M (pc + 3) L (.int v :: st)) : kt_S w x nL Q M pc L st := by
  obtain ⟨p, e, g, d, M0, s, m, args, below, meth, c0⟩ := x
  obtain ⟨hx, hb, hml, hown, hts, hlk, hW, hH0, hnm, hret, htab, G, hgr, hdd⟩ := O
  intro H locs ls k1 n1 hH hl1 hz hs
  have hZ := va_Z.moved hW.alike ((G.2.2.2.2.2.1 _ hi).kept fun a ha hna => hH0.2.2.1 a (Nat.not_le.mp hna))
  exact va_gets hx hb hZ (kt_statics (p := p) hH0 hH hl1 hz) hown (hts _ hq) (fun _ h => h) hd (k H locs ls k1 n1 hH hl1 hz hs)
theorem kr_getsU {idx : Nat} {C n ds : String} (O : kt_O w x gr dd cc own nL nm ret hh) (hd : decode cc pc = .ok (.getstatic idx, 3)) (hq : Cond.fieldLink own idx C n ds ∈ lw_all) (hi : kt_G w → kx_Zq C n ds (kt_fr w) (kt_s0 w) (kt_s0 w).heap) (k : ∀ r : Option Nat, kt_S w x nL Q M (pc + 3) L (va_rf r :: st)) : kt_S w x nL Q M pc L st := by
  obtain ⟨p, e, g, d, M0, s, m, args, below, meth, c0⟩ := x
  obtain ⟨hx, hb, hml, hown, hts, hlk, hW, hH0, hnm, hret, htab, G, hgr, hdd⟩ := O
  intro H locs ls k1 n1 hH hl1 hz hs
  rcases (hi G).1 with h | ⟨t, h⟩
  · have hZ := va_Z.moved hW.alike (h.kept fun a ha hna => hH0.2.2.1 a (Nat.not_le.mp hna))
    exact va_gets hx hb hZ (kt_statics (p := p) hH0 hH hl1 hz) hown (hts _ hq) (fun _ h => h) hd (k none H locs ls k1 n1 hH hl1 hz hs)
  · have hZ := va_Z.moved hW.alike (h.kept fun a ha hna => hH0.2.2.1 a (Nat.not_le.mp hna))
    exact va_gets hx hb hZ (kt_statics (p := p) hH0 hH hl1 hz) hown (hts _ hq) (fun _ h => h) hd (k (some t) H locs ls k1 n1 hH hl1 hz hs)
theorem kr_ldcS {idx i : Nat} {tx : String} (O : kt_O w x gr dd cc own nL nm ret hh) (hd : decode cc pc = .ok (.ldc idx, 2)) (hi : (own, idx, tx, i) ∈ kt_strT) (k : kt_S w x nL Q M (pc + 2) L (va_rf (some (kt_cA w i)) :: st)) : kt_S w x nL Q M pc L st := by
  obtain ⟨p, e, g, d, M0, s, m, args, below, meth, c0⟩ := x
  obtain ⟨hx, hb, hml, hown, hts, hlk, hW, hH0, hnm, hret, htab, G, hgr, hdd⟩ := O
  intro H locs ls k1 n1 hH hl1 hz hs
  exact va_ldcS hx hb hown (vk_R.warm hW (G.2.2.2.2.2.2.1 _ hi)) hd (k H locs ls k1 n1 hH hl1 hz hs)
theorem kt_ldcWS {p : Program} {l : Launch} {e : Env} {R : Room} {s : State} {m : MethodId} {args : Array Value} {below : List Frame} {meth : Method} {c : Code} {T : State} {locs : List Loc} {cells slots : Nat} (X : Stand p l e R s m args below meth c T locs cells slots) (hexec : p.tables.exec = Jvm.exec) {own text : String} {index : Nat} {a : Addr} (hown : s.vm.findClass own = some m.cls)
    (hconst : (Cond.stringRef own index text).before args s = true) (hev : (Term.string own index).eval args s none [] s = some (.ref a)) {g : JFrame} (hg : g.method = m) (hdg : decode c.code g.pc = .ok (.ldc_w index, 3)) :
    ∀ target, Steps p.tables e below (T.setTop { g with pc := g.pc + 3, stack := .ref a :: g.stack }) target → Steps p.tables e below (T.setTop g) target := by
  obtain ⟨k, cf, i, a', hk, hcf, hcp, -, hr, hev'⟩ := Cond.stringRef_spec hown hconst
  cases hev.symm.trans hev'
  obtain ⟨k', hk', he⟩ := X.warmed.alike.2.2 _ _ hk
  have hr' : k'.resolved[index]? = some (some (.string a)) := by
    rcases X.warmed.entry hk hk' index with h | ⟨h, -⟩
    · rw [h]; exact hr
    · rw [hr] at h; cases h
  intro target hrest
  subst hg
  jvm_step X.here [hexec, hdg, ldc_w.wp_string (e := e) (s := T) (f := g) X.here.top hk' (by rw [he]; exact hcf) hcp hr']
  exact hrest
theorem kr_ldcwS {idx i : Nat} {tx : String} (O : kt_O w x gr dd cc own nL nm ret hh) (hd : decode cc pc = .ok (.ldc_w idx, 3)) (hi : (own, idx, tx, i) ∈ kt_strT) (k : kt_S w x nL Q M (pc + 3) L (va_rf (some (kt_cA w i)) :: st)) : kt_S w x nL Q M pc L st := by
  obtain ⟨p, e, g, d, M0, s, m, args, below, meth, c0⟩ := x
  obtain ⟨hx, hb, hml, hown, hts, hlk, hW, hH0, hnm, hret, htab, G, hgr, hdd⟩ := O
  intro H locs ls k1 n1 hH hl1 hz hs
  have hR := vk_R.warm hW (G.2.2.2.2.2.2.1 _ hi)
  intro T hT X
  obtain ⟨t, a1, b1⟩ := k H locs ls k1 n1 hH hl1 hz hs T hT X
  have hev : (Term.string own idx).eval args s none [] s = some (.ref (kt_cA w i)) := hR.2
  exact ⟨t, kt_ldcWS X hx hown hR.1 hev (g := F0 m pc ls st) rfl (by rw [hb]; exact hd) t a1, b1⟩
theorem kr_ldcM {idx : Nat} (O : kt_O w x gr dd cc own nL nm ret hh) (hd : decode cc pc = .ok (.ldc idx, 2)) (hq : Cond.classLink own idx "[Ljava/lang/Object;" ∈ lw_all) (k : kt_S w x nL Q M (pc + 2) L (va_rf (some (kt_cA w 90)) :: st)) : kt_S w x nL Q M pc L st := by
  obtain ⟨p, e, g, d, M0, s, m, args, below, meth, c0⟩ := x
  obtain ⟨hx, hb, hml, hown, hts, hlk, hW, hH0, hnm, hret, htab, G, hgr, hdd⟩ := O
  intro H locs ls k1 n1 hH hl1 hz hs
  exact va_ldcM hx hb hown (hts _ hq) (va_Mi.moved hW.alike G.2.2.2.2.2.2.2.1) hd (k H locs ls k1 n1 hH hl1 hz hs)
end KN
