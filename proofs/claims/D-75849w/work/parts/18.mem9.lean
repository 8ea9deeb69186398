set_option maxRecDepth 100000
/-! ===== switches; receivers by their class's name ===== -/
theorem kt_lk1 {v k1 o1 df : Int} (h1 : ¬ v = k1) : Op.lookupswitch.offset [(k1, o1)] df v = df := by simp [Op.lookupswitch.offset, Ne.symm h1]
theorem kt_lk2 {v k1 o1 k2 o2 df : Int} (h1 : ¬ v = k1) (h2 : ¬ v = k2) : Op.lookupswitch.offset [(k1, o1), (k2, o2)] df v = df := by simp [Op.lookupswitch.offset, Ne.symm h1, Ne.symm h2]
theorem kt_lk3 {v k1 o1 k2 o2 k3 o3 df : Int} (h1 : ¬ v = k1) (h2 : ¬ v = k2) (h3 : ¬ v = k3) : Op.lookupswitch.offset [(k1, o1), (k2, o2), (k3, o3)] df v = df := by simp [Op.lookupswitch.offset, Ne.symm h1, Ne.symm h2, Ne.symm h3]
/-- the object at a is of the class C -/
def kt_cls (w : kt_W) (M : kt_M) (a : Nat) (C : String) : Prop := kt_G w → ∀ (s : State) (H : Heap), (kt_s0 w).WarmedH s.vm → kt_H w M H → ∃ cell : Cell, H[a]? = some cell ∧ cell.vm.isStatics = false ∧ s.vm.findClass C = some cell.cls
theorem kt_cls_co {w : kt_W} {M : kt_M} {a c : Nat} (h : kt_co M a = some c) (hc : c < 22) : kt_cls w M a (kt_cl.getD c default).1 := fun G s H hW hH => kt_clsOf G hW hH h hc
theorem kt_cls_st {w : kt_W} {M : kt_M} (i : Nat) (hi : i < 4) : kt_cls w M (kt_cA w (5 + i)) (kt_stn i) := by
  intro G s H hW hH
  obtain ⟨⟨cell, h1, h2, h3, h4⟩, -⟩ := G.2.2.2.2.2.2.2.2.2.2.2.1.2.2 i hi
  have hl : kt_cA w (5 + i) < kt_N0 w := Nat.not_le.mp h4
  exact ⟨cell, by rw [hH.2.2.1 _ hl]; exact h1, h2, by rw [hW.alike.findClass]; exact h3⟩
section KCL
variable {w : kt_W} {x : kt_X} {gr : kt_g × kt_M} {dd nL : Nat} {Q : State → Prop} {M : kt_M} {pc : Nat} {L : List (Nat × Value)} {st : List Value} {cc : ByteArray} {own : String} {nm : String × String} {ret : Option FieldType} {hh : List (Nat × Nat × Nat × Nat)}
theorem kt_ivUc {idx nL' a : Nat} {C : String} {x0 y : MethodName} {owner : String} {cw : Cond} {av : List Value} {ls : Array Slot} {rest : List Value} (O : kt_O w x gr dd cc own nL nm ret hh) (hd : decode cc pc = .ok (.invokevirtual idx, 3)) (hcd : kt_cd cw y nL') (hq : Cond.methodLink own idx x0 ∈ lw_all) (hsm : Cond.sameMethod x0.cls owner x0.name x0.desc ∈ lw_all) (hdc : (Cond.instanceMethod ⟨owner, x0.name, x0.desc⟩ ∈ lw_all ∧ ∃ cw' n', kt_cd cw' ⟨owner, x0.name, x0.desc⟩ n') ∨ Cond.declares ⟨owner, x0.name, x0.desc⟩ ∈ lw_tbl) (hin : Cond.instanceMethod y ∈ lw_all) (hse : Cond.selects C x0 y ∈ lw_all) (hco : kt_cls w M a C) (hy : owner ≠ "java/lang/invoke/MethodHandle" ∧ owner ≠ "java/lang/invoke/VarHandle" ∧ (parseMethodDescriptor x0.desc).map (fun d => d.parameters.length) = some av.length) : kt_Iv w x M (F0 (kt_mt x) pc ls (av.reverse ++ va_rf (some a) :: rest)) rest 3 y (va_rf (some a) :: av) := by
  obtain ⟨p, e, g, d, M0, s, m, args, below, meth, c⟩ := x
  obtain ⟨hx, hb, hml, hown, hts, hlk, hW, hH0, hnm, hret, htab, G, hgr, hdd⟩ := O
  intro T locs k n hH X
  obtain ⟨cellB, hcell, hobj, hcls⟩ := hco G s T.heap hW hH
  have hd0 : ∃ (r0 : MethodId) (r : Method), s.methodNamed? ⟨owner, x0.name, x0.desc⟩ = some r0 ∧ s.vm.method? r0 = some r ∧ r.isStatic = false ∧ parseMethodDescriptor x0.desc = some r.sig := by
    rcases hdc with ⟨h, cw', n', h'⟩ | h
    · obtain ⟨mk, me, h1, h2, h3, -⟩ := Cond.instanceMethod_spec (hts _ h)
      obtain ⟨me', c', g1, -, -, g2⟩ := kt_cdU h' hts (State.WarmedH.refl s) h1
      cases h2.symm.trans g1
      exact ⟨mk, me, h1, h2, h3, g2⟩
    · exact Cond.declares_spec (va_Nw.use (A := args) rfl (va_Nw.warmD hW (va_Nw.of rfl (G.2.2.1 _ h))))
  obtain ⟨r0, r, hn, hrm, hstR, hsigR⟩ := hd0
  obtain ⟨cn, ck, r1, hcn, hck, hni, hf, hn1⟩ := Cond.sameMethod_found (hts _ hsm)
  cases hn.symm.trans hn1
  obtain ⟨mk, methM, hnamed, hmethM, -, habM⟩ := Cond.instanceMethod_spec (hts _ hin)
  obtain ⟨c2, r2, m2, q1, q2, q3, q4, kP, hkP, hkPi⟩ := Cond.selects_spec (hts _ hse)
  cases hcls.symm.trans q1
  cases hf.symm.trans q2
  cases hnamed.symm.trans q3
  have hselP : selectMethod e.platform s.vm cellB.cls r0 = .method mk := by rw [Launch.admits_selectMethod X.admits]; exact q4
  have hlen : av.length = r.sig.parameters.length := by have h9 := hy.2.2; rw [hsigR] at h9; exact (Option.some.inj h9).symm
  obtain ⟨vm₁, X₁, hstep₁⟩ := X.invokevirtualUp hx hown (hts _ hq) (hts _ hsm) ⟨hy.1, hy.2.1⟩ hn hrm hstR (a := a) (cell := cellB) hcell
    (fun z h => by rw [h] at hobj; cases hobj) hselP hmethM habM hkP hkPi (g := F0 m pc ls (av.reverse ++ va_rf (some a) :: rest)) rfl (argsL := av) (rest := rest) hlen rfl (by rw [hb]; exact hd)
  exact ⟨vm₁, mk, .invokevirtual idx, X₁, hnamed, by rw [hb]; exact hd, hstep₁⟩
theorem kr_getE {idx i : Nat} (O : kt_O w x gr dd cc own nL nm ret hh) (hd : decode cc pc = .ok (.getfield idx, 3)) (hq : Cond.fieldLink own idx "java/lang/Enum" "ordinal" "I" ∈ lw_all) (hi : i < 4) (k : kt_S w x nL Q M (pc + 3) L (.int (nI i) :: st)) : kt_S w x nL Q M pc L (va_rf (some (kt_cA w (5 + i))) :: st) := by
  obtain ⟨p, e, g, d, M0, s, m, args, below, meth, c⟩ := x
  obtain ⟨hx, hb, hml, hown, hts, hlk, hW, hH0, hnm, hret, htab, G, hgr, hdd⟩ := O
  intro H locs ls k1 n1 hH hl1 hz hs
  have h0 := (G.2.2.2.2.2.2.2.2.2.2.2.1.2.2 i hi).2
  obtain ⟨cf, kf, j, f, cell, e1, e2, e3, e4, e5, e6⟩ := va_OF.moved hW.alike h0
  have hl : kt_cA w (5 + i) < kt_N0 w := Nat.not_le.mp e6
  exact W.getf hx hb hown (hts _ hq) e1 e2 (by rw [hH.2.2.1 _ hl]; exact e3) e4 e5 rfl rfl hd (k H locs ls k1 n1 hH hl1 hz hs)
theorem kr_objinit {idx a : Nat} {d : Nat} (O : kt_O w x gr (d + 1) cc own nL nm ret hh) (hd : decode cc pc = .ok (.invokespecial idx, 3)) (hq : Cond.methodLink own idx Lib.objectInit ∈ lw_all) (hin : Cond.instanceMethod Lib.objectInit ∈ lw_all) (hcd : Cond.code Lib.objectInit ⟨#[0xb1]⟩ 1 none ∈ lw_all) (hst : st.length ≤ 8) (k : kt_S w x nL Q M (pc + 3) L st) : kt_S w x nL Q M pc L (va_rf (some a) :: st) := by
  obtain ⟨p, e, g, d0, M0, s, m, args, below, meth, c⟩ := x
  obtain ⟨hx, hb, hml, hown, hts, hlk, hW, hH0, hnm, hret, htab, G, hgr, hdd⟩ := O
  subst hgr hdd
  intro H locs ls k1 n1 hH hl1 hz hs
  exact W.objInit hx hb hown (hts _ hq) (hts _ hin) (hts _ hcd) rfl (by show ls.size = c.maxLocals; rw [hs.1, hml]) rfl hd (by show 1 ≤ d + 1; omega) (by
    show 2 * 0 + _ + 12 ≤ 100 * (d + 1)
    have := kt_rest hst
    omega) (k H locs ls k1 n1 hH hl1 hz hs)
end KCL
