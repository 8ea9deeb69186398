set_option maxRecDepth 100000
/-! ===== calls, ends, entries ===== -/
/-- the method y's code word, with the number of its locals -/
def kt_cd (cw : Cond) (y : MethodName) (nL : Nat) : Prop := cw ∈ lw_all ∧ nL ≤ 60 ∧ ((∃ b r, cw = .code y b nL r) ∨ (∃ b r hh, cw = .codeWith y b nL r hh))
theorem kt_cdU {cw : Cond} {y : MethodName} {nL : Nat} {s U : State} {args : Array Value} {mk : MethodId} (h : kt_cd cw y nL) (hts : ∀ v ∈ lw_all, v.before args s = true) (hW : s.WarmedH U.vm) (hn : U.methodNamed? y = some mk) : ∃ (methY : Method) (cY : Code), U.vm.method? mk = some methY ∧ methY.code = some cY ∧ cY.maxLocals = nL ∧ parseMethodDescriptor y.desc = some methY.sig := by
  obtain ⟨h1, h2, h3⟩ := h
  have hb : cw.before args U = true := word_at hW (good_of_word (List.mem_filter.mp h1).2) (hts _ h1)
  rcases h3 with ⟨b, r, rfl⟩ | ⟨b, r, hh, rfl⟩
  · obtain ⟨me, c, e1, e2, -, e3, -, -, -, e4⟩ := Cond.code_spec hn hb
    exact ⟨me, c, e1, e2, e3, e4⟩
  · obtain ⟨m9, me, c, e0, e1, e2, -, e3, -, -, -, e4⟩ := Cond.codeWith_spec hb
    cases hn.symm.trans e0
    exact ⟨me, c, e1, e2, e3, e4⟩
theorem kt_cdN {cw : Cond} {y : MethodName} {nL : Nat} {s : State} {args : Array Value} (h : kt_cd cw y nL) (hts : ∀ v ∈ lw_all, v.before args s = true) : ∃ (mk : MethodId) (methY : Method) (cY : Code), s.methodNamed? y = some mk ∧ s.vm.method? mk = some methY ∧ methY.code = some cY ∧ cY.maxLocals = nL ∧ parseMethodDescriptor y.desc = some methY.sig := by
  have hb := hts _ h.1
  have hn : ∃ mk, s.methodNamed? y = some mk := by
    rcases h.2.2 with ⟨b, r, rfl⟩ | ⟨b, r, hh, rfl⟩
    · exact Cond.code_named hb
    · obtain ⟨m9, me, c, e0, -⟩ := Cond.codeWith_spec hb
      exact ⟨m9, e0⟩
  obtain ⟨mk, hn⟩ := hn
  obtain ⟨me, c, e⟩ := kt_cdU h hts (State.WarmedH.refl s) hn
  exact ⟨mk, me, c, hn, e⟩
/-- the instruction at the frame gf comes to the invocation of y with the values av -/
def kt_Iv (w : kt_W) (x : kt_X) (M : kt_M) (gf : JFrame) (rest : List Value) (len : Nat) (y : MethodName) (av : List Value) : Prop := match x with
  | (p, e, _, d, M0, s, m, args, below, meth, c) => ∀ (T : State) (locs : List Loc) (k n : Nat), kt_H w M T.heap → Stand p w.1 e (kt_rm w d M0) s m args below meth c T locs k n →
    ∃ (vm₁ : Vm) (mk : MethodId) (ig : Instr), Stand p w.1 e (kt_rm w d M0) s m args below meth c (T.setVm vm₁) locs k n ∧ s.methodNamed? y = some mk ∧ decode c.code gf.pc = .ok (ig, len) ∧
      ∀ target, (∀ acts, Steps p.tables e below (doInvoke e ((T.setVm vm₁).setTop { gf with stack := rest }) acts mk av.toArray).1 target) → Steps p.tables e below (T.setTop gf) target
def kt_mt (x : kt_X) : MethodId := x.2.2.2.2.2.2.1
theorem kt_cat_le (v : Value) : v.category ≤ 2 := by cases v <;> simp [Value.category]
theorem kt_rest {st : List Value} (h : st.length ≤ 8) : (st.map fun v => v.category).sum ≤ 16 := by
  have : ∀ l : List Value, (l.map fun v => v.category).sum ≤ 2 * l.length := by
    intro l
    induction l with
    | nil => simp
    | cons a t ih =>
      have := kt_cat_le a
      simp only [List.map_cons, List.sum_cons, List.length_cons]
      omega
  exact Nat.le_trans (this st) (by omega)
section KC
variable {w : kt_W} {x : kt_X} {gr : kt_g × kt_M} {dd nL : Nat} {Q : State → Prop} {M : kt_M} {pc : Nat} {L : List (Nat × Value)} {st : List Value} {cc : ByteArray} {own : String} {nm : String × String} {ret : Option FieldType} {hh : List (Nat × Nat × Nat × Nat)}
/-- a call -/
theorem kr_call {len nL' d' : Nat} {g' : kt_g} {y : MethodName} {cw : Cond} {av rest : List Value} {P : Option Value → kt_M → Prop} {X : String → Nat → kt_M → Prop} (O : kt_O w x gr dd cc own nL nm ret hh) (hcd : kt_cd cw y nL') (hs : kt_Sp w g' d' y cw av M P X) (hsub : kt_sub g' gr) (hd' : d' + 1 ≤ dd) (hrest : rest.length ≤ 8)
    (hiv : ∀ ls : Array Slot, lv_has ls nL L → kt_Iv w x M (F0 (kt_mt x) pc ls st) rest len y av)
    (k : ∀ (v : Option Value) (M' : kt_M), kt_le g' M M' → P v M' → kt_S w x nL Q M' (pc + len) L (v.toList ++ rest)) (kx : ∀ (E : String) (q : Nat) (M' : kt_M), kt_le g' M M' → X E q M' → kt_T w x nL Q M' pc L E q) : kt_S w x nL Q M pc L st := by
  obtain ⟨p, e, g, d, M0, s, m, args, below, meth, c⟩ := x
  obtain ⟨hx, hb, hml, hown, hts, hlk, hW, hH0, hnm, hret, htab, G, rfl, rfl⟩ := O
  intro H locs ls k1 n1 hH hl1 hz hls
  have hN : kt_N0 w ≤ s.heap.size := by rw [hH0.1]; exact hH0.2.1
  refine kt_Wt hN fun g1 g2 => ?_
  intro T hT Y
  have hH' := hH
  rw [← hT] at hH'
  obtain ⟨vm₁, mk, ig, X₁, hnamed, hdg, hstep⟩ := hiv ls hls T locs _ _ hH' Y
  have a1 := hH0.1
  have a2 := hH.1
  have a3 := hH0.2.2.2.1
  have a4 := hH.2.2.2.1
  have a5 := hH.2.2.2.2.1
  have a6 := hH.2.2.2.2.2.1
  have hB : kx_Back w.1 (kt_rm w d M0) p e below s args y len 16 (PreOf (kt_rm w d M0) (kt_cN w - M.1) (kt_cS - M.2.1) (kt_Pc w M av)) (PostOf (kt_Qc w g' M P) (kt_cN w - M.1) (kt_cS - M.2.1) (kt_fr w)) (kx_Post (kt_XC w g' M X) (kt_cN w - M.1) (kt_cS - M.2.1) (kt_fr w)) := by
    refine kx_back (maxL := nL') (hs G) (kt_Pc_blind w M av) rfl rfl hd' ?_ ?_ ?_
    · show 16 + (nL' + 11) + 100 * d' ≤ 100 * d
      have := hcd.2.1
      omega
    · intro v hv a' U hWU
      rcases List.mem_cons.mp hv with rfl | hv
      · exact word_at hWU (good_of_word (List.mem_filter.mp hcd.1).2) (hts _ hcd.1)
      · exact word_at hWU (good_of_word (List.mem_filter.mp hv).2) (hts _ hv)
    · intro U mk hWU hn
      obtain ⟨me, c9, e1, e2, e3, -⟩ := kt_cdU hcd hts hWU hn
      exact ⟨me, c9, e1, e2, e3⟩
  have hpre : PreOf (kt_rm w d M0) (kt_cN w - M.1) (kt_cS - M.2.1) (kt_Pc w M av) ⟨T.setVm vm₁, locs, H.size - s.heap.size, kt_ss (kt_N0 w) H - kt_ss (kt_N0 w) s.heap⟩ av.toArray := by
    refine ⟨?_, ?_, rfl, State.WarmedH.trans hW X₁.warmed, hH'⟩
    · show H.size - s.heap.size + (kt_cN w - M.1) ≤ kt_cN w - M0.1
      omega
    · show kt_ss (kt_N0 w) H - kt_ss (kt_N0 w) s.heap + (kt_cS - M.2.1) ≤ kt_cS - M0.2.1
      omega
  rcases hB m meth c ⟨T.setVm vm₁, locs, H.size - s.heap.size, kt_ss (kt_N0 w) H - kt_ss (kt_N0 w) s.heap⟩ { F0 m pc ls st with stack := rest } ig mk av.toArray X₁ rfl (by show ls.size = c.maxLocals; rw [hml]; exact hls.1) hdg (by show 2 * 0 + (rest.map fun v => v.category).sum ≤ 16; have := kt_rest hrest; omega) (X₁.named hnamed) hpre with ⟨v, ⟨U', l2, c2, s2⟩, X', ⟨g9, mk9, t, L9, e1, e2, ⟨v9, M9, f1, f2, f3, f4⟩, h1, hL, h2, h3⟩, st9⟩ | ⟨q, ⟨U', l2, c2, s2⟩, X', ⟨g9, mk9, t, L9, E, ce, e1, e2, ⟨M9, f2, f3, f4⟩, hce, hcv, hcl, h1, hL, h2, h3⟩, st9⟩
  · dsimp only [Pt.U, Pt.locs, Pt.cells, Pt.slots] at X' e1 e2 h1 h2 h3 st9
    subst h1
    have f1' : v = v9 := Outcome.returned.inj f1
    subst f1'
    rw [← e1] at f2
    obtain ⟨t2, b1, b2⟩ := k v M9 f3 f4 U'.heap (locs ++ L9) ls c2 s2 f2 (kt_le_tr hl1 f3 hsub) (fun z hz9 => by
      rcases List.mem_append.mp hz9 with h | h
      · exact hz z h
      · exact hL z h) hls U' rfl X'
    exact ⟨t2, hstep _ fun acts => by rw [doInvoke_state]; exact st9.trans b1, b2⟩
  · dsimp only [Pt.U, Pt.locs, Pt.cells, Pt.slots] at X' e1 e2 h1 h2 h3 st9 hcl
    subst h1
    rw [← e1] at f2 hce
    have hcl' : s.vm.findClass E = some ce.cls := by
      have h8 : (T.setVm vm₁).vm.findClass E = some ce.cls := hcl
      rw [X₁.warmed.alike.findClass] at h8
      exact h8
    obtain ⟨t2, b1, b2⟩ := kx E q M9 f3 f4 U'.heap (locs ++ L9) ls c2 s2 rest ce f2 (kt_le_tr hl1 f3 hsub) (fun z hz9 => by
      rcases List.mem_append.mp hz9 with h | h
      · exact hz z h
      · exact hL z h) hls hce hcv hcl' U' rfl X'
    exact ⟨t2, hstep _ fun acts => by rw [doInvoke_state]; exact st9.trans b1, b2⟩
/-- how each kind of call comes to its invocation -/
theorem kt_ivS {idx nL' : Nat} {y : MethodName} {cw : Cond} {av : List Value} {ls : Array Slot} {rest : List Value} (O : kt_O w x gr dd cc own nL nm ret hh) (hd : decode cc pc = .ok (.invokestatic idx, 3)) (hcd : kt_cd cw y nL') (hini : Cond.initialized y.cls ∈ lw_all) (hq : Cond.methodLink own idx y ∈ lw_all) (hst : Cond.static y ∈ lw_all) (hy : y.cls ≠ "java/lang/invoke/MethodHandle" ∧ y.cls ≠ "java/lang/invoke/VarHandle" ∧ (parseMethodDescriptor y.desc).map (fun d => d.parameters.length) = some av.length) : kt_Iv w x M (F0 (kt_mt x) pc ls (av.reverse ++ rest)) rest 3 y av := by
  obtain ⟨p, e, g, d, M0, s, m, args, below, meth, c⟩ := x
  obtain ⟨hx, hb, hml, hown, hts, hlk, hW, hH0, hnm, hret, htab, G, hgr, hdd⟩ := O
  intro T locs k n hH X
  obtain ⟨mk, methM, cM, hnamed, hmethM, -, -, hsigM⟩ := kt_cdN hcd hts
  have hstatic : methM.isStatic = true := Cond.static_spec hnamed hmethM (hts _ hst)
  obtain ⟨kP, hkP, -⟩ := className_of_methodNamed hnamed
  have hinitP : kP.init = .initialized := Cond.initialized_spec (findClass_of_methodNamed hnamed) hkP (hts _ hini)
  have hlen : av.length = methM.sig.parameters.length := by have h9 := hy.2.2; rw [hsigM] at h9; exact (Option.some.inj h9).symm
  obtain ⟨vm₁, X₁, hstep₁⟩ := X.invokestatic hx hown (hts _ hq) hnamed hmethM hstatic hkP hinitP ⟨hy.1, hy.2.1⟩ (g := F0 m pc ls (av.reverse ++ rest)) rfl (argsL := av) (rest := rest) hlen rfl (by rw [hb]; exact hd)
  exact ⟨vm₁, mk, .invokestatic idx, X₁, hnamed, by rw [hb]; exact hd, hstep₁⟩
theorem kt_ivSN {idx nL' : Nat} {y : MethodName} {host : String} {cw : Cond} {av : List Value} {ls : Array Slot} {rest : List Value} (O : kt_O w x gr dd cc own nL nm ret hh) (hd : decode cc pc = .ok (.invokestatic idx, 3)) (hcd : kt_cd cw y nL') (hini : Cond.initialized y.cls ∈ lw_all) (hq : Cond.methodLinkNest own idx y host ∈ lw_tbl) (hst : Cond.static y ∈ lw_all) (hy : y.cls ≠ "java/lang/invoke/MethodHandle" ∧ y.cls ≠ "java/lang/invoke/VarHandle" ∧ (parseMethodDescriptor y.desc).map (fun d => d.parameters.length) = some av.length) : kt_Iv w x M (F0 (kt_mt x) pc ls (av.reverse ++ rest)) rest 3 y av := by
  obtain ⟨p, e, g, d, M0, s, m, args, below, meth, c⟩ := x
  obtain ⟨hx, hb, hml, hown, hts, hlk, hW, hH0, hnm, hret, htab, G, hgr, hdd⟩ := O
  intro T locs k n hH X
  obtain ⟨mk, methM, cM, hnamed, hmethM, -, -, hsigM⟩ := kt_cdN hcd hts
  have hstatic : methM.isStatic = true := Cond.static_spec hnamed hmethM (hts _ hst)
  obtain ⟨kP, hkP, -⟩ := className_of_methodNamed hnamed
  have hinitP : kP.init = .initialized := Cond.initialized_spec (findClass_of_methodNamed hnamed) hkP (hts _ hini)
  have hlen : av.length = methM.sig.parameters.length := by have h9 := hy.2.2; rw [hsigM] at h9; exact (Option.some.inj h9).symm
  obtain ⟨vm₁, X₁, hstep₁⟩ := X.invokestaticNest hx hown (kt_nestM G hW hq) hnamed hmethM hstatic hkP hinitP ⟨hy.1, hy.2.1⟩ (g := F0 m pc ls (av.reverse ++ rest)) rfl (argsL := av) (rest := rest) hlen rfl (by rw [hb]; exact hd)
  exact ⟨vm₁, mk, .invokestatic idx, X₁, hnamed, by rw [hb]; exact hd, hstep₁⟩
/-- a constructor, super's too -/
theorem kt_ivI {idx nL' a : Nat} {y : MethodName} {b : ByteArray} {av : List Value} {ls : Array Slot} {rest : List Value} (O : kt_O w x gr dd cc own nL nm ret hh) (hd : decode cc pc = .ok (.invokespecial idx, 3)) (hcd : kt_cd (.code y b nL' none) y nL') (hini : Cond.initialized y.cls ∈ lw_all) (hq : Cond.methodLink own idx y ∈ lw_all ∨ ∃ host, Cond.methodLinkNest own idx y host ∈ lw_tbl) (hin : Cond.instanceMethod y ∈ lw_all) (hy : y.name = "<init>" ∧ y.cls ≠ "java/lang/invoke/MethodHandle" ∧ y.cls ≠ "java/lang/invoke/VarHandle" ∧ (parseMethodDescriptor y.desc).map (fun d => d.parameters.length) = some av.length) : kt_Iv w x M (F0 (kt_mt x) pc ls (av.reverse ++ va_rf (some a) :: rest)) rest 3 y (va_rf (some a) :: av) := by
  obtain ⟨p, e, g, d, M0, s, m, args, below, meth, c⟩ := x
  obtain ⟨hx, hb, hml, hown, hts, hlk, hW, hH0, hnm, hret, htab, G, hgr, hdd⟩ := O
  intro T locs k n hH X
  obtain ⟨mk0, methM0, cM0, hnamed0, hmethM0, -, -, hsigM⟩ := kt_cdN hcd hts
  have hlen : ∀ sig, parseMethodDescriptor y.desc = some sig → av.length = sig.parameters.length := fun sig h => by have h9 := hy.2.2.2; rw [h] at h9; exact (Option.some.inj h9).symm
  have hpl : e.platform.magicAccessors = ({} : Platform).magicAccessors := by rw [X.admits.platform]
  rcases hq with hq | ⟨host, hq⟩
  · obtain ⟨mk, methM, cM, kP, vm₁, hnamed, hmethM, hcodeM, -, hlocalsM, -, hkP, -, hW₁, hstep₁⟩ := Steps.initColdArgs (e := e) X.here hx X.warmed hpl hown hy.1 ⟨hy.2.1, hy.2.2.1⟩ (hts _ hq) (hts _ hin) (hts _ hcd.1) (f := F0 m pc ls (av.reverse ++ va_rf (some a) :: rest)) rfl hlen rfl (by rw [hb]; exact hd)
    exact ⟨vm₁, mk, .invokespecial idx, X.noted hW₁, hnamed, by rw [hb]; exact hd, hstep₁⟩
  · obtain ⟨mk, methM, cM, kP, vm₁, hnamed, hmethM, hcodeM, -, hlocalsM, -, hkP, -, hW₁, hstep₁⟩ := Steps.initColdArgsNest (e := e) X.here hx X.warmed hpl hown hy.1 ⟨hy.2.1, hy.2.2.1⟩ (kt_nestM G hW hq) (hts _ hin) (hts _ hcd.1) (f := F0 m pc ls (av.reverse ++ va_rf (some a) :: rest)) rfl hlen rfl (by rw [hb]; exact hd)
    exact ⟨vm₁, mk, .invokespecial idx, X.noted hW₁, hnamed, by rw [hb]; exact hd, hstep₁⟩
/-- an instance method of the receiver's own class -/
theorem kt_ivV {idx nL' a ci : Nat} {y : MethodName} {cw : Cond} {av : List Value} {ls : Array Slot} {rest : List Value} (O : kt_O w x gr dd cc own nL nm ret hh) (hd : decode cc pc = .ok (.invokevirtual idx, 3)) (hcd : kt_cd cw y nL') (hini : Cond.initialized y.cls ∈ lw_all) (hq : Cond.methodLink own idx y ∈ lw_all ∨ ∃ host, Cond.methodLinkNest own idx y host ∈ lw_tbl) (hin : Cond.instanceMethod y ∈ lw_all) (hse : Cond.selects (kt_cl.getD ci default).1 y y ∈ lw_all) (hco : kt_co M a = some ci) (h22 : ci < 22) (hy : y.cls ≠ "java/lang/invoke/MethodHandle" ∧ y.cls ≠ "java/lang/invoke/VarHandle" ∧ (parseMethodDescriptor y.desc).map (fun d => d.parameters.length) = some av.length) : kt_Iv w x M (F0 (kt_mt x) pc ls (av.reverse ++ va_rf (some a) :: rest)) rest 3 y (va_rf (some a) :: av) := by
  obtain ⟨p, e, g, d, M0, s, m, args, below, meth, c⟩ := x
  obtain ⟨hx, hb, hml, hown, hts, hlk, hW, hH0, hnm, hret, htab, G, hgr, hdd⟩ := O
  intro T locs k n hH X
  obtain ⟨cellB, hcell, hobj, hcls⟩ := kt_clsOf (M := M) G hW hH hco h22
  obtain ⟨mk, methM, hnamed, hmethM, hstM, habM⟩ := Cond.instanceMethod_spec (hts _ hin)
  obtain ⟨methM', cM, hmethM', -, -, hsigM⟩ := kt_cdU hcd hts (State.WarmedH.refl s) hnamed
  cases hmethM.symm.trans hmethM'
  obtain ⟨c2, r2, m2, q1, q2, q3, q4, kP, hkP, hkPi⟩ := Cond.selects_spec (hts _ hse)
  cases hcls.symm.trans q1
  cases (State.methodFound?_of_named hnamed ⟨hy.1, hy.2.1⟩).symm.trans q2
  cases hnamed.symm.trans q3
  have hselP : selectMethod e.platform s.vm cellB.cls mk = .method mk := by rw [Launch.admits_selectMethod X.admits]; exact q4
  have hlen : av.length = methM.sig.parameters.length := by have h9 := hy.2.2; rw [hsigM] at h9; exact (Option.some.inj h9).symm
  rcases hq with hq | ⟨host, hq⟩
  · obtain ⟨vm₁, X₁, hstep₁⟩ := X.invokevirtual hx hown (hts _ hq) hnamed hmethM hstM hkP hkPi ⟨hy.1, hy.2.1⟩ (a := a) (cell := cellB) hcell
      (fun z h => by rw [h] at hobj; cases hobj) hselP hmethM habM hkP hkPi (g := F0 m pc ls (av.reverse ++ va_rf (some a) :: rest)) rfl (argsL := av) (rest := rest) hlen rfl (by rw [hb]; exact hd)
    exact ⟨vm₁, mk, .invokevirtual idx, X₁, hnamed, by rw [hb]; exact hd, hstep₁⟩
  · obtain ⟨vm₁, X₁, hstep₁⟩ := X.invokevirtualNest hx hown (kt_nestM G hW hq) hnamed hmethM hstM hkP hkPi ⟨hy.1, hy.2.1⟩ (a := a) (cell := cellB) hcell
      (fun z h => by rw [h] at hobj; cases hobj) hselP hmethM habM hkP hkPi (g := F0 m pc ls (av.reverse ++ va_rf (some a) :: rest)) rfl (argsL := av) (rest := rest) hlen rfl (by rw [hb]; exact hd)
    exact ⟨vm₁, mk, .invokevirtual idx, X₁, hnamed, by rw [hb]; exact hd, hstep₁⟩
/-- an instance method that the receiver's class inherits or overrides: x0 is named, found in owner, y is run -/
theorem kt_ivU {idx nL' a ci : Nat} {x0 y : MethodName} {owner : String} {cw : Cond} {av : List Value} {ls : Array Slot} {rest : List Value} (O : kt_O w x gr dd cc own nL nm ret hh) (hd : decode cc pc = .ok (.invokevirtual idx, 3)) (hcd : kt_cd cw y nL') (hq : Cond.methodLink own idx x0 ∈ lw_all) (hsm : Cond.sameMethod x0.cls owner x0.name x0.desc ∈ lw_all) (hdc : (Cond.instanceMethod ⟨owner, x0.name, x0.desc⟩ ∈ lw_all ∧ ∃ cw' n', kt_cd cw' ⟨owner, x0.name, x0.desc⟩ n') ∨ Cond.declares ⟨owner, x0.name, x0.desc⟩ ∈ lw_tbl) (hin : Cond.instanceMethod y ∈ lw_all) (hse : Cond.selects (kt_cl.getD ci default).1 x0 y ∈ lw_all) (hco : kt_co M a = some ci) (h22 : ci < 22) (hy : owner ≠ "java/lang/invoke/MethodHandle" ∧ owner ≠ "java/lang/invoke/VarHandle" ∧ (parseMethodDescriptor x0.desc).map (fun d => d.parameters.length) = some av.length) : kt_Iv w x M (F0 (kt_mt x) pc ls (av.reverse ++ va_rf (some a) :: rest)) rest 3 y (va_rf (some a) :: av) := by
  obtain ⟨p, e, g, d, M0, s, m, args, below, meth, c⟩ := x
  obtain ⟨hx, hb, hml, hown, hts, hlk, hW, hH0, hnm, hret, htab, G, hgr, hdd⟩ := O
  intro T locs k n hH X
  obtain ⟨cellB, hcell, hobj, hcls⟩ := kt_clsOf (M := M) G hW hH hco h22
  have hd0 : ∃ (r0 : MethodId) (r : Method), s.methodNamed? ⟨owner, x0.name, x0.desc⟩ = some r0 ∧ s.vm.method? r0 = some r ∧ r.isStatic = false ∧ parseMethodDescriptor x0.desc = some r.sig := by
    rcases hdc with ⟨h, cw', n', h'⟩ | h
    · obtain ⟨mk, me, h1, h2, h3, -⟩ := Cond.instanceMethod_spec (hts _ h)
      obtain ⟨me', c', g1, -, -, g2⟩ := kt_cdU h' hts (State.WarmedH.refl s) h1
      cases h2.symm.trans g1
      exact ⟨mk, me, h1, h2, h3, g2⟩
    · exact Cond.declares_spec (va_Nw.use (A := args) rfl (va_Nw.warmD hW (va_Nw.of rfl (G.2.2.1 _ h))))
  obtain ⟨r0, r, hn, hrm, hstR, hsigR⟩ := hd0
  obtain ⟨cn, ck, r1, hcn, hck, hni, hf, hn1⟩ := Cond.sameMethod_found (hts _ hsm)
  cases hn.symm.trans hn1
  obtain ⟨mk, methM, hnamed, hmethM, -, habM⟩ := Cond.instanceMethod_spec (hts _ hin)
  obtain ⟨c2, r2, m2, q1, q2, q3, q4, kP, hkP, hkPi⟩ := Cond.selects_spec (hts _ hse)
  cases hcls.symm.trans q1
  cases hf.symm.trans q2
  cases hnamed.symm.trans q3
  have hselP : selectMethod e.platform s.vm cellB.cls r0 = .method mk := by rw [Launch.admits_selectMethod X.admits]; exact q4
  have hlen : av.length = r.sig.parameters.length := by have h9 := hy.2.2; rw [hsigR] at h9; exact (Option.some.inj h9).symm
  obtain ⟨vm₁, X₁, hstep₁⟩ := X.invokevirtualUp hx hown (hts _ hq) (hts _ hsm) ⟨hy.1, hy.2.1⟩ hn hrm hstR (a := a) (cell := cellB) hcell
    (fun z h => by rw [h] at hobj; cases hobj) hselP hmethM habM hkP hkPi (g := F0 m pc ls (av.reverse ++ va_rf (some a) :: rest)) rfl (argsL := av) (rest := rest) hlen rfl (by rw [hb]; exact hd)
  exact ⟨vm₁, mk, .invokevirtual idx, X₁, hnamed, by rw [hb]; exact hd, hstep₁⟩
end KC
section KE
variable {w : kt_W} {x : kt_X} {gr : kt_g × kt_M} {dd nL : Nat} {Q : State → Prop} {M : kt_M} {pc : Nat} {L : List (Nat × Value)} {st : List Value} {cc : ByteArray} {own : String} {nm : String × String} {ret : Option FieldType} {hh : List (Nat × Nat × Nat × Nat)} {P : Option Value → kt_M → Prop} {X : String → Nat → kt_M → Prop}
/-- ends -/
theorem kr_vret (O : kt_O w x gr dd cc own nL nm none hh) (hd : decode cc pc = .ok (.return_, 1)) (hP : P none M) : kt_S w x nL (kt_E w x P X) M pc L [] := by
  obtain ⟨p, e, g, d, M0, s, m, args, below, meth, c⟩ := x
  obtain ⟨hx, hb, hml, hown, hts, hlk, hW, hH0, hnm, hret, htab, G, hgr, hdd⟩ := O
  intro H locs ls k1 n1 hH hl1 hz hs
  have hN : kt_N0 w ≤ s.heap.size := by rw [hH0.1]; exact hH0.2.1
  refine kt_Wt hN fun g1 g2 => ?_
  have a1 := hH0.1
  have a2 := hH.1
  have a3 := hH0.2.2.2.1
  have a4 := hH.2.2.2.1
  have a5 := hH.2.2.2.2.1
  have a6 := hH.2.2.2.2.2.1
  exact kx_ret (W.widen (k := kt_cN w - M0.1) (n := kt_cS - M0.2.1) (by omega) (by omega) (W.vret hx hb hret (fun t ht hWt => ⟨none, M, rfl, by rw [ht]; exact hH, hl1, hP⟩) hz hd hlk))
theorem kr_iret {v : Int32} {ty : FieldType} (O : kt_O w x gr dd cc own nL nm (some ty) hh) (hd : decode cc pc = .ok (.ireturn, 1)) (hn : narrow ty (.int v) = .int v) (hP : P (some (.int v)) M) : kt_S w x nL (kt_E w x P X) M pc L [.int v] := by
  obtain ⟨p, e, g, d, M0, s, m, args, below, meth, c⟩ := x
  obtain ⟨hx, hb, hml, hown, hts, hlk, hW, hH0, hnm, hret, htab, G, hgr, hdd⟩ := O
  intro H locs ls k1 n1 hH hl1 hz hs
  have hN : kt_N0 w ≤ s.heap.size := by rw [hH0.1]; exact hH0.2.1
  refine kt_Wt hN fun g1 g2 => ?_
  have a1 := hH0.1
  have a2 := hH.1
  have a3 := hH0.2.2.2.1
  have a4 := hH.2.2.2.1
  have a5 := hH.2.2.2.2.1
  have a6 := hH.2.2.2.2.2.1
  exact kx_ret (W.widen (k := kt_cN w - M0.1) (n := kt_cS - M0.2.1) (by omega) (by omega) (W.zret hx hb hret hn (fun t ht hWt => ⟨_, M, rfl, by rw [ht]; exact hH, hl1, hP⟩) hz hd hlk))
theorem kr_aret {r : Option Nat} {ty : FieldType} (O : kt_O w x gr dd cc own nL nm (some ty) hh) (hd : decode cc pc = .ok (.areturn, 1)) (hn : (∃ n, ty = .object n) ∨ ∃ t, ty = .array t) (hP : P (some (va_rf r)) M) : kt_S w x nL (kt_E w x P X) M pc L [va_rf r] := by
  obtain ⟨p, e, g, d, M0, s, m, args, below, meth, c⟩ := x
  obtain ⟨hx, hb, hml, hown, hts, hlk, hW, hH0, hnm, hret, htab, G, hgr, hdd⟩ := O
  intro H locs ls k1 n1 hH hl1 hz hs
  have hN : kt_N0 w ≤ s.heap.size := by rw [hH0.1]; exact hH0.2.1
  refine kt_Wt hN fun g1 g2 => ?_
  have a1 := hH0.1
  have a2 := hH.1
  have a3 := hH0.2.2.2.1
  have a4 := hH.2.2.2.1
  have a5 := hH.2.2.2.2.1
  have a6 := hH.2.2.2.2.2.1
  exact kx_ret (W.widen (k := kt_cN w - M0.1) (n := kt_cS - M0.2.1) (by omega) (by omega) (W.aret hx hb hret hn (va_rf_or r) (fun t ht hWt => ⟨_, M, rfl, by rw [ht]; exact hH, hl1, hP⟩) hz hd hlk))
theorem kr_lret {v : Int64} (O : kt_O w x gr dd cc own nL nm (some .long) hh) (hd : decode cc pc = .ok (.lreturn, 1)) (hP : P (some (.long v)) M) : kt_S w x nL (kt_E w x P X) M pc L [.long v] := by
  obtain ⟨p, e, g, d, M0, s, m, args, below, meth, c⟩ := x
  obtain ⟨hx, hb, hml, hown, hts, hlk, hW, hH0, hnm, hret, htab, G, hgr, hdd⟩ := O
  intro H locs ls k1 n1 hH hl1 hz hs
  have hN : kt_N0 w ≤ s.heap.size := by rw [hH0.1]; exact hH0.2.1
  refine kt_Wt hN fun g1 g2 => ?_
  have a1 := hH0.1
  have a2 := hH.1
  have a3 := hH0.2.2.2.1
  have a4 := hH.2.2.2.1
  have a5 := hH.2.2.2.2.1
  have a6 := hH.2.2.2.2.2.1
  exact kx_ret (W.widen (k := kt_cN w - M0.1) (n := kt_cS - M0.2.1) (by omega) (by omega) (W.lret hx hb hret (fun t ht hWt => ⟨_, M, rfl, by rw [ht]; exact hH, hl1, hP⟩) hz hd hlk))
theorem kr_fret {v : UInt32} (O : kt_O w x gr dd cc own nL nm (some .float) hh) (hd : decode cc pc = .ok (.freturn, 1)) (hP : P (some (.float v)) M) : kt_S w x nL (kt_E w x P X) M pc L [.float v] := by
  obtain ⟨p, e, g, d, M0, s, m, args, below, meth, c⟩ := x
  obtain ⟨hx, hb, hml, hown, hts, hlk, hW, hH0, hnm, hret, htab, G, hgr, hdd⟩ := O
  intro H locs ls k1 n1 hH hl1 hz hs
  have hN : kt_N0 w ≤ s.heap.size := by rw [hH0.1]; exact hH0.2.1
  refine kt_Wt hN fun g1 g2 => ?_
  have a1 := hH0.1
  have a2 := hH.1
  have a3 := hH0.2.2.2.1
  have a4 := hH.2.2.2.1
  have a5 := hH.2.2.2.2.1
  have a6 := hH.2.2.2.2.2.1
  exact kx_ret (W.widen (k := kt_cN w - M0.1) (n := kt_cS - M0.2.1) (by omega) (by omega) (W.fret hx hb hret (fun t ht hWt => ⟨_, M, rfl, by rw [ht]; exact hH, hl1, hP⟩) hz hd hlk))
theorem kr_dret {v : UInt64} (O : kt_O w x gr dd cc own nL nm (some .double) hh) (hd : decode cc pc = .ok (.dreturn, 1)) (hP : P (some (.double v)) M) : kt_S w x nL (kt_E w x P X) M pc L [.double v] := by
  obtain ⟨p, e, g, d, M0, s, m, args, below, meth, c⟩ := x
  obtain ⟨hx, hb, hml, hown, hts, hlk, hW, hH0, hnm, hret, htab, G, hgr, hdd⟩ := O
  intro H locs ls k1 n1 hH hl1 hz hs
  have hN : kt_N0 w ≤ s.heap.size := by rw [hH0.1]; exact hH0.2.1
  refine kt_Wt hN fun g1 g2 => ?_
  have a1 := hH0.1
  have a2 := hH.1
  have a3 := hH0.2.2.2.1
  have a4 := hH.2.2.2.1
  have a5 := hH.2.2.2.2.1
  have a6 := hH.2.2.2.2.2.1
  exact kx_ret (W.widen (k := kt_cN w - M0.1) (n := kt_cS - M0.2.1) (by omega) (by omega) (W.dret hx hb hret (fun t ht hWt => ⟨_, M, rfl, by rw [ht]; exact hH, hl1, hP⟩) hz hd hlk))
/-- a thrown object leaves a method without handlers -/
theorem kr_out {E : String} {q : Nat} (O : kt_O w x gr dd cc own nL nm ret []) (hX : X E q M) : kt_T w x nL (kt_E w x P X) M pc L E q := by
  obtain ⟨p, e, g, d, M0, s, m, args, below, meth, c⟩ := x
  obtain ⟨hx, hb, hml, hown, hts, hlk, hW, hH0, hnm, hret, htab, G, hgr, hdd⟩ := O
  intro H locs ls k1 n1 rest ce hH hl1 hz hs hce hcv hcl
  have hN : kt_N0 w ≤ s.heap.size := by rw [hH0.1]; exact hH0.2.1
  have a1 := hH0.1
  have a2 := hH.1
  have a3 := hH0.2.2.2.1
  have a4 := hH.2.2.2.1
  have a5 := hH.2.2.2.2.1
  have a6 := hH.2.2.2.2.2.1
  intro T hT Y
  obtain ⟨Y', g1, g2⟩ := kt_tight Y hN
  rw [hT] at Y' g1 g2
  exact kx_out (ls := ls) (fun z hz9 => by rw [htab] at hz9; exact absurd hz9 List.not_mem_nil) hlk hce hcv hcl (fun t ht hvm => ⟨M, by rw [ht]; exact hH, hl1, hX⟩) hz (by omega) (by omega) T hT Y'
/-- a thrown object leaves a method where no handler covers the place -/
theorem kr_outH {E : String} {q : Nat} (O : kt_O w x gr dd cc own nL nm ret hh) (hcov : (hh.all fun z => !(decide (z.1 ≤ pc) && decide (pc < z.2.1))) = true) (hX : X E q M) : kt_T w x nL (kt_E w x P X) M pc L E q := by
  obtain ⟨p, e, g, d, M0, s, m, args, below, meth, c⟩ := x
  obtain ⟨hx, hb, hml, hown, hts, hlk, hW, hH0, hnm, hret, htab, G, hgr, hdd⟩ := O
  intro H locs ls k1 n1 rest ce hH hl1 hz hs hce hcv hcl
  have hN : kt_N0 w ≤ s.heap.size := by rw [hH0.1]; exact hH0.2.1
  have a1 := hH0.1
  have a2 := hH.1
  have a3 := hH0.2.2.2.1
  have a4 := hH.2.2.2.1
  have a5 := hH.2.2.2.2.1
  have a6 := hH.2.2.2.2.2.1
  intro T hT Y
  obtain ⟨Y', g1, g2⟩ := kt_tight Y hN
  rw [hT] at Y' g1 g2
  exact kx_out (ls := ls) (fun z hz9 => by
    rw [htab] at hz9
    obtain ⟨q9, h9, rfl⟩ := List.mem_map.mp hz9
    have h8 := List.all_eq_true.mp hcov q9 h9
    simp only [covers]
    simp at h8 ⊢
    omega) hlk hce hcv hcl (fun t ht hvm => ⟨M, by rw [ht]; exact hH, hl1, hX⟩) hz (by omega) (by omega) T hT Y'
/-- an object that was made is thrown -/
theorem kr_athrow {a ci t : Nat} {fs : List Value} (O : kt_O w x gr dd cc own nL nm ret hh) (hd : decode cc pc = .ok (.athrow, 1)) (hc : M.2.2 a = (t + 2, .inr (ci, fs))) (h22 : ci < 22) (k : kt_T w x nL Q M pc L (kt_cl.getD ci default).1 a) : kt_S w x nL Q M pc L (va_rf (some a) :: st) := by
  obtain ⟨p, e, g, d, M0, s, m, args, below, meth, c⟩ := x
  obtain ⟨hx, hb, hml, hown, hts, hlk, hW, hH0, hnm, hret, htab, G, hgr, hdd⟩ := O
  intro H locs ls k1 n1 hH hl1 hz hs
  have hat := hH.2.2.2.2.2.2 a
  rw [hc] at hat
  obtain ⟨⟨cell, q1, q2, q3, -⟩, -⟩ := hat
  obtain ⟨cell', r1, r2, r3⟩ := kt_clsOf (M := M) (c := ci) G hW hH (by unfold kt_co; rw [hc]; rfl) h22
  cases q1.symm.trans r1
  exact kx_athrow hx hb hd (k H locs ls k1 n1 st cell hH hl1 hz hs q1 q3 r3)
/-- what a run has kept so far may be used -/
theorem kr_le {Q : State → Prop} (O : kt_O w x gr dd cc own nL nm ret hh) (k : kt_le gr.1 gr.2 M → kt_S w x nL Q M pc L st) : kt_S w x nL Q M pc L st := by
  obtain ⟨p, e, g, d, M0, s, m, args, below, meth, c⟩ := x
  obtain ⟨hx, hb, hml, hown, hts, hlk, hW, hH0, hnm, hret, htab, G, hgr, hdd⟩ := O
  subst hgr
  intro H locs ls k1 n1 hH hl1 hz hs
  exact k hl1 H locs ls k1 n1 hH hl1 hz hs
end KE
/-- a method without handlers, by its body -/
theorem kt_of {w : kt_W} {g : kt_g} {d nL : Nat} {y : MethodName} {cc : ByteArray} {ret : Option FieldType} {av : List Value} {M : kt_M} {P : Option Value → kt_M → Prop} {X : String → Nat → kt_M → Prop} {L0 : List (Nat × Value)} (hy : plainFor y = true) (hlen : (lg_sl av).length ≤ nL) (hL : lv_args 0 av = L0)
    (body : ∀ x : kt_X, kt_O w x (g, M) d cc y.cls nL (y.name, y.desc) ret [] → kt_S w x nL (kt_E w x P X) M 0 L0 []) : kt_Sp w g d y (.code y cc nL ret) av M P X := by
  intro G
  refine kx_ofW (cc := cc) (maxL := nL) (ret := ret) hy rfl ?_
  intro p e s m args below meth c hx hnm hme hb hml hr hlk hpre htab hv
  obtain ⟨rfl, hW, hH⟩ := hv
  have hts := atoms_spec (ws := Cond.code y cc nL ret :: lw_all) hpre
  have hts : ∀ v ∈ lw_all, v.before av.toArray s = true := fun v h => hts v (List.mem_cons_of_mem _ h)
  have ht : c.exceptionTable.toList = tableOf [] := by
    cases h : c.exceptionTable.toList with
    | nil => rfl
    | cons a t => exact (htab a (by rw [h]; exact List.mem_cons_self)).elim
  have O : kt_O w (p, e, g, d, M, s, m, av.toArray, below, meth, c) (g, M) d cc y.cls nL (y.name, y.desc) ret [] :=
    ⟨hx, hb, hml, findClass_of_methodNamed hnm, hts, hlk, hW, hH, ⟨(name_of_methodNamed hnm hme).1, hnm⟩, hr, ht, G, rfl, rfl⟩
  have a1 := hH.1
  have a3 := hH.2.2.2.1
  rw [lg_entry_eq]
  have hls := lv_entry av (n := nL) hlen
  rw [hL] at hls
  exact body _ O s.heap [] _ 0 0 hH (kt_le_rf g M) (fun z h => nomatch h) hls
