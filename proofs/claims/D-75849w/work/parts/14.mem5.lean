set_option maxRecDepth 100000
/-! ===== more calls: private methods, of the superclass, by interface ===== -/
theorem kt_face {w : kt_W} {s : State} {args : Array Value} {c : Cond} (G : kt_G w) (hW : (kt_s0 w).WarmedH s.vm) (hq : c ∈ lw_tbl) (hf : c.faceAtom = true) (ho : c.onTables = true) : c.before args s = true :=
  va_tabs ho (rfl : ((kt_s0 w).setVm s.vm).vm = s.vm) (Cond.faceAtom_setVm hW.alike c hf (G.2.2.1 _ hq))
section KC5
variable {w : kt_W} {x : kt_X} {gr : kt_g × kt_M} {dd nL : Nat} {Q : State → Prop} {M : kt_M} {pc : Nat} {L : List (Nat × Value)} {st : List Value} {cc : ByteArray} {own : String} {nm : String × String} {ret : Option FieldType} {hh : List (Nat × Nat × Nat × Nat)}
/-- a private method, whatever the receiver's class -/
theorem kt_ivP {idx nL' a ci : Nat} {y : MethodName} {cw : Cond} {av : List Value} {ls : Array Slot} {rest : List Value} (O : kt_O w x gr dd cc own nL nm ret hh) (hd : decode cc pc = .ok (.invokevirtual idx, 3)) (hcd : kt_cd cw y nL') (hini : Cond.initialized y.cls ∈ lw_all) (hq : Cond.methodLink own idx y ∈ lw_all ∨ ∃ host, Cond.methodLinkNest own idx y host ∈ lw_tbl) (hin : Cond.instanceMethod y ∈ lw_all) (hpr : Cond.privateMethod y ∈ lw_tbl) (hsm : Cond.sameMethod y.cls y.cls y.name y.desc ∈ lw_all) (hco : kt_co M a = some ci) (h22 : ci < 22) (hy : y.cls ≠ "java/lang/invoke/MethodHandle" ∧ y.cls ≠ "java/lang/invoke/VarHandle" ∧ (parseMethodDescriptor y.desc).map (fun d => d.parameters.length) = some av.length) : kt_Iv w x M (F0 (kt_mt x) pc ls (av.reverse ++ va_rf (some a) :: rest)) rest 3 y (va_rf (some a) :: av) := by
  obtain ⟨p, e, g, d, M0, s, m, args, below, meth, c⟩ := x
  obtain ⟨hx, hb, hml, hown, hts, hlk, hW, hH0, hnm, hret, htab, G, hgr, hdd⟩ := O
  intro T locs k n hH X
  obtain ⟨cellB, hcell, hobj, hcls⟩ := kt_clsOf (M := M) G hW hH hco h22
  obtain ⟨mk, methM, hnamed, hmethM, hstM, habM⟩ := Cond.instanceMethod_spec (hts _ hin)
  obtain ⟨methM', cM, hmethM', -, -, hsigM⟩ := kt_cdU hcd hts (State.WarmedH.refl s) hnamed
  cases hmethM.symm.trans hmethM'
  obtain ⟨cn, kP, r1, hcn, hkP0, hkPi, hf, hn1⟩ := Cond.sameMethod_found (hts _ hsm)
  have hkP : s.vm.classes[mk.cls]? = some kP := by
    have h9 := findClass_of_methodNamed hnamed
    cases hcn.symm.trans h9
    exact hkP0
  have hpriv := Cond.privateMethod_at (kt_face (args := args) G hW hpr rfl rfl)
  have hselP : selectMethod e.platform s.vm cellB.cls mk = .method mk := selectMethod_private hmethM (hpriv mk methM hnamed hmethM)
  have hlen : av.length = methM.sig.parameters.length := by have h9 := hy.2.2; rw [hsigM] at h9; exact (Option.some.inj h9).symm
  rcases hq with hq | ⟨host, hq⟩
  · obtain ⟨vm₁, X₁, hstep₁⟩ := X.invokevirtual hx hown (hts _ hq) hnamed hmethM hstM hkP hkPi ⟨hy.1, hy.2.1⟩ (a := a) (cell := cellB) hcell
      (fun z h => by rw [h] at hobj; cases hobj) hselP hmethM habM hkP hkPi (g := F0 m pc ls (av.reverse ++ va_rf (some a) :: rest)) rfl (argsL := av) (rest := rest) hlen rfl (by rw [hb]; exact hd)
    exact ⟨vm₁, mk, .invokevirtual idx, X₁, hnamed, by rw [hb]; exact hd, hstep₁⟩
  · obtain ⟨vm₁, X₁, hstep₁⟩ := X.invokevirtualNest hx hown (kt_nestM G hW hq) hnamed hmethM hstM hkP hkPi ⟨hy.1, hy.2.1⟩ (a := a) (cell := cellB) hcell
      (fun z h => by rw [h] at hobj; cases hobj) hselP hmethM habM hkP hkPi (g := F0 m pc ls (av.reverse ++ va_rf (some a) :: rest)) rfl (argsL := av) (rest := rest) hlen rfl (by rw [hb]; exact hd)
    exact ⟨vm₁, mk, .invokevirtual idx, X₁, hnamed, by rw [hb]; exact hd, hstep₁⟩
/-- a method of the direct superclass, by super -/
theorem kt_ivB {idx nL' a ci : Nat} {y : MethodName} {cw : Cond} {av : List Value} {ls : Array Slot} {rest : List Value} (O : kt_O w x gr dd cc own nL nm ret hh) (hd : decode cc pc = .ok (.invokespecial idx, 3)) (hcd : kt_cd cw y nL') (hq : Cond.methodLink own idx y ∈ lw_all) (hsm : Cond.sameMethod y.cls y.cls y.name y.desc ∈ lw_all) (hsu : Cond.superclass own y.cls ∈ lw_all) (hin : Cond.instanceMethod y ∈ lw_all) (hco : kt_co M a = some ci) (h22 : ci < 22) (hy : y.name ≠ "<init>" ∧ (parseMethodDescriptor y.desc).map (fun d => d.parameters.length) = some av.length) : kt_Iv w x M (F0 (kt_mt x) pc ls (av.reverse ++ va_rf (some a) :: rest)) rest 3 y (va_rf (some a) :: av) := by
  obtain ⟨p, e, g, d, M0, s, m, args, below, meth, c⟩ := x
  obtain ⟨hx, hb, hml, hown, hts, hlk, hW, hH0, hnm, hret, htab, G, hgr, hdd⟩ := O
  intro T locs k n hH X
  obtain ⟨cellB, hcell, hobj, hcls⟩ := kt_clsOf (M := M) G hW hH hco h22
  obtain ⟨kB, hkB, -⟩ := Vm.findClass_spec hcls
  obtain ⟨mk, methM, hnamed, hmethM, hstM, habM⟩ := Cond.instanceMethod_spec (hts _ hin)
  obtain ⟨methM', cM, hmethM', -, -, hsigM⟩ := kt_cdU hcd hts (State.WarmedH.refl s) hnamed
  cases hmethM.symm.trans hmethM'
  obtain ⟨ps, dk, kp, hps, hdk, hkp, hsuper, -, -, hnid⟩ := Cond.superclass_spec hown (hts _ hsu)
  have hn : s.methodNamed? ⟨y.cls, y.name, y.desc⟩ = some mk := hnamed
  have hpm : ps = mk.cls := Option.some.inj (hps.symm.trans (findClass_of_methodNamed hnamed))
  have hsub : s.vm.isSubclass ps mk.cls = true := by rw [hpm]; simp [Vm.isSubclass, Vm.isSubclassAux]
  have hlen : av.length = methM.sig.parameters.length := by have h9 := hy.2; rw [hsigM] at h9; exact (Option.some.inj h9).symm
  obtain ⟨vm₁, X₁, hstep₁⟩ := X.invokespecialUp hx hown (hts _ hq) (hts _ hsm) hn hmethM hstM habM hy.1 hdk hnid hps hsuper hsub (a := a) (cell := cellB) hcell
    (fun z h => by rw [h] at hobj; cases hobj) hkB (g := F0 m pc ls (av.reverse ++ va_rf (some a) :: rest)) rfl (argsL := av) (rest := rest) hlen rfl (by rw [hb]; exact hd)
  exact ⟨vm₁, mk, .invokespecial idx, X₁, hnamed, by rw [hb]; exact hd, fun target h => hstep₁ target (h _)⟩
/-- a method by interface: x0 is named, y is run; C the receiver's class -/
theorem kt_ivF {idx count nL' a : Nat} {C : String} {x0 y : MethodName} {cw : Cond} {av : List Value} {ls : Array Slot} {rest : List Value} (O : kt_O w x gr dd cc own nL nm ret hh) (hd : decode cc pc = .ok (.invokeinterface idx count, 5)) (hcd : kt_cd cw y nL') (hq : Cond.methodLink own idx x0 ∈ lw_all) (hdc : Cond.declares x0 ∈ lw_tbl) (hfc : Cond.interfaceMethod x0.cls x0.cls x0.name x0.desc ∈ lw_tbl) (hse : Cond.selects C x0 y ∈ lw_all) (hin : Cond.instanceMethod y ∈ lw_all) (hpu : Cond.publicMethod y ∈ lw_tbl) (hun : Cond.unhidden C x0.name x0.desc ∈ lw_tbl) (hca : Cond.castable C x0.cls ∈ lw_tbl)
    (hco : kt_G w → ∀ (s : State) (H : Heap), (kt_s0 w).WarmedH s.vm → kt_H w M H → ∃ cell : Cell, H[a]? = some cell ∧ cell.vm.isStatics = false ∧ s.vm.findClass C = some cell.cls) (hy : x0.cls ≠ "java/lang/invoke/MethodHandle" ∧ x0.cls ≠ "java/lang/invoke/VarHandle" ∧ (parseMethodDescriptor x0.desc).map (fun d => d.parameters.length) = some av.length) : kt_Iv w x M (F0 (kt_mt x) pc ls (av.reverse ++ va_rf (some a) :: rest)) rest 5 y (va_rf (some a) :: av) := by
  obtain ⟨p, e, g, d, M0, s, m, args, below, meth, c⟩ := x
  obtain ⟨hx, hb, hml, hown, hts, hlk, hW, hH0, hnm, hret, htab, G, hgr, hdd⟩ := O
  intro T locs k n hH X
  obtain ⟨cellB, hcell, hobj, hcls⟩ := hco G s T.heap hW hH
  obtain ⟨kB, hkB, -⟩ := Vm.findClass_spec hcls
  obtain ⟨r0, r, hn, hrm, hstR, hsigR⟩ := Cond.declares_spec (kt_face (args := args) G hW hdc rfl rfl)
  have hif : (Cond.interfaceMethod x0.cls x0.cls x0.name x0.desc).faceAtom = true := by
    simp only [Cond.faceAtom, Bool.and_eq_true, beq_iff_eq, bne_iff_ne]
    exact ⟨⟨trivial, hy.1⟩, hy.2.1⟩
  obtain ⟨cL, kL, r1, hcL, hkL, hiL, hfoundL, hn1⟩ := Cond.interfaceMethod_spec (kt_face (args := args) G hW hfc hif rfl)
  cases hn.symm.trans hn1
  have hr0cls : r0.cls = cL := Option.some.inj ((findClass_of_methodNamed hn).symm.trans hcL)
  obtain ⟨hnameR, hdescR⟩ := name_of_methodNamed hn hrm
  obtain ⟨mk, methM, hnamed, hmethM, -, habM⟩ := Cond.instanceMethod_spec (hts _ hin)
  have hseB := hts _ hse
  obtain ⟨c2, r2, m2, q1, q2, q3, q4, -⟩ := Cond.selects_spec hseB
  cases hcls.symm.trans q1
  cases hfoundL.symm.trans q2
  cases hnamed.symm.trans q3
  have hselP : selectMethod e.platform s.vm cellB.cls r0 = .method mk := by rw [Launch.admits_selectMethod X.admits]; exact q4
  have hpubM : hasFlag methM.accessFlags Acc.public_ = true := Cond.publicMethod_spec hnamed hmethM (kt_face (args := args) G hW hpu rfl rfl)
  have hway : ((cellB.cls :: s.vm.superclasses cellB.cls).any fun k => (declaredIn s.vm r.name r.desc k).any fun (_, z) => z.isPrivate || z.isStatic) = false := by
    rw [hnameR, hdescR]; exact Cond.unhidden_spec hcls (kt_face (args := args) G hW hun rfl rfl)
  obtain ⟨c3, t3, w1, w2, w3⟩ := Cond.castable_spec (kt_face (args := args) G hW hca rfl rfl)
  cases hcls.symm.trans w1
  cases hcL.symm.trans w2
  have hlen : av.length = r.sig.parameters.length := by have h9 := hy.2.2; rw [hsigR] at h9; exact (Option.some.inj h9).symm
  obtain ⟨vm₁, X₁, hstep₁⟩ := X.invokeinterface hx hown (hts _ hq) hn hrm hstR (by rw [hr0cls]; exact hkL) hiL ⟨hy.1, hy.2.1⟩ (a := a) (cell := cellB) (kcell := kB) hcell
    (fun z h => by rw [h] at hobj; cases hobj) hkB (by rw [hr0cls]; exact w3) hselP hmethM hway hpubM habM (g := F0 m pc ls (av.reverse ++ va_rf (some a) :: rest)) rfl (argsL := av) (rest := rest) hlen rfl (by rw [hb]; exact hd)
  exact ⟨vm₁, mk, .invokeinterface idx count, X₁, hnamed, by rw [hb]; exact hd, hstep₁⟩
end KC5
/-! ===== the calls as conditions ===== -/
/-- a call of y with the values av -/
def kt_Ca (w : kt_W) (gr : kt_g × kt_M) (d : Nat) (y : MethodName) (cw : Cond) (av : List Value) (M : kt_M) (P : Option Value → kt_M → Prop) (X : String → Nat → kt_M → Prop) : Prop := ∃ g', kt_sub g' gr ∧ kt_Sp w g' d y cw av M P X
abbrev kt_pV (K : kt_M → Prop) : Option Value → kt_M → Prop := fun v M => v = none ∧ K M
abbrev kt_pI (K : Int32 → kt_M → Prop) : Option Value → kt_M → Prop := fun v M => ∃ r, v = some (.int r) ∧ K r M
abbrev kt_pJ (K : Int64 → kt_M → Prop) : Option Value → kt_M → Prop := fun v M => ∃ r, v = some (.long r) ∧ K r M
abbrev kt_pF (K : UInt32 → kt_M → Prop) : Option Value → kt_M → Prop := fun v M => ∃ r, v = some (.float r) ∧ K r M
abbrev kt_pD (K : UInt64 → kt_M → Prop) : Option Value → kt_M → Prop := fun v M => ∃ r, v = some (.double r) ∧ K r M
abbrev kt_pR (K : Option Nat → kt_M → Prop) : Option Value → kt_M → Prop := fun v M => ∃ r, v = some (va_rf r) ∧ K r M
/-- nothing is thrown -/
def kt_nx : String → Nat → kt_M → Prop := fun _ _ _ => False
section KCC
variable {w : kt_W} {x : kt_X} {gr : kt_g × kt_M} {d nL : Nat} {Q : State → Prop} {M : kt_M} {pc : Nat} {L : List (Nat × Value)} {st : List Value} {cc : ByteArray} {own : String} {nm : String × String} {ret : Option FieldType} {hh : List (Nat × Nat × Nat × Nat)}
theorem kr_ca {len nL' : Nat} {y : MethodName} {cw : Cond} {av rest : List Value} {P : Option Value → kt_M → Prop} {X : String → Nat → kt_M → Prop} (O : kt_O w x gr (d + 1) cc own nL nm ret hh) (hcd : kt_cd cw y nL') (hc : kt_Ca w gr d y cw av M P X) (hrest : rest.length ≤ 8)
    (hiv : ∀ ls : Array Slot, lv_has ls nL L → kt_Iv w x M (F0 (kt_mt x) pc ls st) rest len y av)
    (k : ∀ (v : Option Value) (M' : kt_M), P v M' → kt_S w x nL Q M' (pc + len) L (v.toList ++ rest)) (kx : ∀ (E : String) (q : Nat) (M' : kt_M), X E q M' → kt_T w x nL Q M' pc L E q) : kt_S w x nL Q M pc L st := by
  obtain ⟨g', hsub, hs⟩ := hc
  exact kr_call O hcd hs hsub (Nat.le_refl _) hrest hiv (fun v M' _ h => k v M' h) (fun E q M' _ h => kx E q M' h)
theorem kr_caI {len nL' : Nat} {y : MethodName} {cw : Cond} {av rest : List Value} {K : Int32 → kt_M → Prop} {X : String → Nat → kt_M → Prop} (O : kt_O w x gr (d + 1) cc own nL nm ret hh) (hcd : kt_cd cw y nL') (hc : kt_Ca w gr d y cw av M (kt_pI K) X) (hrest : rest.length ≤ 8)
    (hiv : ∀ ls : Array Slot, lv_has ls nL L → kt_Iv w x M (F0 (kt_mt x) pc ls st) rest len y av)
    (k : ∀ (r : Int32) (M' : kt_M), K r M' → kt_S w x nL Q M' (pc + len) L (.int r :: rest)) (kx : ∀ (E : String) (q : Nat) (M' : kt_M), X E q M' → kt_T w x nL Q M' pc L E q) : kt_S w x nL Q M pc L st :=
  kr_ca O hcd hc hrest hiv (fun v M' h => by obtain ⟨r, rfl, h⟩ := h; exact k r M' h) kx
theorem kr_caJ {len nL' : Nat} {y : MethodName} {cw : Cond} {av rest : List Value} {K : Int64 → kt_M → Prop} {X : String → Nat → kt_M → Prop} (O : kt_O w x gr (d + 1) cc own nL nm ret hh) (hcd : kt_cd cw y nL') (hc : kt_Ca w gr d y cw av M (kt_pJ K) X) (hrest : rest.length ≤ 8)
    (hiv : ∀ ls : Array Slot, lv_has ls nL L → kt_Iv w x M (F0 (kt_mt x) pc ls st) rest len y av)
    (k : ∀ (r : Int64) (M' : kt_M), K r M' → kt_S w x nL Q M' (pc + len) L (.long r :: rest)) (kx : ∀ (E : String) (q : Nat) (M' : kt_M), X E q M' → kt_T w x nL Q M' pc L E q) : kt_S w x nL Q M pc L st :=
  kr_ca O hcd hc hrest hiv (fun v M' h => by obtain ⟨r, rfl, h⟩ := h; exact k r M' h) kx
theorem kr_caF {len nL' : Nat} {y : MethodName} {cw : Cond} {av rest : List Value} {K : UInt32 → kt_M → Prop} {X : String → Nat → kt_M → Prop} (O : kt_O w x gr (d + 1) cc own nL nm ret hh) (hcd : kt_cd cw y nL') (hc : kt_Ca w gr d y cw av M (kt_pF K) X) (hrest : rest.length ≤ 8)
    (hiv : ∀ ls : Array Slot, lv_has ls nL L → kt_Iv w x M (F0 (kt_mt x) pc ls st) rest len y av)
    (k : ∀ (r : UInt32) (M' : kt_M), K r M' → kt_S w x nL Q M' (pc + len) L (.float r :: rest)) (kx : ∀ (E : String) (q : Nat) (M' : kt_M), X E q M' → kt_T w x nL Q M' pc L E q) : kt_S w x nL Q M pc L st :=
  kr_ca O hcd hc hrest hiv (fun v M' h => by obtain ⟨r, rfl, h⟩ := h; exact k r M' h) kx
theorem kr_caD {len nL' : Nat} {y : MethodName} {cw : Cond} {av rest : List Value} {K : UInt64 → kt_M → Prop} {X : String → Nat → kt_M → Prop} (O : kt_O w x gr (d + 1) cc own nL nm ret hh) (hcd : kt_cd cw y nL') (hc : kt_Ca w gr d y cw av M (kt_pD K) X) (hrest : rest.length ≤ 8)
    (hiv : ∀ ls : Array Slot, lv_has ls nL L → kt_Iv w x M (F0 (kt_mt x) pc ls st) rest len y av)
    (k : ∀ (r : UInt64) (M' : kt_M), K r M' → kt_S w x nL Q M' (pc + len) L (.double r :: rest)) (kx : ∀ (E : String) (q : Nat) (M' : kt_M), X E q M' → kt_T w x nL Q M' pc L E q) : kt_S w x nL Q M pc L st :=
  kr_ca O hcd hc hrest hiv (fun v M' h => by obtain ⟨r, rfl, h⟩ := h; exact k r M' h) kx
theorem kr_caR {len nL' : Nat} {y : MethodName} {cw : Cond} {av rest : List Value} {K : Option Nat → kt_M → Prop} {X : String → Nat → kt_M → Prop} (O : kt_O w x gr (d + 1) cc own nL nm ret hh) (hcd : kt_cd cw y nL') (hc : kt_Ca w gr d y cw av M (kt_pR K) X) (hrest : rest.length ≤ 8)
    (hiv : ∀ ls : Array Slot, lv_has ls nL L → kt_Iv w x M (F0 (kt_mt x) pc ls st) rest len y av)
    (k : ∀ (r : Option Nat) (M' : kt_M), K r M' → kt_S w x nL Q M' (pc + len) L (va_rf r :: rest)) (kx : ∀ (E : String) (q : Nat) (M' : kt_M), X E q M' → kt_T w x nL Q M' pc L E q) : kt_S w x nL Q M pc L st :=
  kr_ca O hcd hc hrest hiv (fun v M' h => by obtain ⟨r, rfl, h⟩ := h; exact k r M' h) kx
theorem kr_caV {len nL' : Nat} {y : MethodName} {cw : Cond} {av rest : List Value} {K : kt_M → Prop} {X : String → Nat → kt_M → Prop} (O : kt_O w x gr (d + 1) cc own nL nm ret hh) (hcd : kt_cd cw y nL') (hc : kt_Ca w gr d y cw av M (kt_pV K) X) (hrest : rest.length ≤ 8)
    (hiv : ∀ ls : Array Slot, lv_has ls nL L → kt_Iv w x M (F0 (kt_mt x) pc ls st) rest len y av)
    (k : ∀ (M' : kt_M), K M' → kt_S w x nL Q M' (pc + len) L rest) (kx : ∀ (E : String) (q : Nat) (M' : kt_M), X E q M' → kt_T w x nL Q M' pc L E q) : kt_S w x nL Q M pc L st :=
  kr_ca O hcd hc hrest hiv (fun v M' h => by obtain ⟨rfl, h⟩ := h; exact k M' h) kx
/-- a name for the memory -/
theorem kr_nmM (k : ∀ M' : kt_M, M' = M → kt_S w x nL Q M' pc L st) : kt_S w x nL Q M pc L st := k M rfl
/-- whether the object at a is of the class T: 1 or 0 -/
def kt_io (M : kt_M) (a : Nat) (T : String) (z : Int32) : Prop := ∃ c, kt_co M a = some c ∧ ((z = 1 ∧ kt_is c T) ∨ (z = 0 ∧ c < 22 ∧ ((kt_cl.getD c default).1, T) ∈ kt_ncT))
theorem kr_inst {idx a : Nat} {T : String} {z : Int32} (O : kt_O w x gr d cc own nL nm ret hh) (hd : decode cc pc = .ok (.instanceof idx, 3)) (hq : Cond.classLink own idx T ∈ lw_all) (hz : kt_io M a T z) (k : kt_S w x nL Q M (pc + 3) L (.int z :: st)) : kt_S w x nL Q M pc L (va_rf (some a) :: st) := by
  obtain ⟨c, h1, ⟨rfl, h2⟩ | ⟨rfl, h2, h3⟩⟩ := hz
  · exact kr_instY O hd hq h1 h2 k
  · exact kr_instN O hd hq h1 h2 (fun G => G.2.2.2.2.2.2.2.2.2.2.1 _ h3) k
end KCC
theorem kt_inI {q : String × String × String × Int32} (i : Nat) (h : kt_stI[i]? = some q) : q ∈ kt_stI := List.mem_of_getElem? h
theorem kt_inT {q : String × String × String × Nat} (i : Nat) (h : kt_stT[i]? = some q) : q ∈ kt_stT := List.mem_of_getElem? h
theorem kt_lgR (r : Option Nat) (t : List Value) : lg_sl (va_rf r :: t) = .val (va_rf r) :: lg_sl t := by simp [lg_sl, kt_nrf]
theorem kt_lvR (i : Nat) (r : Option Nat) (t : List Value) : lv_args i (va_rf r :: t) = (i, va_rf r) :: lv_args (i + 1) t := by simp [lv_args, kt_nrf]
theorem kt_lgI (v : Int32) (t : List Value) : lg_sl (.int v :: t) = .val (.int v) :: lg_sl t := by simp [lg_sl, Value.category]
theorem kt_lvI (i : Nat) (v : Int32) (t : List Value) : lv_args i (.int v :: t) = (i, .int v) :: lv_args (i + 1) t := by simp [lv_args, Value.category]
theorem kt_lvN (i : Nat) : lv_args i [] = [] := rfl
theorem kt_lgN : lg_sl [] = [] := rfl
theorem kt_cI (v : Int32) : (Value.int v).category = 1 := rfl
theorem kt_cJ (v : Int64) : (Value.long v).category = 2 := rfl
theorem kt_cF (v : UInt32) : (Value.float v).category = 1 := rfl
theorem kt_cD (v : UInt64) : (Value.double v).category = 2 := rfl
theorem kt_cR (a : Nat) : (Value.ref a).category = 1 := rfl
theorem kt_cU : Value.null.category = 1 := rfl
