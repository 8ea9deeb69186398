set_option maxRecDepth 100000
/-! ===== throwing and catching ===== -/
/-- a word that holds at every state of the run -/
def kt_wd (c : Cond) : Prop := c ∈ lw_all ∨ (c ∈ lw_tbl ∧ c.faceAtom = true ∧ c.onTables = true)
theorem kt_wd_at {w : kt_W} {s : State} {args : Array Value} {c : Cond} (G : kt_G w) (hW : (kt_s0 w).WarmedH s.vm) (hts : ∀ v ∈ lw_all, v.before args s = true) (h : kt_wd c) : c.before args s = true := by
  rcases h with h | ⟨h1, h2, h3⟩
  · exact hts _ h
  · exact kt_face G hW h1 h2 h3
def kt_al (P : Cond → Prop) : List Cond → Prop
  | [] => True
  | a :: t => P a ∧ kt_al P t
theorem kt_al_at {P : Cond → Prop} : ∀ {L : List Cond}, kt_al P L → ∀ c ∈ L, P c
  | a :: t, h, c, hc => by
    rcases List.mem_cons.mp hc with rfl | hc
    · exact h.1
    · exact kt_al_at h.2 c hc
  | [], _, c, hc => nomatch hc
section KX
variable {w : kt_W} {x : kt_X} {gr : kt_g × kt_M} {dd nL : Nat} {Q : State → Prop} {M : kt_M} {pc : Nat} {L : List (Nat × Value)} {st : List Value} {cc : ByteArray} {own : String} {nm : String × String} {ret : Option FieldType} {hh : List (Nat × Nat × Nat × Nat)} {P : Option Value → kt_M → Prop} {X : String → Nat → kt_M → Prop}
/-- throw new E() -/
theorem kr_throw0 {ik ic : Nat} {cls : String} {names : List String} (O : kt_O w x gr dd cc own nL nm ret []) (hcls : Bundle.fit cls = true) (hnames : ∀ n ∈ names, Bundle.fit n = true) (hlen : names.length ≤ 3) (hk : Cond.classLink own ik cls ∈ lw_all) (hini : Cond.initialized cls ∈ lw_all) (hat : kt_al (fun v => kx_no v = true → kt_wd v) (Bundle.ownAtoms0 own ic cls names))
    (hgood : (Cond.classLink own ik cls :: Cond.initialized cls :: kx_at0 own ic cls names).all kx_ot = true) (hd5 : 7 ≤ dd) (hst : st.length ≤ 8)
    (d0 : decode cc pc = .ok (.new ik, 3)) (d3 : decode cc (pc + 3) = .ok (.dup, 1)) (d4 : decode cc (pc + 4) = .ok (.invokespecial ic, 3)) (d7 : decode cc (pc + 7) = .ok (.athrow, 1)) (hf : kt_fits w M 6)
    (hX : ∀ (q : Nat) (M' : kt_M), M'.2.2 = M.2.2 → M.1 ≤ M'.1 → M'.1 ≤ M.1 + 1 → M.2.1 ≤ M'.2.1 → M'.2.1 ≤ M.2.1 + 6 → X cls q M') : kt_S w x nL (kt_E w x P X) M pc L st := by
  obtain ⟨p, e, g, d, M0, s, m, args, below, meth, c⟩ := x
  obtain ⟨hx, hb, hml, hown, hts, hlk, hW, hH0, hnm, hret, htab, G, hgr, hdd⟩ := O
  subst hdd
  intro H locs ls k1 n1 hH hl1 hz hls
  have hN : kt_N0 w ≤ s.heap.size := by rw [hH0.1]; exact hH0.2.1
  refine kt_Wt hN fun g1 g2 => ?_
  have a1 := hH0.1
  have a2 := hH.1
  have a3 := hH0.2.2.2.1
  have a4 := hH.2.2.2.1
  have a5 := hH.2.2.2.2.1
  have a6 := hH.2.2.2.2.2.1
  have hZU := kx_Zq.moved hW.alike (G.2.2.2.2.2.2.2.2.1.kept fun a ha hna => hH0.2.2.1 a (Nat.not_le.mp hna))
  have hZN := kx_Zq.moved hW.alike (G.2.2.2.2.2.2.2.2.2.1.kept fun a ha hna => hH0.2.2.1 a (Nat.not_le.mp hna))
  have hg2 := List.all_eq_true.mp hgood
  refine kx_throw0 (A := kt_fr w) (names := names) hx hb (by unfold Launch.stackTraces; rw [G.1]; decide +kernel) hown hcls hnames (hts _ hk) (hts _ hini) (fun v hv => ?_) (fun v hv => hg2 v ?_) hZU hZN (kt_statics (p := p) hH0 hH hl1 hz) ?_ d0 d3 d4 d7 (fun z hz9 => by rw [htab] at hz9; exact absurd hz9 List.not_mem_nil) ?_ ?_ ?_ ?_ hlk (fun t ht1 ht2 ht3 ht4 ht5 => ?_) hz ?_ ?_
  · have hv' := List.mem_filter.mp hv
    exact kt_wd_at G hW hts (kt_al_at hat v hv'.1 hv'.2)
  · rcases List.mem_cons.mp hv with rfl | hv
    · exact List.mem_cons_self
    · rcases List.mem_cons.mp hv with rfl | hv
      · exact List.mem_cons_of_mem _ List.mem_cons_self
      · exact List.mem_cons_of_mem _ (List.mem_cons_of_mem _ hv)
  · rw [hls.1, hml]
  · show names.length + 3 < d
    omega
  · show _ ≤ 100 * d
    have := kt_rest hst
    omega
  · show _ + 1 ≤ kt_cN w - M0.1
    have := hf.1
    omega
  · show _ + 6 ≤ kt_cS - M0.2.1
    have := hf.2
    omega
  · have hss : kt_ss (kt_N0 w) t.heap = kt_ss (kt_N0 w) H + ((t.heap.toList.drop H.size).map (·.slots.size)).sum := by
      refine kt_ss_split (by rw [a2]; exact hH.2.1) rfl ht2 fun q c0 c1 e0 e1 => ?_
      have hq : q < H.size := (Array.getElem?_eq_some_iff.mp e0).1
      rw [ht5 q hq, e0] at e1
      cases e1; rfl
    refine ⟨(t.heap.size, kt_ss (kt_N0 w) t.heap, M.2.2), ⟨rfl, by show kt_N0 w ≤ t.heap.size; omega, fun q hq => ?_, rfl, ?_, ?_, fun b => ?_⟩, ⟨by show M0.1 ≤ t.heap.size; omega, by show M0.2.1 ≤ kt_ss (kt_N0 w) t.heap; omega, fun a ha ht => hl1.2.2 a ha ht⟩, hX _ _ rfl (by show M.1 ≤ t.heap.size; omega) (by show t.heap.size ≤ M.1 + 1; omega) (by show M.2.1 ≤ kt_ss (kt_N0 w) t.heap; omega) (by show kt_ss (kt_N0 w) t.heap ≤ M.2.1 + 6; omega)⟩
    · have := hH.2.1
      rw [ht5 q (by omega)]; exact hH.2.2.1 q hq
    · show t.heap.size ≤ kt_cN w
      have := hf.1
      omega
    · show kt_ss (kt_N0 w) t.heap ≤ kt_cS
      have := hf.2
      omega
    · have hb2 := hH.2.2.2.2.2.2 b
      show kt_at w t.heap b (M.2.2 b)
      by_cases hl : b < H.size
      · exact kt_at_kept hb2 (ht5 b hl)
      · match hce : M.2.2 b, hb2 with
        | (0, _), _ => trivial
        | (1, .inl (k, x)), h8 => exact absurd h8.2.2 (by have := hH.2.1; omega)
        | (1, .inr (c, fs)), h8 => exact absurd h8.2 (by have := hH.2.1; omega)
        | (t + 2, .inl (k, x)), h8 =>
          have : b < H.size := (Array.getElem?_eq_some_iff.mp h8.2.1).1
          omega
        | (t + 2, .inr (c, fs)), h8 =>
          obtain ⟨⟨cell, h9, -⟩, -⟩ := h8
          have : b < H.size := (Array.getElem?_eq_some_iff.mp h9).1
          omega
  · have := hf.1
    omega
  · have := hf.2
    omega
/-- what is thrown is caught by the i-th handler -/
theorem kr_catch {E : String} {q sp ep hp ct : Nat} {pre suf : List (Nat × Nat × Nat × Nat)} (O : kt_O w x gr dd cc own nL nm ret hh) (hs : hh = pre ++ (sp, ep, hp, ct) :: suf) (hcov : sp ≤ pc ∧ pc < ep) (h0 : ct ≠ 0) (hlink : Cond.classLink own ct E ∈ lw_all) (hcast : Cond.castable E E ∈ lw_tbl)
    (hpre : ∀ z ∈ pre, z.2.2.2 ≠ 0 ∧ ∃ n, Cond.classLink own z.2.2.2 n ∈ lw_all ∧ (E, n) ∈ kt_ncT) (k : kt_S w x nL Q M hp L [va_rf (some q)]) : kt_T w x nL Q M pc L E q := by
  obtain ⟨p, e, g, d, M0, s, m, args, below, meth, c⟩ := x
  obtain ⟨hx, hb, hml, hown, hts, hlk, hW, hH0, hnm, hret, htab, G, hgr, hdd⟩ := O
  intro H locs ls k1 n1 rest ce hH hl1 hz hls hce hcv hcl
  subst hs
  refine kx_catch (E := E) (name := E) hown ((pre.map fun z => (⟨z.1, z.2.1, z.2.2.1, z.2.2.2⟩ : ExceptionTableEntry))) ⟨sp, ep, hp, ct⟩ (suf.map fun z => (⟨z.1, z.2.1, z.2.2.1, z.2.2.2⟩ : ExceptionTableEntry)) ?_ (fun z hz9 => ?_) ?_ h0 (hts _ hlink) (kt_face G hW hcast rfl rfl) hce hcv hcl (k H locs ls k1 n1 hH hl1 hz hls)
  · rw [htab]; simp [tableOf]
  · obtain ⟨z0, hz0, rfl⟩ := List.mem_map.mp hz9
    obtain ⟨h1, n, h2, h3⟩ := hpre z0 hz0
    exact Or.inr ⟨h1, n, hts _ h2, va_Nc.moved hW.alike (G.2.2.2.2.2.2.2.2.2.2.1 _ h3)⟩
  · simp [covers, hcov.1, hcov.2]
end KX
/-- a method with handlers, by its body -/
theorem kt_ofH {w : kt_W} {g : kt_g} {d nL : Nat} {y : MethodName} {cc : ByteArray} {ret : Option FieldType} {hh : List (Nat × Nat × Nat × Nat)} {av : List Value} {M : kt_M} {P : Option Value → kt_M → Prop} {X : String → Nat → kt_M → Prop} {L0 : List (Nat × Value)} (hy : plainFor y = true) (hlen : (lg_sl av).length ≤ nL) (hL : lv_args 0 av = L0)
    (body : ∀ x : kt_X, kt_O w x (g, M) d cc y.cls nL (y.name, y.desc) ret hh → kt_S w x nL (kt_E w x P X) M 0 L0 []) : kt_Sp w g d y (.codeWith y cc nL ret hh) av M P X := by
  intro G
  refine kx_enter (code := cc) (maxL := nL) (ret := ret) hy ?_ ?_
  · intro args s m h hn
    obtain ⟨m9, meth, c, hn9, h1, h2, h3, h4, -, h5, h6, -⟩ := Cond.codeWith_spec (atoms_spec (ws := Cond.codeWith y cc nL ret hh :: lw_all) h _ List.mem_cons_self)
    cases hn.symm.trans hn9
    exact ⟨meth, c, h1, h2, h3, h4, h5, h6⟩
  · intro p e s m args below meth c s₁ hx hnm hme hb hml hr hlk hpr hv hh0 X9
    obtain ⟨rfl, hW, hH⟩ := hv
    have hpre := atoms_spec (ws := Cond.codeWith y cc nL ret hh :: lw_all) hpr
    have hts : ∀ v ∈ lw_all, v.before av.toArray s = true := fun v h => hpre v (List.mem_cons_of_mem _ h)
    obtain ⟨m9, meth9, c9, hn9, h1, h2, h3, h4, h5, -, -, -⟩ := Cond.codeWith_spec (hpre _ List.mem_cons_self)
    cases hnm.symm.trans hn9
    cases hme.symm.trans h1
    have htb : c.exceptionTable.toList = tableOf hh := by
      cases Option.some.inj (h2.symm.trans X9.code)
      unfold tableOf
      rw [← h5, List.map_map]
      exact (List.map_id'' (fun z => rfl) _).symm
    have O : kt_O w (p, e, g, d, M, s, m, av.toArray, below, meth, c) (g, M) d cc y.cls nL (y.name, y.desc) ret hh :=
      ⟨hx, hb, hml, findClass_of_methodNamed hnm, hts, hlk, hW, hH, ⟨(name_of_methodNamed hnm hme).1, hnm⟩, hr, htb, G, rfl, rfl⟩
    have hls := lv_entry av (n := nL) hlen
    rw [hL] at hls
    have h9 := body _ O s.heap [] _ 0 0 hH (kt_le_rf g M) (fun z h => nomatch h) hls
    rw [← lg_entry_eq (m := m)] at h9
    obtain ⟨t, a1, o, b1, b2, b3⟩ := h9 s₁ hh0 X9
    exact ⟨t, o, a1, b1, b2, b3⟩
