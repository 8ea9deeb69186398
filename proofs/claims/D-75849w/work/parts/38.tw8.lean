set_option maxRecDepth 100000
/-! ===== the reference: counts ===== -/
theorem nI_p0 (a : Nat) : nI a + 0 = nI a := by rw [show (0 : Int32) = nI 0 from rfl, nI_add]; rfl
section TW8
variable {w : kt_W} {gr : kt_g × kt_M} {d : Nat} {M : kt_M} {X : String → Nat → kt_M → Prop} {a b : Nat} {K : Nat → Int32} {G : Int32 → kt_M → Prop} {GV : kt_M → Prop}
theorem tw_inForce {n : Nat} (hd : 5 ≤ d) (hk : tw_k M a b K) (hn : kNV K n) (h : G (nI (kC (kForced K) n)) M) : kt_Ca w gr d yX5_inForce kc_X5_inForce [va_rf (some a)] M (kt_pI G) X := by
  obtain ⟨d, rfl⟩ : ∃ d', d = d' + 1 := ⟨d - 1, by omega⟩
  refine kt_cc (ce_X5_inForce ?_)
  unfold vc_X5_inForce vl_X5_inForce_4
  have h30 := hn.2
  refine ⟨fun k v1 v2 M' => ∃ i, i ≤ n ∧ k = n - i ∧ v2 = nI i ∧ v1 = nI (kC (kForced K) i) ∧ M = M', ⟨n, 0, by omega, by omega, rfl, rfl, rfl⟩, ?_⟩
  rintro k _ _ _ - ⟨i, hi, rfl, rfl, rfl, rfl⟩
  unfold vc_X5_inForce_4
  refine ⟨_, hk.2.1, b, rfl, _, tw_el hk (i := 1) (by omega), fun h1 => ⟨_, rfl, ?_⟩, fun h1 => ⟨hk.1, ?_⟩⟩
  · rw [hn.1, nI_leI (by omega) (by omega)] at h1
    obtain rfl : i = n := by omega
    exact h
  · rw [hn.1, nI_leI (by omega) (by omega)] at h1
    refine tw_isForced (by omega) hk (by omega) ⟨fun h2 => ⟨n - (i + 1), by omega, i + 1, by omega, rfl, nI_1 i, ?_, rfl⟩, fun h2 => ⟨n - (i + 1), by omega, i + 1, by omega, rfl, nI_1 i, ?_, rfl⟩⟩
    · rw [kB_0] at h2
      rw [nI_p0]; simp [kC, h2]
    · rw [kB_n0] at h2
      rw [nI_1]; simp [kC, h2]
theorem tw_wrappedBy {v nr : Nat} (hd : 4 ≤ d) (hk : tw_k M a b K) (hr : kNR K nr) (h : G (nI (kC (fun r => kRec K r && kHas (K (102 + 4 * r)) (nI v)) nr)) M) : kt_Ca w gr d yX5_wrappedBy kc_X5_wrappedBy [va_rf (some a), .int (nI v)] M (kt_pI G) X := by
  obtain ⟨d, rfl⟩ : ∃ d', d = d' + 1 := ⟨d - 1, by omega⟩
  refine kt_cc (ce_X5_wrappedBy ?_)
  unfold vc_X5_wrappedBy vl_X5_wrappedBy_4
  have h30 := hr.2
  refine ⟨fun k v2 v3 M' => ∃ i, i ≤ nr ∧ k = nr - i ∧ v3 = nI i ∧ v2 = nI (kC (fun r => kRec K r && kHas (K (102 + 4 * r)) (nI v)) i) ∧ M = M', ⟨nr, 0, by omega, by omega, rfl, rfl, rfl⟩, ?_⟩
  rintro k _ _ _ - ⟨i, hi, rfl, rfl, rfl, rfl⟩
  unfold vc_X5_wrappedBy_4
  refine ⟨_, hk.2.1, b, rfl, _, tw_el hk (i := 2) (by omega), fun h1 => ⟨_, rfl, ?_⟩, fun h1 => ⟨hk.1, ?_⟩⟩
  · rw [hr.1, nI_leI (by omega) (by omega)] at h1
    obtain rfl : i = nr := by omega
    exact h
  · rw [hr.1, nI_leI (by omega) (by omega)] at h1
    have hin : i < nr := by omega
    refine tw_isRecord (by omega) hk hr (by omega) ⟨fun h2 => ⟨nr - (i + 1), by omega, i + 1, by omega, rfl, nI_1 i, ?_, rfl⟩, fun h2 => ⟨hk.1, tw_ofRecord (f := 1) (by omega) hk (by omega) (by omega) (tw_has (by omega) ⟨fun h3 => ⟨nr - (i + 1), by omega, i + 1, by omega, rfl, nI_1 i, ?_, rfl⟩, fun h3 => ⟨nr - (i + 1), by omega, i + 1, by omega, rfl, nI_1 i, ?_, rfl⟩⟩)⟩⟩
    · rw [kB_0, decide_eq_true hin, Bool.true_and] at h2
      rw [nI_p0]; simp [kC, h2]
    · rw [kB_0, show 101 + 4 * i + 1 = 102 + 4 * i by omega] at h3
      rw [nI_p0]; simp [kC, h3]
    · rw [kB_n0, decide_eq_true hin, Bool.true_and] at h2
      rw [kB_n0, show 101 + 4 * i + 1 = 102 + 4 * i by omega] at h3
      rw [nI_1]; simp [kC, h2, h3]
/-- records are dropped or not: 1 or 0 -/
def kDr (K : Nat → Int32) (nr : Nat) : Prop := ∀ r, r < nr → K (104 + 4 * r) = 0 ∨ K (104 + 4 * r) = 1
theorem tw_present {nr : Nat} (hd : 3 ≤ d) (hk : tw_k M a b K) (hr : kNR K nr) (hdr : kDr K nr) (h : G (nI (kC (kRec K) nr)) M) : kt_Ca w gr d yX5_present kc_X5_present [va_rf (some a)] M (kt_pI G) X := by
  obtain ⟨d, rfl⟩ : ∃ d', d = d' + 1 := ⟨d - 1, by omega⟩
  refine kt_cc (ce_X5_present ?_)
  unfold vc_X5_present vl_X5_present_4
  have h30 := hr.2
  refine ⟨fun k v1 v2 M' => ∃ i, i ≤ nr ∧ k = nr - i ∧ v2 = nI i ∧ v1 = nI (kC (kRec K) i) ∧ M = M', ⟨nr, 0, by omega, by omega, rfl, rfl, rfl⟩, ?_⟩
  rintro k _ _ _ - ⟨i, hi, rfl, rfl, rfl, rfl⟩
  unfold vc_X5_present_4
  refine ⟨_, hk.2.1, b, rfl, _, tw_el hk (i := 2) (by omega), fun h1 => ⟨_, rfl, ?_⟩, fun h1 => ⟨hk.1, ?_⟩⟩
  · rw [hr.1, nI_leI (by omega) (by omega)] at h1
    obtain rfl : i = nr := by omega
    exact h
  · rw [hr.1, nI_leI (by omega) (by omega)] at h1
    refine tw_ofRecord (f := 3) (by omega) hk (by omega) (by omega) ⟨nr - (i + 1), by omega, i + 1, by omega, rfl, nI_1 i, ?_, rfl⟩
    rw [show 101 + 4 * i + 3 = 104 + 4 * i by omega]
    rcases hdr i (by omega) with h2 | h2
    · rw [h2, show (1 : Int32) - 0 = 1 from by decide, nI_1]; simp [kC, kRec, h2]
    · rw [h2, show (1 : Int32) - 1 = 0 from by decide, nI_p0]; simp [kC, kRec, h2]
theorem tw_greatestOf {v : Int32} (hd : 2 ≤ d) (h : G (kG (fun k => kHas v (nI k)) 30) M) : kt_Ca w gr d yX5_greatestOf kc_X5_greatestOf [.int v] M (kt_pI G) X := by
  obtain ⟨d, rfl⟩ : ∃ d', d = d' + 1 := ⟨d - 1, by omega⟩
  refine kt_cc (ce_X5_greatestOf ?_)
  unfold vc_X5_greatestOf vl_X5_greatestOf_4
  refine ⟨fun k v1 v2 M' => ∃ i, i ≤ 30 ∧ k = 30 - i ∧ v2 = nI i ∧ v1 = kG (fun k => kHas v (nI k)) i ∧ M = M', ⟨30, 0, by omega, by omega, rfl, rfl, rfl⟩, ?_⟩
  rintro k _ _ _ - ⟨i, hi, rfl, rfl, rfl, rfl⟩
  unfold vc_X5_greatestOf_4
  refine ⟨fun h1 => ⟨_, rfl, ?_⟩, fun h1 => ?_⟩
  · rw [show (30 : Int32) = nI 30 from rfl, nI_leI (by omega) (by omega)] at h1
    obtain rfl : i = 30 := by omega
    exact h
  · rw [show (30 : Int32) = nI 30 from rfl, nI_leI (by omega) (by omega)] at h1
    refine tw_has (by omega) ⟨fun h2 => ⟨30 - (i + 1), by omega, i + 1, by omega, rfl, nI_1 i, ?_, rfl⟩, fun h2 => ⟨30 - (i + 1), by omega, i + 1, by omega, rfl, nI_1 i, ?_, rfl⟩⟩
    · rw [kB_0] at h2
      simp [kG, h2]
    · rw [kB_n0] at h2
      simp [kG, h2]
theorem tw_readWith {c r n : Nat} (hd : 5 ≤ d) (hk : tw_k M a b K) (hn : kNV K n) (hc : c < 8) (hr : r < 30) (h : G (kG (fun k => kHas (kS (kUs K c) n &&& K (102 + 4 * r)) (nI k)) 30) M) : kt_Ca w gr d yX5_readWith kc_X5_readWith [va_rf (some a), .int (nI c), .int (nI r)] M (kt_pI G) X := by
  obtain ⟨d, rfl⟩ : ∃ d', d = d' + 1 := ⟨d - 1, by omega⟩
  refine kt_cc (ce_X5_readWith ?_)
  unfold vc_X5_readWith
  refine ⟨hk.1, tw_usable (by omega) hk hn hc ⟨hk.1, tw_ofRecord (f := 1) (by omega) hk hr (by omega) (tw_greatestOf (by omega) ⟨_, rfl, ?_⟩)⟩⟩
  rw [show 101 + 4 * r + 1 = 102 + 4 * r by omega]
  exact h
/-- a version withdrawn: the versions' number behind it and the keys; the answer -/
def kWn (K : Nat → Int32) (n v : Nat) : Nat := if kG (kForced (kTb K n v)) n = -1 then n + 1 else n
def kW2 (K : Nat → Int32) (n v : Nat) : Nat → Int32 := if kG (kForced (kTb K n v)) n = -1 then kIss (kTb K n v) n (K 0) else kTb K n v
theorem kTb_at {K : Nat → Int32} {n v j : Nat} (hn : n ≤ 30) (hv : v < 30) (h : j < 11 ∨ 101 ≤ j) : kTb K n v j = K j := by
  have h1 : kTb1 K v j = K j := by unfold kTb1 upd; rw [if_neg (by omega)]
  unfold kTb
  split
  · rename_i hc
    rcases kG_cases (fun u => decide (kSt (kTb1 K v) u ≤ 1)) n (by omega) with h3 | ⟨i, hi, -, h3⟩
    · exact absurd h3 hc.2
    · rw [h3, nI_clamp (by omega)]
      unfold upd
      rw [if_neg (by omega), h1]
  · exact h1
theorem tw_withdrawNow {n nr v : Nat} (hd : 7 ≤ d) (hk : tw_k M a b K) (hnow : kt_gf M a 65 = some (va_rf (some b))) (hw : kt_wr gr M b) (hn : kNV K n) (hr : kNR K nr) (hv : v < n)
    (hfull : kG (kForced (kTb K n v)) n = -1 → n = 30 → G (-3) (tw_s M b (kTb K n v)))
    (h : ¬ (kG (kForced (kTb K n v)) n = -1 ∧ n = 30) → G (nI (kClN (kW2 K n v) (kWn K n v) nr)) (tw_s M b (kClK (kW2 K n v) (kWn K n v) nr))) : kt_Ca w gr d yX5_withdrawNow kc_X5_withdrawNow [va_rf (some a), .int (nI v)] M (kt_pI G) X := by
  obtain ⟨d, rfl⟩ : ∃ d', d = d' + 1 := ⟨d - 1, by omega⟩
  refine kt_cc (ce_X5_withdrawNow ?_)
  have h30 := hn.2
  have hk1 := tw_k_s hk (kTb K n v)
  have hat : ∀ j, j < 11 ∨ 101 ≤ j → kTb K n v j = K j := fun j hj => kTb_at (by omega) (by omega) hj
  have hn1 : kNV (kTb K n v) n := ⟨by rw [hat 1 (by omega)]; exact hn.1, hn.2⟩
  have hnow1 : kt_gf (tw_s M b (kTb K n v)) a 65 = some (va_rf (some b)) := by
    have e : (tw_s M b (kTb K n v)).2.2 a = M.2.2 a := kt_up_ne _ _ (tw_k_ne hk)
    unfold kt_gf; rw [e]; exact hnow
  have last : ∀ (n2 : Nat) (K2 : Nat → Int32), ¬ (kG (kForced (kTb K n v)) n = -1 ∧ n = 30) → n2 = kWn K n v → K2 = kW2 K n v → kNV K2 n2 → K2 2 = K 2 → vc_X5_withdrawNow_36 w (kt_gx gr, M) d (kt_pI G) X a (tw_s M b K2) := by
    rintro n2 K2 hnf rfl rfl hn2 h2
    have hk2 := tw_k_s hk (kW2 K n v)
    unfold vc_X5_withdrawNow_36
    refine ⟨hk2.1, tw_clean (by omega) hk2 (tw_wr hk hw) hn2 ⟨by rw [h2]; exact hr.1, hr.2⟩ ⟨_, rfl, ?_⟩⟩
    rw [tw_s_s]
    exact h hnf
  unfold vc_X5_withdrawNow
  refine ⟨hk.1, tw_takeBack (by omega) hk (tw_wr0 hw) hn hv ⟨fun h1 => ?_, fun h1 => ⟨_, hnow1, b, rfl, _, tw_el hk1 (i := 1) (by omega), fun h2 => ?_, fun h2 => ⟨_, rfl, ?_⟩⟩⟩⟩
  · have hne : ¬ kG (kForced (kTb K n v)) n = -1 := by
      intro h9
      exact h1 (by simp [h9, kB])
    unfold vc_X5_withdrawNow_24
    refine ⟨fun _ => ?_, fun h2 => absurd h2 h1⟩
    exact last n _ (fun h9 => hne h9.1) (by unfold kWn; rw [if_neg hne]) (by unfold kW2; rw [if_neg hne]) hn1 (hat 2 (by omega))
  · have hne : kG (kForced (kTb K n v)) n = -1 := by
      by_cases h9 : kG (kForced (kTb K n v)) n = -1
      · exact h9
      · simp [h9, kB] at h1
    have hn29 : ¬ n = 30 := by
      intro h9
      rw [hn1.1, h9] at h2
      exact h2 rfl
    unfold vc_X5_withdrawNow_24
    refine ⟨fun h3 => absurd h1 h3, fun _ => ⟨hk1.1, tw_hour (by omega) hk1 ⟨hk1.1, ?_⟩⟩⟩
    refine tw_issue (n := n) (by omega) hk1 (tw_wr hk hw) hn1.1 (by omega) ?_
    rw [tw_s_s, hat 0 (by omega)]
    exact last (n + 1) _ (fun h9 => hn29 h9.2) (by unfold kWn; rw [if_pos hne]) (by unfold kW2; rw [if_pos hne]) ⟨by unfold kIss upd; rw [if_pos rfl], by omega, by omega⟩ (by rw [kIss_at (by omega) (by omega), hat 2 (by omega)])
  · have hne : kG (kForced (kTb K n v)) n = -1 := by
      by_cases h9 : kG (kForced (kTb K n v)) n = -1
      · exact h9
      · simp [h9, kB] at h1
    refine hfull hne ?_
    rw [hn1.1, show (30 : Int32) = nI 30 from rfl, nI_eq (by omega) (by omega)] at h2
    exact h2
end TW8
