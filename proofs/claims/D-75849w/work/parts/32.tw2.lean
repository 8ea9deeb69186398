set_option maxRecDepth 100000
/-! ===== the reference: versions ===== -/
section TW2
variable {w : kt_W} {gr : kt_g × kt_M} {d : Nat} {M : kt_M} {X : String → Nat → kt_M → Prop} {a b : Nat} {K : Nat → Int32} {G : Int32 → kt_M → Prop} {GV : kt_M → Prop}
theorem tw_greatestLeft {n : Nat} (hd : 4 ≤ d) (hk : tw_k M a b K) (hn : kNV K n) (h : G (kG (fun v => !kGone K v) n) M) : kt_Ca w gr d yX5_greatestLeft kc_X5_greatestLeft [va_rf (some a)] M (kt_pI G) X := by
  obtain ⟨d, rfl⟩ : ∃ d', d = d' + 1 := ⟨d - 1, by omega⟩
  refine kt_cc (ce_X5_greatestLeft ?_)
  unfold vc_X5_greatestLeft vl_X5_greatestLeft_4
  have h30 := hn.2
  refine ⟨fun k v1 v2 M' => ∃ i, i ≤ n ∧ k = n - i ∧ v2 = nI i ∧ v1 = kG (fun v => !kGone K v) i ∧ M' = M, ⟨n, 0, by omega, by omega, rfl, rfl, rfl⟩, ?_⟩
  rintro k _ _ _ - ⟨i, hi, rfl, rfl, rfl, rfl⟩
  unfold vc_X5_greatestLeft_4
  refine ⟨_, hk.2.1, b, rfl, _, tw_el hk (i := 1) (by omega), fun h1 => ⟨_, rfl, ?_⟩, fun h1 => ⟨hk.1, ?_⟩⟩
  · rw [hn.1, nI_leI (by omega) (by omega)] at h1
    obtain rfl : i = n := by omega
    exact h
  · rw [hn.1, nI_leI (by omega) (by omega)] at h1
    refine tw_isGone (by omega) hk (by omega) ⟨fun h2 => ⟨n - (i + 1), by omega, i + 1, by omega, rfl, nI_1 i, ?_, rfl⟩, fun h2 => ⟨n - (i + 1), by omega, i + 1, by omega, rfl, nI_1 i, ?_, rfl⟩⟩
    · rw [kB_0] at h2
      simp [kG, h2]
    · rw [kB_n0] at h2
      simp [kG, h2]
theorem tw_greatestOpen {n : Nat} (hd : 5 ≤ d) (hk : tw_k M a b K) (hn : kNV K n) (h : G (kG (fun v => decide (kSt K v ≤ 1)) n) M) : kt_Ca w gr d yX5_greatestOpen kc_X5_greatestOpen [va_rf (some a)] M (kt_pI G) X := by
  obtain ⟨d, rfl⟩ : ∃ d', d = d' + 1 := ⟨d - 1, by omega⟩
  refine kt_cc (ce_X5_greatestOpen ?_)
  unfold vc_X5_greatestOpen vl_X5_greatestOpen_4
  have h30 := hn.2
  refine ⟨fun k v1 v2 M' => ∃ i, i ≤ n ∧ k = n - i ∧ v2 = nI i ∧ v1 = kG (fun v => decide (kSt K v ≤ 1)) i ∧ M' = M, ⟨n, 0, by omega, by omega, rfl, rfl, rfl⟩, ?_⟩
  rintro k _ _ _ - ⟨i, hi, rfl, rfl, rfl, rfl⟩
  unfold vc_X5_greatestOpen_4
  refine ⟨_, hk.2.1, b, rfl, _, tw_el hk (i := 1) (by omega), fun h1 => ⟨_, rfl, ?_⟩, fun h1 => ⟨hk.1, ?_⟩⟩
  · rw [hn.1, nI_leI (by omega) (by omega)] at h1
    obtain rfl : i = n := by omega
    exact h
  · rw [hn.1, nI_leI (by omega) (by omega)] at h1
    refine tw_stateOf (by omega) hk (by omega) ⟨fun h2 => ⟨n - (i + 1), by omega, i + 1, by omega, rfl, nI_1 i, ?_, rfl⟩, fun h2 => ⟨n - (i + 1), by omega, i + 1, by omega, rfl, nI_1 i, ?_, rfl⟩⟩
    · have : ¬ kSt K i ≤ 1 := Int32.not_le.mpr h2
      simp [kG, this]
    · have : kSt K i ≤ 1 := Int32.not_lt.mp h2
      simp [kG, this]
/-- the ends of the versions below i cut at e -/
def kIs1 (K : Nat → Int32) (e : Int32) (i : Nat) : Nat → Int32 := fun j => if 11 ≤ j ∧ j < 11 + 3 * i ∧ (j - 11) % 3 = 1 then kMin (K j) e else K j
/-- a version issued -/
def kIss (K : Nat → Int32) (n : Nat) (first : Int32) : Nat → Int32 := upd (upd (upd (upd (kIs1 K (first + K 5 - 1) n) (11 + 3 * n) first) (12 + 3 * n) 9999) (13 + 3 * n) (-1)) 1 (nI (n + 1))
theorem kIs1_0 (K : Nat → Int32) (e : Int32) : kIs1 K e 0 = K := by
  funext j
  unfold kIs1
  rw [if_neg (by omega)]
theorem kIs1_lo (K : Nat → Int32) (e : Int32) (i : Nat) {j : Nat} (h : j < 11) : kIs1 K e i j = K j := by
  unfold kIs1
  rw [if_neg (by omega)]
theorem kIs1_hi (K : Nat → Int32) (e : Int32) (i : Nat) {j : Nat} (h : 11 + 3 * i ≤ j) : kIs1 K e i j = K j := by
  unfold kIs1
  rw [if_neg (by omega)]
theorem kIs1_s (K : Nat → Int32) (e : Int32) (i : Nat) : upd (kIs1 K e i) (12 + 3 * i) (kMin (K (12 + 3 * i)) e) = kIs1 K e (i + 1) := by
  funext j
  unfold upd kIs1
  by_cases h : j = 12 + 3 * i
  · subst h
    rw [if_pos rfl, if_pos (by omega)]
  · rw [if_neg h]
    by_cases h2 : 11 ≤ j ∧ j < 11 + 3 * i ∧ (j - 11) % 3 = 1
    · rw [if_pos h2, if_pos (by omega)]
    · rw [if_neg h2, if_neg (by omega)]
theorem tw_issue {n : Nat} {first : Int32} (hd : 3 ≤ d) (hk : tw_k M a b K) (hw : kt_wr gr M b) (hn : K 1 = nI n) (hn29 : n < 30) (h : GV (tw_s M b (kIss K n first))) : kt_Ca w gr d yX5_issue kc_X5_issue [va_rf (some a), .int first] M (kt_pV GV) X := by
  obtain ⟨d, rfl⟩ : ∃ d', d = d' + 1 := ⟨d - 1, by omega⟩
  refine kt_cc (ce_X5_issue ?_)
  unfold vc_X5_issue
  refine ⟨_, hk.2.1, b, rfl, _, tw_el hk (i := 1) (by omega), ?_⟩
  rw [hn]
  unfold vl_X5_issue_9
  refine ⟨fun k v3 M' => ∃ i, i ≤ n ∧ k = n - i ∧ v3 = nI i ∧ M' = tw_s M b (kIs1 K (first + K 5 - 1) i), ⟨n, 0, by omega, by omega, rfl, by rw [kIs1_0, tw_s_id hk]⟩, ?_⟩
  rintro k _ _ - ⟨i, hi, rfl, rfl, rfl⟩
  have hk1 := tw_k_s hk (kIs1 K (first + K 5 - 1) i)
  have hw1 := tw_wr (K' := kIs1 K (first + K 5 - 1) i) (M1 := M) hk hw
  unfold vc_X5_issue_9
  refine ⟨fun h1 => ?_, fun h1 => ?_⟩
  · rw [nI_leI (by omega) (by omega)] at h1
    obtain rfl : i = n := by omega
    refine ⟨_, hk1.2.1, tw_versionAt (f := 0) (by omega) ⟨b, rfl, tw_hi hk1 hw1 (by omega), ?_⟩⟩
    rintro _ rfl
    rw [tw_si hk1 (by omega), tw_s_s]
    have hk2 := tw_k_s hk (upd (kIs1 K (first + K 5 - 1) i) (11 + 3 * i + 0) first)
    refine ⟨_, hk2.2.1, tw_versionAt (f := 1) (by omega) ⟨b, rfl, tw_hi hk2 (tw_wr hk hw) (by omega), ?_⟩⟩
    rintro _ rfl
    rw [tw_si hk2 (by omega), tw_s_s]
    have hk3 := tw_k_s hk (upd (upd (kIs1 K (first + K 5 - 1) i) (11 + 3 * i + 0) first) (11 + 3 * i + 1) 9999)
    refine ⟨_, hk3.2.1, tw_versionAt (f := 2) (by omega) ⟨b, rfl, tw_hi hk3 (tw_wr hk hw) (by omega), ?_⟩⟩
    rintro _ rfl
    rw [tw_si hk3 (by omega), tw_s_s]
    have hk4 := tw_k_s hk (upd (upd (upd (kIs1 K (first + K 5 - 1) i) (11 + 3 * i + 0) first) (11 + 3 * i + 1) 9999) (11 + 3 * i + 2) (-1))
    refine ⟨_, hk4.2.1, b, rfl, _, tw_el hk4 (i := 1) (by omega), tw_hi hk4 (tw_wr hk hw) (i := 1) (by omega), ?_⟩
    rintro _ rfl
    refine ⟨rfl, ?_⟩
    rw [show ∀ v, kt_si _ b (1 : Int32) v = _ from fun v => tw_si hk4 (i := 1) (by omega) v, tw_s_s]
    have e1 : upd (upd (upd (kIs1 K (first + K 5 - 1) i) (11 + 3 * i + 0) first) (11 + 3 * i + 1) 9999) (11 + 3 * i + 2) (-1) 1 + 1 = nI (i + 1) := by
      simp only [upd]
      rw [if_neg (by omega), if_neg (by omega), if_neg (by omega), kIs1_lo _ _ _ (by omega), hn, nI_1]
    rw [e1, Nat.add_zero, show 11 + 3 * i + 1 = 12 + 3 * i by omega, show 11 + 3 * i + 2 = 13 + 3 * i by omega]
    exact h
  · rw [nI_leI (by omega) (by omega)] at h1
    refine ⟨_, hk1.2.1, b, rfl, _, tw_el hk1 (i := 5) (by omega), _, hk1.2.1, tw_versionAt (f := 1) (by omega) ⟨hk1.1, tw_ofVersion (f := 1) (by omega) hk1 (by omega) (by omega) (ct_min (by omega) ⟨b, rfl, tw_hi hk1 hw1 (by omega), ?_⟩)⟩⟩
    rintro _ rfl
    refine ⟨n - (i + 1), by omega, i + 1, by omega, rfl, nI_1 i, ?_⟩
    rw [tw_si hk1 (by omega), tw_s_s, kIs1_lo _ _ _ (by omega : 5 < 11), show 11 + 3 * i + 1 = 12 + 3 * i by omega, kIs1_hi _ _ _ (by omega : 11 + 3 * i ≤ 12 + 3 * i), kIs1_s]
/-- a version taken back: gone now, the greatest open one without an end if it was the greatest -/
def kTb1 (K : Nat → Int32) (v : Nat) : Nat → Int32 := upd K (13 + 3 * v) (K 0)
def kTb (K : Nat → Int32) (n v : Nat) : Nat → Int32 :=
  if kG (fun u => !kGone K u) n = nI v ∧ ¬ kG (fun u => decide (kSt (kTb1 K v) u ≤ 1)) n = -1 then upd (kTb1 K v) (12 + 3 * (kG (fun u => decide (kSt (kTb1 K v) u ≤ 1)) n).toNatClampNeg) 9999 else kTb1 K v
theorem kG_cases (p : Nat → Bool) : ∀ n, n ≤ 2 ^ 31 → kG p n = -1 ∨ ∃ i, i < n ∧ p i = true ∧ kG p n = nI i
  | 0, _ => Or.inl rfl
  | n + 1, h => by
    unfold kG
    by_cases hp : p n = true
    · rw [if_pos hp]; exact Or.inr ⟨n, by omega, hp, rfl⟩
    · rw [if_neg hp]
      rcases kG_cases p n (by omega) with h1 | ⟨i, h1, h2, h3⟩
      · exact Or.inl h1
      · exact Or.inr ⟨i, by omega, h2, h3⟩
theorem kG_n1 {i : Nat} (h : i < 2 ^ 31) : ¬ nI i = -1 := by
  intro h2
  have h3 := nI_pos' h
  rw [h2] at h3
  exact absurd h3 (by decide)
theorem kNV_upd {n j : Nat} {v : Int32} (h : kNV K n) (hj : ¬ j = 1) : kNV (upd K j v) n := ⟨by unfold upd; rw [if_neg (by omega)]; exact h.1, h.2⟩
theorem tw_takeBack {n v : Nat} (hd : 6 ≤ d) (hk : tw_k M a b K) (hw : kt_wr gr M b) (hn : kNV K n) (hv : v < n) (h : G (kB (!decide (kG (kForced (kTb K n v)) n = -1))) (tw_s M b (kTb K n v))) : kt_Ca w gr d yX5_takeBack kc_X5_takeBack [va_rf (some a), .int (nI v)] M (kt_pI G) X := by
  obtain ⟨d, rfl⟩ : ∃ d', d = d' + 1 := ⟨d - 1, by omega⟩
  refine kt_cc (ce_X5_takeBack ?_)
  have h30 := hn.2
  have last : ∀ K', kNV K' n → K' = kTb K n v → vc_X5_takeBack_55 w (kt_gx gr, M) d (kt_pI G) X a (tw_s M b K') := by
    rintro K' hn' rfl
    have hk' := tw_k_s hk (kTb K n v)
    unfold vc_X5_takeBack_55
    refine ⟨hk'.1, tw_writing (by omega) hk' hn' ⟨fun h1 => ⟨_, rfl, ?_⟩, fun h1 => ⟨_, rfl, ?_⟩⟩⟩
    · simpa [h1, kB] using h
    · simpa [h1, kB] using h
  have mid : ∀ z : Int32, z = kB (decide (kG (fun u => !kGone K u) n = nI v)) → vc_X5_takeBack_13 w (kt_gx gr, M) d (kt_pI G) X a (nI v) z M := by
    rintro _ rfl
    unfold vc_X5_takeBack_13
    refine ⟨_, hk.2.1, tw_versionAt (f := 2) (by omega) ⟨hk.1, tw_hour (by omega) hk ⟨b, rfl, tw_hi hk (tw_wr0 hw) (by omega), ?_⟩⟩⟩
    rintro _ rfl
    rw [tw_si hk (by omega), show 11 + 3 * v + 2 = 13 + 3 * v by omega, show upd K (13 + 3 * v) (K 0) = kTb1 K v from rfl]
    have hk1 := tw_k_s hk (kTb1 K v)
    have hn1 : kNV (kTb1 K v) n := kNV_upd hn (by omega)
    refine ⟨hk1.1, tw_greatestOpen (by omega) hk1 hn1 ⟨fun h1 => ?_, fun h1 => ⟨fun h2 => ?_, fun h2 => ?_⟩⟩⟩
    · rw [kB_0] at h1
      refine last _ hn1 ?_
      unfold kTb
      rw [if_neg (fun h3 => of_decide_eq_false h1 h3.1)]
    · refine last _ hn1 ?_
      unfold kTb
      rw [if_neg (fun h3 => h3.2 h2)]
    · rw [kB_n0] at h1
      rcases kG_cases (fun u => decide (kSt (kTb1 K v) u ≤ 1)) n (by omega) with h3 | ⟨i, hi, -, h3⟩
      · exact absurd h3 h2
      · have e : kTb K n v = upd (kTb1 K v) (12 + 3 * i) 9999 := by
          unfold kTb
          rw [if_pos ⟨of_decide_eq_true h1, h2⟩, h3, nI_clamp (by omega)]
        rw [h3]
        refine ⟨_, hk1.2.1, tw_versionAt (f := 1) (by omega) ⟨b, rfl, tw_hi hk1 (tw_wr hk hw) (by omega), ?_⟩⟩
        rintro _ rfl
        rw [tw_si hk1 (by omega), tw_s_s, show 11 + 3 * i + 1 = 12 + 3 * i by omega]
        exact last _ (kNV_upd hn1 (by omega)) e.symm
  unfold vc_X5_takeBack
  refine ⟨hk.1, tw_greatestLeft (by omega) hk hn ⟨fun h1 => mid _ ?_, fun h1 => mid _ ?_⟩⟩
  · simp [kB, h1]
  · simp [kB, h1]
end TW2
