set_option maxRecDepth 100000
/-! ===== the reference: what it reads ===== -/
/-- the object of KeyTurnsModel at a, its keys the array at b with the contents K -/
def tw_k (M : kt_M) (a b : Nat) (K : Nat → Int32) : Prop := kt_co M a = some 12 ∧ kt_gf M a 73 = some (va_rf (some b)) ∧ M.2.2 b = (5, .inl (0, 2229, .inl K))
section TW
variable {w : kt_W} {gr : kt_g × kt_M} {d : Nat} {M : kt_M} {X : String → Nat → kt_M → Prop} {a b : Nat} {K : Nat → Int32} {G : Int32 → kt_M → Prop} {GV : kt_M → Prop}
theorem tw_el (h : tw_k M a b K) {i : Nat} (hi : i < 2229) : kt_el 0 M b (nI i) = some (.int (K i)) := kt_eli (t := 4) h.2.2 hi (by decide)
theorem tw_versionAt {v f : Nat} (hd : 1 ≤ d) (h : G (nI (11 + 3 * v + f)) M) : kt_Ca w gr d yX5_versionAt kc_X5_versionAt [.int (nI v), .int (nI f)] M (kt_pI G) X := by
  obtain ⟨d, rfl⟩ : ∃ d', d = d' + 1 := ⟨d - 1, by omega⟩
  refine kt_cc (ce_X5_versionAt ?_)
  unfold vc_X5_versionAt
  exact ⟨_, by rw [kt_lit 11, kt_lit 3, nI_mul, nI_add, nI_add], h⟩
theorem tw_recordAt {v f : Nat} (hd : 1 ≤ d) (h : G (nI (101 + 4 * v + f)) M) : kt_Ca w gr d yX5_recordAt kc_X5_recordAt [.int (nI v), .int (nI f)] M (kt_pI G) X := by
  obtain ⟨d, rfl⟩ : ∃ d', d = d' + 1 := ⟨d - 1, by omega⟩
  refine kt_cc (ce_X5_recordAt ?_)
  unfold vc_X5_recordAt
  exact ⟨_, by rw [kt_lit 101, kt_lit 4, nI_mul, nI_add, nI_add], h⟩
theorem tw_clientAt {v f : Nat} (hd : 1 ≤ d) (h : G (nI (221 + 71 * v + f)) M) : kt_Ca w gr d yX5_clientAt kc_X5_clientAt [.int (nI v), .int (nI f)] M (kt_pI G) X := by
  obtain ⟨d, rfl⟩ : ∃ d', d = d' + 1 := ⟨d - 1, by omega⟩
  refine kt_cc (ce_X5_clientAt ?_)
  unfold vc_X5_clientAt
  exact ⟨_, by rw [kt_lit 221, kt_lit 71, nI_mul, nI_add, nI_add], h⟩
theorem tw_ofVersion {v f : Nat} (hd : 2 ≤ d) (hk : tw_k M a b K) (hv : v < 30) (hf : f < 3) (h : G (K (11 + 3 * v + f)) M) : kt_Ca w gr d yX5_ofVersion kc_X5_ofVersion [va_rf (some a), .int (nI v), .int (nI f)] M (kt_pI G) X := by
  obtain ⟨d, rfl⟩ : ∃ d', d = d' + 1 := ⟨d - 1, by omega⟩
  refine kt_cc (ce_X5_ofVersion ?_)
  unfold vc_X5_ofVersion
  exact ⟨_, hk.2.1, tw_versionAt (by omega) ⟨b, rfl, _, tw_el hk (by omega), _, rfl, h⟩⟩
theorem tw_ofRecord {v f : Nat} (hd : 2 ≤ d) (hk : tw_k M a b K) (hv : v < 30) (hf : f < 4) (h : G (K (101 + 4 * v + f)) M) : kt_Ca w gr d yX5_ofRecord kc_X5_ofRecord [va_rf (some a), .int (nI v), .int (nI f)] M (kt_pI G) X := by
  obtain ⟨d, rfl⟩ : ∃ d', d = d' + 1 := ⟨d - 1, by omega⟩
  refine kt_cc (ce_X5_ofRecord ?_)
  unfold vc_X5_ofRecord
  exact ⟨_, hk.2.1, tw_recordAt (by omega) ⟨b, rfl, _, tw_el hk (by omega), _, rfl, h⟩⟩
theorem tw_ofClient {v f : Nat} (hd : 2 ≤ d) (hk : tw_k M a b K) (hv : v < 8) (hf : f < 71) (h : G (K (221 + 71 * v + f)) M) : kt_Ca w gr d yX5_ofClient kc_X5_ofClient [va_rf (some a), .int (nI v), .int (nI f)] M (kt_pI G) X := by
  obtain ⟨d, rfl⟩ : ∃ d', d = d' + 1 := ⟨d - 1, by omega⟩
  refine kt_cc (ce_X5_ofClient ?_)
  unfold vc_X5_ofClient
  exact ⟨_, hk.2.1, tw_clientAt (by omega) ⟨b, rfl, _, tw_el hk (by omega), _, rfl, h⟩⟩
theorem tw_hour (hd : 1 ≤ d) (hk : tw_k M a b K) (h : G (K 0) M) : kt_Ca w gr d yX5_hour kc_X5_hour [va_rf (some a)] M (kt_pI G) X := by
  obtain ⟨d, rfl⟩ : ∃ d', d = d' + 1 := ⟨d - 1, by omega⟩
  refine kt_cc (ce_X5_hour ?_)
  unfold vc_X5_hour
  exact ⟨_, hk.2.1, b, rfl, _, tw_el hk (i := 0) (by omega), _, rfl, h⟩
def kIn (v lo hi : Int32) : Bool := decide (lo ≤ v) && decide (v ≤ hi)
theorem tw_inRange {v lo hi : Int32} (hd : 1 ≤ d) (h : G (kB (kIn v lo hi)) M) : kt_Ca w gr d yX5_inRange kc_X5_inRange [.int v, .int lo, .int hi] M (kt_pI G) X := by
  obtain ⟨d, rfl⟩ : ∃ d', d = d' + 1 := ⟨d - 1, by omega⟩
  refine kt_cc (ce_X5_inRange ?_)
  unfold vc_X5_inRange
  unfold kIn at h
  refine ⟨fun h1 => ⟨_, rfl, ?_⟩, fun h1 => ⟨fun h2 => ⟨_, rfl, ?_⟩, fun h2 => ⟨_, rfl, ?_⟩⟩⟩
  · have : ¬ lo ≤ v := Int32.not_le.mpr h1
    simpa [this, kB] using h
  · have : ¬ v ≤ hi := Int32.not_le.mpr h2
    simpa [this, kB] using h
  · have h3 : lo ≤ v := Int32.not_lt.mp h1
    have h4 : v ≤ hi := Int32.not_lt.mp h2
    simpa [h3, h4, kB] using h
def kHas (set k : Int32) : Bool := decide ((set >>> (k &&& 31)) &&& 1 = 1)
theorem tw_has {v k : Int32} (hd : 1 ≤ d) (h : G (kB (kHas v k)) M) : kt_Ca w gr d yX5_has kc_X5_has [.int v, .int k] M (kt_pI G) X := by
  obtain ⟨d, rfl⟩ : ∃ d', d = d' + 1 := ⟨d - 1, by omega⟩
  refine kt_cc (ce_X5_has ?_)
  unfold vc_X5_has
  unfold kHas at h
  refine ⟨fun h1 => ⟨_, rfl, ?_⟩, fun h1 => ⟨_, rfl, ?_⟩⟩
  · simpa [h1, kB] using h
  · simpa [h1, kB] using h
/-- a version that is gone; in force; what it is -/
def kGone (K : Nat → Int32) (v : Nat) : Bool := !decide (K (13 + 3 * v) = -1)
def kForced (K : Nat → Int32) (v : Nat) : Bool := !kGone K v && kIn (K 0) (K (11 + 3 * v)) (K (12 + 3 * v))
theorem tw_isGone {v : Nat} (hd : 3 ≤ d) (hk : tw_k M a b K) (hv : v < 30) (h : G (kB (kGone K v)) M) : kt_Ca w gr d yX5_isGone kc_X5_isGone [va_rf (some a), .int (nI v)] M (kt_pI G) X := by
  obtain ⟨d, rfl⟩ : ∃ d', d = d' + 1 := ⟨d - 1, by omega⟩
  refine kt_cc (ce_X5_isGone ?_)
  unfold vc_X5_isGone
  refine ⟨hk.1, tw_ofVersion (f := 2) (by omega) hk hv (by omega) ?_⟩
  unfold kGone at h
  rw [show 13 + 3 * v = 11 + 3 * v + 2 by omega] at h
  refine ⟨fun h1 => ⟨_, rfl, ?_⟩, fun h1 => ⟨_, rfl, ?_⟩⟩
  · simpa [h1, kB] using h
  · simpa [h1, kB] using h
theorem tw_isForced {v : Nat} (hd : 4 ≤ d) (hk : tw_k M a b K) (hv : v < 30) (h : G (kB (kForced K v)) M) : kt_Ca w gr d yX5_isForced kc_X5_isForced [va_rf (some a), .int (nI v)] M (kt_pI G) X := by
  obtain ⟨d, rfl⟩ : ∃ d', d = d' + 1 := ⟨d - 1, by omega⟩
  refine kt_cc (ce_X5_isForced ?_)
  unfold vc_X5_isForced
  unfold kForced at h
  refine ⟨hk.1, tw_isGone (by omega) hk hv ⟨fun h1 => ⟨_, rfl, ?_⟩, fun h1 => ⟨hk.1, tw_hour (by omega) hk ⟨hk.1, tw_ofVersion (f := 0) (by omega) hk hv (by omega) ⟨hk.1, tw_ofVersion (f := 1) (by omega) hk hv (by omega) (tw_inRange (by omega) ?_)⟩⟩⟩⟩⟩
  · rw [kB_n0] at h1
    simpa [h1, kB] using h
  · rw [kB_0] at h1
    rw [show 12 + 3 * v = 11 + 3 * v + 1 by omega] at h
    refine ⟨fun h2 => ⟨_, rfl, ?_⟩, fun h2 => ⟨_, rfl, ?_⟩⟩
    · rw [kB_0, Nat.add_zero] at h2
      simpa [h1, h2, kB] using h
    · rw [kB_n0, Nat.add_zero] at h2
      simpa [h1, h2, kB] using h
/-- how many versions, records, clients there are -/
def kNV (K : Nat → Int32) (n : Nat) : Prop := K 1 = nI n ∧ 1 ≤ n ∧ n ≤ 30
theorem tw_writing {n : Nat} (hd : 5 ≤ d) (hk : tw_k M a b K) (hn : kNV K n) (h : G (kG (kForced K) n) M) : kt_Ca w gr d yX5_writing kc_X5_writing [va_rf (some a)] M (kt_pI G) X := by
  obtain ⟨d, rfl⟩ : ∃ d', d = d' + 1 := ⟨d - 1, by omega⟩
  refine kt_cc (ce_X5_writing ?_)
  unfold vc_X5_writing vl_X5_writing_4
  refine ⟨fun k v1 v2 M' => ∃ i, i ≤ n ∧ k = n - i ∧ v2 = nI i ∧ v1 = kG (kForced K) i ∧ M' = M, ⟨n, 0, by omega, by omega, rfl, rfl, rfl⟩, ?_⟩
  rintro k _ _ _ - ⟨i, hi, rfl, rfl, rfl, rfl⟩
  unfold vc_X5_writing_4
  refine ⟨_, hk.2.1, b, rfl, _, tw_el hk (i := 1) (by omega), fun h1 => ⟨_, rfl, ?_⟩, fun h1 => ⟨hk.1, ?_⟩⟩
  · rw [hn.1, nI_leI (by have := hn.2; omega) (by have := hn.2; omega)] at h1
    obtain rfl : i = n := by omega
    exact h
  · rw [hn.1, nI_leI (by have := hn.2; omega) (by have := hn.2; omega)] at h1
    refine tw_isForced (by omega) hk (by have := hn.2; omega) ⟨fun h2 => ⟨n - (i + 1), by omega, i + 1, by omega, rfl, nI_1 i, ?_, rfl⟩, fun h2 => ⟨n - (i + 1), by omega, i + 1, by omega, rfl, nI_1 i, ?_, rfl⟩⟩
    · rw [kB_0] at h2
      simp [kG, h2]
    · rw [kB_n0] at h2
      simp [kG, h2]
def kMin (x y : Int32) : Int32 := if y < x then y else x
def kMax (x y : Int32) : Int32 := if x < y then y else x
theorem ct_min {x y : Int32} (hd : 1 ≤ d) (h : G (kMin x y) M) : kt_Ca w gr d yJ7_min kc_J7_min [.int x, .int y] M (kt_pI G) X := by
  obtain ⟨d, rfl⟩ : ∃ d', d = d' + 1 := ⟨d - 1, by omega⟩
  refine kt_cc (ce_J7_min ?_)
  unfold vc_J7_min
  unfold kMin at h
  exact ⟨fun h1 => ⟨_, rfl, by rwa [if_pos h1] at h⟩, fun h1 => ⟨_, rfl, by rwa [if_neg h1] at h⟩⟩
theorem ct_max {x y : Int32} (hd : 1 ≤ d) (h : G (kMax x y) M) : kt_Ca w gr d yJ7_max kc_J7_max [.int x, .int y] M (kt_pI G) X := by
  obtain ⟨d, rfl⟩ : ∃ d', d = d' + 1 := ⟨d - 1, by omega⟩
  refine kt_cc (ce_J7_max ?_)
  unfold vc_J7_max
  unfold kMax at h
  exact ⟨fun h1 => ⟨_, rfl, by rwa [if_pos h1] at h⟩, fun h1 => ⟨_, rfl, by rwa [if_neg h1] at h⟩⟩
theorem kB_nar (b : Bool) : narrow .boolean (.int (kB b)) = .int (kB b) := by cases b <;> decide
theorem tw_isMade {v : Int32} (hd : 2 ≤ d) (hk : tw_k M a b K) (h : G (kB (kIn v 0 (K 2 - 1))) M) : kt_Ca w gr d yX5_isMade kc_X5_isMade [va_rf (some a), .int v] M (kt_pI G) X := by
  obtain ⟨d, rfl⟩ : ∃ d', d = d' + 1 := ⟨d - 1, by omega⟩
  refine kt_cc (ce_X5_isMade ?_)
  unfold vc_X5_isMade
  exact ⟨_, hk.2.1, b, rfl, _, tw_el hk (i := 2) (by omega), tw_inRange (by omega) ⟨kB_nar _, _, rfl, h⟩⟩
theorem tw_isVersion {v : Int32} (hd : 2 ≤ d) (hk : tw_k M a b K) (h : G (kB (kIn v 0 (K 1 - 1))) M) : kt_Ca w gr d yX5_isVersion kc_X5_isVersion [va_rf (some a), .int v] M (kt_pI G) X := by
  obtain ⟨d, rfl⟩ : ∃ d', d = d' + 1 := ⟨d - 1, by omega⟩
  refine kt_cc (ce_X5_isVersion ?_)
  unfold vc_X5_isVersion
  exact ⟨_, hk.2.1, b, rfl, _, tw_el hk (i := 1) (by omega), tw_inRange (by omega) ⟨kB_nar _, _, rfl, h⟩⟩
theorem tw_isClient {v : Int32} (hd : 2 ≤ d) (hk : tw_k M a b K) (h : G (kB (kIn v 0 (K 3 - 1))) M) : kt_Ca w gr d yX5_isClient kc_X5_isClient [va_rf (some a), .int v] M (kt_pI G) X := by
  obtain ⟨d, rfl⟩ : ∃ d', d = d' + 1 := ⟨d - 1, by omega⟩
  refine kt_cc (ce_X5_isClient ?_)
  unfold vc_X5_isClient
  exact ⟨_, hk.2.1, b, rfl, _, tw_el hk (i := 3) (by omega), tw_inRange (by omega) ⟨kB_nar _, _, rfl, h⟩⟩
theorem kIn_nI {i n : Nat} (hi : i < 2 ^ 31) (hn : n < 2 ^ 31) : kIn (nI i) 0 (nI n - 1) = decide (i < n) := by
  unfold kIn
  rw [decide_eq_true (nI_pos' hi), Bool.true_and]
  cases n with
  | zero =>
    have : ¬ nI i ≤ nI 0 - 1 := by
      intro h
      have h2 := Int32.le_trans (nI_pos' hi) h
      exact absurd h2 (by decide)
    simp [this]
  | succ n =>
    rw [nI_pred]
    by_cases h : i ≤ n
    · rw [decide_eq_true ((nI_leI hi (by omega)).mpr h), decide_eq_true (by omega : i < n + 1)]
    · rw [decide_eq_false (fun h2 => h ((nI_leI hi (by omega)).mp h2)), decide_eq_false (by omega : ¬ i < n + 1)]
/-- the counts of records and clients -/
def kNR (K : Nat → Int32) (n : Nat) : Prop := K 2 = nI n ∧ n ≤ 30
def kNCl (K : Nat → Int32) (n : Nat) : Prop := K 3 = nI n ∧ n ≤ 8
def kRec (K : Nat → Int32) (i : Nat) : Bool := decide (K (104 + 4 * i) = 0)
theorem tw_isRecord {i n : Nat} (hd : 3 ≤ d) (hk : tw_k M a b K) (hn : kNR K n) (hi : i < 30) (h : G (kB (decide (i < n) && kRec K i)) M) : kt_Ca w gr d yX5_isRecord kc_X5_isRecord [va_rf (some a), .int (nI i)] M (kt_pI G) X := by
  obtain ⟨d, rfl⟩ : ∃ d', d = d' + 1 := ⟨d - 1, by omega⟩
  refine kt_cc (ce_X5_isRecord ?_)
  unfold vc_X5_isRecord
  have h31 := hn.2
  refine ⟨hk.1, tw_isMade (by omega) hk ?_⟩
  rw [hn.1, kIn_nI (by omega) (by omega)]
  unfold kRec at h
  rw [show 104 + 4 * i = 101 + 4 * i + 3 by omega] at h
  refine ⟨fun h1 => ⟨_, rfl, ?_⟩, fun h1 => ⟨hk.1, tw_ofRecord (f := 3) (by omega) hk hi (by omega) ⟨fun h2 => ⟨_, rfl, ?_⟩, fun h2 => ⟨_, rfl, ?_⟩⟩⟩⟩
  · rw [kB_0] at h1
    simpa [h1, kB] using h
  · rw [kB_n0] at h1
    simpa [h1, h2, kB] using h
  · rw [kB_n0] at h1
    simpa [h1, h2, kB] using h
/-- what a version is: to come, in force, ended, withdrawn -/
def kSt (K : Nat → Int32) (v : Nat) : Int32 := if kGone K v then 3 else if K 0 ≤ K (12 + 3 * v) then (if K (11 + 3 * v) ≤ K 0 then 1 else 0) else 2
theorem tw_stateOf {v : Nat} (hd : 4 ≤ d) (hk : tw_k M a b K) (hv : v < 30) (h : G (kSt K v) M) : kt_Ca w gr d yX5_stateOf kc_X5_stateOf [va_rf (some a), .int (nI v)] M (kt_pI G) X := by
  obtain ⟨d, rfl⟩ : ∃ d', d = d' + 1 := ⟨d - 1, by omega⟩
  refine kt_cc (ce_X5_stateOf ?_)
  unfold vc_X5_stateOf
  unfold kSt at h
  rw [show 12 + 3 * v = 11 + 3 * v + 1 by omega] at h
  refine ⟨hk.1, tw_isGone (by omega) hk hv ⟨fun h1 => ⟨hk.1, tw_hour (by omega) hk ⟨hk.1, tw_ofVersion (f := 1) (by omega) hk hv (by omega) ⟨fun h2 => ⟨hk.1, tw_hour (by omega) hk ⟨hk.1, tw_ofVersion (f := 0) (by omega) hk hv (by omega) ⟨fun h3 => ⟨_, rfl, ?_⟩, fun h3 => ⟨_, rfl, ?_⟩⟩⟩⟩, fun h2 => ⟨_, rfl, ?_⟩⟩⟩⟩, fun h1 => ⟨_, rfl, ?_⟩⟩⟩
  · rw [kB_0] at h1
    rw [Nat.add_zero] at h3
    simpa [h1, h2, h3] using h
  · rw [kB_0] at h1
    rw [Nat.add_zero] at h3
    simpa [h1, h2, h3] using h
  · rw [kB_0] at h1
    simpa [h1, h2] using h
  · rw [kB_n0] at h1
    simpa [h1] using h
/-- the greatest of values -/
def kMx (p : Nat → Bool) (f : Nat → Int32) : Nat → Int32
  | 0 => -1
  | n + 1 => if p n then kMax (kMx p f n) (f n) else kMx p f n
def kEnd (K : Nat → Int32) (r : Nat) (n : Nat) : Int32 := kMx (fun v => kHas (K (102 + 4 * r)) (nI v)) (fun v => K (12 + 3 * v)) n
theorem tw_endOf {r n : Nat} (hd : 4 ≤ d) (hk : tw_k M a b K) (hn : kNV K n) (hr : r < 30) (h : G (kEnd K r n) M) : kt_Ca w gr d yX5_endOf kc_X5_endOf [va_rf (some a), .int (nI r)] M (kt_pI G) X := by
  obtain ⟨d, rfl⟩ : ∃ d', d = d' + 1 := ⟨d - 1, by omega⟩
  refine kt_cc (ce_X5_endOf ?_)
  unfold vc_X5_endOf vl_X5_endOf_4
  have h30 := hn.2
  refine ⟨fun k v1 v2 M' => ∃ i, i ≤ n ∧ k = n - i ∧ v2 = nI i ∧ v1 = kEnd K r i ∧ M' = M, ⟨n, 0, by omega, by omega, rfl, rfl, rfl⟩, ?_⟩
  rintro k _ _ _ - ⟨i, hi, rfl, rfl, rfl, rfl⟩
  unfold vc_X5_endOf_4
  refine ⟨_, hk.2.1, b, rfl, _, tw_el hk (i := 1) (by omega), fun h1 => ⟨_, rfl, ?_⟩, fun h1 => ⟨hk.1, ?_⟩⟩
  · rw [hn.1, nI_leI (by omega) (by omega)] at h1
    obtain rfl : i = n := by omega
    exact h
  · rw [hn.1, nI_leI (by omega) (by omega)] at h1
    refine tw_ofRecord (f := 1) (by omega) hk hr (by omega) (tw_has (by omega) ⟨fun h2 => ⟨n - (i + 1), by omega, i + 1, by omega, rfl, nI_1 i, ?_, rfl⟩, fun h2 => ⟨hk.1, tw_ofVersion (f := 1) (by omega) hk (by omega) (by omega) (ct_max (by omega) ⟨n - (i + 1), by omega, i + 1, by omega, rfl, nI_1 i, ?_, rfl⟩)⟩⟩)
    · rw [kB_0, show 101 + 4 * r + 1 = 102 + 4 * r by omega] at h2
      simp [kEnd, kMx, h2]
    · rw [kB_n0, show 101 + 4 * r + 1 = 102 + 4 * r by omega] at h2
      simp [kEnd, kMx, h2, show 11 + 3 * i + 1 = 12 + 3 * i by omega]
/-! ===== the reference: what it writes ===== -/
/-- the keys' contents K' -/
def tw_s (M : kt_M) (b : Nat) (K' : Nat → Int32) : kt_M := kt_up M b (5, .inl (0, 2229, .inl K'))
theorem tw_k_ne (h : tw_k M a b K) : a ≠ b := by
  rintro rfl
  obtain ⟨t, fs, e, -⟩ := kt_co_spec h.1
  rw [h.2.2] at e
  cases e
theorem tw_s_s (M : kt_M) (b : Nat) (K1 K2 : Nat → Int32) : tw_s (tw_s M b K1) b K2 = tw_s M b K2 := kt_up_up _ _ _ _
theorem tw_s_id (h : tw_k M a b K) : tw_s M b K = M := kt_up_id h.2.2
theorem tw_k_s (h : tw_k M a b K) (K' : Nat → Int32) : tw_k (tw_s M b K') a b K' := by
  have hne := tw_k_ne h
  have e : (tw_s M b K').2.2 a = M.2.2 a := kt_up_ne _ _ hne
  exact ⟨by unfold kt_co; rw [e]; exact h.1, by unfold kt_gf; rw [e]; exact h.2.1, kt_up_same _ _ _⟩
theorem tw_hi {g : kt_g × kt_M} (h : tw_k M a b K) (hw : kt_wr g M b) {i : Nat} (hi : i < 2229) : kt_hii g 0 M b (nI i) := kt_hiiw hw h.2.2 hi (by decide)
theorem tw_si (h : tw_k M a b K) {i : Nat} (hi : i < 2229) (v : Int32) : kt_si M b (nI i) v = tw_s M b (upd K i v) := kt_siu h.2.2 (by omega)
theorem tw_wr {g : kt_g × kt_M} {K' : Nat → Int32} {M1 : kt_M} (h : tw_k M a b K) (hw : kt_wr g M b) : kt_wr (kt_gx g, M1) (tw_s M b K') b := kt_gx_wr hw (by rw [show (tw_s M b K').2.2 b = (5, .inl (0, 2229, .inl K')) from kt_up_same _ _ _, h.2.2])
theorem tw_wr0 {g : kt_g × kt_M} {M1 : kt_M} (hw : kt_wr g M b) : kt_wr (kt_gx g, M1) M b := kt_gx_wr hw rfl
def kOr (K : Nat → Int32) (r : Nat) (v : Int32) : Nat → Int32 := upd K (102 + 4 * r) (K (102 + 4 * r) ||| ((1 : Int32) <<< (v &&& 31)))
theorem tw_wrap {r : Nat} {v : Int32} (hd : 2 ≤ d) (hk : tw_k M a b K) (hw : kt_wr gr M b) (hr : r < 30) (h : GV (tw_s M b (kOr K r v))) : kt_Ca w gr d yX5_wrap kc_X5_wrap [va_rf (some a), .int (nI r), .int v] M (kt_pV GV) X := by
  obtain ⟨d, rfl⟩ : ∃ d', d = d' + 1 := ⟨d - 1, by omega⟩
  refine kt_cc (ce_X5_wrap ?_)
  unfold vc_X5_wrap
  refine ⟨_, hk.2.1, tw_recordAt (f := 1) (by omega) ⟨b, rfl, _, tw_el hk (by omega), tw_hi hk (tw_wr0 hw) (by omega), ?_⟩⟩
  rintro _ rfl
  rw [tw_si hk (by omega), show 101 + 4 * r + 1 = 102 + 4 * r by omega]
  exact ⟨rfl, h⟩
end TW
