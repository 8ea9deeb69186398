set_option maxRecDepth 100000
/-! ===== the reference: sweep; clients' reads ===== -/
/-- the first of the least e among those of p -/
def kNxt (p : Nat → Bool) (e : Nat → Int32) : Nat → Option Nat
  | 0 => none
  | n + 1 => if p n then (match kNxt p e n with | none => some n | some m => if e n < e m then some n else some m) else kNxt p e n
def kO (o : Option Nat) : Int32 := match o with
  | none => -1
  | some m => nI m
theorem kNxt_lt (p : Nat → Bool) (e : Nat → Int32) : ∀ (n m : Nat), kNxt p e n = some m → m < n ∧ p m = true
  | 0, m, h => nomatch h
  | n + 1, m, h => by
    unfold kNxt at h
    by_cases hp : p n = true
    · rw [if_pos hp] at h
      cases hq : kNxt p e n with
      | none => rw [hq] at h; cases h; exact ⟨by omega, hp⟩
      | some q =>
        rw [hq] at h
        have := kNxt_lt p e n q hq
        by_cases h2 : e n < e q
        · simp [h2] at h; subst h; exact ⟨by omega, hp⟩
        · simp [h2] at h; subst h; exact ⟨by omega, this.2⟩
    · rw [if_neg hp] at h
      have := kNxt_lt p e n m h
      exact ⟨by omega, this.2⟩
/-- a record waits for a sweep, but for some -/
def kWaits (K : Nat → Int32) (but wr : Int32) (i : Nat) : Bool := !decide (wr = -1) && kRec K i && !kHas but (nI i) && !kHas (K (102 + 4 * i)) wr
def kNs (K : Nat → Int32) (n nr : Nat) (but : Int32) : Option Nat := kNxt (kWaits K but (kG (kForced K) n)) (fun i => kEnd K i n) nr
section TW4
variable {w : kt_W} {gr : kt_g × kt_M} {d : Nat} {M : kt_M} {X : String → Nat → kt_M → Prop} {a b : Nat} {K : Nat → Int32} {G : Int32 → kt_M → Prop} {GV : kt_M → Prop}
theorem tw_nextSwept {n nr : Nat} {but : Int32} (hd : 6 ≤ d) (hk : tw_k M a b K) (hn : kNV K n) (hr : kNR K nr) (h : G (kO (kNs K n nr but)) M) : kt_Ca w gr d yX5_nextSwept kc_X5_nextSwept [va_rf (some a), .int but] M (kt_pI G) X := by
  obtain ⟨d, rfl⟩ : ∃ d', d = d' + 1 := ⟨d - 1, by omega⟩
  refine kt_cc (ce_X5_nextSwept ?_)
  have h30 := hn.2
  have hr30 := hr.2
  unfold vc_X5_nextSwept
  refine ⟨hk.1, tw_writing (by omega) hk hn ?_⟩
  unfold kNs at h
  generalize hwr : kG (kForced K) n = wr at h ⊢
  unfold vl_X5_nextSwept_10
  refine ⟨fun k v2 v4 M' => ∃ i, i ≤ nr ∧ k = nr - i ∧ v4 = nI i ∧ v2 = kO (kNxt (kWaits K but wr) (fun i => kEnd K i n) i) ∧ M = M', ⟨nr, 0, by omega, by omega, rfl, rfl, rfl⟩, ?_⟩
  rintro k _ _ _ - ⟨i, hi, rfl, rfl, rfl, rfl⟩
  have no : i < nr → kWaits K but wr i = false → vc_X5_nextSwept_62 w (kt_gx gr, M) d (kt_pI G) X (fun v2' v4' M' => ∃ k', k' < nr - i ∧ ∃ i, i ≤ nr ∧ k' = nr - i ∧ v4' = nI i ∧ v2' = kO (kNxt (kWaits K but wr) (fun i => kEnd K i n) i) ∧ M = M') a but (kO (kNxt (kWaits K but wr) (fun i => kEnd K i n) i)) wr (nI i) M := by
    intro hin hw
    unfold vc_X5_nextSwept_62 vc_X5_nextSwept_63
    refine ⟨fun _ => ⟨nr - (i + 1), by omega, i + 1, by omega, rfl, nI_1 i, ?_, rfl⟩, fun h0 => absurd rfl h0⟩
    simp [kNxt, hw]
  unfold vc_X5_nextSwept_10
  refine ⟨_, hk.2.1, b, rfl, _, tw_el hk (i := 2) (by omega), fun h1 => ⟨_, rfl, ?_⟩, fun h1 => ?_⟩
  · rw [hr.1, nI_leI (by omega) (by omega)] at h1
    obtain rfl : i = nr := by omega
    exact h
  rw [hr.1, nI_leI (by omega) (by omega)] at h1
  have hin : i < nr := by omega
  refine ⟨fun h2 => no hin (by simp [kWaits, h2]), fun h2 => ⟨hk.1, tw_isRecord (by omega) hk hr (by omega) ⟨fun h3 => no hin ?_, fun h3 => tw_has (by omega) ⟨fun h4 => no hin ?_, fun h4 => ⟨hk.1, tw_ofRecord (f := 1) (by omega) hk (by omega) (by omega) (tw_has (by omega) ⟨fun h5 => no hin ?_, fun h5 => ?_⟩)⟩⟩⟩⟩⟩
  · rw [kB_0, decide_eq_true hin, Bool.true_and] at h3
    simp [kWaits, h3]
  · rw [kB_n0] at h4
    simp [kWaits, h4]
  · rw [kB_n0, show 101 + 4 * i + 1 = 102 + 4 * i by omega] at h5
    simp [kWaits, h5]
  · rw [kB_n0, decide_eq_true hin, Bool.true_and] at h3
    rw [kB_0] at h4
    rw [kB_0, show 101 + 4 * i + 1 = 102 + 4 * i by omega] at h5
    have hw : kWaits K but wr i = true := by simp [kWaits, h2, h3, h4, h5]
    unfold vc_X5_nextSwept_63
    refine ⟨fun h0 => absurd h0 (by decide), fun _ => ?_⟩
    cases hq : kNxt (kWaits K but wr) (fun i => kEnd K i n) i with
    | none =>
      refine ⟨fun _ => ⟨nr - (i + 1), by omega, i + 1, by omega, rfl, nI_1 i, ?_, rfl⟩, fun h0 => absurd rfl h0⟩
      simp [kNxt, hw, hq, kO]
    | some q =>
      have hlt := kNxt_lt _ _ _ _ hq
      refine ⟨fun h0 => absurd h0 (kG_n1 (by omega)), fun _ => ⟨hk.1, tw_endOf (by omega) hk hn (by omega) ⟨hk.1, tw_endOf (by omega) hk hn (by omega) ⟨fun h6 => ⟨nr - (i + 1), by omega, i + 1, by omega, rfl, nI_1 i, ?_, rfl⟩, fun h6 => ⟨nr - (i + 1), by omega, i + 1, by omega, rfl, nI_1 i, ?_, rfl⟩⟩⟩⟩⟩
      · have : ¬ kEnd K i n < kEnd K q n := Int32.not_lt.mpr h6
        simp [kNxt, hw, hq, kO, this]
      · have : kEnd K i n < kEnd K q n := Int32.not_le.mp h6
        simp [kNxt, hw, hq, kO, this]
/-- what a client knows of a version: the index of its first hour -/
theorem tw_knownAt {c v : Nat} (hd : 2 ≤ d) (h : G (nI (227 + 71 * c + 2 * v)) M) : kt_Ca w gr d yX5_knownAt kc_X5_knownAt [va_rf (some a), .int (nI c), .int (nI v)] M (kt_pI G) X := by
  obtain ⟨d, rfl⟩ : ∃ d', d = d' + 1 := ⟨d - 1, by omega⟩
  refine kt_cc (ce_X5_knownAt ?_)
  unfold vc_X5_knownAt
  rw [show (6 : Int32) + 2 * nI v = nI (6 + 2 * v) by rw [kt_lit 6, kt_lit 2, nI_mul, nI_add]]
  exact tw_clientAt (by omega) ⟨_, rfl, by rw [show 221 + 71 * c + (6 + 2 * v) = 227 + 71 * c + 2 * v by omega]; exact h⟩
def kUs (K : Nat → Int32) (c v : Nat) : Bool := decide (nI v < K (224 + 71 * c)) && !kHas (K (225 + 71 * c)) (nI v) && kIn (K 0) (K (227 + 71 * c + 2 * v)) (K (228 + 71 * c + 2 * v))
theorem tw_isUsable {c v : Nat} (hd : 3 ≤ d) (hk : tw_k M a b K) (hc : c < 8) (hv : v < 30) (h : G (kB (kUs K c v)) M) : kt_Ca w gr d yX5_isUsable kc_X5_isUsable [va_rf (some a), .int (nI c), .int (nI v)] M (kt_pI G) X := by
  obtain ⟨d, rfl⟩ : ∃ d', d = d' + 1 := ⟨d - 1, by omega⟩
  refine kt_cc (ce_X5_isUsable ?_)
  have at28 : ∀ z : Bool, z = (decide (nI v < K (224 + 71 * c)) && !kHas (K (225 + 71 * c)) (nI v)) → vc_X5_isUsable_28 w (kt_gx gr, M) d (kt_pI G) X a (nI c) (nI v) (kB z) M := by
    intro z hz
    unfold kUs at h
    rw [← hz] at h
    unfold vc_X5_isUsable_28
    refine ⟨fun h1 => ⟨_, rfl, ?_⟩, fun h1 => ⟨hk.1, tw_hour (by omega) hk ⟨_, hk.2.1, hk.1, tw_knownAt (by omega) ⟨b, rfl, _, tw_el hk (by omega), _, hk.2.1, hk.1, tw_knownAt (by omega) ⟨b, rfl, K (228 + 71 * c + 2 * v), ?_, tw_inRange (by omega) ⟨fun h2 => ⟨_, rfl, ?_⟩, fun h2 => ⟨_, rfl, ?_⟩⟩⟩⟩⟩⟩⟩
    · rw [kB_0] at h1
      simpa [h1, kB] using h
    · rw [nI_1, show 227 + 71 * c + 2 * v + 1 = 228 + 71 * c + 2 * v by omega]
      exact tw_el hk (by omega)
    · rw [kB_n0] at h1
      rw [kB_0] at h2
      simpa [h1, h2, kB] using h
    · rw [kB_n0] at h1 h2
      simpa [h1, h2, kB] using h
  unfold vc_X5_isUsable
  refine ⟨hk.1, tw_ofClient (f := 3) (by omega) hk hc (by omega) ⟨fun h1 => ?_, fun h1 => ⟨hk.1, tw_ofClient (f := 4) (by omega) hk hc (by omega) (tw_has (by omega) ⟨fun h2 => ?_, fun h2 => ?_⟩)⟩⟩⟩
  · rw [show 221 + 71 * c + 3 = 224 + 71 * c by omega] at h1
    unfold vc_X5_isUsable_27
    have h3 : ¬ nI v < K (224 + 71 * c) := Int32.not_lt.mpr h1
    exact at28 false (by simp [h3])
  · rw [kB_n0, show 221 + 71 * c + 4 = 225 + 71 * c by omega] at h2
    unfold vc_X5_isUsable_27
    exact at28 false (by simp [h2])
  · rw [kB_0, show 221 + 71 * c + 4 = 225 + 71 * c by omega] at h2
    rw [show 221 + 71 * c + 3 = 224 + 71 * c by omega] at h1
    have h3 : nI v < K (224 + 71 * c) := Int32.not_le.mp h1
    exact at28 true (by simp [h2, h3])
theorem tw_usable {c n : Nat} (hd : 4 ≤ d) (hk : tw_k M a b K) (hn : kNV K n) (hc : c < 8) (h : G (kS (kUs K c) n) M) : kt_Ca w gr d yX5_usable kc_X5_usable [va_rf (some a), .int (nI c)] M (kt_pI G) X := by
  obtain ⟨d, rfl⟩ : ∃ d', d = d' + 1 := ⟨d - 1, by omega⟩
  refine kt_cc (ce_X5_usable ?_)
  unfold vc_X5_usable vl_X5_usable_4
  have h30 := hn.2
  refine ⟨fun k v2 v3 M' => ∃ i, i ≤ n ∧ k = n - i ∧ v3 = nI i ∧ v2 = kS (kUs K c) i ∧ M = M', ⟨n, 0, by omega, by omega, rfl, rfl, rfl⟩, ?_⟩
  rintro k _ _ _ - ⟨i, hi, rfl, rfl, rfl, rfl⟩
  unfold vc_X5_usable_4
  refine ⟨_, hk.2.1, b, rfl, _, tw_el hk (i := 1) (by omega), fun h1 => ⟨_, rfl, ?_⟩, fun h1 => ⟨hk.1, ?_⟩⟩
  · rw [hn.1, nI_leI (by omega) (by omega)] at h1
    obtain rfl : i = n := by omega
    exact h
  · rw [hn.1, nI_leI (by omega) (by omega)] at h1
    refine tw_isUsable (by omega) hk hc (by omega) ⟨fun h2 => ⟨n - (i + 1), by omega, i + 1, by omega, rfl, nI_1 i, ?_, rfl⟩, fun h2 => ⟨n - (i + 1), by omega, i + 1, by omega, rfl, nI_1 i, ?_, rfl⟩⟩
    · rw [kB_0] at h2
      simp [kS, h2]
    · rw [kB_n0] at h2
      simp [kS, h2]
/-- who can read a record -/
def kRd (K : Nat → Int32) (n r c : Nat) : Bool := !decide (kS (kUs K c) n &&& K (102 + 4 * r) = 0)
theorem tw_readers {r n nc : Nat} (hd : 5 ≤ d) (hk : tw_k M a b K) (hn : kNV K n) (hc : kNCl K nc) (hr : r < 30) (h : G (kS (kRd K n r) nc) M) : kt_Ca w gr d yX5_readers kc_X5_readers [va_rf (some a), .int (nI r)] M (kt_pI G) X := by
  obtain ⟨d, rfl⟩ : ∃ d', d = d' + 1 := ⟨d - 1, by omega⟩
  refine kt_cc (ce_X5_readers ?_)
  unfold vc_X5_readers vl_X5_readers_4
  have h8 := hc.2
  refine ⟨fun k v2 v3 M' => ∃ i, i ≤ nc ∧ k = nc - i ∧ v3 = nI i ∧ v2 = kS (kRd K n r) i ∧ M = M', ⟨nc, 0, by omega, by omega, rfl, rfl, rfl⟩, ?_⟩
  rintro k _ _ _ - ⟨i, hi, rfl, rfl, rfl, rfl⟩
  unfold vc_X5_readers_4
  refine ⟨_, hk.2.1, b, rfl, _, tw_el hk (i := 3) (by omega), fun h1 => ⟨_, rfl, ?_⟩, fun h1 => ⟨hk.1, ?_⟩⟩
  · rw [hc.1, nI_leI (by omega) (by omega)] at h1
    obtain rfl : i = nc := by omega
    exact h
  · rw [hc.1, nI_leI (by omega) (by omega)] at h1
    refine tw_usable (by omega) hk hn (by omega) ⟨hk.1, tw_ofRecord (f := 1) (by omega) hk hr (by omega) ⟨fun h2 => ⟨nc - (i + 1), by omega, i + 1, by omega, rfl, nI_1 i, ?_, rfl⟩, fun h2 => ⟨nc - (i + 1), by omega, i + 1, by omega, rfl, nI_1 i, ?_, rfl⟩⟩⟩
    · rw [show 101 + 4 * r + 1 = 102 + 4 * r by omega] at h2
      simp [kS, kRd, h2]
    · rw [show 101 + 4 * r + 1 = 102 + 4 * r by omega] at h2
      simp [kS, kRd, h2]
/-- how many records a client can read -/
def kRbl (K : Nat → Int32) (n c r : Nat) : Bool := kRec K r && kRd K n r c
theorem tw_readableBy {c n nr : Nat} (hd : 5 ≤ d) (hk : tw_k M a b K) (hn : kNV K n) (hr : kNR K nr) (hc : c < 8) (h : G (nI (kC (kRbl K n c) nr)) M) : kt_Ca w gr d yX5_readableBy kc_X5_readableBy [va_rf (some a), .int (nI c)] M (kt_pI G) X := by
  obtain ⟨d, rfl⟩ : ∃ d', d = d' + 1 := ⟨d - 1, by omega⟩
  refine kt_cc (ce_X5_readableBy ?_)
  unfold vc_X5_readableBy
  have h30 := hr.2
  refine ⟨hk.1, tw_usable (by omega) hk hn hc ?_⟩
  unfold vl_X5_readableBy_11
  refine ⟨fun k v3 v4 M' => ∃ i, i ≤ nr ∧ k = nr - i ∧ v4 = nI i ∧ v3 = nI (kC (kRbl K n c) i) ∧ M = M', ⟨nr, 0, by omega, by omega, rfl, rfl, rfl⟩, ?_⟩
  rintro k _ _ _ - ⟨i, hi, rfl, rfl, rfl, rfl⟩
  unfold vc_X5_readableBy_11
  refine ⟨_, hk.2.1, b, rfl, _, tw_el hk (i := 2) (by omega), fun h1 => ⟨_, rfl, ?_⟩, fun h1 => ⟨hk.1, ?_⟩⟩
  · rw [hr.1, nI_leI (by omega) (by omega)] at h1
    obtain rfl : i = nr := by omega
    exact h
  · rw [hr.1, nI_leI (by omega) (by omega)] at h1
    have hin : i < nr := by omega
    have e0 : nI (kC (kRbl K n c) i) + 0 = nI (kC (kRbl K n c) i) := by rw [show (0 : Int32) = nI 0 from rfl, nI_add]; rfl
    refine tw_isRecord (by omega) hk hr (by omega) ⟨fun h2 => ⟨nr - (i + 1), by omega, i + 1, by omega, rfl, nI_1 i, ?_, rfl⟩, fun h2 => ⟨hk.1, tw_ofRecord (f := 1) (by omega) hk (by omega) (by omega) ⟨fun h3 => ⟨nr - (i + 1), by omega, i + 1, by omega, rfl, nI_1 i, ?_, rfl⟩, fun h3 => ⟨nr - (i + 1), by omega, i + 1, by omega, rfl, nI_1 i, ?_, rfl⟩⟩⟩⟩
    · rw [kB_0, decide_eq_true hin, Bool.true_and] at h2
      rw [e0]
      simp [kC, kRbl, h2]
    · rw [show 101 + 4 * i + 1 = 102 + 4 * i by omega] at h3
      rw [e0]
      simp [kC, kRbl, kRd, h3]
    · rw [kB_n0, decide_eq_true hin, Bool.true_and] at h2
      rw [show 101 + 4 * i + 1 = 102 + 4 * i by omega] at h3
      rw [nI_1]
      simp [kC, kRbl, kRd, h2, h3]
end TW4
