set_option maxRecDepth 100000
/-! ===== the reference: sweep, an hour ===== -/
/-- at most bt records wrapped, the first of the least end first -/
def kSw (n nr : Nat) (wr : Int32) : Nat → (Nat → Int32) → (Nat → Int32) × Nat
  | 0, K => (K, 0)
  | bt + 1, K => match kNs K n nr 0 with
    | none => (K, 0)
    | some m => ((kSw n nr wr bt (kOr K m wr)).1, (kSw n nr wr bt (kOr K m wr)).2 + 1)
def kSwp (K : Nat → Int32) (n nr bt : Nat) : Nat → Int32 := upd (kSw n nr (kG (kForced K) n) bt K).1 9 (K 9 + nI (kSw n nr (kG (kForced K) n) bt K).2)
theorem kNs_lt {K : Nat → Int32} {n nr : Nat} {but : Int32} {m : Nat} (h : kNs K n nr but = some m) : m < nr := (kNxt_lt _ _ _ _ h).1
theorem kOr_lo (K : Nat → Int32) (r : Nat) (v : Int32) {j : Nat} (h : j < 101) : kOr K r v j = K j := by
  unfold kOr upd
  rw [if_neg (by omega)]
section TW6
variable {w : kt_W} {gr : kt_g × kt_M} {d : Nat} {M : kt_M} {X : String → Nat → kt_M → Prop} {a b : Nat} {K : Nat → Int32} {G : Int32 → kt_M → Prop} {GV : kt_M → Prop}
theorem tw_sweep {n nr bt : Nat} (hd : 7 ≤ d) (hk : tw_k M a b K) (hw : kt_wr gr M b) (hn : kNV K n) (hr : kNR K nr) (hb : K 7 = nI bt) (hb30 : bt ≤ 30) (h : GV (tw_s M b (kSwp K n nr bt))) : kt_Ca w gr d yX5_sweep kc_X5_sweep [va_rf (some a)] M (kt_pV GV) X := by
  obtain ⟨d, rfl⟩ : ∃ d', d = d' + 1 := ⟨d - 1, by omega⟩
  refine kt_cc (ce_X5_sweep ?_)
  have h30 := hn.2
  have hr30 := hr.2
  unfold vc_X5_sweep
  refine ⟨hk.1, tw_writing (by omega) hk hn ⟨hk.1, tw_nextSwept (by omega) hk hn hr ?_⟩⟩
  unfold kSwp at h
  generalize hwr : kG (kForced K) n = wr at h ⊢
  unfold vl_X5_sweep_13
  refine ⟨fun k v1 v3 M' => ∃ (Kc : Nat → Int32) (q : Nat), q ≤ bt ∧ k = bt - q ∧ v1 = nI q ∧ v3 = kO (kNs Kc n nr 0) ∧ M' = tw_s M b Kc ∧ (∀ j, j < 101 → Kc j = K j) ∧ kSw n nr wr bt K = ((kSw n nr wr (bt - q) Kc).1, (kSw n nr wr (bt - q) Kc).2 + q), ⟨bt, K, 0, by omega, by omega, rfl, rfl, (tw_s_id hk).symm, fun j hj => rfl, rfl⟩, ?_⟩
  rintro k _ _ _ - ⟨Kc, q, hq, rfl, rfl, rfl, rfl, hlo, heq⟩
  have hk1 := tw_k_s hk Kc
  have hn1 : kNV Kc n := ⟨by rw [hlo 1 (by omega)]; exact hn.1, hn.2⟩
  have hr1 : kNR Kc nr := ⟨by rw [hlo 2 (by omega)]; exact hr.1, hr.2⟩
  have last : (kSw n nr wr (bt - q) Kc) = (Kc, 0) → vc_X5_sweep_47 w (kt_gx gr, M) d (kt_pV GV) X a (nI q) (tw_s M b Kc) := by
    intro he
    unfold vc_X5_sweep_47
    refine ⟨_, hk1.2.1, b, rfl, _, tw_el hk1 (i := 9) (by omega), tw_hi hk1 (tw_wr hk hw) (i := 9) (by omega), ?_⟩
    rintro _ rfl
    refine ⟨rfl, ?_⟩
    rw [show ∀ v, kt_si _ b (9 : Int32) v = _ from fun v => tw_si hk1 (i := 9) (by omega) v, tw_s_s, hlo 9 (by omega)]
    rw [heq, he] at h
    rw [show (0 : Nat) + q = q by omega] at h
    exact h
  unfold vc_X5_sweep_13
  cases hns : kNs Kc n nr 0 with
  | none =>
    refine ⟨fun _ => last ?_, fun h0 => absurd rfl h0⟩
    cases hz : bt - q with
    | zero => rfl
    | succ z => simp [kSw, hns]
  | some m =>
    have hm := kNs_lt hns
    refine ⟨fun h0 => absurd h0 (kG_n1 (by omega)), fun _ => ⟨_, hk1.2.1, b, rfl, _, tw_el hk1 (i := 7) (by omega), fun h1 => last ?_, fun h1 => ⟨hk1.1, tw_wrap (by omega) hk1 (tw_wr hk hw) (by omega) ?_⟩⟩⟩
    · rw [hlo 7 (by omega), hb, nI_leI (by omega) (by omega)] at h1
      rw [show bt - q = 0 by omega]; rfl
    · rw [hlo 7 (by omega), hb, nI_leI (by omega) (by omega)] at h1
      rw [tw_s_s]
      have hk2 := tw_k_s hk (kOr Kc m wr)
      have hlo2 : ∀ j, j < 101 → kOr Kc m wr j = K j := fun j hj => by rw [kOr_lo _ _ _ hj, hlo j hj]
      have hn2 : kNV (kOr Kc m wr) n := ⟨by rw [hlo2 1 (by omega)]; exact hn.1, hn.2⟩
      have hr2 : kNR (kOr Kc m wr) nr := ⟨by rw [hlo2 2 (by omega)]; exact hr.1, hr.2⟩
      refine ⟨hk2.1, tw_nextSwept (by omega) hk2 hn2 hr2 ⟨bt - (q + 1), by omega, kOr Kc m wr, q + 1, by omega, rfl, nI_1 q, rfl, rfl, hlo2, ?_⟩⟩
      rw [heq, show bt - q = (bt - (q + 1)) + 1 by omega]
      simp only [kSw, hns]
      rw [Nat.add_right_comm, Nat.add_assoc]
/-- whether a version must be issued; its first hour -/
def kFst (K : Nat → Int32) (n : Nat) : Int32 := kMax (K 0) (K (8 + 3 * n) + K 4)
def kDue (K : Nat → Int32) (n : Nat) : Bool := decide (n < 30) && decide (K (8 + 3 * n) + K 4 - K 6 ≤ K 0) && decide (kFst K n ≤ 9999)
theorem tw_firstOfNext {n : Nat} (hd : 3 ≤ d) (hk : tw_k M a b K) (hn : kNV K n) (h : G (kFst K n) M) : kt_Ca w gr d yX5_firstOfNext kc_X5_firstOfNext [va_rf (some a)] M (kt_pI G) X := by
  obtain ⟨d, rfl⟩ : ∃ d', d = d' + 1 := ⟨d - 1, by omega⟩
  refine kt_cc (ce_X5_firstOfNext ?_)
  have h30 := hn.2
  obtain ⟨m, rfl⟩ : ∃ m, n = m + 1 := ⟨n - 1, by omega⟩
  unfold vc_X5_firstOfNext
  refine ⟨hk.1, tw_hour (by omega) hk ⟨_, hk.2.1, b, rfl, _, tw_el hk (i := 1) (by omega), hk.1, ?_⟩⟩
  rw [hn.1, nI_pred]
  refine tw_ofVersion (f := 0) (by omega) hk (by omega) (by omega) ⟨_, hk.2.1, b, rfl, _, tw_el hk (i := 4) (by omega), ct_max (by omega) ⟨_, rfl, ?_⟩⟩
  unfold kFst at h
  rw [show 8 + 3 * (m + 1) = 11 + 3 * m + 0 by omega] at h
  exact h
theorem tw_mustIssue {n : Nat} (hd : 4 ≤ d) (hk : tw_k M a b K) (hn : kNV K n) (h : G (kB (kDue K n)) M) : kt_Ca w gr d yX5_mustIssue kc_X5_mustIssue [va_rf (some a)] M (kt_pI G) X := by
  obtain ⟨d, rfl⟩ : ∃ d', d = d' + 1 := ⟨d - 1, by omega⟩
  refine kt_cc (ce_X5_mustIssue ?_)
  have h30 := hn.2
  have at42 : ∀ z : Bool, z = decide (K (8 + 3 * n) + K 4 - K 6 ≤ K 0) → vc_X5_mustIssue_42 w (kt_gx gr, M) d (kt_pI G) X a (kB z) M := by
    intro z hz
    unfold kDue at h
    rw [← hz] at h
    unfold vc_X5_mustIssue_42
    refine ⟨_, hk.2.1, b, rfl, _, tw_el hk (i := 1) (by omega), fun h1 => ⟨_, rfl, ?_⟩, fun h1 => ⟨fun h2 => ⟨_, rfl, ?_⟩, fun h2 => ⟨hk.1, tw_firstOfNext (by omega) hk hn ⟨fun h3 => ⟨_, rfl, ?_⟩, fun h3 => ⟨_, rfl, ?_⟩⟩⟩⟩⟩
    · rw [hn.1, show (30 : Int32) = nI 30 from rfl, nI_leI (by omega) (by omega)] at h1
      have : ¬ n < 30 := by omega
      simpa [this, kB] using h
    · rw [kB_0] at h2
      simpa [h2, kB] using h
    · have : ¬ kFst K n ≤ 9999 := Int32.not_le.mpr h3
      simpa [this, kB] using h
    · rw [hn.1, show (30 : Int32) = nI 30 from rfl, nI_leI (by omega) (by omega)] at h1
      rw [kB_n0] at h2
      have h4 : kFst K n ≤ 9999 := Int32.not_lt.mp h3
      have h5 : n < 30 := by omega
      simpa [h2, h4, h5, kB] using h
  obtain ⟨m, rfl⟩ : ∃ m, n = m + 1 := ⟨n - 1, by omega⟩
  unfold vc_X5_mustIssue
  refine ⟨_, hk.2.1, b, rfl, _, tw_el hk (i := 1) (by omega), hk.1, ?_⟩
  rw [hn.1, nI_pred]
  refine tw_ofVersion (f := 0) (by omega) hk (by omega) (by omega) ⟨_, hk.2.1, b, rfl, _, tw_el hk (i := 4) (by omega), _, hk.2.1, b, rfl, _, tw_el hk (i := 6) (by omega), hk.1, tw_hour (by omega) hk ?_⟩
  rw [show 11 + 3 * m + 0 = 8 + 3 * (m + 1) by omega]
  refine ⟨fun h1 => at42 false ?_, fun h1 => at42 true ?_⟩
  · have : ¬ K (8 + 3 * (m + 1)) + K 4 - K 6 ≤ K 0 := Int32.not_le.mpr h1
    exact (decide_eq_false this).symm
  · have : K (8 + 3 * (m + 1)) + K 4 - K 6 ≤ K 0 := Int32.not_lt.mp h1
    exact (decide_eq_true this).symm
end TW6
