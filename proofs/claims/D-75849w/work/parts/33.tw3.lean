set_option maxRecDepth 100000
/-! ===== the reference: clean ===== -/
theorem kG_congr {p q : Nat → Bool} : ∀ {n : Nat}, (∀ v, v < n → p v = q v) → kG p n = kG q n
  | 0, _ => rfl
  | n + 1, h => by
    unfold kG
    rw [h n (by omega), kG_congr fun v hv => h v (by omega)]
theorem kForced_congr {K K' : Nat → Int32} (h : ∀ j, j < 101 → K' j = K j) {v : Nat} (hv : v < 30) : kForced K' v = kForced K v := by
  unfold kForced kGone
  rw [h 0 (by omega), h (11 + 3 * v) (by omega), h (12 + 3 * v) (by omega), h (13 + 3 * v) (by omega)]
def kStale (K : Nat → Int32) (v : Nat) : Bool := kGone K v || decide (K (12 + 3 * v) < K 0)
def kHit (K : Nat → Int32) (st fo : Int32) (i : Nat) : Bool := kRec K i && !decide (fo = 0) && decide ((K (102 + 4 * i) &&& (st ^^^ -1)) &&& fo = 0)
def kCl (K : Nat → Int32) (st fo wr : Int32) (i : Nat) : Nat → Int32 := fun j =>
  if 101 ≤ j ∧ j < 101 + 4 * i then
    (if (j - 101) % 4 = 1 then (if kHit K st fo ((j - 101) / 4) then (K j &&& (st ^^^ -1)) ||| ((1 : Int32) <<< (wr &&& 31)) else K j &&& (st ^^^ -1))
     else if (j - 101) % 4 = 2 ∧ kHit K st fo ((j - 101) / 4) = true then K j + 1 else K j)
  else K j
theorem kCl_0 (K : Nat → Int32) (st fo wr : Int32) : kCl K st fo wr 0 = K := by
  funext j
  unfold kCl
  rw [if_neg (by omega)]
theorem kCl_lo (K : Nat → Int32) (st fo wr : Int32) (i : Nat) {j : Nat} (h : j < 101) : kCl K st fo wr i j = K j := by
  unfold kCl
  rw [if_neg (by omega)]
theorem kCl_hi (K : Nat → Int32) (st fo wr : Int32) (i : Nat) {j : Nat} (h : 101 + 4 * i ≤ j) : kCl K st fo wr i j = K j := by
  unfold kCl
  rw [if_neg (by omega)]
theorem kCl_no {K : Nat → Int32} {st fo wr : Int32} {i : Nat} (h : kHit K st fo i = false) : upd (kCl K st fo wr i) (102 + 4 * i) (K (102 + 4 * i) &&& (st ^^^ -1)) = kCl K st fo wr (i + 1) := by
  funext j
  unfold upd
  by_cases h1 : j = 102 + 4 * i
  · subst h1
    rw [if_pos rfl]
    unfold kCl
    rw [if_pos (by omega), if_pos (by omega), show (102 + 4 * i - 101) / 4 = i by omega, h, if_neg (by decide)]
  · rw [if_neg h1]
    by_cases h2 : 101 + 4 * i ≤ j
    · rw [kCl_hi _ _ _ _ _ h2]
      unfold kCl
      by_cases h3 : j < 101 + 4 * (i + 1)
      · rw [if_pos (by omega), if_neg (by omega)]
        rw [if_neg]
        rintro ⟨h4, h5⟩
        rw [show (j - 101) / 4 = i by omega, h] at h5
        cases h5
      · rw [if_neg (by omega)]
    · unfold kCl
      by_cases h3 : 101 ≤ j
      · rw [if_pos (show 101 ≤ j ∧ j < 101 + 4 * i by omega), if_pos (show 101 ≤ j ∧ j < 101 + 4 * (i + 1) by omega)]
      · rw [if_neg (by omega), if_neg (by omega)]
theorem kCl_hit {K : Nat → Int32} {st fo wr : Int32} {i : Nat} (h : kHit K st fo i = true) : upd (upd (kCl K st fo wr i) (102 + 4 * i) ((K (102 + 4 * i) &&& (st ^^^ -1)) ||| ((1 : Int32) <<< (wr &&& 31)))) (103 + 4 * i) (K (103 + 4 * i) + 1) = kCl K st fo wr (i + 1) := by
  funext j
  unfold upd
  by_cases h0 : j = 103 + 4 * i
  · subst h0
    rw [if_pos rfl]
    unfold kCl
    rw [if_pos (by omega), if_neg (by omega), if_pos ⟨by omega, by rw [show (103 + 4 * i - 101) / 4 = i by omega]; exact h⟩]
  rw [if_neg h0]
  by_cases h1 : j = 102 + 4 * i
  · subst h1
    rw [if_pos rfl]
    unfold kCl
    rw [if_pos (by omega), if_pos (by omega), show (102 + 4 * i - 101) / 4 = i by omega, h, if_pos rfl]
  · rw [if_neg h1]
    by_cases h2 : 101 + 4 * i ≤ j
    · rw [kCl_hi _ _ _ _ _ h2]
      unfold kCl
      by_cases h3 : j < 101 + 4 * (i + 1)
      · rw [if_pos (by omega), if_neg (by omega), if_neg (by omega)]
      · rw [if_neg (by omega)]
    · unfold kCl
      by_cases h3 : 101 ≤ j
      · rw [if_pos (show 101 ≤ j ∧ j < 101 + 4 * i by omega), if_pos (show 101 ≤ j ∧ j < 101 + 4 * (i + 1) by omega)]
      · rw [if_neg (by omega), if_neg (by omega)]
/-- what cleaning leaves, and how many records it wrapped by force -/
def kClN (K : Nat → Int32) (n nr : Nat) : Nat := kC (kHit K (kS (kStale K) n) (kS (kForced K) n)) nr
def kClK (K : Nat → Int32) (n nr : Nat) : Nat → Int32 := upd (kCl K (kS (kStale K) n) (kS (kForced K) n) (kG (kForced K) n) nr) 8 (K 8 + nI (kClN K n nr))
section TW3
variable {w : kt_W} {gr : kt_g × kt_M} {d : Nat} {M : kt_M} {X : String → Nat → kt_M → Prop} {a b : Nat} {K : Nat → Int32} {G : Int32 → kt_M → Prop} {GV : kt_M → Prop}
theorem tw_clean {n nr : Nat} (hd : 6 ≤ d) (hk : tw_k M a b K) (hw : kt_wr gr M b) (hn : kNV K n) (hr : kNR K nr) (h : G (nI (kClN K n nr)) (tw_s M b (kClK K n nr))) : kt_Ca w gr d yX5_clean kc_X5_clean [va_rf (some a)] M (kt_pI G) X := by
  obtain ⟨d, rfl⟩ : ∃ d', d = d' + 1 := ⟨d - 1, by omega⟩
  refine kt_cc (ce_X5_clean ?_)
  have h30 := hn.2
  have hr30 := hr.2
  unfold vc_X5_clean vl_X5_clean_6
  refine ⟨fun k v1 v2 v3 M' => ∃ i, i ≤ n ∧ k = n - i ∧ v3 = nI i ∧ v1 = kS (kStale K) i ∧ v2 = kS (kForced K) i ∧ M = M', ⟨n, 0, by omega, by omega, rfl, rfl, rfl, rfl⟩, ?_⟩
  rintro k _ _ _ _ - ⟨i, hi, rfl, rfl, rfl, rfl, rfl⟩
  have at45 : ∀ z : Int32, i < n → kS (kStale K) i ||| z = kS (kStale K) (i + 1) → vc_X5_clean_45 w (kt_gx gr, M) d (kt_pI G) X (fun v1' v2' v3' M' => ∃ k', k' < n - i ∧ ∃ i, i ≤ n ∧ k' = n - i ∧ v3' = nI i ∧ v1' = kS (kStale K) i ∧ v2' = kS (kForced K) i ∧ M = M') a (kS (kForced K) i) (nI i) z (kS (kStale K) i) M := by
    intro z hin hz
    unfold vc_X5_clean_45
    refine ⟨hk.1, tw_isForced (by omega) hk (by omega) ⟨fun h1 => ⟨n - (i + 1), by omega, i + 1, by omega, rfl, nI_1 i, hz, ?_, rfl⟩, fun h1 => ⟨n - (i + 1), by omega, i + 1, by omega, rfl, nI_1 i, hz, ?_, rfl⟩⟩⟩
    · rw [kB_0] at h1
      simp [kS, h1]
    · rw [kB_n0] at h1
      simp [kS, h1]
  unfold vc_X5_clean_6
  refine ⟨_, hk.2.1, b, rfl, _, tw_el hk (i := 1) (by omega), fun h1 => ?_, fun h1 => ⟨hk.1, ?_⟩⟩
  · rw [hn.1, nI_leI (by omega) (by omega)] at h1
    obtain rfl : i = n := by omega
    clear at45
    generalize hst : kS (kStale K) i = st
    generalize hfo : kS (kForced K) i = fo
    generalize hwr : kG (kForced K) i = wr
    unfold vl_X5_clean_76
    refine ⟨fun k v3 v4 M' => ∃ q, q ≤ nr ∧ k = nr - q ∧ v4 = nI q ∧ v3 = nI (kC (kHit K st fo) q) ∧ M' = tw_s M b (kCl K st fo wr q), ⟨nr, 0, by omega, by omega, rfl, rfl, by rw [kCl_0, tw_s_id hk]⟩, ?_⟩
    rintro k _ _ _ - ⟨q, hq, rfl, rfl, rfl, rfl⟩
    have hk1 := tw_k_s hk (kCl K st fo wr q)
    unfold vc_X5_clean_76
    refine ⟨_, hk1.2.1, b, rfl, _, tw_el hk1 (i := 2) (by omega), fun h2 => ?_, fun h2 => ?_⟩
    · rw [kCl_lo _ _ _ _ _ (by omega), hr.1, nI_leI (by omega) (by omega)] at h2
      obtain rfl : q = nr := by omega
      refine ⟨_, hk1.2.1, b, rfl, _, tw_el hk1 (i := 8) (by omega), tw_hi hk1 (tw_wr hk hw) (i := 8) (by omega), ?_⟩
      rintro _ rfl
      refine ⟨_, rfl, ?_⟩
      rw [show ∀ v, kt_si _ b (8 : Int32) v = _ from fun v => tw_si hk1 (i := 8) (by omega) v, tw_s_s, kCl_lo _ _ _ _ _ (by omega : 8 < 101)]
      unfold kClK kClN at h
      rw [hst, hfo, hwr] at h
      exact h
    · rw [kCl_lo _ _ _ _ _ (by omega), hr.1, nI_leI (by omega) (by omega)] at h2
      refine ⟨_, hk1.2.1, tw_recordAt (f := 1) (by omega) ⟨b, rfl, _, tw_el hk1 (by omega), tw_hi hk1 (tw_wr hk hw) (by omega), ?_⟩⟩
      rintro _ rfl
      rw [tw_si hk1 (by omega), tw_s_s, show 101 + 4 * q + 1 = 102 + 4 * q by omega, kCl_hi _ _ _ _ _ (by omega : 101 + 4 * q ≤ 102 + 4 * q)]
      generalize hK1 : upd (kCl K st fo wr q) (102 + 4 * q) (K (102 + 4 * q) &&& (st ^^^ -1)) = K1
      have hlo : ∀ j, j < 101 → K1 j = K j := fun j hj => by rw [← hK1]; unfold upd; rw [if_neg (by omega), kCl_lo _ _ _ _ _ hj]
      have hk2 := tw_k_s hk K1
      have hn2 : kNV K1 i := ⟨by rw [hlo 1 (by omega)]; exact hn.1, hn.2⟩
      have hr2 : kNR K1 nr := ⟨by rw [hlo 2 (by omega)]; exact hr.1, hr.2⟩
      have hrec : kRec K1 q = kRec K q := by
        unfold kRec
        rw [← hK1]; unfold upd; rw [if_neg (by omega), kCl_hi _ _ _ _ _ (by omega)]
      have hwp : K1 (102 + 4 * q) = K (102 + 4 * q) &&& (st ^^^ -1) := by rw [← hK1]; unfold upd; rw [if_pos rfl]
      have go : kHit K st fo q = false → ∃ k', k' < nr - q ∧ ∃ q', q' ≤ nr ∧ k' = nr - q' ∧ nI q + 1 = nI q' ∧ nI (kC (kHit K st fo) q) = nI (kC (kHit K st fo) q') ∧ tw_s M b K1 = tw_s M b (kCl K st fo wr q') := fun hh =>
        ⟨nr - (q + 1), by omega, q + 1, by omega, rfl, nI_1 q, by rw [show kC (kHit K st fo) (q + 1) = kC (kHit K st fo) q by simp [kC, hh]], by rw [← hK1, kCl_no hh]⟩
      refine ⟨hk2.1, tw_isRecord (by omega) hk2 hr2 (by omega) ⟨fun h3 => go ?_, fun h3 => ⟨fun h4 => go ?_, fun h4 => ⟨hk2.1, tw_ofRecord (f := 1) (by omega) hk2 (by omega) (by omega) ⟨fun h5 => go ?_, fun h5 => ⟨hk2.1, ?_⟩⟩⟩⟩⟩⟩
      · rw [kB_0, decide_eq_true (by omega : q < nr), Bool.true_and, hrec] at h3
        unfold kHit
        rw [h3]; rfl
      · unfold kHit
        rw [decide_eq_true h4]; simp
      · rw [show 101 + 4 * q + 1 = 102 + 4 * q by omega, hwp] at h5
        unfold kHit
        rw [decide_eq_false h5]; simp
      · rw [kB_n0, decide_eq_true (by omega : q < nr), Bool.true_and, hrec] at h3
        rw [show 101 + 4 * q + 1 = 102 + 4 * q by omega, hwp] at h5
        have hh : kHit K st fo q = true := by
          unfold kHit
          rw [h3, decide_eq_false h4, decide_eq_true h5]; rfl
        refine tw_writing (by omega) hk2 hn2 ⟨hk2.1, tw_wrap (by omega) hk2 (tw_wr hk hw) (by omega) ?_⟩
        rw [tw_s_s, kG_congr (fun v hv => kForced_congr hlo (by omega)), hwr]
        unfold kOr
        rw [hwp]
        have hk3 := tw_k_s hk (upd K1 (102 + 4 * q) ((K (102 + 4 * q) &&& (st ^^^ -1)) ||| ((1 : Int32) <<< (wr &&& 31))))
        refine ⟨_, hk3.2.1, tw_recordAt (f := 2) (by omega) ⟨b, rfl, _, tw_el hk3 (by omega), tw_hi hk3 (tw_wr hk hw) (by omega), ?_⟩⟩
        rintro _ rfl
        refine ⟨nr - (q + 1), by omega, q + 1, by omega, rfl, nI_1 q, ?_, ?_⟩
        · rw [show kC (kHit K st fo) (q + 1) = kC (kHit K st fo) q + 1 by simp [kC, hh]]
          exact nI_1 _
        · rw [tw_si hk3 (by omega), tw_s_s, show 101 + 4 * q + 2 = 103 + 4 * q by omega, ← kCl_hit hh, ← hK1]
          congr 1
          funext j
          unfold upd
          by_cases j1 : j = 103 + 4 * q
          · rw [if_pos j1, if_pos j1, if_neg (by omega), if_neg (by omega), kCl_hi _ _ _ _ _ (by omega)]
          · rw [if_neg j1, if_neg j1]
            by_cases j2 : j = 102 + 4 * q
            · rw [if_pos j2, if_pos j2]
            · rw [if_neg j2, if_neg j2, if_neg j2]
  · rw [hn.1, nI_leI (by omega) (by omega)] at h1
    have hin : i < n := by omega
    refine tw_isGone (by omega) hk (by omega) ⟨fun h2 => ?_, fun h2 => ⟨hk.1, tw_ofVersion (f := 1) (by omega) hk (by omega) (by omega) ⟨hk.1, tw_hour (by omega) hk ⟨fun h3 => ?_, fun h3 => ?_⟩⟩⟩⟩
    · rw [kB_n0] at h2
      unfold vc_X5_clean_38
      refine at45 _ hin ?_
      simp [kS, kStale, h2]
    · rw [kB_0] at h2
      rw [show 11 + 3 * i + 1 = 12 + 3 * i by omega] at h3
      have h4 : ¬ K (12 + 3 * i) < K 0 := Int32.not_lt.mpr h3
      refine at45 _ hin ?_
      simp [kS, kStale, h2, h4]
    · rw [kB_0] at h2
      rw [show 11 + 3 * i + 1 = 12 + 3 * i by omega] at h3
      have h4 : K (12 + 3 * i) < K 0 := Int32.not_le.mp h3
      unfold vc_X5_clean_38
      refine at45 _ hin ?_
      simp [kS, kStale, h2, h4]
end TW3
