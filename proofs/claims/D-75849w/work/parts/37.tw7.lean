set_option maxRecDepth 100000
/-! ===== the reference: an hour passes ===== -/
theorem kIss_at {K : Nat → Int32} {n : Nat} {first : Int32} {j : Nat} (hn : n < 30) (h : (j < 11 ∧ j ≠ 1) ∨ 101 ≤ j) : kIss K n first j = K j := by
  unfold kIss upd kIs1
  rw [if_neg (by omega), if_neg (by omega), if_neg (by omega), if_neg (by omega), if_neg (by omega)]
theorem kClK_at {K : Nat → Int32} {n nr j : Nat} (hr : nr ≤ 30) (h : (j < 101 ∧ j ≠ 8) ∨ 221 ≤ j) : kClK K n nr j = K j := by
  unfold kClK upd
  rw [if_neg (by omega)]
  rcases h with h | h
  · exact kCl_lo _ _ _ _ _ h.1
  · exact kCl_hi _ _ _ _ _ (by omega)
theorem kSw_at {n nr : Nat} {wr : Int32} {j : Nat} (hr : nr ≤ 30) (h : j < 101 ∨ 221 ≤ j) : ∀ (bt : Nat) (K : Nat → Int32), (kSw n nr wr bt K).1 j = K j
  | 0, K => rfl
  | bt + 1, K => by
    unfold kSw
    cases hq : kNs K n nr 0 with
    | none => rfl
    | some m =>
      have hm := kNs_lt hq
      show (kSw n nr wr bt (kOr K m wr)).1 j = K j
      rw [kSw_at hr h bt]
      unfold kOr upd
      rw [if_neg (by omega)]
theorem kSwp_at {K : Nat → Int32} {n nr bt j : Nat} (hr : nr ≤ 30) (h : (j < 101 ∧ j ≠ 9) ∨ 221 ≤ j) : kSwp K n nr bt j = K j := by
  unfold kSwp upd
  rw [if_neg (by omega)]
  exact kSw_at hr (by omega) bt K
theorem kLearn_at {K : Nat → Int32} {n c j : Nat} (hn : n ≤ 30) (h : j < 223 + 71 * c ∨ 292 + 71 * c ≤ j) : kLearn K n c j = K j := by
  unfold kLearn upd kLn1
  rw [if_neg (by omega), if_neg (by omega), if_neg (by omega), if_neg (by omega)]
/-- the clients below c that ask at this hour have learned -/
def kAsk (K : Nat → Int32) (c : Nat) : Bool := decide (K 0 - K 0 / K (221 + 71 * c) * K (221 + 71 * c) = K (222 + 71 * c))
def kLs (K : Nat → Int32) (n : Nat) : Nat → Nat → Int32
  | 0 => K
  | c + 1 => if kAsk K c then kLearn (kLs K n c) n c else kLs K n c
theorem kLs_at {K : Nat → Int32} {n j : Nat} (hn : n ≤ 30) : ∀ {c : Nat}, (j < 221 ∨ 221 + 71 * c ≤ j) → kLs K n c j = K j
  | 0, _ => rfl
  | c + 1, h => by
    unfold kLs
    have := kLs_at (K := K) (n := n) (j := j) hn (c := c) (by omega)
    split
    · rw [kLearn_at hn (by omega), this]
    · exact this
/-- who could read what, kept -/
def kSe (K : Nat → Int32) (n nr nc h i : Nat) : Nat → Int32 := fun j => if 789 + 30 * (h % 48) ≤ j ∧ j < 789 + 30 * (h % 48) + i then (if decide (j - (789 + 30 * (h % 48)) < nr) && kRec K (j - (789 + 30 * (h % 48))) then kS (kRd K n (j - (789 + 30 * (h % 48)))) nc else -1) else K j
theorem kSe_0 (K : Nat → Int32) (n nr nc h : Nat) : kSe K n nr nc h 0 = K := by
  funext j
  unfold kSe
  rw [if_neg (by omega)]
theorem kSe_lo (K : Nat → Int32) (n nr nc h i : Nat) {j : Nat} (hj : j < 789) : kSe K n nr nc h i j = K j := by
  unfold kSe
  rw [if_neg (by omega)]
theorem kSe_s (K : Nat → Int32) (n nr nc h i : Nat) : upd (kSe K n nr nc h i) (789 + 30 * (h % 48) + i) (if decide (i < nr) && kRec K i then kS (kRd K n i) nc else -1) = kSe K n nr nc h (i + 1) := by
  funext j
  unfold upd
  by_cases h1 : j = 789 + 30 * (h % 48) + i
  · subst h1
    rw [if_pos rfl]
    unfold kSe
    rw [if_pos (show 789 + 30 * (h % 48) ≤ 789 + 30 * (h % 48) + i ∧ 789 + 30 * (h % 48) + i < 789 + 30 * (h % 48) + (i + 1) by omega), show 789 + 30 * (h % 48) + i - (789 + 30 * (h % 48)) = i by omega]
  · rw [if_neg h1]
    unfold kSe
    by_cases h2 : 789 + 30 * (h % 48) ≤ j ∧ j < 789 + 30 * (h % 48) + i
    · rw [if_pos h2, if_pos (show 789 + 30 * (h % 48) ≤ j ∧ j < 789 + 30 * (h % 48) + (i + 1) by omega)]
    · rw [if_neg h2, if_neg (by omega)]
theorem kS_congr {p q : Nat → Bool} : ∀ {n : Nat}, (∀ v, v < n → p v = q v) → kS p n = kS q n
  | 0, _ => rfl
  | n + 1, h => by
    unfold kS
    rw [h n (by omega), kS_congr fun v hv => h v (by omega)]
theorem kUs_congr {K K' : Nat → Int32} (h : ∀ j, j < 789 → K' j = K j) {c v : Nat} (hc : c < 8) (hv : v < 30) : kUs K' c v = kUs K c v := by
  unfold kUs
  rw [h 0 (by omega), h (224 + 71 * c) (by omega), h (225 + 71 * c) (by omega), h (227 + 71 * c + 2 * v) (by omega), h (228 + 71 * c + 2 * v) (by omega)]
theorem kRd_congr {K K' : Nat → Int32} (h : ∀ j, j < 789 → K' j = K j) {n r c : Nat} (hn : n ≤ 30) (hc : c < 8) (hr : r < 30) : kRd K' n r c = kRd K n r c := by
  unfold kRd
  rw [h (102 + 4 * r) (by omega), kS_congr fun v hv => kUs_congr h hc (by omega)]
/-- an hour: the versions' number behind it, the keys, how many records were wrapped by force -/
def kPn (K : Nat → Int32) (n : Nat) : Nat := if kDue (upd K 0 (K 0 + 1)) n then n + 1 else n
def kP2 (K : Nat → Int32) (n : Nat) : Nat → Int32 := if kDue (upd K 0 (K 0 + 1)) n then kIss (upd K 0 (K 0 + 1)) n (kFst (upd K 0 (K 0 + 1)) n) else upd K 0 (K 0 + 1)
def kP5 (K : Nat → Int32) (n nr nc bt : Nat) : Nat → Int32 := kLs (kSwp (kClK (kP2 K n) (kPn K n) nr) (kPn K n) nr bt) (kPn K n) nc
def kP (K : Nat → Int32) (n nr nc bt h : Nat) : Nat → Int32 := upd (kSe (kP5 K n nr nc bt) (kPn K n) nr nc (h + 1) 30) 10 (kMin 48 (K 10 + 1))
section TW7
variable {w : kt_W} {gr : kt_g × kt_M} {d : Nat} {M : kt_M} {X : String → Nat → kt_M → Prop} {a b : Nat} {K : Nat → Int32} {G : Int32 → kt_M → Prop} {GV : kt_M → Prop}
theorem tw_seenAt {h r : Nat} (hd : 1 ≤ d) (hh : h < 2 ^ 31) (hG : G (nI (789 + 30 * (h % 48) + r)) M) : kt_Ca w gr d yX5_seenAt kc_X5_seenAt [.int (nI h), .int (nI r)] M (kt_pI G) X := by
  obtain ⟨d, rfl⟩ : ∃ d', d = d' + 1 := ⟨d - 1, by omega⟩
  refine kt_cc (ce_X5_seenAt ?_)
  unfold vc_X5_seenAt
  refine ⟨by decide, _, rfl, ?_⟩
  rw [show (48 : Int32) = nI 48 from rfl, pk_rem hh (by omega) (by omega), show (30 : Int32) = nI 30 from rfl, nI_mul, show (789 : Int32) = nI 789 from rfl, nI_add, nI_add]
  exact hG
/-- the clients ask, the row is kept -/
theorem tw_hourTail {n nr nc h bt : Nat} {z : Int32} {K4 : Nat → Int32} (hd : 6 ≤ d) (hk0 : tw_k M a b K) (hw : kt_wr gr M b) (h0 : K4 0 = nI h) (hh : h < 2 ^ 31) (hn : kNV K4 n) (hr : kNR K4 nr) (hc : kNCl K4 nc) (hp : ∀ c, c < nc → ¬ K4 (221 + 71 * c) = 0)
    (hG : G z (tw_s M b (upd (kSe (kLs K4 n nc) n nr nc h 30) 10 (kMin 48 (K4 10 + 1))))) : vl_X5_passHour_48 w (kt_gx gr, M) d (kt_pI G) X a z (nI 0) (tw_s M b K4) := by
  have h30 := hn.2
  have hr30 := hr.2
  have hc8 := hc.2
  unfold vl_X5_passHour_48
  refine ⟨fun k v2 M' => ∃ c, c ≤ nc ∧ k = nc - c ∧ v2 = nI c ∧ M' = tw_s M b (kLs K4 n c), ⟨nc, 0, by omega, by omega, rfl, rfl⟩, ?_⟩
  rintro k _ _ - ⟨c, hcn, rfl, rfl, rfl⟩
  have hk1 := tw_k_s hk0 (kLs K4 n c)
  have hat : ∀ j, j < 221 ∨ 221 + 71 * c ≤ j → kLs K4 n c j = K4 j := fun j hj => kLs_at (by omega) hj
  unfold vc_X5_passHour_48
  refine ⟨_, hk1.2.1, b, rfl, _, tw_el hk1 (i := 3) (by omega), fun h1 => ?_, fun h1 => ⟨hk1.1, tw_hour (by omega) hk1 ⟨hk1.1, ?_⟩⟩⟩
  · rw [hat 3 (by omega), hc.1, nI_leI (by omega) (by omega)] at h1
    obtain rfl : c = nc := by omega
    generalize hK5 : kLs K4 n c = K5 at hG hat hk1 ⊢
    have hn5 : kNV K5 n := ⟨by rw [hat 1 (by omega)]; exact hn.1, hn.2⟩
    have hr5 : kNR K5 nr := ⟨by rw [hat 2 (by omega)]; exact hr.1, hr.2⟩
    have hc5 : kNCl K5 c := ⟨by rw [hat 3 (by omega)]; exact hc.1, hc.2⟩
    unfold vl_X5_passHour_92
    refine ⟨fun k v2 M' => ∃ i, i ≤ 30 ∧ k = 30 - i ∧ v2 = nI i ∧ M' = tw_s M b (kSe K5 n nr c h i), ⟨30, 0, by omega, by omega, rfl, by rw [kSe_0]⟩, ?_⟩
    rintro k _ _ - ⟨i, hi, rfl, rfl, rfl⟩
    have hk2 := tw_k_s hk0 (kSe K5 n nr c h i)
    have hlo : ∀ j, j < 789 → kSe K5 n nr c h i j = K5 j := fun j hj => kSe_lo _ _ _ _ _ _ hj
    have hn6 : kNV (kSe K5 n nr c h i) n := ⟨by rw [hlo 1 (by omega)]; exact hn5.1, hn.2⟩
    have hr6 : kNR (kSe K5 n nr c h i) nr := ⟨by rw [hlo 2 (by omega)]; exact hr5.1, hr.2⟩
    have hc6 : kNCl (kSe K5 n nr c h i) c := ⟨by rw [hlo 3 (by omega)]; exact hc5.1, hc.2⟩
    unfold vc_X5_passHour_92
    refine ⟨fun h2 => ?_, fun h2 => ?_⟩
    · rw [show (30 : Int32) = nI 30 from rfl, nI_leI (by omega) (by omega)] at h2
      obtain rfl : i = 30 := by omega
      refine ⟨_, hk2.2.1, _, hk2.2.1, b, rfl, _, tw_el hk2 (i := 10) (by omega), ct_min (by omega) ⟨b, rfl, tw_hi hk2 (tw_wr hk0 hw) (i := 10) (by omega), ?_⟩⟩
      rintro _ rfl
      refine ⟨_, rfl, ?_⟩
      rw [show ∀ v, kt_si _ b (10 : Int32) v = _ from fun v => tw_si hk2 (i := 10) (by omega) v, tw_s_s, hlo 10 (by omega), hat 10 (by omega)]
      exact hG
    · rw [show (30 : Int32) = nI 30 from rfl, nI_leI (by omega) (by omega)] at h2
      have last : ∀ v, v = (if decide (i < nr) && kRec K5 i then kS (kRd K5 n i) c else -1) → vc_X5_passHour_127 w (kt_gx gr, M) d (kt_pI G) X (fun v2' M' => ∃ k', k' < 30 - i ∧ ∃ i, i ≤ 30 ∧ k' = 30 - i ∧ v2' = nI i ∧ M' = tw_s M b (kSe K5 n nr c h i)) a z (nI i) v (nI (789 + 30 * (h % 48) + i)) (some b) (tw_s M b (kSe K5 n nr c h i)) := by
        intro v hv
        unfold vc_X5_passHour_127
        refine ⟨b, rfl, tw_hi hk2 (tw_wr hk0 hw) (by omega), ?_⟩
        rintro _ rfl
        refine ⟨30 - (i + 1), by omega, i + 1, by omega, rfl, nI_1 i, ?_⟩
        rw [tw_si hk2 (by omega), tw_s_s, hv, kSe_s]
      refine ⟨_, hk2.2.1, hk2.1, tw_hour (by omega) hk2 ?_⟩
      rw [hlo 0 (by omega), hat 0 (by omega), h0]
      have hrec : kRec (kSe K5 n nr c h i) i = kRec K5 i := by unfold kRec; rw [hlo _ (by omega)]
      refine tw_seenAt (by omega) hh ⟨hk2.1, tw_isRecord (by omega) hk2 hr6 (by omega) ⟨fun h3 => last _ ?_, fun h3 => ⟨hk2.1, tw_readers (by omega) hk2 hn6 hc6 (by omega) (last _ ?_)⟩⟩⟩
      · rw [kB_0, hrec] at h3
        rw [h3]; rfl
      · rw [kB_n0, hrec] at h3
        rw [h3, if_pos rfl]
        exact kS_congr fun v hv => kRd_congr hlo (by omega) (by omega) (by omega)
  · rw [hat 3 (by omega), hc.1, nI_leI (by omega) (by omega)] at h1
    refine tw_ofClient (f := 0) (by omega) hk1 (by omega) (by omega) ⟨?_, hk1.1, tw_ofClient (f := 1) (by omega) hk1 (by omega) (by omega) ⟨fun h2 => ⟨nc - (c + 1), by omega, c + 1, by omega, rfl, nI_1 c, ?_⟩, fun h2 => ⟨hk1.1, tw_learn (by omega) hk1 (tw_wr hk0 hw) ⟨by rw [hat 1 (by omega)]; exact hn.1, hn.2⟩ (by omega) ⟨nc - (c + 1), by omega, c + 1, by omega, rfl, nI_1 c, ?_⟩⟩⟩⟩
    · rw [Nat.add_zero, hat _ (by omega)]; exact hp c (by omega)
    · rw [Nat.add_zero, hat 0 (by omega), hat (221 + 71 * c) (by omega), show 221 + 71 * c + 1 = 222 + 71 * c by omega, hat (222 + 71 * c) (by omega)] at h2
      rw [show kLs K4 n (c + 1) = kLs K4 n c by simp [kLs, kAsk, h2]]
    · rw [Nat.add_zero, hat 0 (by omega), hat (221 + 71 * c) (by omega), show 221 + 71 * c + 1 = 222 + 71 * c by omega, hat (222 + 71 * c) (by omega)] at h2
      rw [tw_s_s, show kLs K4 n (c + 1) = kLearn (kLs K4 n c) n c by simp [kLs, kAsk, h2]]
theorem tw_passHour {n nr nc h bt : Nat} (hd : 8 ≤ d) (hk : tw_k M a b K) (hw : kt_wr gr M b) (h0 : K 0 = nI h) (hh : h < 9999) (hn : kNV K n) (hr : kNR K nr) (hc : kNCl K nc) (hb : K 7 = nI bt) (hb30 : bt ≤ 30) (hp : ∀ c, c < nc → ¬ K (221 + 71 * c) = 0)
    (hG : G (nI (kClN (kP2 K n) (kPn K n) nr)) (tw_s M b (kP K n nr nc bt h))) : kt_Ca w gr d yX5_passHour kc_X5_passHour [va_rf (some a)] M (kt_pI G) X := by
  obtain ⟨d, rfl⟩ : ∃ d', d = d' + 1 := ⟨d - 1, by omega⟩
  refine kt_cc (ce_X5_passHour ?_)
  have h30 := hn.2
  have hr30 := hr.2
  have hc8 := hc.2
  have mid : ∀ (n2 : Nat) (K2 : Nat → Int32), n2 = kPn K n → K2 = kP2 K n → n2 ≤ 30 → kNV K2 n2 → (∀ j, (j < 11 ∧ j ≠ 1 ∧ j ≠ 0) ∨ 101 ≤ j → K2 j = K j) → K2 0 = nI (h + 1) → vc_X5_passHour_37 w (kt_gx gr, M) d (kt_pI G) X a (tw_s M b K2) := by
    rintro n2 K2 hn2 hK2 hle hnv hat hz
    have hk2 := tw_k_s hk K2
    have hr2 : kNR K2 nr := ⟨by rw [hat 2 (by omega)]; exact hr.1, hr.2⟩
    unfold vc_X5_passHour_37
    refine ⟨hk2.1, tw_clean (by omega) hk2 (tw_wr hk hw) hnv hr2 ?_⟩
    rw [tw_s_s]
    have hk3 := tw_k_s hk (kClK K2 n2 nr)
    have hat3 : ∀ j, (j < 101 ∧ j ≠ 8) ∨ 221 ≤ j → kClK K2 n2 nr j = K2 j := fun j hj => kClK_at hr30 hj
    have hn3 : kNV (kClK K2 n2 nr) n2 := ⟨by rw [hat3 1 (by omega)]; exact hnv.1, hnv.2⟩
    have hr3 : kNR (kClK K2 n2 nr) nr := ⟨by rw [hat3 2 (by omega)]; exact hr2.1, hr.2⟩
    refine ⟨hk3.1, tw_sweep (by omega) hk3 (tw_wr hk hw) hn3 hr3 (bt := bt) (by rw [hat3 7 (by omega), hat 7 (by omega)]; exact hb) hb30 ?_⟩
    rw [tw_s_s]
    have hat4 : ∀ j, (j < 101 ∧ j ≠ 9) ∨ 221 ≤ j → kSwp (kClK K2 n2 nr) n2 nr bt j = kClK K2 n2 nr j := fun j hj => kSwp_at hr30 hj
    have e10 : kSwp (kClK K2 n2 nr) n2 nr bt 10 = K 10 := by rw [hat4 10 (by omega), hat3 10 (by omega), hat 10 (by omega)]
    refine tw_hourTail (n := n2) (nr := nr) (nc := nc) (h := h + 1) (bt := bt) (by omega) hk hw (by rw [hat4 0 (by omega), hat3 0 (by omega)]; exact hz) (by omega) ⟨by rw [hat4 1 (by omega)]; exact hn3.1, hnv.2⟩ ⟨by rw [hat4 2 (by omega)]; exact hr3.1, hr.2⟩ ⟨by rw [hat4 3 (by omega), hat3 3 (by omega), hat 3 (by omega)]; exact hc.1, hc.2⟩ (fun c hcn => by rw [hat4 _ (by omega), hat3 _ (by omega), hat _ (by omega)]; exact hp c hcn) ?_
    unfold kP kP5 at hG
    rw [← hn2, ← hK2] at hG
    rw [e10]
    exact hG
  unfold vc_X5_passHour
  refine ⟨hk.1, tw_hour (by omega) hk ⟨fun h1 => ?_, fun h1 => ?_⟩⟩
  · refine ⟨_, hk.2.1, b, rfl, _, tw_el hk (i := 0) (by omega), tw_hi hk (tw_wr0 hw) (i := 0) (by omega), ?_⟩
    rintro _ rfl
    rw [show ∀ v, kt_si _ b (0 : Int32) v = _ from fun v => tw_si hk (i := 0) (by omega) v]
    have hk1 := tw_k_s hk (upd K 0 (K 0 + 1))
    have hn1 : kNV (upd K 0 (K 0 + 1)) n := kNV_upd hn (by omega)
    have at1 : ∀ j, j ≠ 0 → upd K 0 (K 0 + 1) j = K j := fun j hj => by unfold upd; rw [if_neg hj]
    have z1 : upd K 0 (K 0 + 1) 0 = nI (h + 1) := by unfold upd; rw [if_pos rfl, h0, nI_1]
    refine ⟨hk1.1, tw_mustIssue (by omega) hk1 hn1 ⟨fun h2 => ?_, fun h2 => ⟨hk1.1, tw_firstOfNext (by omega) hk1 hn1 ⟨hk1.1, ?_⟩⟩⟩⟩
    · rw [kB_0] at h2
      exact mid n _ (by unfold kPn; rw [if_neg (by rw [h2]; decide)]) (by unfold kP2; rw [if_neg (by rw [h2]; decide)]) (by omega) hn1 (fun j hj => at1 j (by omega)) z1
    · rw [kB_n0] at h2
      have hn29 : n < 30 := by
        unfold kDue at h2
        simp only [Bool.and_eq_true, decide_eq_true_eq] at h2
        exact h2.1.1
      refine tw_issue (n := n) (by omega) hk1 (tw_wr hk hw) hn1.1 hn29 ?_
      rw [tw_s_s]
      exact mid (n + 1) _ (by unfold kPn; rw [if_pos h2]) (by unfold kP2; rw [if_pos h2]) (by omega) ⟨by unfold kIss upd; rw [if_pos rfl], by omega, by omega⟩ (fun j hj => by rw [kIss_at hn29 (by omega), at1 j (by omega)]) (by rw [kIss_at hn29 (by omega)]; exact z1)
  · rw [h0, show (9999 : Int32) = nI 9999 from rfl, nI_eq (by omega) (by omega)] at h1
    omega
theorem tw_passHourEnd (hd : 2 ≤ d) (hk : tw_k M a b K) (h0 : K 0 = 9999) (hG : G 0 M) : kt_Ca w gr d yX5_passHour kc_X5_passHour [va_rf (some a)] M (kt_pI G) X := by
  obtain ⟨d, rfl⟩ : ∃ d', d = d' + 1 := ⟨d - 1, by omega⟩
  refine kt_cc (ce_X5_passHour ?_)
  unfold vc_X5_passHour
  exact ⟨hk.1, tw_hour (by omega) hk ⟨fun h1 => absurd h0 h1, fun h1 => ⟨_, rfl, hG⟩⟩⟩
end TW7
