set_option maxRecDepth 100000
/-! ===== the reference: records and clients, written ===== -/
/-- a record made -/
def kMake (K : Nat → Int32) (n r : Nat) : Nat → Int32 :=
  upd (upd (upd (upd (upd K (101 + 4 * r) (K 0)) (102 + 4 * r) (if kG (kForced K) n = -1 then 0 else (1 : Int32) <<< (kG (kForced K) n &&& 31))) (103 + 4 * r) 0) (104 + 4 * r) 0) 2 (nI (r + 1))
/-- what a client learns of the versions below i -/
def kLn1 (K : Nat → Int32) (c i : Nat) : Nat → Int32 := fun j => if 227 + 71 * c ≤ j ∧ j < 227 + 71 * c + 2 * i then (if (j - (227 + 71 * c)) % 2 = 0 then K (11 + 3 * ((j - (227 + 71 * c)) / 2)) else K (12 + 3 * ((j - (227 + 71 * c)) / 2))) else K j
def kLearn (K : Nat → Int32) (n c : Nat) : Nat → Int32 := upd (upd (upd (kLn1 K c n) (225 + 71 * c) (kS (kGone K) n)) (224 + 71 * c) (nI n)) (223 + 71 * c) (K 0)
theorem kLn1_0 (K : Nat → Int32) (c : Nat) : kLn1 K c 0 = K := by
  funext j
  unfold kLn1
  rw [if_neg (by omega)]
theorem kLn1_lo (K : Nat → Int32) (c i : Nat) {j : Nat} (h : j < 227 + 71 * c) : kLn1 K c i j = K j := by
  unfold kLn1
  rw [if_neg (by omega)]
theorem kLn1_s (K : Nat → Int32) (c i : Nat) : upd (upd (kLn1 K c i) (227 + 71 * c + 2 * i) (K (11 + 3 * i))) (228 + 71 * c + 2 * i) (K (12 + 3 * i)) = kLn1 K c (i + 1) := by
  funext j
  unfold upd
  by_cases h1 : j = 228 + 71 * c + 2 * i
  · subst h1
    rw [if_pos rfl]
    unfold kLn1
    rw [if_pos (by omega), if_neg (by omega), show (228 + 71 * c + 2 * i - (227 + 71 * c)) / 2 = i by omega]
  · rw [if_neg h1]
    by_cases h2 : j = 227 + 71 * c + 2 * i
    · subst h2
      rw [if_pos rfl]
      unfold kLn1
      rw [if_pos (by omega), if_pos (by omega), show (227 + 71 * c + 2 * i - (227 + 71 * c)) / 2 = i by omega]
    · rw [if_neg h2]
      unfold kLn1
      by_cases h3 : 227 + 71 * c ≤ j ∧ j < 227 + 71 * c + 2 * i
      · rw [if_pos h3, if_pos (show 227 + 71 * c ≤ j ∧ j < 227 + 71 * c + 2 * (i + 1) by omega)]
      · rw [if_neg h3, if_neg (by omega)]
section TW5
variable {w : kt_W} {gr : kt_g × kt_M} {d : Nat} {M : kt_M} {X : String → Nat → kt_M → Prop} {a b : Nat} {K : Nat → Int32} {G : Int32 → kt_M → Prop} {GV : kt_M → Prop}
theorem tw_makeRecord {n r : Nat} (hd : 6 ≤ d) (hk : tw_k M a b K) (hw : kt_wr gr M b) (hn : kNV K n) (hr : K 2 = nI r) (hr30 : r < 30) (h : GV (tw_s M b (kMake K n r))) : kt_Ca w gr d yX5_makeRecord kc_X5_makeRecord [va_rf (some a)] M (kt_pV GV) X := by
  obtain ⟨d, rfl⟩ : ∃ d', d = d' + 1 := ⟨d - 1, by omega⟩
  refine kt_cc (ce_X5_makeRecord ?_)
  unfold vc_X5_makeRecord
  refine ⟨_, hk.2.1, b, rfl, _, tw_el hk (i := 2) (by omega), _, hk.2.1, ?_⟩
  rw [hr]
  refine tw_recordAt (f := 0) (by omega) ⟨hk.1, tw_hour (by omega) hk ⟨b, rfl, tw_hi hk (tw_wr0 hw) (by omega), ?_⟩⟩
  rintro _ rfl
  rw [tw_si hk (by omega), Nat.add_zero]
  have hk1 := tw_k_s hk (upd K (101 + 4 * r) (K 0))
  have hlo : ∀ j, j < 101 → upd K (101 + 4 * r) (K 0) j = K j := fun j hj => by unfold upd; rw [if_neg (by omega)]
  have hn1 : kNV (upd K (101 + 4 * r) (K 0)) n := kNV_upd hn (by omega)
  have last : ∀ z, z = (if kG (kForced K) n = -1 then 0 else (1 : Int32) <<< (kG (kForced K) n &&& 31)) → vc_X5_makeRecord_47 w (kt_gx gr, M) d (kt_pV GV) X a (nI r) z (nI (101 + 4 * r + 1)) (some b) (tw_s M b (upd K (101 + 4 * r) (K 0))) := by
    intro z hz
    unfold vc_X5_makeRecord_47
    refine ⟨b, rfl, tw_hi hk1 (tw_wr hk hw) (by omega), ?_⟩
    rintro _ rfl
    rw [tw_si hk1 (by omega), tw_s_s]
    have hk2 := tw_k_s hk (upd (upd K (101 + 4 * r) (K 0)) (101 + 4 * r + 1) z)
    refine ⟨_, hk2.2.1, tw_recordAt (f := 2) (by omega) ⟨b, rfl, tw_hi hk2 (tw_wr hk hw) (by omega), ?_⟩⟩
    rintro _ rfl
    rw [tw_si hk2 (by omega), tw_s_s]
    have hk3 := tw_k_s hk (upd (upd (upd K (101 + 4 * r) (K 0)) (101 + 4 * r + 1) z) (101 + 4 * r + 2) 0)
    refine ⟨_, hk3.2.1, tw_recordAt (f := 3) (by omega) ⟨b, rfl, tw_hi hk3 (tw_wr hk hw) (by omega), ?_⟩⟩
    rintro _ rfl
    rw [tw_si hk3 (by omega), tw_s_s]
    have hk4 := tw_k_s hk (upd (upd (upd (upd K (101 + 4 * r) (K 0)) (101 + 4 * r + 1) z) (101 + 4 * r + 2) 0) (101 + 4 * r + 3) 0)
    refine ⟨_, hk4.2.1, b, rfl, _, tw_el hk4 (i := 2) (by omega), tw_hi hk4 (tw_wr hk hw) (i := 2) (by omega), ?_⟩
    rintro _ rfl
    refine ⟨rfl, ?_⟩
    rw [show ∀ v, kt_si _ b (2 : Int32) v = _ from fun v => tw_si hk4 (i := 2) (by omega) v, tw_s_s]
    have e2 : upd (upd (upd (upd K (101 + 4 * r) (K 0)) (101 + 4 * r + 1) z) (101 + 4 * r + 2) 0) (101 + 4 * r + 3) 0 2 + 1 = nI (r + 1) := by
      unfold upd
      rw [if_neg (by omega), if_neg (by omega), if_neg (by omega), if_neg (by omega), hr, nI_1]
    rw [e2, hz, show 101 + 4 * r + 1 = 102 + 4 * r by omega, show 101 + 4 * r + 2 = 103 + 4 * r by omega, show 101 + 4 * r + 3 = 104 + 4 * r by omega]
    exact h
  refine ⟨hk1.1, tw_writing (by omega) hk1 hn1 ⟨_, hk1.2.1, tw_recordAt (f := 1) (by omega) ?_⟩⟩
  rw [kG_congr (fun v hv => kForced_congr hlo (by have := hn.2; omega))]
  exact ⟨fun h1 => last _ (by rw [if_neg h1]), fun h1 => last _ (by rw [if_pos h1])⟩
theorem tw_learn {n c : Nat} (hd : 4 ≤ d) (hk : tw_k M a b K) (hw : kt_wr gr M b) (hn : kNV K n) (hc : c < 8) (h : G (nI n - K (224 + 71 * c)) (tw_s M b (kLearn K n c))) : kt_Ca w gr d yX5_learn kc_X5_learn [va_rf (some a), .int (nI c)] M (kt_pI G) X := by
  obtain ⟨d, rfl⟩ : ∃ d', d = d' + 1 := ⟨d - 1, by omega⟩
  refine kt_cc (ce_X5_learn ?_)
  have h30 := hn.2
  unfold vc_X5_learn
  refine ⟨hk.1, tw_ofClient (f := 3) (by omega) hk hc (by omega) ?_⟩
  rw [show 221 + 71 * c + 3 = 224 + 71 * c by omega]
  unfold vl_X5_learn_12
  refine ⟨fun k v3 v4 M' => ∃ i, i ≤ n ∧ k = n - i ∧ v4 = nI i ∧ v3 = kS (kGone K) i ∧ M' = tw_s M b (kLn1 K c i), ⟨n, 0, by omega, by omega, rfl, rfl, by rw [kLn1_0, tw_s_id hk]⟩, ?_⟩
  rintro k _ _ _ - ⟨i, hi, rfl, rfl, rfl, rfl⟩
  have hk1 := tw_k_s hk (kLn1 K c i)
  have hlo : ∀ j, j < 227 + 71 * c → kLn1 K c i j = K j := fun j hj => kLn1_lo K c i hj
  have at41 : ∀ z, i < n → kS (kGone K) i ||| z = kS (kGone K) (i + 1) → vc_X5_learn_41 w (kt_gx gr, M) d (kt_pI G) X (fun v3' v4' M' => ∃ k', k' < n - i ∧ ∃ i, i ≤ n ∧ k' = n - i ∧ v4' = nI i ∧ v3' = kS (kGone K) i ∧ M' = tw_s M b (kLn1 K c i)) a (nI c) (K (224 + 71 * c)) (nI i) z (kS (kGone K) i) (tw_s M b (kLn1 K c i)) := by
    intro z hin hz
    unfold vc_X5_learn_41
    refine ⟨_, hk1.2.1, hk1.1, tw_knownAt (by omega) ⟨hk1.1, tw_ofVersion (f := 0) (by omega) hk1 (by omega) (by omega) ⟨b, rfl, tw_hi hk1 (tw_wr hk hw) (by omega), ?_⟩⟩⟩
    rintro _ rfl
    rw [tw_si hk1 (by omega), tw_s_s, hlo _ (by omega), Nat.add_zero]
    have hk2 := tw_k_s hk (upd (kLn1 K c i) (227 + 71 * c + 2 * i) (K (11 + 3 * i)))
    refine ⟨_, hk2.2.1, hk2.1, tw_knownAt (by omega) ⟨hk2.1, tw_ofVersion (f := 1) (by omega) hk2 (by omega) (by omega) ⟨b, rfl, ?_, ?_⟩⟩⟩
    · rw [nI_1]; exact tw_hi hk2 (tw_wr hk hw) (by omega)
    rintro _ rfl
    refine ⟨n - (i + 1), by omega, i + 1, by omega, rfl, nI_1 i, hz, ?_⟩
    rw [nI_1, tw_si hk2 (by omega), tw_s_s, show 227 + 71 * c + 2 * i + 1 = 228 + 71 * c + 2 * i by omega, show 11 + 3 * i + 1 = 12 + 3 * i by omega, ← kLn1_s]
    have e3 : upd (kLn1 K c i) (227 + 71 * c + 2 * i) (K (11 + 3 * i)) (12 + 3 * i) = K (12 + 3 * i) := by
      unfold upd
      rw [if_neg (by omega), hlo _ (by omega)]
    rw [e3]
  unfold vc_X5_learn_12
  refine ⟨_, hk1.2.1, b, rfl, _, tw_el hk1 (i := 1) (by omega), fun h1 => ?_, fun h1 => ⟨hk1.1, ?_⟩⟩
  · rw [hlo _ (by omega), hn.1, nI_leI (by omega) (by omega)] at h1
    obtain rfl : i = n := by omega
    refine ⟨_, hk1.2.1, tw_clientAt (f := 4) (by omega) ⟨b, rfl, tw_hi hk1 (tw_wr hk hw) (by omega), ?_⟩⟩
    rintro _ rfl
    rw [tw_si hk1 (by omega), tw_s_s]
    generalize hA : upd (kLn1 K c i) (221 + 71 * c + 4) (kS (kGone K) i) = A
    have hA1 : ∀ j, j < 221 + 71 * c → A j = K j := fun j hj => by rw [← hA]; unfold upd; rw [if_neg (by omega), hlo _ (by omega)]
    have hk2 := tw_k_s hk A
    refine ⟨_, hk2.2.1, tw_clientAt (f := 3) (by omega) ⟨_, hk2.2.1, b, rfl, _, tw_el hk2 (i := 1) (by omega), b, rfl, tw_hi hk2 (tw_wr hk hw) (by omega), ?_⟩⟩
    rintro _ rfl
    rw [tw_si hk2 (by omega), tw_s_s, hA1 1 (by omega), hn.1]
    generalize hB : upd A (221 + 71 * c + 3) (nI i) = B
    have hB1 : ∀ j, j < 221 + 71 * c → B j = K j := fun j hj => by rw [← hB]; unfold upd; rw [if_neg (by omega), hA1 _ hj]
    have hk3 := tw_k_s hk B
    refine ⟨_, hk3.2.1, tw_clientAt (f := 2) (by omega) ⟨hk3.1, tw_hour (by omega) hk3 ⟨b, rfl, tw_hi hk3 (tw_wr hk hw) (by omega), ?_⟩⟩⟩
    rintro _ rfl
    rw [tw_si hk3 (by omega), tw_s_s, hB1 0 (by omega)]
    have hk4 := tw_k_s hk (upd B (221 + 71 * c + 2) (K 0))
    refine ⟨_, hk4.2.1, b, rfl, _, tw_el hk4 (i := 1) (by omega), _, rfl, ?_⟩
    have e4 : upd B (221 + 71 * c + 2) (K 0) 1 = nI i := by unfold upd; rw [if_neg (by omega), hB1 1 (by omega), hn.1]
    rw [e4]
    unfold kLearn at h
    rw [← hB, ← hA, show 221 + 71 * c + 4 = 225 + 71 * c by omega, show 221 + 71 * c + 3 = 224 + 71 * c by omega, show 221 + 71 * c + 2 = 223 + 71 * c by omega]
    exact h
  · rw [hlo _ (by omega), hn.1, nI_leI (by omega) (by omega)] at h1
    have hg : kGone (kLn1 K c i) i = kGone K i := by unfold kGone; rw [hlo _ (by omega)]
    refine tw_isGone (by omega) hk1 (by omega) ?_
    rw [hg]
    refine ⟨fun h2 => at41 _ (by omega) ?_, fun h2 => at41 _ (by omega) ?_⟩
    · rw [kB_0] at h2
      simp [kS, h2]
    · rw [kB_n0] at h2
      simp [kS, h2]
end TW5
