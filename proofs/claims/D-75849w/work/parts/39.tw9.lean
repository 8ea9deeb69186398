set_option maxRecDepth 100000
/-! ===== the reference: copies of keys ===== -/
/-- m numbers of row i of F over those of row j of T -/
def kCp (F T : Nat → Int32) (i j m : Nat) : Nat → Int32 := fun k => if 2229 * j ≤ k ∧ k < 2229 * j + m then F (2229 * i + (k - 2229 * j)) else T k
theorem kCp_0 (F T : Nat → Int32) (i j : Nat) : kCp F T i j 0 = T := by
  funext k
  unfold kCp
  rw [if_neg (by omega)]
theorem kCp_s (F T : Nat → Int32) (i j m : Nat) : upd (kCp F T i j m) (2229 * j + m) (F (2229 * i + m)) = kCp F T i j (m + 1) := by
  funext k
  unfold upd
  by_cases h : k = 2229 * j + m
  · subst h
    rw [if_pos rfl]
    unfold kCp
    rw [if_pos (show 2229 * j ≤ 2229 * j + m ∧ 2229 * j + m < 2229 * j + (m + 1) by omega), show 2229 * j + m - 2229 * j = m by omega]
  · rw [if_neg h]
    unfold kCp
    by_cases h2 : 2229 * j ≤ k ∧ k < 2229 * j + m
    · rw [if_pos h2, if_pos (show 2229 * j ≤ k ∧ k < 2229 * j + (m + 1) by omega)]
    · rw [if_neg h2, if_neg (by omega)]
section TW9
variable {w : kt_W} {gr : kt_g × kt_M} {d : Nat} {M : kt_M} {X : String → Nat → kt_M → Prop} {GV : kt_M → Prop}
theorem tw_copy {p q n1 n2 i j : Nat} {F T : Nat → Int32} (hd : 1 ≤ d) (hp : M.2.2 p = (5, .inl (0, n1, .inl F))) (hq : M.2.2 q = (5, .inl (0, n2, .inl T))) (hne : p ≠ q) (hw : kt_wr gr M q) (h1 : 2229 * i + 2229 ≤ n1) (h2 : 2229 * j + 2229 ≤ n2) (h31 : n1 ≤ 2 ^ 31) (h32 : n2 ≤ 2 ^ 31)
    (h : GV (kt_up M q (5, .inl (0, n2, .inl (kCp F T i j 2229))))) : kt_Ca w gr d yX5_copy kc_X5_copy [va_rf (some p), .int (nI i), va_rf (some q), .int (nI j)] M (kt_pV GV) X := by
  obtain ⟨d, rfl⟩ : ∃ d', d = d' + 1 := ⟨d - 1, by omega⟩
  refine kt_cc (ce_X5_copy ?_)
  unfold vc_X5_copy vl_X5_copy_3
  refine ⟨fun k v4 M' => ∃ m, m ≤ 2229 ∧ k = 2229 - m ∧ v4 = nI m ∧ M' = kt_up M q (5, .inl (0, n2, .inl (kCp F T i j m))), ⟨2229, 0, by omega, by omega, rfl, by rw [kCp_0, kt_up_id hq]⟩, ?_⟩
  rintro k _ _ - ⟨m, hm, rfl, rfl, rfl⟩
  unfold vc_X5_copy_3
  refine ⟨fun h3 => ⟨rfl, ?_⟩, fun h3 => ?_⟩
  · rw [show (2229 : Int32) = nI 2229 from rfl, nI_leI (by omega) (by omega)] at h3
    obtain rfl : m = 2229 := by omega
    exact h
  · rw [show (2229 : Int32) = nI 2229 from rfl, nI_leI (by omega) (by omega)] at h3
    have e1 : (2229 : Int32) * nI i + nI m = nI (2229 * i + m) := by rw [show (2229 : Int32) = nI 2229 from rfl, nI_mul, nI_add]
    have e2 : (2229 : Int32) * nI j + nI m = nI (2229 * j + m) := by rw [show (2229 : Int32) = nI 2229 from rfl, nI_mul, nI_add]
    rw [e1, e2]
    have hq2 : (kt_up M q (5, .inl (0, n2, .inl (kCp F T i j m)))).2.2 q = (5, .inl (0, n2, .inl (kCp F T i j m))) := kt_up_same _ _ _
    have hp2 : (kt_up M q (5, .inl (0, n2, .inl (kCp F T i j m)))).2.2 p = (5, .inl (0, n1, .inl F)) := by rw [kt_up_ne _ _ hne]; exact hp
    refine ⟨p, rfl, _, kt_eli (t := 4) hp2 (by omega) h31, q, rfl, kt_hiiw (kt_gx_wr hw (by rw [hq2, hq])) hq2 (by omega) h32, ?_⟩
    rintro _ rfl
    refine ⟨2229 - (m + 1), by omega, m + 1, by omega, rfl, nI_1 m, ?_⟩
    rw [kt_siu hq2 (by omega), kt_up_up, kCp_s]
theorem tw_copyS {q n2 i j : Nat} {T : Nat → Int32} (hd : 1 ≤ d) (hq : M.2.2 q = (5, .inl (0, n2, .inl T))) (hne : i ≠ j) (hw : kt_wr gr M q) (h1 : 2229 * i + 2229 ≤ n2) (h2 : 2229 * j + 2229 ≤ n2) (h32 : n2 ≤ 2 ^ 31)
    (h : GV (kt_up M q (5, .inl (0, n2, .inl (kCp T T i j 2229))))) : kt_Ca w gr d yX5_copy kc_X5_copy [va_rf (some q), .int (nI i), va_rf (some q), .int (nI j)] M (kt_pV GV) X := by
  obtain ⟨d, rfl⟩ : ∃ d', d = d' + 1 := ⟨d - 1, by omega⟩
  refine kt_cc (ce_X5_copy ?_)
  unfold vc_X5_copy vl_X5_copy_3
  refine ⟨fun k v4 M' => ∃ m, m ≤ 2229 ∧ k = 2229 - m ∧ v4 = nI m ∧ M' = kt_up M q (5, .inl (0, n2, .inl (kCp T T i j m))), ⟨2229, 0, by omega, by omega, rfl, by rw [kCp_0, kt_up_id hq]⟩, ?_⟩
  rintro k _ _ - ⟨m, hm, rfl, rfl, rfl⟩
  unfold vc_X5_copy_3
  refine ⟨fun h3 => ⟨rfl, ?_⟩, fun h3 => ?_⟩
  · rw [show (2229 : Int32) = nI 2229 from rfl, nI_leI (by omega) (by omega)] at h3
    obtain rfl : m = 2229 := by omega
    exact h
  · rw [show (2229 : Int32) = nI 2229 from rfl, nI_leI (by omega) (by omega)] at h3
    have e1 : (2229 : Int32) * nI i + nI m = nI (2229 * i + m) := by rw [show (2229 : Int32) = nI 2229 from rfl, nI_mul, nI_add]
    have e2 : (2229 : Int32) * nI j + nI m = nI (2229 * j + m) := by rw [show (2229 : Int32) = nI 2229 from rfl, nI_mul, nI_add]
    rw [e1, e2]
    have hq2 : (kt_up M q (5, .inl (0, n2, .inl (kCp T T i j m)))).2.2 q = (5, .inl (0, n2, .inl (kCp T T i j m))) := kt_up_same _ _ _
    refine ⟨q, rfl, _, kt_eli (t := 4) hq2 (i := 2229 * i + m) (by omega) h32, q, rfl, kt_hiiw (kt_gx_wr hw (by rw [hq2, hq])) hq2 (by omega) h32, ?_⟩
    rintro _ rfl
    refine ⟨2229 - (m + 1), by omega, m + 1, by omega, rfl, nI_1 m, ?_⟩
    have e3 : kCp T T i j m (2229 * i + m) = T (2229 * i + m) := by
      unfold kCp
      rw [if_neg (by omega)]
    rw [kt_siu hq2 (by omega), kt_up_up, e3, kCp_s]
/-- the keys put aside, and back -/
theorem tw_begin {a p q : Nat} {F T : Nat → Int32} (hd : 2 ≤ d) (h1 : kt_gf M a 65 = some (va_rf (some p))) (h2 : kt_gf M a 67 = some (va_rf (some q))) (hp : M.2.2 p = (5, .inl (0, 2229, .inl F))) (hq : M.2.2 q = (5, .inl (0, 2229, .inl T))) (hne : p ≠ q) (hw : kt_wr gr M q)
    (h : GV (tw_s M q (kCp F T 0 0 2229))) : kt_Ca w gr d yX5_begin kc_X5_begin [va_rf (some a)] M (kt_pV GV) X := by
  obtain ⟨d, rfl⟩ : ∃ d', d = d' + 1 := ⟨d - 1, by omega⟩
  refine kt_cc (ce_X5_begin ?_)
  unfold vc_X5_begin
  exact ⟨_, h1, _, h2, tw_copy (i := 0) (j := 0) (by omega) hp hq hne (kt_gx_wr hw rfl) (by omega) (by omega) (by omega) (by omega) ⟨rfl, h⟩⟩
theorem tw_end {a p q : Nat} {F T : Nat → Int32} (hd : 2 ≤ d) (h1 : kt_gf M a 67 = some (va_rf (some p))) (h2 : kt_gf M a 65 = some (va_rf (some q))) (hp : M.2.2 p = (5, .inl (0, 2229, .inl F))) (hq : M.2.2 q = (5, .inl (0, 2229, .inl T))) (hne : p ≠ q) (hw : kt_wr gr M q)
    (h : GV (tw_s M q (kCp F T 0 0 2229))) : kt_Ca w gr d yX5_end kc_X5_end [va_rf (some a)] M (kt_pV GV) X := by
  obtain ⟨d, rfl⟩ : ∃ d', d = d' + 1 := ⟨d - 1, by omega⟩
  refine kt_cc (ce_X5_end ?_)
  unfold vc_X5_end
  exact ⟨_, h1, _, h2, tw_copy (i := 0) (j := 0) (by omega) hp hq hne (kt_gx_wr hw rfl) (by omega) (by omega) (by omega) (by omega) ⟨rfl, h⟩⟩
theorem kCp_in (F T : Nat → Int32) {k : Nat} (hk : k < 2229) : kCp F T 0 0 2229 k = F k := by
  unfold kCp
  rw [if_pos (by omega)]
  congr 1
  omega
end TW9
