set_option maxRecDepth 100000
def vc_J17_charAt (w : kt_W) (gr : kt_g × kt_M) (d : Nat) (P : Option Value → kt_M → Prop) (X : String → Nat → kt_M → Prop) (r0 : Option Nat) (v1 : Int32) (M : kt_M) : Prop :=
  ∃ b1, r0 = some b1 ∧ ∃ n2, kt_len M b1 = some n2 ∧ 
  kt_Ca w gr d yJ15_checkIndex kc_J15_checkIndex [.int v1, .int (nI n2)] M (kt_pV fun M3 => ∃ u4, kt_el 2 M3 b1 v1 = some (.int u4) ∧ narrow .char (.int (((u4 &&& (255 : Int32)).toUInt32 % 65536).toInt32)) = .int (((u4 &&& (255 : Int32)).toUInt32 % 65536).toInt32) ∧ P (some (.int (((u4 &&& (255 : Int32)).toUInt32 % 65536).toInt32))) M3) X
theorem ce_J17_charAt {w : kt_W} {g : kt_g} {d : Nat} {P : Option Value → kt_M → Prop} {X : String → Nat → kt_M → Prop} {r0 : Option Nat} {v1 : Int32} {M : kt_M} (h : vc_J17_charAt w (g, M) d P X r0 v1 M) : kt_Sp w g (d + 1) yJ17_charAt kc_J17_charAt [va_rf r0, .int v1] M P X := by
  refine kt_of (L0 := [(0, va_rf r0), (1, .int v1)]) (by decide +kernel) (by simp only [kt_lgR, kt_lgI, kt_lgN] <;> exact Nat.le_of_ble_eq_true rfl) (by simp only [kt_lvR, kt_lvI, kt_lvN] <;> rfl) fun x O => ?_
  replace O : kt_O w x (g, M) (d + 1) cJ17_charAt "java/lang/StringLatin1" 2 ("charAt", "([BI)C") (Option.some Jvm.ClassFile.FieldType.char) [] := O
  unfold vc_J17_charAt at h
  refine kr_iload_n O dJ17_charAt_0 rfl 1 rfl ?_
  refine kr_aload_n O dJ17_charAt_1 rfl 0 rfl ?_
  obtain ⟨b1, rfl, h⟩ := h
  obtain ⟨n2, en2, h⟩ := h
  refine kr_alen O dJ17_charAt_2 en2 ?_
  refine kr_caV (rest := []) O cd_J15_checkIndex h (Nat.le_of_ble_eq_true rfl) (fun ls _ => kt_ivS O dJ17_charAt_3 cd_J15_checkIndex in_J15_checkIndex q1471 q1472 hy_J15_checkIndex) (fun M3 hq => ?_) (fun E q M9 hx => kr_out O hx)
  replace h := hq
  clear hq
  refine kr_aload_n O dJ17_charAt_6 rfl 0 rfl ?_
  refine kr_iload_n O dJ17_charAt_7 rfl 1 rfl ?_
  obtain ⟨u4, eu4, h⟩ := h
  refine kr_baload O dJ17_charAt_8 eu4 ?_
  refine kr_sipush O dJ17_charAt_9 (v := (255 : Int32)) (by decide) ?_
  refine kr_iand O dJ17_charAt_12 ?_
  refine kr_i2c O dJ17_charAt_13 ?_
  exact kr_iret O dJ17_charAt_14 h.1 h.2
def vc_J17_fillNull (w : kt_W) (gr : kt_g × kt_M) (d : Nat) (P : Option Value → kt_M → Prop) (X : String → Nat → kt_M → Prop) (r0 : Option Nat) (v1 : Int32) (v2 : Int32) (M : kt_M) : Prop :=
  
  kt_Ca w gr d yJ8_fill kc_J8_fill [va_rf r0, .int v1, .int v2, .int (0 : Int32)] M (kt_pV fun M1 => P none M1) X
theorem ce_J17_fillNull {w : kt_W} {g : kt_g} {d : Nat} {P : Option Value → kt_M → Prop} {X : String → Nat → kt_M → Prop} {r0 : Option Nat} {v1 : Int32} {v2 : Int32} {M : kt_M} (h : vc_J17_fillNull w (g, M) d P X r0 v1 v2 M) : kt_Sp w g (d + 1) yJ17_fillNull kc_J17_fillNull [va_rf r0, .int v1, .int v2] M P X := by
  refine kt_of (L0 := [(0, va_rf r0), (1, .int v1), (2, .int v2)]) (by decide +kernel) (by simp only [kt_lgR, kt_lgI, kt_lgN] <;> exact Nat.le_of_ble_eq_true rfl) (by simp only [kt_lvR, kt_lvI, kt_lvN] <;> rfl) fun x O => ?_
  replace O : kt_O w x (g, M) (d + 1) cJ17_fillNull "java/lang/StringLatin1" 3 ("fillNull", "([BII)V") (Option.none : Option Jvm.ClassFile.FieldType) [] := O
  unfold vc_J17_fillNull at h
  refine kr_aload_n O dJ17_fillNull_0 rfl 0 rfl ?_
  refine kr_iload_n O dJ17_fillNull_1 rfl 1 rfl ?_
  refine kr_iload_n O dJ17_fillNull_2 rfl 2 rfl ?_
  refine kr_iconst O dJ17_fillNull_3 (v := (0 : Int32)) (by decide) ?_
  refine kr_caV (rest := []) O cd_J8_fill h (Nat.le_of_ble_eq_true rfl) (fun ls _ => kt_ivS O dJ17_fillNull_4 cd_J8_fill in_J8_fill q1535 q1536 hy_J8_fill) (fun M1 hq => ?_) (fun E q M9 hx => kr_out O hx)
  replace h := hq
  clear hq
  exact kr_vret O dJ17_fillNull_7 h
def vc_J17_canEncode (w : kt_W) (gr : kt_g × kt_M) (d : Nat) (P : Option Value → kt_M → Prop) (X : String → Nat → kt_M → Prop) (v0 : Int32) (M : kt_M) : Prop :=
  
    (((255 : Int32) < v0 → P (some (.int (0 : Int32))) M) ∧
    (¬ (255 : Int32) < v0 → P (some (.int (1 : Int32))) M))
theorem ce_J17_canEncode {w : kt_W} {g : kt_g} {d : Nat} {P : Option Value → kt_M → Prop} {X : String → Nat → kt_M → Prop} {v0 : Int32} {M : kt_M} (h : vc_J17_canEncode w (g, M) d P X v0 M) : kt_Sp w g (d + 1) yJ17_canEncode kc_J17_canEncode [.int v0] M P X := by
  refine kt_of (L0 := [(0, .int v0)]) (by decide +kernel) (Nat.le_of_ble_eq_true rfl) rfl fun x O => ?_
  replace O : kt_O w x (g, M) (d + 1) cJ17_canEncode "java/lang/StringLatin1" 1 ("canEncode", "(C)Z") (Option.some Jvm.ClassFile.FieldType.boolean) [] := O
  unfold vc_J17_canEncode at h
  refine kr_iload_n O dJ17_canEncode_0 rfl 0 rfl ?_
  refine kr_sipush O dJ17_canEncode_1 (v := (255 : Int32)) (by decide) ?_
  refine kr_icmp_gt (tgt := 11) O dJ17_canEncode_4 rfl (fun hc => ?_) (fun hc => ?_)
  · replace h := h.1 hc
    refine kr_iconst O dJ17_canEncode_11 (v := (0 : Int32)) (by decide) ?_
    exact kr_iret O dJ17_canEncode_12 (by decide) h
  · replace h := h.2 hc
    refine kr_iconst O dJ17_canEncode_7 (v := (1 : Int32)) (by decide) ?_
    refine kr_goto (tgt := 12) O dJ17_canEncode_8 rfl ?_
    exact kr_iret O dJ17_canEncode_12 (by decide) h
def vc_J17_equals_9 (w : kt_W) (gr : kt_g × kt_M) (d : Nat) (P : Option Value → kt_M → Prop) (X : String → Nat → kt_M → Prop) (nx9 : Int32 → kt_M → Prop) (a0 : Nat) (a1 : Nat) (v2 : Int32) (M : kt_M) : Prop :=
  ∃ n1, kt_len M a0 = some n1 ∧ 
    (((nI n1) ≤ v2 → P (some (.int (1 : Int32))) M) ∧
    (¬ (nI n1) ≤ v2 → ∃ u2, kt_el 2 M a0 v2 = some (.int u2) ∧ ∃ u3, kt_el 2 M a1 v2 = some (.int u3) ∧ 
      ((u2 = u3 → nx9 (v2 + (1 : Int32)) M) ∧
      (¬ u2 = u3 → P (some (.int (0 : Int32))) M))))
theorem cj_J17_equals_9 {w : kt_W} {x : kt_X} {gr : kt_g × kt_M} {d : Nat} {P : Option Value → kt_M → Prop} {X : String → Nat → kt_M → Prop} {nx9 : Int32 → kt_M → Prop} {a0 : Nat} {a1 : Nat} {v2 : Int32} {M : kt_M} (O : kt_O w x gr (d + 1) cJ17_equals "java/lang/StringLatin1" 3 ("equals", "([B[B)Z") (Option.some Jvm.ClassFile.FieldType.boolean) []) (hn9 : ∀ v2 M, nx9 v2 M → kt_S w x 3 (kt_E w x P X) M 9 [(0, va_rf (some a0)), (1, va_rf (some a1)), (2, .int v2)] []) (h : vc_J17_equals_9 w gr d P X nx9 a0 a1 v2 M) : kt_S w x 3 (kt_E w x P X) M 9 [(0, va_rf (some a0)), (1, va_rf (some a1)), (2, .int v2)] [] := by
  unfold vc_J17_equals_9 at h
  refine kr_iload_n O dJ17_equals_9 rfl 2 rfl ?_
  refine kr_aload_n O dJ17_equals_10 rfl 0 rfl ?_
  obtain ⟨n1, en1, h⟩ := h
  refine kr_alen O dJ17_equals_11 en1 ?_
  refine kr_icmp_ge (tgt := 32) O dJ17_equals_12 rfl (fun hc => ?_) (fun hc => ?_)
  · replace h := h.1 hc
    refine kr_iconst O dJ17_equals_32 (v := (1 : Int32)) (by decide) ?_
    exact kr_iret O dJ17_equals_33 (by decide) h
  · replace h := h.2 hc
    refine kr_aload_n O dJ17_equals_15 rfl 0 rfl ?_
    refine kr_iload_n O dJ17_equals_16 rfl 2 rfl ?_
    obtain ⟨u2, eu2, h⟩ := h
    refine kr_baload O dJ17_equals_17 eu2 ?_
    refine kr_aload_n O dJ17_equals_18 rfl 1 rfl ?_
    refine kr_iload_n O dJ17_equals_19 rfl 2 rfl ?_
    obtain ⟨u3, eu3, h⟩ := h
    refine kr_baload O dJ17_equals_20 eu3 ?_
    refine kr_icmp_eq (tgt := 26) O dJ17_equals_21 rfl (fun hc => ?_) (fun hc => ?_)
    · replace h := h.1 hc
      refine kr_iinc O dJ17_equals_26 2 rfl (v := v2 + (1 : Int32)) rfl (Nat.le_of_ble_eq_true rfl) rfl rfl ?_
      refine kr_goto (tgt := 9) O dJ17_equals_29 rfl ?_
      refine kr_sub [1, 2, 0] rfl ?_
      exact hn9 _ _ h
    · replace h := h.2 hc
      refine kr_iconst O dJ17_equals_24 (v := (0 : Int32)) (by decide) ?_
      exact kr_iret O dJ17_equals_25 (by decide) h
def vl_J17_equals_9 (w : kt_W) (gr : kt_g × kt_M) (d : Nat) (P : Option Value → kt_M → Prop) (X : String → Nat → kt_M → Prop)  (a0 : Nat) (a1 : Nat) (v2 : Int32) (M : kt_M) : Prop :=
  ∃ Inv : Nat → Int32 → kt_M → Prop, (∃ k, Inv k v2 M) ∧ ∀ k v2 M, kt_le gr.1 gr.2 M → Inv k v2 M → vc_J17_equals_9 w gr d P X (fun v2' M' => ∃ k', k' < k ∧ Inv k' v2' M') a0 a1 v2 M
theorem cl_J17_equals_9 {w : kt_W} {x : kt_X} {gr : kt_g × kt_M} {d : Nat} {P : Option Value → kt_M → Prop} {X : String → Nat → kt_M → Prop}  {a0 : Nat} {a1 : Nat} {v2 : Int32} {M : kt_M} (O : kt_O w x gr (d + 1) cJ17_equals "java/lang/StringLatin1" 3 ("equals", "([B[B)Z") (Option.some Jvm.ClassFile.FieldType.boolean) [])  (h : vl_J17_equals_9 w gr d P X  a0 a1 v2 M) : kt_S w x 3 (kt_E w x P X) M 9 [(0, va_rf (some a0)), (1, va_rf (some a1)), (2, .int v2)] [] := by
  obtain ⟨Inv, ⟨k, hk⟩, hb⟩ := h
  induction k using Nat.strongRecOn generalizing v2 M with
  | ind k ih =>
    exact kr_le O fun hle => cj_J17_equals_9 O (fun v2' M' hi => let ⟨k', h1, h2⟩ := hi; ih k' h1 h2) (hb k _ _ hle hk)
def vc_J17_equals (w : kt_W) (gr : kt_g × kt_M) (d : Nat) (P : Option Value → kt_M → Prop) (X : String → Nat → kt_M → Prop) (r0 : Option Nat) (r1 : Option Nat) (M : kt_M) : Prop :=
  ∃ b1, r0 = some b1 ∧ ∃ n2, kt_len M b1 = some n2 ∧ ∃ b3, r1 = some b3 ∧ ∃ n4, kt_len M b3 = some n4 ∧ 
    ((¬ (nI n2) = (nI n4) → P (some (.int (0 : Int32))) M) ∧
    ((nI n2) = (nI n4) → vl_J17_equals_9 w gr d P X  b1 b3 (0 : Int32) M))
theorem ce_J17_equals {w : kt_W} {g : kt_g} {d : Nat} {P : Option Value → kt_M → Prop} {X : String → Nat → kt_M → Prop} {r0 : Option Nat} {r1 : Option Nat} {M : kt_M} (h : vc_J17_equals w (g, M) d P X r0 r1 M) : kt_Sp w g (d + 1) yJ17_equals kc_J17_equals [va_rf r0, va_rf r1] M P X := by
  refine kt_of (L0 := [(0, va_rf r0), (1, va_rf r1)]) (by decide +kernel) (by simp only [kt_lgR, kt_lgI, kt_lgN] <;> exact Nat.le_of_ble_eq_true rfl) (by simp only [kt_lvR, kt_lvI, kt_lvN] <;> rfl) fun x O => ?_
  replace O : kt_O w x (g, M) (d + 1) cJ17_equals "java/lang/StringLatin1" 3 ("equals", "([B[B)Z") (Option.some Jvm.ClassFile.FieldType.boolean) [] := O
  unfold vc_J17_equals at h
  refine kr_aload_n O dJ17_equals_0 rfl 0 rfl ?_
  obtain ⟨b1, rfl, h⟩ := h
  obtain ⟨n2, en2, h⟩ := h
  refine kr_alen O dJ17_equals_1 en2 ?_
  refine kr_aload_n O dJ17_equals_2 rfl 1 rfl ?_
  obtain ⟨b3, rfl, h⟩ := h
  obtain ⟨n4, en4, h⟩ := h
  refine kr_alen O dJ17_equals_3 en4 ?_
  refine kr_icmp_ne (tgt := 34) O dJ17_equals_4 rfl (fun hc => ?_) (fun hc => ?_)
  · replace h := h.1 hc
    refine kr_iconst O dJ17_equals_34 (v := (0 : Int32)) (by decide) ?_
    exact kr_iret O dJ17_equals_35 (by decide) h
  · replace h := h.2 hc
    refine kr_iconst O dJ17_equals_7 (v := (0 : Int32)) (by decide) ?_
    refine kr_istore_n O dJ17_equals_8 rfl (Nat.le_of_ble_eq_true rfl) rfl rfl ?_
    refine kr_sub [1, 2, 0] rfl ?_
    exact cl_J17_equals_9 O  h
def vc_J17_hashCode (w : kt_W) (gr : kt_g × kt_M) (d : Nat) (P : Option Value → kt_M → Prop) (X : String → Nat → kt_M → Prop) (r0 : Option Nat) (M : kt_M) : Prop :=
  ∃ b1, r0 = some b1 ∧ ∃ n2, kt_len M b1 = some n2 ∧ 
    (((nI n2).toInt = 0 → P (some (.int (0 : Int32))) M) ∧
    ((nI n2).toInt = 1 → ∃ u3, kt_el 2 M b1 (0 : Int32) = some (.int u3) ∧ P (some (.int (u3 &&& (255 : Int32)))) M) ∧
    (¬ (nI n2).toInt = 0 → ¬ (nI n2).toInt = 1 → ∃ n4, kt_len M b1 = some n4 ∧ 
  kt_Ca w gr d yJ6_vectorizedHashCode kc_J6_vectorizedHashCode [va_rf (some b1), .int (0 : Int32), .int (nI n4), .int (0 : Int32), .int (4 : Int32)] M (kt_pI fun u5 M6 => P (some (.int u5)) M6) X))
theorem ce_J17_hashCode {w : kt_W} {g : kt_g} {d : Nat} {P : Option Value → kt_M → Prop} {X : String → Nat → kt_M → Prop} {r0 : Option Nat} {M : kt_M} (h : vc_J17_hashCode w (g, M) d P X r0 M) : kt_Sp w g (d + 1) yJ17_hashCode kc_J17_hashCode [va_rf r0] M P X := by
  refine kt_of (L0 := [(0, va_rf r0)]) (by decide +kernel) (by simp only [kt_lgR, kt_lgI, kt_lgN] <;> exact Nat.le_of_ble_eq_true rfl) (by simp only [kt_lvR, kt_lvI, kt_lvN] <;> rfl) fun x O => ?_
  replace O : kt_O w x (g, M) (d + 1) cJ17_hashCode "java/lang/StringLatin1" 1 ("hashCode", "([B)I") (Option.some Jvm.ClassFile.FieldType.int) [] := O
  unfold vc_J17_hashCode at h
  refine kr_aload_n O dJ17_hashCode_0 rfl 0 rfl ?_
  obtain ⟨b1, rfl, h⟩ := h
  obtain ⟨n2, en2, h⟩ := h
  refine kr_alen O dJ17_hashCode_1 en2 ?_
  by_cases hs0 : (nI n2).toInt = 0
  · refine kr_lookup (tgt := 28) O dJ17_hashCode_2 (by decide) (by rw [hs0] <;> rfl) rfl ?_
    replace h := h.1 hs0
    refine kr_iconst O dJ17_hashCode_28 (v := (0 : Int32)) (by decide) ?_
    refine kr_goto (tgt := 51) O dJ17_hashCode_29 rfl ?_
    exact kr_iret O dJ17_hashCode_51 rfl h
  by_cases hs1 : (nI n2).toInt = 1
  · refine kr_lookup (tgt := 32) O dJ17_hashCode_2 (by decide) (by rw [hs1] <;> rfl) rfl ?_
    replace h := h.2.1 hs1
    refine kr_aload_n O dJ17_hashCode_32 rfl 0 rfl ?_
    refine kr_iconst O dJ17_hashCode_33 (v := (0 : Int32)) (by decide) ?_
    obtain ⟨u3, eu3, h⟩ := h
    refine kr_baload O dJ17_hashCode_34 eu3 ?_
    refine kr_sipush O dJ17_hashCode_35 (v := (255 : Int32)) (by decide) ?_
    refine kr_iand O dJ17_hashCode_38 ?_
    refine kr_goto (tgt := 51) O dJ17_hashCode_39 rfl ?_
    exact kr_iret O dJ17_hashCode_51 rfl h
  refine kr_lookup (tgt := 42) O dJ17_hashCode_2 (by decide) (kt_lk2 hs0 hs1) rfl ?_
  replace h := h.2.2 hs0 hs1
  refine kr_aload_n O dJ17_hashCode_42 rfl 0 rfl ?_
  refine kr_iconst O dJ17_hashCode_43 (v := (0 : Int32)) (by decide) ?_
  refine kr_aload_n O dJ17_hashCode_44 rfl 0 rfl ?_
  obtain ⟨n4, en4, h⟩ := h
  refine kr_alen O dJ17_hashCode_45 en4 ?_
  refine kr_iconst O dJ17_hashCode_46 (v := (0 : Int32)) (by decide) ?_
  refine kr_iconst O dJ17_hashCode_47 (v := (4 : Int32)) (by decide) ?_
  refine kr_caI (rest := []) O cd_J6_vectorizedHashCode h (Nat.le_of_ble_eq_true rfl) (fun ls _ => kt_ivS O dJ17_hashCode_48 cd_J6_vectorizedHashCode in_J6_vectorizedHashCode q1718 q1719 hy_J6_vectorizedHashCode) (fun u5 M6 hq => ?_) (fun E q M9 hx => kr_out O hx)
  replace h := hq
  clear hq
  exact kr_iret O dJ17_hashCode_51 rfl h
def vc_J18_checkIndex_9 (w : kt_W) (gr : kt_g × kt_M) (d : Nat) (P : Option Value → kt_M → Prop) (X : String → Nat → kt_M → Prop)  (v0 : Int32) (v1 : Int32) (r2 : Option Nat) (M : kt_M) : Prop :=
  False
theorem cj_J18_checkIndex_9 {w : kt_W} {x : kt_X} {gr : kt_g × kt_M} {d : Nat} {P : Option Value → kt_M → Prop} {X : String → Nat → kt_M → Prop}  {v0 : Int32} {v1 : Int32} {r2 : Option Nat} {M : kt_M} (O : kt_O w x gr (d + 1) cJ18_checkIndex "jdk/internal/util/Preconditions" 3 ("checkIndex", "(IILjava/util/function/BiFunction;)I") (Option.some Jvm.ClassFile.FieldType.int) [])  (h : vc_J18_checkIndex_9 w gr d P X  v0 v1 r2 M) : kt_S w x 3 (kt_E w x P X) M 9 [(0, .int v0), (1, .int v1), (2, va_rf r2)] [] := by
  unfold vc_J18_checkIndex_9 at h
  refine kr_aload_n O dJ18_checkIndex_9 rfl 2 rfl ?_
  refine kr_iload_n O dJ18_checkIndex_10 rfl 0 rfl ?_
  refine kr_iload_n O dJ18_checkIndex_11 rfl 1 rfl ?_
  exact h.elim
def vc_J18_checkIndex (w : kt_W) (gr : kt_g × kt_M) (d : Nat) (P : Option Value → kt_M → Prop) (X : String → Nat → kt_M → Prop) (v0 : Int32) (v1 : Int32) (r2 : Option Nat) (M : kt_M) : Prop :=
  
    ((v0 < 0 → vc_J18_checkIndex_9 w gr d P X  v0 v1 r2 M) ∧
    (¬ v0 < 0 → 
      ((v0 < v1 → P (some (.int v0)) M) ∧
      (¬ v0 < v1 → vc_J18_checkIndex_9 w gr d P X  v0 v1 r2 M))))
theorem ce_J18_checkIndex {w : kt_W} {g : kt_g} {d : Nat} {P : Option Value → kt_M → Prop} {X : String → Nat → kt_M → Prop} {v0 : Int32} {v1 : Int32} {r2 : Option Nat} {M : kt_M} (h : vc_J18_checkIndex w (g, M) d P X v0 v1 r2 M) : kt_Sp w g (d + 1) yJ18_checkIndex kc_J18_checkIndex [.int v0, .int v1, va_rf r2] M P X := by
  refine kt_of (L0 := [(0, .int v0), (1, .int v1), (2, va_rf r2)]) (by decide +kernel) (by simp only [kt_lgR, kt_lgI, kt_lgN] <;> exact Nat.le_of_ble_eq_true rfl) (by simp only [kt_lvR, kt_lvI, kt_lvN] <;> rfl) fun x O => ?_
  replace O : kt_O w x (g, M) (d + 1) cJ18_checkIndex "jdk/internal/util/Preconditions" 3 ("checkIndex", "(IILjava/util/function/BiFunction;)I") (Option.some Jvm.ClassFile.FieldType.int) [] := O
  unfold vc_J18_checkIndex at h
  refine kr_iload_n O dJ18_checkIndex_0 rfl 0 rfl ?_
  refine kr_if_lt (tgt := 9) O dJ18_checkIndex_1 rfl (fun hc => ?_) (fun hc => ?_)
  · replace h := h.1 hc
    exact cj_J18_checkIndex_9 O  h
  · replace h := h.2 hc
    refine kr_iload_n O dJ18_checkIndex_4 rfl 0 rfl ?_
    refine kr_iload_n O dJ18_checkIndex_5 rfl 1 rfl ?_
    refine kr_icmp_lt (tgt := 16) O dJ18_checkIndex_6 rfl (fun hc => ?_) (fun hc => ?_)
    · replace h := h.1 hc
      refine kr_iload_n O dJ18_checkIndex_16 rfl 0 rfl ?_
      exact kr_iret O dJ18_checkIndex_17 rfl h
    · replace h := h.2 hc
      exact cj_J18_checkIndex_9 O  h
def vc_J19_numberOfTrailingZeros_74 (w : kt_W) (gr : kt_g × kt_M) (d : Nat) (P : Option Value → kt_M → Prop) (X : String → Nat → kt_M → Prop)  (v0 : Int32) (v1 : Int32) (M : kt_M) : Prop :=
  P (some (.int (v1 + ((v0.toUInt32 >>> ((1 : Int32).toUInt32 &&& Int32.toUInt32 31)).toInt32)))) M
theorem cj_J19_numberOfTrailingZeros_74 {w : kt_W} {x : kt_X} {gr : kt_g × kt_M} {d : Nat} {P : Option Value → kt_M → Prop} {X : String → Nat → kt_M → Prop}  {v0 : Int32} {v1 : Int32} {M : kt_M} (O : kt_O w x gr (d + 1) cJ19_numberOfTrailingZeros "java/lang/Integer" 2 ("numberOfTrailingZeros", "(I)I") (Option.some Jvm.ClassFile.FieldType.int) [])  (h : vc_J19_numberOfTrailingZeros_74 w gr d P X  v0 v1 M) : kt_S w x 2 (kt_E w x P X) M 74 [(0, .int v0), (1, .int v1)] [] := by
  unfold vc_J19_numberOfTrailingZeros_74 at h
  refine kr_iload_n O dJ19_numberOfTrailingZeros_74 rfl 1 rfl ?_
  refine kr_iload_n O dJ19_numberOfTrailingZeros_75 rfl 0 rfl ?_
  refine kr_iconst O dJ19_numberOfTrailingZeros_76 (v := (1 : Int32)) (by decide) ?_
  refine kr_iushr O dJ19_numberOfTrailingZeros_77 ?_
  refine kr_iadd O dJ19_numberOfTrailingZeros_78 ?_
  exact kr_iret O dJ19_numberOfTrailingZeros_79 rfl h
def vc_J19_numberOfTrailingZeros_62 (w : kt_W) (gr : kt_g × kt_M) (d : Nat) (P : Option Value → kt_M → Prop) (X : String → Nat → kt_M → Prop)  (v0 : Int32) (v1 : Int32) (M : kt_M) : Prop :=
  
    ((v0 ≤ (4 : Int32) → vc_J19_numberOfTrailingZeros_74 w gr d P X  v0 v1 M) ∧
    (¬ v0 ≤ (4 : Int32) → vc_J19_numberOfTrailingZeros_74 w gr d P X  ((v0.toUInt32 >>> ((2 : Int32).toUInt32 &&& Int32.toUInt32 31)).toInt32) (v1 + (2 : Int32)) M))
theorem cj_J19_numberOfTrailingZeros_62 {w : kt_W} {x : kt_X} {gr : kt_g × kt_M} {d : Nat} {P : Option Value → kt_M → Prop} {X : String → Nat → kt_M → Prop}  {v0 : Int32} {v1 : Int32} {M : kt_M} (O : kt_O w x gr (d + 1) cJ19_numberOfTrailingZeros "java/lang/Integer" 2 ("numberOfTrailingZeros", "(I)I") (Option.some Jvm.ClassFile.FieldType.int) [])  (h : vc_J19_numberOfTrailingZeros_62 w gr d P X  v0 v1 M) : kt_S w x 2 (kt_E w x P X) M 62 [(0, .int v0), (1, .int v1)] [] := by
  unfold vc_J19_numberOfTrailingZeros_62 at h
  refine kr_iload_n O dJ19_numberOfTrailingZeros_62 rfl 0 rfl ?_
  refine kr_iconst O dJ19_numberOfTrailingZeros_63 (v := (4 : Int32)) (by decide) ?_
  refine kr_icmp_le (tgt := 74) O dJ19_numberOfTrailingZeros_64 rfl (fun hc => ?_) (fun hc => ?_)
  · replace h := h.1 hc
    exact cj_J19_numberOfTrailingZeros_74 O  h
  · replace h := h.2 hc
    refine kr_iinc O dJ19_numberOfTrailingZeros_67 1 rfl (v := v1 + (2 : Int32)) rfl (Nat.le_of_ble_eq_true rfl) rfl rfl ?_
    refine kr_iload_n O dJ19_numberOfTrailingZeros_70 rfl 1 rfl ?_
    refine kr_iconst O dJ19_numberOfTrailingZeros_71 (v := (2 : Int32)) (by decide) ?_
    refine kr_iushr O dJ19_numberOfTrailingZeros_72 ?_
    refine kr_istore_n O dJ19_numberOfTrailingZeros_73 rfl (Nat.le_of_ble_eq_true rfl) rfl rfl ?_
    exact cj_J19_numberOfTrailingZeros_74 O  h
def vc_J19_numberOfTrailingZeros_49 (w : kt_W) (gr : kt_g × kt_M) (d : Nat) (P : Option Value → kt_M → Prop) (X : String → Nat → kt_M → Prop)  (v0 : Int32) (v1 : Int32) (M : kt_M) : Prop :=
  
    ((v0 ≤ (16 : Int32) → vc_J19_numberOfTrailingZeros_62 w gr d P X  v0 v1 M) ∧
    (¬ v0 ≤ (16 : Int32) → vc_J19_numberOfTrailingZeros_62 w gr d P X  ((v0.toUInt32 >>> ((4 : Int32).toUInt32 &&& Int32.toUInt32 31)).toInt32) (v1 + (4 : Int32)) M))
theorem cj_J19_numberOfTrailingZeros_49 {w : kt_W} {x : kt_X} {gr : kt_g × kt_M} {d : Nat} {P : Option Value → kt_M → Prop} {X : String → Nat → kt_M → Prop}  {v0 : Int32} {v1 : Int32} {M : kt_M} (O : kt_O w x gr (d + 1) cJ19_numberOfTrailingZeros "java/lang/Integer" 2 ("numberOfTrailingZeros", "(I)I") (Option.some Jvm.ClassFile.FieldType.int) [])  (h : vc_J19_numberOfTrailingZeros_49 w gr d P X  v0 v1 M) : kt_S w x 2 (kt_E w x P X) M 49 [(0, .int v0), (1, .int v1)] [] := by
  unfold vc_J19_numberOfTrailingZeros_49 at h
  refine kr_iload_n O dJ19_numberOfTrailingZeros_49 rfl 0 rfl ?_
  refine kr_bipush O dJ19_numberOfTrailingZeros_50 (v := (16 : Int32)) (by decide) ?_
  refine kr_icmp_le (tgt := 62) O dJ19_numberOfTrailingZeros_52 rfl (fun hc => ?_) (fun hc => ?_)
  · replace h := h.1 hc
    exact cj_J19_numberOfTrailingZeros_62 O  h
  · replace h := h.2 hc
    refine kr_iinc O dJ19_numberOfTrailingZeros_55 1 rfl (v := v1 + (4 : Int32)) rfl (Nat.le_of_ble_eq_true rfl) rfl rfl ?_
    refine kr_iload_n O dJ19_numberOfTrailingZeros_58 rfl 1 rfl ?_
    refine kr_iconst O dJ19_numberOfTrailingZeros_59 (v := (4 : Int32)) (by decide) ?_
    refine kr_iushr O dJ19_numberOfTrailingZeros_60 ?_
    refine kr_istore_n O dJ19_numberOfTrailingZeros_61 rfl (Nat.le_of_ble_eq_true rfl) rfl rfl ?_
    exact cj_J19_numberOfTrailingZeros_62 O  h
def vc_J19_numberOfTrailingZeros_34 (w : kt_W) (gr : kt_g × kt_M) (d : Nat) (P : Option Value → kt_M → Prop) (X : String → Nat → kt_M → Prop)  (v0 : Int32) (v1 : Int32) (M : kt_M) : Prop :=
  
    ((v0 ≤ (256 : Int32) → vc_J19_numberOfTrailingZeros_49 w gr d P X  v0 v1 M) ∧
    (¬ v0 ≤ (256 : Int32) → vc_J19_numberOfTrailingZeros_49 w gr d P X  ((v0.toUInt32 >>> ((8 : Int32).toUInt32 &&& Int32.toUInt32 31)).toInt32) (v1 + (8 : Int32)) M))
theorem cj_J19_numberOfTrailingZeros_34 {w : kt_W} {x : kt_X} {gr : kt_g × kt_M} {d : Nat} {P : Option Value → kt_M → Prop} {X : String → Nat → kt_M → Prop}  {v0 : Int32} {v1 : Int32} {M : kt_M} (O : kt_O w x gr (d + 1) cJ19_numberOfTrailingZeros "java/lang/Integer" 2 ("numberOfTrailingZeros", "(I)I") (Option.some Jvm.ClassFile.FieldType.int) [])  (h : vc_J19_numberOfTrailingZeros_34 w gr d P X  v0 v1 M) : kt_S w x 2 (kt_E w x P X) M 34 [(0, .int v0), (1, .int v1)] [] := by
  unfold vc_J19_numberOfTrailingZeros_34 at h
  refine kr_iload_n O dJ19_numberOfTrailingZeros_34 rfl 0 rfl ?_
  refine kr_sipush O dJ19_numberOfTrailingZeros_35 (v := (256 : Int32)) (by decide) ?_
  refine kr_icmp_le (tgt := 49) O dJ19_numberOfTrailingZeros_38 rfl (fun hc => ?_) (fun hc => ?_)
  · replace h := h.1 hc
    exact cj_J19_numberOfTrailingZeros_49 O  h
  · replace h := h.2 hc
    refine kr_iinc O dJ19_numberOfTrailingZeros_41 1 rfl (v := v1 + (8 : Int32)) rfl (Nat.le_of_ble_eq_true rfl) rfl rfl ?_
    refine kr_iload_n O dJ19_numberOfTrailingZeros_44 rfl 1 rfl ?_
    refine kr_bipush O dJ19_numberOfTrailingZeros_45 (v := (8 : Int32)) (by decide) ?_
    refine kr_iushr O dJ19_numberOfTrailingZeros_47 ?_
    refine kr_istore_n O dJ19_numberOfTrailingZeros_48 rfl (Nat.le_of_ble_eq_true rfl) rfl rfl ?_
    exact cj_J19_numberOfTrailingZeros_49 O  h
def vc_J19_numberOfTrailingZeros (w : kt_W) (gr : kt_g × kt_M) (d : Nat) (P : Option Value → kt_M → Prop) (X : String → Nat → kt_M → Prop) (v0 : Int32) (M : kt_M) : Prop :=
  
    ((0 < ((v0 ^^^ (-1 : Int32)) &&& (v0 - (1 : Int32))) → 
      ((((v0 ^^^ (-1 : Int32)) &&& (v0 - (1 : Int32))) ≤ (65536 : Int32) → vc_J19_numberOfTrailingZeros_34 w gr d P X  ((v0 ^^^ (-1 : Int32)) &&& (v0 - (1 : Int32))) (1 : Int32) M) ∧
      (¬ ((v0 ^^^ (-1 : Int32)) &&& (v0 - (1 : Int32))) ≤ (65536 : Int32) → vc_J19_numberOfTrailingZeros_34 w gr d P X  ((((v0 ^^^ (-1 : Int32)) &&& (v0 - (1 : Int32))).toUInt32 >>> ((16 : Int32).toUInt32 &&& Int32.toUInt32 31)).toInt32) ((1 : Int32) + (16 : Int32)) M))) ∧
    (¬ 0 < ((v0 ^^^ (-1 : Int32)) &&& (v0 - (1 : Int32))) → P (some (.int (((v0 ^^^ (-1 : Int32)) &&& (v0 - (1 : Int32))) &&& (32 : Int32)))) M))
theorem ce_J19_numberOfTrailingZeros {w : kt_W} {g : kt_g} {d : Nat} {P : Option Value → kt_M → Prop} {X : String → Nat → kt_M → Prop} {v0 : Int32} {M : kt_M} (h : vc_J19_numberOfTrailingZeros w (g, M) d P X v0 M) : kt_Sp w g (d + 1) yJ19_numberOfTrailingZeros kc_J19_numberOfTrailingZeros [.int v0] M P X := by
  refine kt_of (L0 := [(0, .int v0)]) (by decide +kernel) (Nat.le_of_ble_eq_true rfl) rfl fun x O => ?_
  replace O : kt_O w x (g, M) (d + 1) cJ19_numberOfTrailingZeros "java/lang/Integer" 2 ("numberOfTrailingZeros", "(I)I") (Option.some Jvm.ClassFile.FieldType.int) [] := O
  unfold vc_J19_numberOfTrailingZeros at h
  refine kr_iload_n O dJ19_numberOfTrailingZeros_0 rfl 0 rfl ?_
  refine kr_iconst O dJ19_numberOfTrailingZeros_1 (v := (-1 : Int32)) (by decide) ?_
  refine kr_ixor O dJ19_numberOfTrailingZeros_2 ?_
  refine kr_iload_n O dJ19_numberOfTrailingZeros_3 rfl 0 rfl ?_
  refine kr_iconst O dJ19_numberOfTrailingZeros_4 (v := (1 : Int32)) (by decide) ?_
  refine kr_isub O dJ19_numberOfTrailingZeros_5 ?_
  refine kr_iand O dJ19_numberOfTrailingZeros_6 ?_
  refine kr_istore_n O dJ19_numberOfTrailingZeros_7 rfl (Nat.le_of_ble_eq_true rfl) rfl rfl ?_
  refine kr_iload_n O dJ19_numberOfTrailingZeros_8 rfl 0 rfl ?_
  refine kr_if_gt (tgt := 17) O dJ19_numberOfTrailingZeros_9 rfl (fun hc => ?_) (fun hc => ?_)
  · replace h := h.1 hc
    refine kr_iconst O dJ19_numberOfTrailingZeros_17 (v := (1 : Int32)) (by decide) ?_
    refine kr_istore_n O dJ19_numberOfTrailingZeros_18 rfl (Nat.le_of_ble_eq_true rfl) rfl rfl ?_
    refine kr_iload_n O dJ19_numberOfTrailingZeros_19 rfl 1 rfl ?_
    refine kr_ldcw O dJ19_numberOfTrailingZeros_20 q547 ?_
    refine kr_icmp_le (tgt := 34) O dJ19_numberOfTrailingZeros_23 rfl (fun hc => ?_) (fun hc => ?_)
    · replace h := h.1 hc
      refine kr_sub [1, 0] rfl ?_
      exact cj_J19_numberOfTrailingZeros_34 O  h
    · replace h := h.2 hc
      refine kr_iinc O dJ19_numberOfTrailingZeros_26 0 rfl (v := (1 : Int32) + (16 : Int32)) rfl (Nat.le_of_ble_eq_true rfl) rfl rfl ?_
      refine kr_iload_n O dJ19_numberOfTrailingZeros_29 rfl 1 rfl ?_
      refine kr_bipush O dJ19_numberOfTrailingZeros_30 (v := (16 : Int32)) (by decide) ?_
      refine kr_iushr O dJ19_numberOfTrailingZeros_32 ?_
      refine kr_istore_n O dJ19_numberOfTrailingZeros_33 rfl (Nat.le_of_ble_eq_true rfl) rfl rfl ?_
      exact cj_J19_numberOfTrailingZeros_34 O  h
  · replace h := h.2 hc
    refine kr_iload_n O dJ19_numberOfTrailingZeros_12 rfl 0 rfl ?_
    refine kr_bipush O dJ19_numberOfTrailingZeros_13 (v := (32 : Int32)) (by decide) ?_
    refine kr_iand O dJ19_numberOfTrailingZeros_15 ?_
    exact kr_iret O dJ19_numberOfTrailingZeros_16 rfl h
def vc_J19_stringSize_16 (w : kt_W) (gr : kt_g × kt_M) (d : Nat) (P : Option Value → kt_M → Prop) (X : String → Nat → kt_M → Prop) (nx16 : Int32 → Int32 → kt_M → Prop) (v0 : Int32) (v1 : Int32) (v2 : Int32) (v3 : Int32) (M : kt_M) : Prop :=
  
    (((10 : Int32) ≤ v3 → P (some (.int ((10 : Int32) + v1))) M) ∧
    (¬ (10 : Int32) ≤ v3 → 
      ((v0 ≤ v2 → nx16 ((10 : Int32) * v2) (v3 + (1 : Int32)) M) ∧
      (¬ v0 ≤ v2 → P (some (.int (v3 + v1))) M))))
theorem cj_J19_stringSize_16 {w : kt_W} {x : kt_X} {gr : kt_g × kt_M} {d : Nat} {P : Option Value → kt_M → Prop} {X : String → Nat → kt_M → Prop} {nx16 : Int32 → Int32 → kt_M → Prop} {v0 : Int32} {v1 : Int32} {v2 : Int32} {v3 : Int32} {M : kt_M} (O : kt_O w x gr (d + 1) cJ19_stringSize "java/lang/Integer" 4 ("stringSize", "(I)I") (Option.some Jvm.ClassFile.FieldType.int) []) (hn16 : ∀ v2 v3 M, nx16 v2 v3 M → kt_S w x 4 (kt_E w x P X) M 16 [(0, .int v0), (1, .int v1), (2, .int v2), (3, .int v3)] []) (h : vc_J19_stringSize_16 w gr d P X nx16 v0 v1 v2 v3 M) : kt_S w x 4 (kt_E w x P X) M 16 [(0, .int v0), (1, .int v1), (2, .int v2), (3, .int v3)] [] := by
  unfold vc_J19_stringSize_16 at h
  refine kr_iload_n O dJ19_stringSize_16 rfl 3 rfl ?_
  refine kr_bipush O dJ19_stringSize_17 (v := (10 : Int32)) (by decide) ?_
  refine kr_icmp_ge (tgt := 42) O dJ19_stringSize_19 rfl (fun hc => ?_) (fun hc => ?_)
  · replace h := h.1 hc
    refine kr_bipush O dJ19_stringSize_42 (v := (10 : Int32)) (by decide) ?_
    refine kr_iload_n O dJ19_stringSize_44 rfl 1 rfl ?_
    refine kr_iadd O dJ19_stringSize_45 ?_
    exact kr_iret O dJ19_stringSize_46 rfl h
  · replace h := h.2 hc
    refine kr_iload_n O dJ19_stringSize_22 rfl 0 rfl ?_
    refine kr_iload_n O dJ19_stringSize_23 rfl 2 rfl ?_
    refine kr_icmp_le (tgt := 31) O dJ19_stringSize_24 rfl (fun hc => ?_) (fun hc => ?_)
    · replace h := h.1 hc
      refine kr_bipush O dJ19_stringSize_31 (v := (10 : Int32)) (by decide) ?_
      refine kr_iload_n O dJ19_stringSize_33 rfl 2 rfl ?_
      refine kr_imul O dJ19_stringSize_34 ?_
      refine kr_istore_n O dJ19_stringSize_35 rfl (Nat.le_of_ble_eq_true rfl) rfl rfl ?_
      refine kr_iinc O dJ19_stringSize_36 3 rfl (v := v3 + (1 : Int32)) rfl (Nat.le_of_ble_eq_true rfl) rfl rfl ?_
      refine kr_goto (tgt := 16) O dJ19_stringSize_39 rfl ?_
      refine kr_sub [2, 3, 1, 0] rfl ?_
      exact hn16 _ _ _ h
    · replace h := h.2 hc
      refine kr_iload_n O dJ19_stringSize_27 rfl 3 rfl ?_
      refine kr_iload_n O dJ19_stringSize_28 rfl 1 rfl ?_
      refine kr_iadd O dJ19_stringSize_29 ?_
      exact kr_iret O dJ19_stringSize_30 rfl h
def vl_J19_stringSize_16 (w : kt_W) (gr : kt_g × kt_M) (d : Nat) (P : Option Value → kt_M → Prop) (X : String → Nat → kt_M → Prop)  (v0 : Int32) (v1 : Int32) (v2 : Int32) (v3 : Int32) (M : kt_M) : Prop :=
  ∃ Inv : Nat → Int32 → Int32 → kt_M → Prop, (∃ k, Inv k v2 v3 M) ∧ ∀ k v2 v3 M, kt_le gr.1 gr.2 M → Inv k v2 v3 M → vc_J19_stringSize_16 w gr d P X (fun v2' v3' M' => ∃ k', k' < k ∧ Inv k' v2' v3' M') v0 v1 v2 v3 M
theorem cl_J19_stringSize_16 {w : kt_W} {x : kt_X} {gr : kt_g × kt_M} {d : Nat} {P : Option Value → kt_M → Prop} {X : String → Nat → kt_M → Prop}  {v0 : Int32} {v1 : Int32} {v2 : Int32} {v3 : Int32} {M : kt_M} (O : kt_O w x gr (d + 1) cJ19_stringSize "java/lang/Integer" 4 ("stringSize", "(I)I") (Option.some Jvm.ClassFile.FieldType.int) [])  (h : vl_J19_stringSize_16 w gr d P X  v0 v1 v2 v3 M) : kt_S w x 4 (kt_E w x P X) M 16 [(0, .int v0), (1, .int v1), (2, .int v2), (3, .int v3)] [] := by
  obtain ⟨Inv, ⟨k, hk⟩, hb⟩ := h
  induction k using Nat.strongRecOn generalizing v2 v3 M with
  | ind k ih =>
    exact kr_le O fun hle => cj_J19_stringSize_16 O (fun v2' v3' M' hi => let ⟨k', h1, h2⟩ := hi; ih k' h1 h2) (hb k _ _ _ hle hk)
def vc_J19_stringSize (w : kt_W) (gr : kt_g × kt_M) (d : Nat) (P : Option Value → kt_M → Prop) (X : String → Nat → kt_M → Prop) (v0 : Int32) (M : kt_M) : Prop :=
  
    ((v0 < 0 → vl_J19_stringSize_16 w gr d P X  v0 (1 : Int32) (-10 : Int32) (1 : Int32) M) ∧
    (¬ v0 < 0 → vl_J19_stringSize_16 w gr d P X  (-v0) (0 : Int32) (-10 : Int32) (1 : Int32) M))
theorem ce_J19_stringSize {w : kt_W} {g : kt_g} {d : Nat} {P : Option Value → kt_M → Prop} {X : String → Nat → kt_M → Prop} {v0 : Int32} {M : kt_M} (h : vc_J19_stringSize w (g, M) d P X v0 M) : kt_Sp w g (d + 1) yJ19_stringSize kc_J19_stringSize [.int v0] M P X := by
  refine kt_of (L0 := [(0, .int v0)]) (by decide +kernel) (Nat.le_of_ble_eq_true rfl) rfl fun x O => ?_
  replace O : kt_O w x (g, M) (d + 1) cJ19_stringSize "java/lang/Integer" 4 ("stringSize", "(I)I") (Option.some Jvm.ClassFile.FieldType.int) [] := O
  unfold vc_J19_stringSize at h
  refine kr_iconst O dJ19_stringSize_0 (v := (1 : Int32)) (by decide) ?_
  refine kr_istore_n O dJ19_stringSize_1 rfl (Nat.le_of_ble_eq_true rfl) rfl rfl ?_
  refine kr_iload_n O dJ19_stringSize_2 rfl 1 rfl ?_
  refine kr_if_lt (tgt := 11) O dJ19_stringSize_3 rfl (fun hc => ?_) (fun hc => ?_)
  · replace h := h.1 hc
    refine kr_bipush O dJ19_stringSize_11 (v := (-10 : Int32)) (by decide) ?_
    refine kr_istore_n O dJ19_stringSize_13 rfl (Nat.le_of_ble_eq_true rfl) rfl rfl ?_
    refine kr_iconst O dJ19_stringSize_14 (v := (1 : Int32)) (by decide) ?_
    refine kr_istore_n O dJ19_stringSize_15 rfl (Nat.le_of_ble_eq_true rfl) rfl rfl ?_
    refine kr_sub [3, 2, 1, 0] rfl ?_
    exact cl_J19_stringSize_16 O  h
  · replace h := h.2 hc
    refine kr_iconst O dJ19_stringSize_6 (v := (0 : Int32)) (by decide) ?_
    refine kr_istore_n O dJ19_stringSize_7 rfl (Nat.le_of_ble_eq_true rfl) rfl rfl ?_
    refine kr_iload_n O dJ19_stringSize_8 rfl 1 rfl ?_
    refine kr_ineg O dJ19_stringSize_9 ?_
    refine kr_istore_n O dJ19_stringSize_10 rfl (Nat.le_of_ble_eq_true rfl) rfl rfl ?_
    refine kr_bipush O dJ19_stringSize_11 (v := (-10 : Int32)) (by decide) ?_
    refine kr_istore_n O dJ19_stringSize_13 rfl (Nat.le_of_ble_eq_true rfl) rfl rfl ?_
    refine kr_iconst O dJ19_stringSize_14 (v := (1 : Int32)) (by decide) ?_
    refine kr_istore_n O dJ19_stringSize_15 rfl (Nat.le_of_ble_eq_true rfl) rfl rfl ?_
    refine kr_sub [2, 3, 1, 0] rfl ?_
    exact cl_J19_stringSize_16 O  h
def vc_J19_getChars_104 (w : kt_W) (gr : kt_g × kt_M) (d : Nat) (P : Option Value → kt_M → Prop) (X : String → Nat → kt_M → Prop)  (a2 : Nat) (v5 : Int32) (v6 : Int32) (M : kt_M) : Prop :=
  
    ((v6 = 0 → P (some (.int v5)) M) ∧
    (¬ v6 = 0 → kt_hii gr 2 M a2 (v5 + (-1 : Int32)) ∧ ∀ M1, M1 = kt_si M a2 (v5 + (-1 : Int32)) (45 : Int32).toInt8.toInt32 → P (some (.int (v5 + (-1 : Int32)))) M1))
theorem cj_J19_getChars_104 {w : kt_W} {x : kt_X} {gr : kt_g × kt_M} {d : Nat} {P : Option Value → kt_M → Prop} {X : String → Nat → kt_M → Prop}  {a2 : Nat} {v5 : Int32} {v6 : Int32} {M : kt_M} (O : kt_O w x gr (d + 1) cJ19_getChars "java/lang/Integer" 7 ("getChars", "(II[B)I") (Option.some Jvm.ClassFile.FieldType.int) [])  (h : vc_J19_getChars_104 w gr d P X  a2 v5 v6 M) : kt_S w x 7 (kt_E w x P X) M 104 [(2, va_rf (some a2)), (5, .int v5), (6, .int v6)] [] := by
  unfold vc_J19_getChars_104 at h
  refine kr_iload O dJ19_getChars_104 2 rfl ?_
  refine kr_if_eq (tgt := 118) O dJ19_getChars_106 rfl (fun hc => ?_) (fun hc => ?_)
  · replace h := h.1 hc
    refine kr_iload O dJ19_getChars_118 1 rfl ?_
    exact kr_iret O dJ19_getChars_120 rfl h
  · replace h := h.2 hc
    refine kr_aload_n O dJ19_getChars_109 rfl 0 rfl ?_
    refine kr_iinc O dJ19_getChars_110 1 rfl (v := v5 + (-1 : Int32)) rfl (Nat.le_of_ble_eq_true rfl) rfl rfl ?_
    refine kr_iload O dJ19_getChars_113 0 rfl ?_
    refine kr_bipush O dJ19_getChars_115 (v := (45 : Int32)) (by decide) ?_
    obtain ⟨hw, h⟩ := h
    refine kr_bastore O dJ19_getChars_117 hw (kr_nmM fun M1 hM1 => ?_)
    replace h := h M1 hM1
    refine kr_iload O dJ19_getChars_118 0 rfl ?_
    exact kr_iret O dJ19_getChars_120 rfl h
def vc_J19_getChars_22 (w : kt_W) (gr : kt_g × kt_M) (d : Nat) (P : Option Value → kt_M → Prop) (X : String → Nat → kt_M → Prop) (nx22 : Int32 → Int32 → kt_M → Prop) (v0 : Int32) (r2 : Option Nat) (v5 : Int32) (v6 : Int32) (M : kt_M) : Prop :=
  
    (((-100 : Int32) < v0 → ∃ u1, kt_el 2 M (kt_cA w 10) (-v0) = some (.int u1) ∧ ∃ b2, r2 = some b2 ∧ kt_hii gr 2 M b2 (v5 + (-1 : Int32)) ∧ ∀ M3, M3 = kt_si M b2 (v5 + (-1 : Int32)) u1.toInt8.toInt32 → 
      (((-9 : Int32) ≤ v0 → vc_J19_getChars_104 w gr d P X  b2 (v5 + (-1 : Int32)) v6 M3) ∧
      (¬ (-9 : Int32) ≤ v0 → ∃ u4, kt_el 2 M3 (kt_cA w 11) (-v0) = some (.int u4) ∧ kt_hii gr 2 M3 b2 ((v5 + (-1 : Int32)) + (-1 : Int32)) ∧ ∀ M5, M5 = kt_si M3 b2 ((v5 + (-1 : Int32)) + (-1 : Int32)) u4.toInt8.toInt32 → vc_J19_getChars_104 w gr d P X  b2 ((v5 + (-1 : Int32)) + (-1 : Int32)) v6 M5))) ∧
    (¬ (-100 : Int32) < v0 → ¬ (100 : Int32) = 0 ∧ ∃ u6, kt_el 2 M (kt_cA w 10) (((v0 / (100 : Int32)) * (100 : Int32)) - v0) = some (.int u6) ∧ ∃ b7, r2 = some b7 ∧ kt_hii gr 2 M b7 (v5 + (-1 : Int32)) ∧ ∀ M8, M8 = kt_si M b7 (v5 + (-1 : Int32)) u6.toInt8.toInt32 → ∃ u9, kt_el 2 M8 (kt_cA w 11) (((v0 / (100 : Int32)) * (100 : Int32)) - v0) = some (.int u9) ∧ kt_hii gr 2 M8 b7 ((v5 + (-1 : Int32)) + (-1 : Int32)) ∧ ∀ M10, M10 = kt_si M8 b7 ((v5 + (-1 : Int32)) + (-1 : Int32)) u9.toInt8.toInt32 → nx22 (v0 / (100 : Int32)) ((v5 + (-1 : Int32)) + (-1 : Int32)) M10))
theorem cj_J19_getChars_22 {w : kt_W} {x : kt_X} {gr : kt_g × kt_M} {d : Nat} {P : Option Value → kt_M → Prop} {X : String → Nat → kt_M → Prop} {nx22 : Int32 → Int32 → kt_M → Prop} {v0 : Int32} {r2 : Option Nat} {v5 : Int32} {v6 : Int32} {M : kt_M} (O : kt_O w x gr (d + 1) cJ19_getChars "java/lang/Integer" 7 ("getChars", "(II[B)I") (Option.some Jvm.ClassFile.FieldType.int) []) (hn22 : ∀ v0 v5 M, nx22 v0 v5 M → kt_S w x 7 (kt_E w x P X) M 22 [(0, .int v0), (2, va_rf r2), (5, .int v5), (6, .int v6)] []) (h : vc_J19_getChars_22 w gr d P X nx22 v0 r2 v5 v6 M) : kt_S w x 7 (kt_E w x P X) M 22 [(0, .int v0), (2, va_rf r2), (5, .int v5), (6, .int v6)] [] := by
  unfold vc_J19_getChars_22 at h
  refine kr_iload_n O dJ19_getChars_22 rfl 0 rfl ?_
  refine kr_bipush O dJ19_getChars_23 (v := (-100 : Int32)) (by decide) ?_
  refine kr_icmp_gt (tgt := 72) O dJ19_getChars_25 rfl (fun hc => ?_) (fun hc => ?_)
  · replace h := h.1 hc
    refine kr_aload_n O dJ19_getChars_72 rfl 1 rfl ?_
    refine kr_iinc O dJ19_getChars_73 2 rfl (v := v5 + (-1 : Int32)) rfl (Nat.le_of_ble_eq_true rfl) rfl rfl ?_
    refine kr_iload O dJ19_getChars_76 0 rfl ?_
    refine kr_gets O dJ19_getChars_78 q1237 (kt_inT 6 rfl) ?_
    refine kr_iload_n O dJ19_getChars_81 rfl 1 rfl ?_
    refine kr_ineg O dJ19_getChars_82 ?_
    obtain ⟨u1, eu1, h⟩ := h
    refine kr_baload O dJ19_getChars_83 eu1 ?_
    obtain ⟨b2, rfl, h⟩ := h
    obtain ⟨hw, h⟩ := h
    refine kr_bastore O dJ19_getChars_84 hw (kr_nmM fun M3 hM3 => ?_)
    replace h := h M3 hM3
    refine kr_iload_n O dJ19_getChars_85 rfl 1 rfl ?_
    refine kr_bipush O dJ19_getChars_86 (v := (-9 : Int32)) (by decide) ?_
    refine kr_icmp_ge (tgt := 104) O dJ19_getChars_88 rfl (fun hc => ?_) (fun hc => ?_)
    · replace h := h.1 hc
      refine kr_sub [2, 0, 3] rfl ?_
      exact cj_J19_getChars_104 O  h
    · replace h := h.2 hc
      refine kr_aload_n O dJ19_getChars_91 rfl 2 rfl ?_
      refine kr_iinc O dJ19_getChars_92 0 rfl (v := (v5 + (-1 : Int32)) + (-1 : Int32)) rfl (Nat.le_of_ble_eq_true rfl) rfl rfl ?_
      refine kr_iload O dJ19_getChars_95 0 rfl ?_
      refine kr_gets O dJ19_getChars_97 q1239 (kt_inT 7 rfl) ?_
      refine kr_iload_n O dJ19_getChars_100 rfl 1 rfl ?_
      refine kr_ineg O dJ19_getChars_101 ?_
      obtain ⟨u4, eu4, h⟩ := h
      refine kr_baload O dJ19_getChars_102 eu4 ?_
      obtain ⟨hw, h⟩ := h
      refine kr_bastore O dJ19_getChars_103 hw (kr_nmM fun M5 hM5 => ?_)
      replace h := h M5 hM5
      refine kr_sub [2, 0, 3] rfl ?_
      exact cj_J19_getChars_104 O  h
  · replace h := h.2 hc
    refine kr_iload_n O dJ19_getChars_28 rfl 0 rfl ?_
    refine kr_bipush O dJ19_getChars_29 (v := (100 : Int32)) (by decide) ?_
    obtain ⟨hne, h⟩ := h
    refine kr_idiv O dJ19_getChars_31 hne ?_
    refine kr_istore_n O dJ19_getChars_32 rfl (Nat.le_of_ble_eq_true rfl) (by simp [kt_nw, kt_nrf, kt_cI, kt_cJ, kt_cF, kt_cD, kt_cR, kt_cU]) rfl ?_
    refine kr_iload_n O dJ19_getChars_33 rfl 0 rfl ?_
    refine kr_bipush O dJ19_getChars_34 (v := (100 : Int32)) (by decide) ?_
    refine kr_imul O dJ19_getChars_36 ?_
    refine kr_iload_n O dJ19_getChars_37 rfl 1 rfl ?_
    refine kr_isub O dJ19_getChars_38 ?_
    refine kr_istore O dJ19_getChars_39 (Nat.le_of_ble_eq_true rfl) rfl rfl ?_
    refine kr_iload_n O dJ19_getChars_41 rfl 1 rfl ?_
    refine kr_istore_n O dJ19_getChars_42 rfl (Nat.le_of_ble_eq_true rfl) rfl rfl ?_
    refine kr_aload_n O dJ19_getChars_43 rfl 3 rfl ?_
    refine kr_iinc O dJ19_getChars_44 4 rfl (v := v5 + (-1 : Int32)) rfl (Nat.le_of_ble_eq_true rfl) rfl rfl ?_
    refine kr_iload O dJ19_getChars_47 0 rfl ?_
    refine kr_gets O dJ19_getChars_49 q1237 (kt_inT 6 rfl) ?_
    refine kr_iload O dJ19_getChars_52 2 rfl ?_
    obtain ⟨u6, eu6, h⟩ := h
    refine kr_baload O dJ19_getChars_54 eu6 ?_
    obtain ⟨b7, rfl, h⟩ := h
    obtain ⟨hw, h⟩ := h
    refine kr_bastore O dJ19_getChars_55 hw (kr_nmM fun M8 hM8 => ?_)
    replace h := h M8 hM8
    refine kr_aload_n O dJ19_getChars_56 rfl 4 rfl ?_
    refine kr_iinc O dJ19_getChars_57 0 rfl (v := (v5 + (-1 : Int32)) + (-1 : Int32)) rfl (Nat.le_of_ble_eq_true rfl) rfl rfl ?_
    refine kr_iload O dJ19_getChars_60 0 rfl ?_
    refine kr_gets O dJ19_getChars_62 q1239 (kt_inT 7 rfl) ?_
    refine kr_iload O dJ19_getChars_65 2 rfl ?_
    obtain ⟨u9, eu9, h⟩ := h
    refine kr_baload O dJ19_getChars_67 eu9 ?_
    obtain ⟨hw, h⟩ := h
    refine kr_bastore O dJ19_getChars_68 hw (kr_nmM fun M10 hM10 => ?_)
    replace h := h M10 hM10
    refine kr_goto (tgt := 22) O dJ19_getChars_69 rfl ?_
    refine kr_sub [1, 4, 0, 5] rfl ?_
    exact hn22 _ _ _ h
def vl_J19_getChars_22 (w : kt_W) (gr : kt_g × kt_M) (d : Nat) (P : Option Value → kt_M → Prop) (X : String → Nat → kt_M → Prop)  (v0 : Int32) (r2 : Option Nat) (v5 : Int32) (v6 : Int32) (M : kt_M) : Prop :=
  ∃ Inv : Nat → Int32 → Int32 → kt_M → Prop, (∃ k, Inv k v0 v5 M) ∧ ∀ k v0 v5 M, kt_le gr.1 gr.2 M → Inv k v0 v5 M → vc_J19_getChars_22 w gr d P X (fun v0' v5' M' => ∃ k', k' < k ∧ Inv k' v0' v5' M') v0 r2 v5 v6 M
theorem cl_J19_getChars_22 {w : kt_W} {x : kt_X} {gr : kt_g × kt_M} {d : Nat} {P : Option Value → kt_M → Prop} {X : String → Nat → kt_M → Prop}  {v0 : Int32} {r2 : Option Nat} {v5 : Int32} {v6 : Int32} {M : kt_M} (O : kt_O w x gr (d + 1) cJ19_getChars "java/lang/Integer" 7 ("getChars", "(II[B)I") (Option.some Jvm.ClassFile.FieldType.int) [])  (h : vl_J19_getChars_22 w gr d P X  v0 r2 v5 v6 M) : kt_S w x 7 (kt_E w x P X) M 22 [(0, .int v0), (2, va_rf r2), (5, .int v5), (6, .int v6)] [] := by
  obtain ⟨Inv, ⟨k, hk⟩, hb⟩ := h
  induction k using Nat.strongRecOn generalizing v0 v5 M with
  | ind k ih =>
    exact kr_le O fun hle => cj_J19_getChars_22 O (fun v0' v5' M' hi => let ⟨k', h1, h2⟩ := hi; ih k' h1 h2) (hb k _ _ _ hle hk)
def vc_J19_getChars_12 (w : kt_W) (gr : kt_g × kt_M) (d : Nat) (P : Option Value → kt_M → Prop) (X : String → Nat → kt_M → Prop)  (v0 : Int32) (r2 : Option Nat) (v5 : Int32) (s0 : Int32) (M : kt_M) : Prop :=
  
    ((¬ s0 = 0 → vl_J19_getChars_22 w gr d P X  v0 r2 v5 s0 M) ∧
    (s0 = 0 → vl_J19_getChars_22 w gr d P X  (-v0) r2 v5 s0 M))
theorem cj_J19_getChars_12 {w : kt_W} {x : kt_X} {gr : kt_g × kt_M} {d : Nat} {P : Option Value → kt_M → Prop} {X : String → Nat → kt_M → Prop}  {v0 : Int32} {r2 : Option Nat} {v5 : Int32} {s0 : Int32} {M : kt_M} (O : kt_O w x gr (d + 1) cJ19_getChars "java/lang/Integer" 7 ("getChars", "(II[B)I") (Option.some Jvm.ClassFile.FieldType.int) [])  (h : vc_J19_getChars_12 w gr d P X  v0 r2 v5 s0 M) : kt_S w x 7 (kt_E w x P X) M 12 [(0, .int v0), (2, va_rf r2), (5, .int v5)] [.int s0] := by
  unfold vc_J19_getChars_12 at h
  refine kr_istore O dJ19_getChars_12 (Nat.le_of_ble_eq_true rfl) rfl rfl ?_
  refine kr_iload O dJ19_getChars_14 0 rfl ?_
  refine kr_if_ne (tgt := 22) O dJ19_getChars_16 rfl (fun hc => ?_) (fun hc => ?_)
  · replace h := h.1 hc
    refine kr_sub [1, 2, 3, 0] rfl ?_
    exact cl_J19_getChars_22 O  h
  · replace h := h.2 hc
    refine kr_iload_n O dJ19_getChars_19 rfl 1 rfl ?_
    refine kr_ineg O dJ19_getChars_20 ?_
    refine kr_istore_n O dJ19_getChars_21 rfl (Nat.le_of_ble_eq_true rfl) rfl rfl ?_
    refine kr_sub [0, 2, 3, 1] rfl ?_
    exact cl_J19_getChars_22 O  h
def vc_J19_getChars (w : kt_W) (gr : kt_g × kt_M) (d : Nat) (P : Option Value → kt_M → Prop) (X : String → Nat → kt_M → Prop) (v0 : Int32) (v1 : Int32) (r2 : Option Nat) (M : kt_M) : Prop :=
  
    ((0 ≤ v0 → vc_J19_getChars_12 w gr d P X  v0 r2 v1 (0 : Int32) M) ∧
    (¬ 0 ≤ v0 → vc_J19_getChars_12 w gr d P X  v0 r2 v1 (1 : Int32) M))
theorem ce_J19_getChars {w : kt_W} {g : kt_g} {d : Nat} {P : Option Value → kt_M → Prop} {X : String → Nat → kt_M → Prop} {v0 : Int32} {v1 : Int32} {r2 : Option Nat} {M : kt_M} (h : vc_J19_getChars w (g, M) d P X v0 v1 r2 M) : kt_Sp w g (d + 1) yJ19_getChars kc_J19_getChars [.int v0, .int v1, va_rf r2] M P X := by
  refine kt_of (L0 := [(0, .int v0), (1, .int v1), (2, va_rf r2)]) (by decide +kernel) (by simp only [kt_lgR, kt_lgI, kt_lgN] <;> exact Nat.le_of_ble_eq_true rfl) (by simp only [kt_lvR, kt_lvI, kt_lvN] <;> rfl) fun x O => ?_
  replace O : kt_O w x (g, M) (d + 1) cJ19_getChars "java/lang/Integer" 7 ("getChars", "(II[B)I") (Option.some Jvm.ClassFile.FieldType.int) [] := O
  unfold vc_J19_getChars at h
  refine kr_iload_n O dJ19_getChars_0 rfl 1 rfl ?_
  refine kr_istore O dJ19_getChars_1 (Nat.le_of_ble_eq_true rfl) rfl rfl ?_
  refine kr_iload_n O dJ19_getChars_3 rfl 1 rfl ?_
  refine kr_if_ge (tgt := 11) O dJ19_getChars_4 rfl (fun hc => ?_) (fun hc => ?_)
  · replace h := h.1 hc
    refine kr_iconst O dJ19_getChars_11 (v := (0 : Int32)) (by decide) ?_
    refine kr_sub [1, 3, 0] rfl ?_
    exact cj_J19_getChars_12 O  h
  · replace h := h.2 hc
    refine kr_iconst O dJ19_getChars_7 (v := (1 : Int32)) (by decide) ?_
    refine kr_goto (tgt := 12) O dJ19_getChars_8 rfl ?_
    refine kr_sub [1, 3, 0] rfl ?_
    exact cj_J19_getChars_12 O  h
def vc_J19_bitCount (w : kt_W) (gr : kt_g × kt_M) (d : Nat) (P : Option Value → kt_M → Prop) (X : String → Nat → kt_M → Prop) (v0 : Int32) (M : kt_M) : Prop :=
  P (some (.int ((((((((v0 - (((v0.toUInt32 >>> ((1 : Int32).toUInt32 &&& Int32.toUInt32 31)).toInt32) &&& (1431655765 : Int32))) &&& (858993459 : Int32)) + ((((v0 - (((v0.toUInt32 >>> ((1 : Int32).toUInt32 &&& Int32.toUInt32 31)).toInt32) &&& (1431655765 : Int32))).toUInt32 >>> ((2 : Int32).toUInt32 &&& Int32.toUInt32 31)).toInt32) &&& (858993459 : Int32))) + (((((v0 - (((v0.toUInt32 >>> ((1 : Int32).toUInt32 &&& Int32.toUInt32 31)).toInt32) &&& (1431655765 : Int32))) &&& (858993459 : Int32)) + ((((v0 - (((v0.toUInt32 >>> ((1 : Int32).toUInt32 &&& Int32.toUInt32 31)).toInt32) &&& (1431655765 : Int32))).toUInt32 >>> ((2 : Int32).toUInt32 &&& Int32.toUInt32 31)).toInt32) &&& (858993459 : Int32))).toUInt32 >>> ((4 : Int32).toUInt32 &&& Int32.toUInt32 31)).toInt32)) &&& (252645135 : Int32)) + (((((((v0 - (((v0.toUInt32 >>> ((1 : Int32).toUInt32 &&& Int32.toUInt32 31)).toInt32) &&& (1431655765 : Int32))) &&& (858993459 : Int32)) + ((((v0 - (((v0.toUInt32 >>> ((1 : Int32).toUInt32 &&& Int32.toUInt32 31)).toInt32) &&& (1431655765 : Int32))).toUInt32 >>> ((2 : Int32).toUInt32 &&& Int32.toUInt32 31)).toInt32) &&& (858993459 : Int32))) + (((((v0 - (((v0.toUInt32 >>> ((1 : Int32).toUInt32 &&& Int32.toUInt32 31)).toInt32) &&& (1431655765 : Int32))) &&& (858993459 : Int32)) + ((((v0 - (((v0.toUInt32 >>> ((1 : Int32).toUInt32 &&& Int32.toUInt32 31)).toInt32) &&& (1431655765 : Int32))).toUInt32 >>> ((2 : Int32).toUInt32 &&& Int32.toUInt32 31)).toInt32) &&& (858993459 : Int32))).toUInt32 >>> ((4 : Int32).toUInt32 &&& Int32.toUInt32 31)).toInt32)) &&& (252645135 : Int32)).toUInt32 >>> ((8 : Int32).toUInt32 &&& Int32.toUInt32 31)).toInt32)) + ((((((((v0 - (((v0.toUInt32 >>> ((1 : Int32).toUInt32 &&& Int32.toUInt32 31)).toInt32) &&& (1431655765 : Int32))) &&& (858993459 : Int32)) + ((((v0 - (((v0.toUInt32 >>> ((1 : Int32).toUInt32 &&& Int32.toUInt32 31)).toInt32) &&& (1431655765 : Int32))).toUInt32 >>> ((2 : Int32).toUInt32 &&& Int32.toUInt32 31)).toInt32) &&& (858993459 : Int32))) + (((((v0 - (((v0.toUInt32 >>> ((1 : Int32).toUInt32 &&& Int32.toUInt32 31)).toInt32) &&& (1431655765 : Int32))) &&& (858993459 : Int32)) + ((((v0 - (((v0.toUInt32 >>> ((1 : Int32).toUInt32 &&& Int32.toUInt32 31)).toInt32) &&& (1431655765 : Int32))).toUInt32 >>> ((2 : Int32).toUInt32 &&& Int32.toUInt32 31)).toInt32) &&& (858993459 : Int32))).toUInt32 >>> ((4 : Int32).toUInt32 &&& Int32.toUInt32 31)).toInt32)) &&& (252645135 : Int32)) + (((((((v0 - (((v0.toUInt32 >>> ((1 : Int32).toUInt32 &&& Int32.toUInt32 31)).toInt32) &&& (1431655765 : Int32))) &&& (858993459 : Int32)) + ((((v0 - (((v0.toUInt32 >>> ((1 : Int32).toUInt32 &&& Int32.toUInt32 31)).toInt32) &&& (1431655765 : Int32))).toUInt32 >>> ((2 : Int32).toUInt32 &&& Int32.toUInt32 31)).toInt32) &&& (858993459 : Int32))) + (((((v0 - (((v0.toUInt32 >>> ((1 : Int32).toUInt32 &&& Int32.toUInt32 31)).toInt32) &&& (1431655765 : Int32))) &&& (858993459 : Int32)) + ((((v0 - (((v0.toUInt32 >>> ((1 : Int32).toUInt32 &&& Int32.toUInt32 31)).toInt32) &&& (1431655765 : Int32))).toUInt32 >>> ((2 : Int32).toUInt32 &&& Int32.toUInt32 31)).toInt32) &&& (858993459 : Int32))).toUInt32 >>> ((4 : Int32).toUInt32 &&& Int32.toUInt32 31)).toInt32)) &&& (252645135 : Int32)).toUInt32 >>> ((8 : Int32).toUInt32 &&& Int32.toUInt32 31)).toInt32)).toUInt32 >>> ((16 : Int32).toUInt32 &&& Int32.toUInt32 31)).toInt32)) &&& (63 : Int32)))) M
theorem ce_J19_bitCount {w : kt_W} {g : kt_g} {d : Nat} {P : Option Value → kt_M → Prop} {X : String → Nat → kt_M → Prop} {v0 : Int32} {M : kt_M} (h : vc_J19_bitCount w (g, M) d P X v0 M) : kt_Sp w g (d + 1) yJ19_bitCount kc_J19_bitCount [.int v0] M P X := by
  refine kt_of (L0 := [(0, .int v0)]) (by decide +kernel) (Nat.le_of_ble_eq_true rfl) rfl fun x O => ?_
  replace O : kt_O w x (g, M) (d + 1) cJ19_bitCount "java/lang/Integer" 1 ("bitCount", "(I)I") (Option.some Jvm.ClassFile.FieldType.int) [] := O
  unfold vc_J19_bitCount at h
  refine kr_iload_n O dJ19_bitCount_0 rfl 0 rfl ?_
  refine kr_iload_n O dJ19_bitCount_1 rfl 0 rfl ?_
  refine kr_iconst O dJ19_bitCount_2 (v := (1 : Int32)) (by decide) ?_
  refine kr_iushr O dJ19_bitCount_3 ?_
  refine kr_ldcw O dJ19_bitCount_4 q1923 ?_
  refine kr_iand O dJ19_bitCount_7 ?_
  refine kr_isub O dJ19_bitCount_8 ?_
  refine kr_istore_n O dJ19_bitCount_9 rfl (Nat.le_of_ble_eq_true rfl) rfl rfl ?_
  refine kr_iload_n O dJ19_bitCount_10 rfl 0 rfl ?_
  refine kr_ldcw O dJ19_bitCount_11 q1924 ?_
  refine kr_iand O dJ19_bitCount_14 ?_
  refine kr_iload_n O dJ19_bitCount_15 rfl 0 rfl ?_
  refine kr_iconst O dJ19_bitCount_16 (v := (2 : Int32)) (by decide) ?_
  refine kr_iushr O dJ19_bitCount_17 ?_
  refine kr_ldcw O dJ19_bitCount_18 q1924 ?_
  refine kr_iand O dJ19_bitCount_21 ?_
  refine kr_iadd O dJ19_bitCount_22 ?_
  refine kr_istore_n O dJ19_bitCount_23 rfl (Nat.le_of_ble_eq_true rfl) rfl rfl ?_
  refine kr_iload_n O dJ19_bitCount_24 rfl 0 rfl ?_
  refine kr_iload_n O dJ19_bitCount_25 rfl 0 rfl ?_
  refine kr_iconst O dJ19_bitCount_26 (v := (4 : Int32)) (by decide) ?_
  refine kr_iushr O dJ19_bitCount_27 ?_
  refine kr_iadd O dJ19_bitCount_28 ?_
  refine kr_ldcw O dJ19_bitCount_29 q1925 ?_
  refine kr_iand O dJ19_bitCount_32 ?_
  refine kr_istore_n O dJ19_bitCount_33 rfl (Nat.le_of_ble_eq_true rfl) rfl rfl ?_
  refine kr_iload_n O dJ19_bitCount_34 rfl 0 rfl ?_
  refine kr_iload_n O dJ19_bitCount_35 rfl 0 rfl ?_
  refine kr_bipush O dJ19_bitCount_36 (v := (8 : Int32)) (by decide) ?_
  refine kr_iushr O dJ19_bitCount_38 ?_
  refine kr_iadd O dJ19_bitCount_39 ?_
  refine kr_istore_n O dJ19_bitCount_40 rfl (Nat.le_of_ble_eq_true rfl) rfl rfl ?_
  refine kr_iload_n O dJ19_bitCount_41 rfl 0 rfl ?_
  refine kr_iload_n O dJ19_bitCount_42 rfl 0 rfl ?_
  refine kr_bipush O dJ19_bitCount_43 (v := (16 : Int32)) (by decide) ?_
  refine kr_iushr O dJ19_bitCount_45 ?_
  refine kr_iadd O dJ19_bitCount_46 ?_
  refine kr_istore_n O dJ19_bitCount_47 rfl (Nat.le_of_ble_eq_true rfl) rfl rfl ?_
  refine kr_iload_n O dJ19_bitCount_48 rfl 0 rfl ?_
  refine kr_bipush O dJ19_bitCount_49 (v := (63 : Int32)) (by decide) ?_
  refine kr_iand O dJ19_bitCount_51 ?_
  exact kr_iret O dJ19_bitCount_52 rfl h
def vc_J19_numberOfLeadingZeros_73 (w : kt_W) (gr : kt_g × kt_M) (d : Nat) (P : Option Value → kt_M → Prop) (X : String → Nat → kt_M → Prop)  (v0 : Int32) (v1 : Int32) (M : kt_M) : Prop :=
  P (some (.int (v1 - ((v0.toUInt32 >>> ((1 : Int32).toUInt32 &&& Int32.toUInt32 31)).toInt32)))) M
theorem cj_J19_numberOfLeadingZeros_73 {w : kt_W} {x : kt_X} {gr : kt_g × kt_M} {d : Nat} {P : Option Value → kt_M → Prop} {X : String → Nat → kt_M → Prop}  {v0 : Int32} {v1 : Int32} {M : kt_M} (O : kt_O w x gr (d + 1) cJ19_numberOfLeadingZeros "java/lang/Integer" 2 ("numberOfLeadingZeros", "(I)I") (Option.some Jvm.ClassFile.FieldType.int) [])  (h : vc_J19_numberOfLeadingZeros_73 w gr d P X  v0 v1 M) : kt_S w x 2 (kt_E w x P X) M 73 [(0, .int v0), (1, .int v1)] [] := by
  unfold vc_J19_numberOfLeadingZeros_73 at h
  refine kr_iload_n O dJ19_numberOfLeadingZeros_73 rfl 1 rfl ?_
  refine kr_iload_n O dJ19_numberOfLeadingZeros_74 rfl 0 rfl ?_
  refine kr_iconst O dJ19_numberOfLeadingZeros_75 (v := (1 : Int32)) (by decide) ?_
  refine kr_iushr O dJ19_numberOfLeadingZeros_76 ?_
  refine kr_isub O dJ19_numberOfLeadingZeros_77 ?_
  exact kr_iret O dJ19_numberOfLeadingZeros_78 rfl h
def vc_J19_numberOfLeadingZeros_61 (w : kt_W) (gr : kt_g × kt_M) (d : Nat) (P : Option Value → kt_M → Prop) (X : String → Nat → kt_M → Prop)  (v0 : Int32) (v1 : Int32) (M : kt_M) : Prop :=
  
    ((v0 < (4 : Int32) → vc_J19_numberOfLeadingZeros_73 w gr d P X  v0 v1 M) ∧
    (¬ v0 < (4 : Int32) → vc_J19_numberOfLeadingZeros_73 w gr d P X  ((v0.toUInt32 >>> ((2 : Int32).toUInt32 &&& Int32.toUInt32 31)).toInt32) (v1 + (-2 : Int32)) M))
theorem cj_J19_numberOfLeadingZeros_61 {w : kt_W} {x : kt_X} {gr : kt_g × kt_M} {d : Nat} {P : Option Value → kt_M → Prop} {X : String → Nat → kt_M → Prop}  {v0 : Int32} {v1 : Int32} {M : kt_M} (O : kt_O w x gr (d + 1) cJ19_numberOfLeadingZeros "java/lang/Integer" 2 ("numberOfLeadingZeros", "(I)I") (Option.some Jvm.ClassFile.FieldType.int) [])  (h : vc_J19_numberOfLeadingZeros_61 w gr d P X  v0 v1 M) : kt_S w x 2 (kt_E w x P X) M 61 [(0, .int v0), (1, .int v1)] [] := by
  unfold vc_J19_numberOfLeadingZeros_61 at h
  refine kr_iload_n O dJ19_numberOfLeadingZeros_61 rfl 0 rfl ?_
  refine kr_iconst O dJ19_numberOfLeadingZeros_62 (v := (4 : Int32)) (by decide) ?_
  refine kr_icmp_lt (tgt := 73) O dJ19_numberOfLeadingZeros_63 rfl (fun hc => ?_) (fun hc => ?_)
  · replace h := h.1 hc
    exact cj_J19_numberOfLeadingZeros_73 O  h
  · replace h := h.2 hc
    refine kr_iinc O dJ19_numberOfLeadingZeros_66 1 rfl (v := v1 + (-2 : Int32)) rfl (Nat.le_of_ble_eq_true rfl) rfl rfl ?_
    refine kr_iload_n O dJ19_numberOfLeadingZeros_69 rfl 1 rfl ?_
    refine kr_iconst O dJ19_numberOfLeadingZeros_70 (v := (2 : Int32)) (by decide) ?_
    refine kr_iushr O dJ19_numberOfLeadingZeros_71 ?_
    refine kr_istore_n O dJ19_numberOfLeadingZeros_72 rfl (Nat.le_of_ble_eq_true rfl) rfl rfl ?_
    exact cj_J19_numberOfLeadingZeros_73 O  h
def vc_J19_numberOfLeadingZeros_48 (w : kt_W) (gr : kt_g × kt_M) (d : Nat) (P : Option Value → kt_M → Prop) (X : String → Nat → kt_M → Prop)  (v0 : Int32) (v1 : Int32) (M : kt_M) : Prop :=
  
    ((v0 < (16 : Int32) → vc_J19_numberOfLeadingZeros_61 w gr d P X  v0 v1 M) ∧
    (¬ v0 < (16 : Int32) → vc_J19_numberOfLeadingZeros_61 w gr d P X  ((v0.toUInt32 >>> ((4 : Int32).toUInt32 &&& Int32.toUInt32 31)).toInt32) (v1 + (-4 : Int32)) M))
theorem cj_J19_numberOfLeadingZeros_48 {w : kt_W} {x : kt_X} {gr : kt_g × kt_M} {d : Nat} {P : Option Value → kt_M → Prop} {X : String → Nat → kt_M → Prop}  {v0 : Int32} {v1 : Int32} {M : kt_M} (O : kt_O w x gr (d + 1) cJ19_numberOfLeadingZeros "java/lang/Integer" 2 ("numberOfLeadingZeros", "(I)I") (Option.some Jvm.ClassFile.FieldType.int) [])  (h : vc_J19_numberOfLeadingZeros_48 w gr d P X  v0 v1 M) : kt_S w x 2 (kt_E w x P X) M 48 [(0, .int v0), (1, .int v1)] [] := by
  unfold vc_J19_numberOfLeadingZeros_48 at h
  refine kr_iload_n O dJ19_numberOfLeadingZeros_48 rfl 0 rfl ?_
  refine kr_bipush O dJ19_numberOfLeadingZeros_49 (v := (16 : Int32)) (by decide) ?_
  refine kr_icmp_lt (tgt := 61) O dJ19_numberOfLeadingZeros_51 rfl (fun hc => ?_) (fun hc => ?_)
  · replace h := h.1 hc
    exact cj_J19_numberOfLeadingZeros_61 O  h
  · replace h := h.2 hc
    refine kr_iinc O dJ19_numberOfLeadingZeros_54 1 rfl (v := v1 + (-4 : Int32)) rfl (Nat.le_of_ble_eq_true rfl) rfl rfl ?_
    refine kr_iload_n O dJ19_numberOfLeadingZeros_57 rfl 1 rfl ?_
    refine kr_iconst O dJ19_numberOfLeadingZeros_58 (v := (4 : Int32)) (by decide) ?_
    refine kr_iushr O dJ19_numberOfLeadingZeros_59 ?_
    refine kr_istore_n O dJ19_numberOfLeadingZeros_60 rfl (Nat.le_of_ble_eq_true rfl) rfl rfl ?_
    exact cj_J19_numberOfLeadingZeros_61 O  h
def vc_J19_numberOfLeadingZeros_33 (w : kt_W) (gr : kt_g × kt_M) (d : Nat) (P : Option Value → kt_M → Prop) (X : String → Nat → kt_M → Prop)  (v0 : Int32) (v1 : Int32) (M : kt_M) : Prop :=
  
    ((v0 < (256 : Int32) → vc_J19_numberOfLeadingZeros_48 w gr d P X  v0 v1 M) ∧
    (¬ v0 < (256 : Int32) → vc_J19_numberOfLeadingZeros_48 w gr d P X  ((v0.toUInt32 >>> ((8 : Int32).toUInt32 &&& Int32.toUInt32 31)).toInt32) (v1 + (-8 : Int32)) M))
theorem cj_J19_numberOfLeadingZeros_33 {w : kt_W} {x : kt_X} {gr : kt_g × kt_M} {d : Nat} {P : Option Value → kt_M → Prop} {X : String → Nat → kt_M → Prop}  {v0 : Int32} {v1 : Int32} {M : kt_M} (O : kt_O w x gr (d + 1) cJ19_numberOfLeadingZeros "java/lang/Integer" 2 ("numberOfLeadingZeros", "(I)I") (Option.some Jvm.ClassFile.FieldType.int) [])  (h : vc_J19_numberOfLeadingZeros_33 w gr d P X  v0 v1 M) : kt_S w x 2 (kt_E w x P X) M 33 [(0, .int v0), (1, .int v1)] [] := by
  unfold vc_J19_numberOfLeadingZeros_33 at h
  refine kr_iload_n O dJ19_numberOfLeadingZeros_33 rfl 0 rfl ?_
  refine kr_sipush O dJ19_numberOfLeadingZeros_34 (v := (256 : Int32)) (by decide) ?_
  refine kr_icmp_lt (tgt := 48) O dJ19_numberOfLeadingZeros_37 rfl (fun hc => ?_) (fun hc => ?_)
  · replace h := h.1 hc
    exact cj_J19_numberOfLeadingZeros_48 O  h
  · replace h := h.2 hc
    refine kr_iinc O dJ19_numberOfLeadingZeros_40 1 rfl (v := v1 + (-8 : Int32)) rfl (Nat.le_of_ble_eq_true rfl) rfl rfl ?_
    refine kr_iload_n O dJ19_numberOfLeadingZeros_43 rfl 1 rfl ?_
    refine kr_bipush O dJ19_numberOfLeadingZeros_44 (v := (8 : Int32)) (by decide) ?_
    refine kr_iushr O dJ19_numberOfLeadingZeros_46 ?_
    refine kr_istore_n O dJ19_numberOfLeadingZeros_47 rfl (Nat.le_of_ble_eq_true rfl) rfl rfl ?_
    exact cj_J19_numberOfLeadingZeros_48 O  h
def vc_J19_numberOfLeadingZeros (w : kt_W) (gr : kt_g × kt_M) (d : Nat) (P : Option Value → kt_M → Prop) (X : String → Nat → kt_M → Prop) (v0 : Int32) (M : kt_M) : Prop :=
  
    ((0 < v0 → 
      ((v0 < (65536 : Int32) → vc_J19_numberOfLeadingZeros_33 w gr d P X  v0 (31 : Int32) M) ∧
      (¬ v0 < (65536 : Int32) → vc_J19_numberOfLeadingZeros_33 w gr d P X  ((v0.toUInt32 >>> ((16 : Int32).toUInt32 &&& Int32.toUInt32 31)).toInt32) ((31 : Int32) + (-16 : Int32)) M))) ∧
    (¬ 0 < v0 → 
      ((¬ v0 = 0 → P (some (.int (0 : Int32))) M) ∧
      (v0 = 0 → P (some (.int (32 : Int32))) M))))
theorem ce_J19_numberOfLeadingZeros {w : kt_W} {g : kt_g} {d : Nat} {P : Option Value → kt_M → Prop} {X : String → Nat → kt_M → Prop} {v0 : Int32} {M : kt_M} (h : vc_J19_numberOfLeadingZeros w (g, M) d P X v0 M) : kt_Sp w g (d + 1) yJ19_numberOfLeadingZeros kc_J19_numberOfLeadingZeros [.int v0] M P X := by
  refine kt_of (L0 := [(0, .int v0)]) (by decide +kernel) (Nat.le_of_ble_eq_true rfl) rfl fun x O => ?_
  replace O : kt_O w x (g, M) (d + 1) cJ19_numberOfLeadingZeros "java/lang/Integer" 2 ("numberOfLeadingZeros", "(I)I") (Option.some Jvm.ClassFile.FieldType.int) [] := O
  unfold vc_J19_numberOfLeadingZeros at h
  refine kr_iload_n O dJ19_numberOfLeadingZeros_0 rfl 0 rfl ?_
  refine kr_if_gt (tgt := 15) O dJ19_numberOfLeadingZeros_1 rfl (fun hc => ?_) (fun hc => ?_)
  · replace h := h.1 hc
    refine kr_bipush O dJ19_numberOfLeadingZeros_15 (v := (31 : Int32)) (by decide) ?_
    refine kr_istore_n O dJ19_numberOfLeadingZeros_17 rfl (Nat.le_of_ble_eq_true rfl) rfl rfl ?_
    refine kr_iload_n O dJ19_numberOfLeadingZeros_18 rfl 1 rfl ?_
    refine kr_ldcw O dJ19_numberOfLeadingZeros_19 q547 ?_
    refine kr_icmp_lt (tgt := 33) O dJ19_numberOfLeadingZeros_22 rfl (fun hc => ?_) (fun hc => ?_)
    · replace h := h.1 hc
      refine kr_sub [1, 0] rfl ?_
      exact cj_J19_numberOfLeadingZeros_33 O  h
    · replace h := h.2 hc
      refine kr_iinc O dJ19_numberOfLeadingZeros_25 0 rfl (v := (31 : Int32) + (-16 : Int32)) rfl (Nat.le_of_ble_eq_true rfl) rfl rfl ?_
      refine kr_iload_n O dJ19_numberOfLeadingZeros_28 rfl 1 rfl ?_
      refine kr_bipush O dJ19_numberOfLeadingZeros_29 (v := (16 : Int32)) (by decide) ?_
      refine kr_iushr O dJ19_numberOfLeadingZeros_31 ?_
      refine kr_istore_n O dJ19_numberOfLeadingZeros_32 rfl (Nat.le_of_ble_eq_true rfl) rfl rfl ?_
      exact cj_J19_numberOfLeadingZeros_33 O  h
  · replace h := h.2 hc
    refine kr_iload_n O dJ19_numberOfLeadingZeros_4 rfl 0 rfl ?_
    refine kr_if_ne (tgt := 13) O dJ19_numberOfLeadingZeros_5 rfl (fun hc => ?_) (fun hc => ?_)
    · replace h := h.1 hc
      refine kr_iconst O dJ19_numberOfLeadingZeros_13 (v := (0 : Int32)) (by decide) ?_
      exact kr_iret O dJ19_numberOfLeadingZeros_14 rfl h
    · replace h := h.2 hc
      refine kr_bipush O dJ19_numberOfLeadingZeros_8 (v := (32 : Int32)) (by decide) ?_
      refine kr_goto (tgt := 14) O dJ19_numberOfLeadingZeros_10 rfl ?_
      exact kr_iret O dJ19_numberOfLeadingZeros_14 rfl h
def vc_J20_ordinal (w : kt_W) (gr : kt_g × kt_M) (d : Nat) (P : Option Value → kt_M → Prop) (X : String → Nat → kt_M → Prop) (a0 : Nat) (M : kt_M) : Prop :=
  ∃ n1, n1 < 4 ∧ a0 = kt_cA w (5 + n1) ∧ P (some (.int (nI n1))) M
theorem ce_J20_ordinal {w : kt_W} {g : kt_g} {d : Nat} {P : Option Value → kt_M → Prop} {X : String → Nat → kt_M → Prop} {a0 : Nat} {M : kt_M} (h : vc_J20_ordinal w (g, M) d P X a0 M) : kt_Sp w g (d + 1) yJ20_ordinal kc_J20_ordinal [va_rf (some a0)] M P X := by
  refine kt_of (L0 := [(0, va_rf (some a0))]) (by decide +kernel) (Nat.le_of_ble_eq_true rfl) rfl fun x O => ?_
  replace O : kt_O w x (g, M) (d + 1) cJ20_ordinal "java/lang/Enum" 1 ("ordinal", "()I") (Option.some Jvm.ClassFile.FieldType.int) [] := O
  unfold vc_J20_ordinal at h
  refine kr_aload_n O dJ20_ordinal_0 rfl 0 rfl ?_
  obtain ⟨n1, hn1, hca, h⟩ := h
  rw [hca]
  refine kr_getE O dJ20_ordinal_1 q3082 hn1 ?_
  exact kr_iret O dJ20_ordinal_4 rfl h
def vc_X8_init (w : kt_W) (gr : kt_g × kt_M) (d : Nat) (P : Option Value → kt_M → Prop) (X : String → Nat → kt_M → Prop) (a0 : Nat) (v1 : Int32) (v2 : Int32) (r3 : Option Nat) (M : kt_M) : Prop :=
  
  kt_Ca w gr d yJ10_init_4 kc_J10_init_4 [va_rf (some a0), va_rf none, va_rf r3, .int (0 : Int32), .int (0 : Int32)] M (kt_pV fun M1 => kt_hf gr M1 a0 43 ∧ ∀ M2, M2 = kt_pf M1 a0 43 (.int v1) → kt_hf gr M2 a0 44 ∧ ∀ M3, M3 = kt_pf M2 a0 44 (.int v2) → P none M3) X
theorem ce_X8_init {w : kt_W} {g : kt_g} {d : Nat} {P : Option Value → kt_M → Prop} {X : String → Nat → kt_M → Prop} {a0 : Nat} {v1 : Int32} {v2 : Int32} {r3 : Option Nat} {M : kt_M} (h : vc_X8_init w (g, M) d P X a0 v1 v2 r3 M) : kt_Sp w g (d + 1) yX8_init kc_X8_init [va_rf (some a0), .int v1, .int v2, va_rf r3] M P X := by
  refine kt_of (L0 := [(0, va_rf (some a0)), (1, .int v1), (2, .int v2), (3, va_rf r3)]) (by decide +kernel) (by simp only [kt_lgR, kt_lgI, kt_lgN] <;> exact Nat.le_of_ble_eq_true rfl) (by simp only [kt_lvR, kt_lvI, kt_lvN] <;> rfl) fun x O => ?_
  replace O : kt_O w x (g, M) (d + 1) cX8_init "KeyTurns$TextError" 4 ("<init>", "(IILjava/lang/Exception;)V") (Option.none : Option Jvm.ClassFile.FieldType) [] := O
  unfold vc_X8_init at h
  refine kr_aload_n O dX8_init_0 rfl 0 rfl ?_
  refine kr_null O dX8_init_1 ?_
  refine kr_aload_n O dX8_init_2 rfl 3 rfl ?_
  refine kr_iconst O dX8_init_3 (v := (0 : Int32)) (by decide) ?_
  refine kr_iconst O dX8_init_4 (v := (0 : Int32)) (by decide) ?_
  refine kr_caV (rest := []) O cd_J10_init_4 h (Nat.le_of_ble_eq_true rfl) (fun ls _ => kt_ivI O dX8_init_5 cd_J10_init_4 in_J10_init_4 (Or.inl q1660) q1661 hi_J10_init_4) (fun M1 hq => ?_) (fun E q M9 hx => kr_out O hx)
  replace h := hq
  clear hq
  refine kr_aload_n O dX8_init_8 rfl 0 rfl ?_
  refine kr_iload_n O dX8_init_9 rfl 1 rfl ?_
  obtain ⟨hw, h⟩ := h
  refine kr_putf O dX8_init_10 fs_X8_7 (Or.inr ⟨rfl, rfl⟩) ⟨rfl, rfl⟩ hw (kr_nmM fun M2 hM2 => ?_)
  replace h := h M2 hM2
  refine kr_aload_n O dX8_init_13 rfl 0 rfl ?_
  refine kr_iload_n O dX8_init_14 rfl 2 rfl ?_
  obtain ⟨hw, h⟩ := h
  refine kr_putf O dX8_init_15 fs_X8_13 (Or.inr ⟨rfl, rfl⟩) ⟨rfl, rfl⟩ hw (kr_nmM fun M3 hM3 => ?_)
  replace h := h M3 hM3
  exact kr_vret O dX8_init_18 h
def vc_X9_greatest_7 (w : kt_W) (gr : kt_g × kt_M) (d : Nat) (P : Option Value → kt_M → Prop) (X : String → Nat → kt_M → Prop) (nx7 : Int32 → kt_M → Prop) (a0 : Nat) (v1 : Int32) (v2 : Int32) (v3 : Int32) (M : kt_M) : Prop :=
  
    ((v3 < 0 → P (some (.int (-1 : Int32))) M) ∧
    (¬ v3 < 0 → 
    kt_Ca w gr d yX1_has kc_X1_has [.int v1, .int v3] M (kt_pI fun u1 M2 => 
      ((u1 = 0 → nx7 (v3 + (-1 : Int32)) M2) ∧
      (¬ u1 = 0 → (kt_co M2 a0 = some 5) ∧ 
      kt_Ca w gr d yX9_canUse kc_X9_canUse [va_rf (some a0), .int v3, .int v2] M2 (kt_pI fun u3 M4 => 
        ((u3 = 0 → nx7 (v3 + (-1 : Int32)) M4) ∧
        (¬ u3 = 0 → P (some (.int v3)) M4))) X))) X))
theorem cj_X9_greatest_7 {w : kt_W} {x : kt_X} {gr : kt_g × kt_M} {d : Nat} {P : Option Value → kt_M → Prop} {X : String → Nat → kt_M → Prop} {nx7 : Int32 → kt_M → Prop} {a0 : Nat} {v1 : Int32} {v2 : Int32} {v3 : Int32} {M : kt_M} (O : kt_O w x gr (d + 1) cX9_greatest "KeyTurns$Client" 4 ("greatest", "(II)I") (Option.some Jvm.ClassFile.FieldType.int) []) (hn7 : ∀ v3 M, nx7 v3 M → kt_S w x 4 (kt_E w x P X) M 7 [(0, va_rf (some a0)), (1, .int v1), (2, .int v2), (3, .int v3)] []) (h : vc_X9_greatest_7 w gr d P X nx7 a0 v1 v2 v3 M) : kt_S w x 4 (kt_E w x P X) M 7 [(0, va_rf (some a0)), (1, .int v1), (2, .int v2), (3, .int v3)] [] := by
  unfold vc_X9_greatest_7 at h
  refine kr_iload_n O dX9_greatest_7 rfl 3 rfl ?_
  refine kr_if_lt (tgt := 36) O dX9_greatest_8 rfl (fun hc => ?_) (fun hc => ?_)
  · replace h := h.1 hc
    refine kr_iconst O dX9_greatest_36 (v := (-1 : Int32)) (by decide) ?_
    exact kr_iret O dX9_greatest_37 rfl h
  · replace h := h.2 hc
    refine kr_iload_n O dX9_greatest_11 rfl 1 rfl ?_
    refine kr_iload_n O dX9_greatest_12 rfl 3 rfl ?_
    refine kr_caI (rest := []) O cd_X1_has h (Nat.le_of_ble_eq_true rfl) (fun ls _ => kt_ivSN O dX9_greatest_13 cd_X1_has in_X1_has q613 q614 hy_X1_has) (fun u1 M2 hq => ?_) (fun E q M9 hx => kr_out O hx)
    replace h := hq
    clear hq
    refine kr_if_eq (tgt := 30) O dX9_greatest_16 rfl (fun hc => ?_) (fun hc => ?_)
    · replace h := h.1 hc
      refine kr_iinc O dX9_greatest_30 3 rfl (v := v3 + (-1 : Int32)) rfl (Nat.le_of_ble_eq_true rfl) rfl rfl ?_
      refine kr_goto (tgt := 7) O dX9_greatest_33 rfl ?_
      refine kr_sub [1, 2, 3, 0] rfl ?_
      exact hn7 _ _ h
    · replace h := h.2 hc
      refine kr_aload_n O dX9_greatest_19 rfl 0 rfl ?_
      refine kr_iload_n O dX9_greatest_20 rfl 3 rfl ?_
      refine kr_iload_n O dX9_greatest_21 rfl 2 rfl ?_
      obtain ⟨hco, h⟩ := h
      refine kr_caI (rest := []) O cd_X9_canUse h (Nat.le_of_ble_eq_true rfl) (fun ls _ => kt_ivV (ci := 5) O dX9_greatest_22 cd_X9_canUse in_X9_canUse (Or.inl q616) q617 q618 hco (by decide) hy_X9_canUse) (fun u3 M4 hq => ?_) (fun E q M9 hx => kr_out O hx)
      replace h := hq
      clear hq
      refine kr_if_eq (tgt := 30) O dX9_greatest_25 rfl (fun hc => ?_) (fun hc => ?_)
      · replace h := h.1 hc
        refine kr_iinc O dX9_greatest_30 3 rfl (v := v3 + (-1 : Int32)) rfl (Nat.le_of_ble_eq_true rfl) rfl rfl ?_
        refine kr_goto (tgt := 7) O dX9_greatest_33 rfl ?_
        refine kr_sub [1, 2, 3, 0] rfl ?_
        exact hn7 _ _ h
      · replace h := h.2 hc
        refine kr_iload_n O dX9_greatest_28 rfl 3 rfl ?_
        exact kr_iret O dX9_greatest_29 rfl h
def vl_X9_greatest_7 (w : kt_W) (gr : kt_g × kt_M) (d : Nat) (P : Option Value → kt_M → Prop) (X : String → Nat → kt_M → Prop)  (a0 : Nat) (v1 : Int32) (v2 : Int32) (v3 : Int32) (M : kt_M) : Prop :=
  ∃ Inv : Nat → Int32 → kt_M → Prop, (∃ k, Inv k v3 M) ∧ ∀ k v3 M, kt_le gr.1 gr.2 M → Inv k v3 M → vc_X9_greatest_7 w gr d P X (fun v3' M' => ∃ k', k' < k ∧ Inv k' v3' M') a0 v1 v2 v3 M
theorem cl_X9_greatest_7 {w : kt_W} {x : kt_X} {gr : kt_g × kt_M} {d : Nat} {P : Option Value → kt_M → Prop} {X : String → Nat → kt_M → Prop}  {a0 : Nat} {v1 : Int32} {v2 : Int32} {v3 : Int32} {M : kt_M} (O : kt_O w x gr (d + 1) cX9_greatest "KeyTurns$Client" 4 ("greatest", "(II)I") (Option.some Jvm.ClassFile.FieldType.int) [])  (h : vl_X9_greatest_7 w gr d P X  a0 v1 v2 v3 M) : kt_S w x 4 (kt_E w x P X) M 7 [(0, va_rf (some a0)), (1, .int v1), (2, .int v2), (3, .int v3)] [] := by
  obtain ⟨Inv, ⟨k, hk⟩, hb⟩ := h
  induction k using Nat.strongRecOn generalizing v3 M with
  | ind k ih =>
    exact kr_le O fun hle => cj_X9_greatest_7 O (fun v3' M' hi => let ⟨k', h1, h2⟩ := hi; ih k' h1 h2) (hb k _ _ hle hk)
def vc_X9_greatest (w : kt_W) (gr : kt_g × kt_M) (d : Nat) (P : Option Value → kt_M → Prop) (X : String → Nat → kt_M → Prop) (a0 : Nat) (v1 : Int32) (v2 : Int32) (M : kt_M) : Prop :=
  ∃ u1, kt_gf M a0 33 = some (.int u1) ∧ vl_X9_greatest_7 w gr d P X  a0 v1 v2 (u1 - (1 : Int32)) M
theorem ce_X9_greatest {w : kt_W} {g : kt_g} {d : Nat} {P : Option Value → kt_M → Prop} {X : String → Nat → kt_M → Prop} {a0 : Nat} {v1 : Int32} {v2 : Int32} {M : kt_M} (h : vc_X9_greatest w (g, M) d P X a0 v1 v2 M) : kt_Sp w g (d + 1) yX9_greatest kc_X9_greatest [va_rf (some a0), .int v1, .int v2] M P X := by
  refine kt_of (L0 := [(0, va_rf (some a0)), (1, .int v1), (2, .int v2)]) (by decide +kernel) (Nat.le_of_ble_eq_true rfl) rfl fun x O => ?_
  replace O : kt_O w x (g, M) (d + 1) cX9_greatest "KeyTurns$Client" 4 ("greatest", "(II)I") (Option.some Jvm.ClassFile.FieldType.int) [] := O
  unfold vc_X9_greatest at h
  refine kr_aload_n O dX9_greatest_0 rfl 0 rfl ?_
  obtain ⟨u1, eu1, h⟩ := h
  refine kr_getf O dX9_greatest_1 fs_X9_39 eu1 ?_
  refine kr_iconst O dX9_greatest_4 (v := (1 : Int32)) (by decide) ?_
  refine kr_isub O dX9_greatest_5 ?_
  refine kr_istore_n O dX9_greatest_6 rfl (Nat.le_of_ble_eq_true rfl) rfl rfl ?_
  refine kr_sub [1, 2, 3, 0] rfl ?_
  exact cl_X9_greatest_7 O  h
def vc_X9_canUse (w : kt_W) (gr : kt_g × kt_M) (d : Nat) (P : Option Value → kt_M → Prop) (X : String → Nat → kt_M → Prop) (a0 : Nat) (v1 : Int32) (v2 : Int32) (M : kt_M) : Prop :=
  ∃ u1, kt_gf M a0 33 = some (.int u1) ∧ 
    ((u1 ≤ v1 → P (some (.int (0 : Int32))) M) ∧
    (¬ u1 ≤ v1 → ∃ u2, kt_gf M a0 34 = some (.int u2) ∧ 
    kt_Ca w gr d yX1_has kc_X1_has [.int u2, .int v1] M (kt_pI fun u3 M4 => 
      ((¬ u3 = 0 → P (some (.int (0 : Int32))) M4) ∧
      (u3 = 0 → ∃ p5, kt_gf M4 a0 35 = some (va_rf p5) ∧ ∃ b6, p5 = some b6 ∧ ∃ u7, kt_el 0 M4 b6 v1 = some (.int u7) ∧ ∃ p8, kt_gf M4 a0 36 = some (va_rf p8) ∧ ∃ b9, p8 = some b9 ∧ ∃ u10, kt_el 0 M4 b9 v1 = some (.int u10) ∧ 
      kt_Ca w gr d yX1_isIn kc_X1_isIn [.long v2.toInt64, .long u7.toInt64, .long u10.toInt64] M4 (kt_pI fun u11 M12 => 
        ((u11 = 0 → P (some (.int (0 : Int32))) M12) ∧
        (¬ u11 = 0 → P (some (.int (1 : Int32))) M12))) X))) X))
theorem ce_X9_canUse {w : kt_W} {g : kt_g} {d : Nat} {P : Option Value → kt_M → Prop} {X : String → Nat → kt_M → Prop} {a0 : Nat} {v1 : Int32} {v2 : Int32} {M : kt_M} (h : vc_X9_canUse w (g, M) d P X a0 v1 v2 M) : kt_Sp w g (d + 1) yX9_canUse kc_X9_canUse [va_rf (some a0), .int v1, .int v2] M P X := by
  refine kt_of (L0 := [(0, va_rf (some a0)), (1, .int v1), (2, .int v2)]) (by decide +kernel) (Nat.le_of_ble_eq_true rfl) rfl fun x O => ?_
  replace O : kt_O w x (g, M) (d + 1) cX9_canUse "KeyTurns$Client" 3 ("canUse", "(II)Z") (Option.some Jvm.ClassFile.FieldType.boolean) [] := O
  unfold vc_X9_canUse at h
  refine kr_iload_n O dX9_canUse_0 rfl 1 rfl ?_
  refine kr_aload_n O dX9_canUse_1 rfl 0 rfl ?_
  obtain ⟨u1, eu1, h⟩ := h
  refine kr_getf O dX9_canUse_2 fs_X9_39 eu1 ?_
  refine kr_icmp_ge (tgt := 45) O dX9_canUse_5 rfl (fun hc => ?_) (fun hc => ?_)
  · replace h := h.1 hc
    refine kr_iconst O dX9_canUse_45 (v := (0 : Int32)) (by decide) ?_
    exact kr_iret O dX9_canUse_46 (by decide) h
  · replace h := h.2 hc
    refine kr_aload_n O dX9_canUse_8 rfl 0 rfl ?_
    obtain ⟨u2, eu2, h⟩ := h
    refine kr_getf O dX9_canUse_9 fs_X9_42 eu2 ?_
    refine kr_iload_n O dX9_canUse_12 rfl 1 rfl ?_
    refine kr_caI (rest := []) O cd_X1_has h (Nat.le_of_ble_eq_true rfl) (fun ls _ => kt_ivSN O dX9_canUse_13 cd_X1_has in_X1_has q613 q614 hy_X1_has) (fun u3 M4 hq => ?_) (fun E q M9 hx => kr_out O hx)
    replace h := hq
    clear hq
    refine kr_if_ne (tgt := 45) O dX9_canUse_16 rfl (fun hc => ?_) (fun hc => ?_)
    · replace h := h.1 hc
      refine kr_iconst O dX9_canUse_45 (v := (0 : Int32)) (by decide) ?_
      exact kr_iret O dX9_canUse_46 (by decide) h
    · replace h := h.2 hc
      refine kr_iload_n O dX9_canUse_19 rfl 2 rfl ?_
      refine kr_i2l O dX9_canUse_20 ?_
      refine kr_aload_n O dX9_canUse_21 rfl 0 rfl ?_
      obtain ⟨p5, ep5, h⟩ := h
      refine kr_getf O dX9_canUse_22 fs_X9_18 ep5 ?_
      refine kr_iload_n O dX9_canUse_25 rfl 1 rfl ?_
      obtain ⟨b6, rfl, h⟩ := h
      obtain ⟨u7, eu7, h⟩ := h
      refine kr_iaload O dX9_canUse_26 eu7 ?_
      refine kr_i2l O dX9_canUse_27 ?_
      refine kr_aload_n O dX9_canUse_28 rfl 0 rfl ?_
      obtain ⟨p8, ep8, h⟩ := h
      refine kr_getf O dX9_canUse_29 fs_X9_22 ep8 ?_
      refine kr_iload_n O dX9_canUse_32 rfl 1 rfl ?_
      obtain ⟨b9, rfl, h⟩ := h
      obtain ⟨u10, eu10, h⟩ := h
      refine kr_iaload O dX9_canUse_33 eu10 ?_
      refine kr_i2l O dX9_canUse_34 ?_
      refine kr_caI (rest := []) O cd_X1_isIn h (Nat.le_of_ble_eq_true rfl) (fun ls _ => kt_ivSN O dX9_canUse_35 cd_X1_isIn in_X1_isIn q620 q510 hy_X1_isIn) (fun u11 M12 hq => ?_) (fun E q M9 hx => kr_out O hx)
      replace h := hq
      clear hq
      refine kr_if_eq (tgt := 45) O dX9_canUse_38 rfl (fun hc => ?_) (fun hc => ?_)
      · replace h := h.1 hc
        refine kr_iconst O dX9_canUse_45 (v := (0 : Int32)) (by decide) ?_
        exact kr_iret O dX9_canUse_46 (by decide) h
      · replace h := h.2 hc
        refine kr_iconst O dX9_canUse_41 (v := (1 : Int32)) (by decide) ?_
        refine kr_goto (tgt := 46) O dX9_canUse_42 rfl ?_
        exact kr_iret O dX9_canUse_46 (by decide) h
def vc_X9_copy (w : kt_W) (gr : kt_g × kt_M) (d : Nat) (P : Option Value → kt_M → Prop) (X : String → Nat → kt_M → Prop) (a0 : Nat) (M : kt_M) : Prop :=
  kt_fits w M 8 ∧ ∃ t1, ∀ M2, M2 = kt_new M 8 (t1 + 2, .inr (5, [.int 0, .int 0, .int 0, .int 0, .int 0, .int 0, va_rf none, va_rf none])) → ∃ u3, kt_gf M2 a0 29 = some (.int u3) ∧ ∃ u4, kt_gf M2 a0 30 = some (.int u4) ∧ ∃ p5, kt_gf M2 a0 35 = some (va_rf p5) ∧ ∃ b6, p5 = some b6 ∧ ∃ n8, kt_cln w 0 M2 b6 n8 ∧ kt_fits w M2 n8 ∧ ∃ t7, ∀ M9, M9 = kt_new M2 n8 (t7 + 2, (M2.2.2 b6).2) → (∃ t y, M9.2.2 M2.1 = (t + 2, .inl (0, y))) ∧ ∃ p10, kt_gf M9 a0 36 = some (va_rf p10) ∧ ∃ b11, p10 = some b11 ∧ ∃ n13, kt_cln w 0 M9 b11 n13 ∧ kt_fits w M9 n13 ∧ ∃ t12, ∀ M14, M14 = kt_new M9 n13 (t12 + 2, (M9.2.2 b11).2) → (∃ t y, M14.2.2 M9.1 = (t + 2, .inl (0, y))) ∧ 
  kt_Ca w gr d yX9_init kc_X9_init [va_rf (some M.1), .int u3, .int u4, va_rf (some M2.1), va_rf (some M9.1)] M14 (kt_pV fun M15 => ∃ u16, kt_gf M15 a0 31 = some (.int u16) ∧ kt_hf gr M15 M.1 31 ∧ ∀ M17, M17 = kt_pf M15 M.1 31 (.int u16) → ∃ u18, kt_gf M17 a0 32 = some (.int u18) ∧ kt_hf gr M17 M.1 32 ∧ ∀ M19, M19 = kt_pf M17 M.1 32 (.int u18) → ∃ u20, kt_gf M19 a0 33 = some (.int u20) ∧ kt_hf gr M19 M.1 33 ∧ ∀ M21, M21 = kt_pf M19 M.1 33 (.int u20) → ∃ u22, kt_gf M21 a0 34 = some (.int u22) ∧ kt_hf gr M21 M.1 34 ∧ ∀ M23, M23 = kt_pf M21 M.1 34 (.int u22) → P (some (va_rf (some M.1))) M23) X
theorem ce_X9_copy {w : kt_W} {g : kt_g} {d : Nat} {P : Option Value → kt_M → Prop} {X : String → Nat → kt_M → Prop} {a0 : Nat} {M : kt_M} (h : vc_X9_copy w (g, M) d P X a0 M) : kt_Sp w g (d + 1) yX9_copy kc_X9_copy [va_rf (some a0)] M P X := by
  refine kt_of (L0 := [(0, va_rf (some a0))]) (by decide +kernel) (Nat.le_of_ble_eq_true rfl) rfl fun x O => ?_
  replace O : kt_O w x (g, M) (d + 1) cX9_copy "KeyTurns$Client" 2 ("copy", "()LKeyTurns$Client;") (Option.some (Jvm.ClassFile.FieldType.object "KeyTurns$Client")) [] := O
  unfold vc_X9_copy at h
  obtain ⟨hf, t1, h⟩ := h
  refine kr_new (c := 5) (r := (RX9, TX9, 8)) (fs := [.int 0, .int 0, .int 0, .int 0, .int 0, .int 0, va_rf none, va_rf none]) t1 O dX9_copy_0 rfl q813 q814 q141 rfl hf (kr_nmM fun M2 hM2 => ?_)
  replace h := h M2 hM2
  refine kr_dup O dX9_copy_3 (kt_nrf _) ?_
  refine kr_aload_n O dX9_copy_4 rfl 0 rfl ?_
  obtain ⟨u3, eu3, h⟩ := h
  refine kr_getf O dX9_copy_5 fs_X9_9 eu3 ?_
  refine kr_aload_n O dX9_copy_8 rfl 0 rfl ?_
  obtain ⟨u4, eu4, h⟩ := h
  refine kr_getf O dX9_copy_9 fs_X9_15 eu4 ?_
  refine kr_aload_n O dX9_copy_12 rfl 0 rfl ?_
  obtain ⟨p5, ep5, h⟩ := h
  refine kr_getf O dX9_copy_13 fs_X9_18 ep5 ?_
  obtain ⟨b6, rfl, h⟩ := h
  obtain ⟨n8, hcl, hf, t7, h⟩ := h
  refine kr_clone 0 t7 O dX9_copy_16 (by decide) q815 q816 q817 q818 hcl hf (Nat.le_of_ble_eq_true rfl) (kr_nmM fun M9 hM9 => ?_)
  replace h := h M9 hM9
  obtain ⟨⟨tc, yc, hc⟩, h⟩ := h
  refine kr_castA O dX9_copy_19 q819 (by decide) hc ?_
  refine kr_aload_n O dX9_copy_22 rfl 0 rfl ?_
  obtain ⟨p10, ep10, h⟩ := h
  refine kr_getf O dX9_copy_23 fs_X9_22 ep10 ?_
  obtain ⟨b11, rfl, h⟩ := h
  obtain ⟨n13, hcl, hf, t12, h⟩ := h
  refine kr_clone 0 t12 O dX9_copy_26 (by decide) q815 q816 q817 q818 hcl hf (Nat.le_of_ble_eq_true rfl) (kr_nmM fun M14 hM14 => ?_)
  replace h := h M14 hM14
  obtain ⟨⟨tc, yc, hc⟩, h⟩ := h
  refine kr_castA O dX9_copy_29 q819 (by decide) hc ?_
  refine kr_caV (rest := [va_rf (some M.1)]) O cd_X9_init h (Nat.le_of_ble_eq_true rfl) (fun ls _ => kt_ivI O dX9_copy_32 cd_X9_init in_X9_init (Or.inl q820) q821 hi_X9_init) (fun M15 hq => ?_) (fun E q M9 hx => kr_out O hx)
  replace h := hq
  clear hq
  refine kr_astore_n O dX9_copy_35 rfl (Nat.le_of_ble_eq_true rfl) rfl rfl ?_
  refine kr_aload_n O dX9_copy_36 rfl 0 rfl ?_
  refine kr_aload_n O dX9_copy_37 rfl 1 rfl ?_
  obtain ⟨u16, eu16, h⟩ := h
  refine kr_getf O dX9_copy_38 fs_X9_33 eu16 ?_
  obtain ⟨hw, h⟩ := h
  refine kr_putf O dX9_copy_41 fs_X9_33 (Or.inl rfl) ⟨rfl, rfl⟩ hw (kr_nmM fun M17 hM17 => ?_)
  replace h := h M17 hM17
  refine kr_aload_n O dX9_copy_44 rfl 0 rfl ?_
  refine kr_aload_n O dX9_copy_45 rfl 1 rfl ?_
  obtain ⟨u18, eu18, h⟩ := h
  refine kr_getf O dX9_copy_46 fs_X9_36 eu18 ?_
  obtain ⟨hw, h⟩ := h
  refine kr_putf O dX9_copy_49 fs_X9_36 (Or.inl rfl) ⟨rfl, rfl⟩ hw (kr_nmM fun M19 hM19 => ?_)
  replace h := h M19 hM19
  refine kr_aload_n O dX9_copy_52 rfl 0 rfl ?_
  refine kr_aload_n O dX9_copy_53 rfl 1 rfl ?_
  obtain ⟨u20, eu20, h⟩ := h
  refine kr_getf O dX9_copy_54 fs_X9_39 eu20 ?_
  obtain ⟨hw, h⟩ := h
  refine kr_putf O dX9_copy_57 fs_X9_39 (Or.inl rfl) ⟨rfl, rfl⟩ hw (kr_nmM fun M21 hM21 => ?_)
  replace h := h M21 hM21
  refine kr_aload_n O dX9_copy_60 rfl 0 rfl ?_
  refine kr_aload_n O dX9_copy_61 rfl 1 rfl ?_
  obtain ⟨u22, eu22, h⟩ := h
  refine kr_getf O dX9_copy_62 fs_X9_42 eu22 ?_
  obtain ⟨hw, h⟩ := h
  refine kr_putf O dX9_copy_65 fs_X9_42 (Or.inl rfl) ⟨rfl, rfl⟩ hw (kr_nmM fun M23 hM23 => ?_)
  replace h := h M23 hM23
  refine kr_aload_n O dX9_copy_68 rfl 0 rfl ?_
  exact kr_aret O dX9_copy_69 (by first | exact Or.inl ⟨_, rfl⟩ | exact Or.inr ⟨_, rfl⟩) h
def vc_X9_init (w : kt_W) (gr : kt_g × kt_M) (d : Nat) (P : Option Value → kt_M → Prop) (X : String → Nat → kt_M → Prop) (a0 : Nat) (v1 : Int32) (v2 : Int32) (r3 : Option Nat) (r4 : Option Nat) (M : kt_M) : Prop :=
  kt_hf gr M a0 29 ∧ ∀ M1, M1 = kt_pf M a0 29 (.int v1) → kt_hf gr M1 a0 30 ∧ ∀ M2, M2 = kt_pf M1 a0 30 (.int v2) → kt_hf gr M2 a0 35 ∧ ∀ M3, M3 = kt_pf M2 a0 35 (va_rf r3) → kt_hf gr M3 a0 36 ∧ ∀ M4, M4 = kt_pf M3 a0 36 (va_rf r4) → P none M4
theorem ce_X9_init {w : kt_W} {g : kt_g} {d : Nat} {P : Option Value → kt_M → Prop} {X : String → Nat → kt_M → Prop} {a0 : Nat} {v1 : Int32} {v2 : Int32} {r3 : Option Nat} {r4 : Option Nat} {M : kt_M} (h : vc_X9_init w (g, M) d P X a0 v1 v2 r3 r4 M) : kt_Sp w g (d + 1) yX9_init kc_X9_init [va_rf (some a0), .int v1, .int v2, va_rf r3, va_rf r4] M P X := by
  refine kt_of (L0 := [(0, va_rf (some a0)), (1, .int v1), (2, .int v2), (3, va_rf r3), (4, va_rf r4)]) (by decide +kernel) (by simp only [kt_lgR, kt_lgI, kt_lgN] <;> exact Nat.le_of_ble_eq_true rfl) (by simp only [kt_lvR, kt_lvI, kt_lvN] <;> rfl) fun x O => ?_
  replace O : kt_O w x (g, M) (d + 1) cX9_init "KeyTurns$Client" 5 ("<init>", "(II[I[I)V") (Option.none : Option Jvm.ClassFile.FieldType) [] := O
  unfold vc_X9_init at h
  refine kr_aload_n O dX9_init_0 rfl 0 rfl ?_
  refine kr_objinit O dX9_init_1 q823 q173 q174 (Nat.le_of_ble_eq_true rfl) ?_
  refine kr_aload_n O dX9_init_4 rfl 0 rfl ?_
  refine kr_iload_n O dX9_init_5 rfl 1 rfl ?_
  obtain ⟨hw, h⟩ := h
  refine kr_putf O dX9_init_6 fs_X9_9 (Or.inr ⟨rfl, rfl⟩) ⟨rfl, rfl⟩ hw (kr_nmM fun M1 hM1 => ?_)
  replace h := h M1 hM1
  refine kr_aload_n O dX9_init_9 rfl 0 rfl ?_
  refine kr_iload_n O dX9_init_10 rfl 2 rfl ?_
  obtain ⟨hw, h⟩ := h
  refine kr_putf O dX9_init_11 fs_X9_15 (Or.inr ⟨rfl, rfl⟩) ⟨rfl, rfl⟩ hw (kr_nmM fun M2 hM2 => ?_)
  replace h := h M2 hM2
  refine kr_aload_n O dX9_init_14 rfl 0 rfl ?_
  refine kr_aload_n O dX9_init_15 rfl 3 rfl ?_
  obtain ⟨hw, h⟩ := h
  refine kr_putf O dX9_init_16 fs_X9_18 (Or.inr ⟨rfl, rfl⟩) (kt_ok_ra _ rfl) hw (kr_nmM fun M3 hM3 => ?_)
  replace h := h M3 hM3
  refine kr_aload_n O dX9_init_19 rfl 0 rfl ?_
  refine kr_aload O dX9_init_20 4 rfl ?_
  obtain ⟨hw, h⟩ := h
  refine kr_putf O dX9_init_22 fs_X9_22 (Or.inr ⟨rfl, rfl⟩) (kt_ok_ra _ rfl) hw (kr_nmM fun M4 hM4 => ?_)
  replace h := h M4 hM4
  exact kr_vret O dX9_init_25 h
def vc_X9_isHour (w : kt_W) (gr : kt_g × kt_M) (d : Nat) (P : Option Value → kt_M → Prop) (X : String → Nat → kt_M → Prop) (a0 : Nat) (v1 : Int32) (M : kt_M) : Prop :=
  ∃ u1, kt_gf M a0 29 = some (.int u1) ∧ ¬ u1 = 0 ∧ ∃ u2, kt_gf M a0 30 = some (.int u2) ∧ 
    ((¬ (v1 - v1 / u1 * u1) = u2 → P (some (.int (0 : Int32))) M) ∧
    ((v1 - v1 / u1 * u1) = u2 → P (some (.int (1 : Int32))) M))
theorem ce_X9_isHour {w : kt_W} {g : kt_g} {d : Nat} {P : Option Value → kt_M → Prop} {X : String → Nat → kt_M → Prop} {a0 : Nat} {v1 : Int32} {M : kt_M} (h : vc_X9_isHour w (g, M) d P X a0 v1 M) : kt_Sp w g (d + 1) yX9_isHour kc_X9_isHour [va_rf (some a0), .int v1] M P X := by
  refine kt_of (L0 := [(0, va_rf (some a0)), (1, .int v1)]) (by decide +kernel) (Nat.le_of_ble_eq_true rfl) rfl fun x O => ?_
  replace O : kt_O w x (g, M) (d + 1) cX9_isHour "KeyTurns$Client" 2 ("isHour", "(I)Z") (Option.some Jvm.ClassFile.FieldType.boolean) [] := O
  unfold vc_X9_isHour at h
  refine kr_iload_n O dX9_isHour_0 rfl 1 rfl ?_
  refine kr_aload_n O dX9_isHour_1 rfl 0 rfl ?_
  obtain ⟨u1, eu1, h⟩ := h
  refine kr_getf O dX9_isHour_2 fs_X9_9 eu1 ?_
  obtain ⟨hne, h⟩ := h
  refine kr_irem O dX9_isHour_5 hne ?_
  refine kr_aload_n O dX9_isHour_6 rfl 0 rfl ?_
  obtain ⟨u2, eu2, h⟩ := h
  refine kr_getf O dX9_isHour_7 fs_X9_15 eu2 ?_
  refine kr_icmp_ne (tgt := 17) O dX9_isHour_10 rfl (fun hc => ?_) (fun hc => ?_)
  · replace h := h.1 hc
    refine kr_iconst O dX9_isHour_17 (v := (0 : Int32)) (by decide) ?_
    exact kr_iret O dX9_isHour_18 (by decide) h
  · replace h := h.2 hc
    refine kr_iconst O dX9_isHour_13 (v := (1 : Int32)) (by decide) ?_
    refine kr_goto (tgt := 18) O dX9_isHour_14 rfl ?_
    exact kr_iret O dX9_isHour_18 (by decide) h
def vc_X10_set_11 (w : kt_W) (gr : kt_g × kt_M) (d : Nat) (P : Option Value → kt_M → Prop) (X : String → Nat → kt_M → Prop) (nx11 : Int32 → Int32 → kt_M → Prop) (a0 : Nat) (v1 : Int32) (v2 : Int32) (M : kt_M) : Prop :=
  
    ((v2 < 0 → P (some (.int v1)) M) ∧
    (¬ v2 < 0 → ∃ p1, kt_gf M a0 26 = some (va_rf p1) ∧ ∃ b2, p1 = some b2 ∧ (kt_co M b2 = some 18) ∧ 
    kt_Ca w gr d yJ21_nextSetBit kc_J21_nextSetBit [va_rf (some b2), .int (v2 + (1 : Int32))] M (kt_pI fun u3 M4 => nx11 (v1 ||| ((1 : Int32) <<< (v2 &&& 31))) u3 M4) X))
theorem cj_X10_set_11 {w : kt_W} {x : kt_X} {gr : kt_g × kt_M} {d : Nat} {P : Option Value → kt_M → Prop} {X : String → Nat → kt_M → Prop} {nx11 : Int32 → Int32 → kt_M → Prop} {a0 : Nat} {v1 : Int32} {v2 : Int32} {M : kt_M} (O : kt_O w x gr (d + 1) cX10_set "KeyTurns$Sealed" 3 ("set", "()I") (Option.some Jvm.ClassFile.FieldType.int) []) (hn11 : ∀ v1 v2 M, nx11 v1 v2 M → kt_S w x 3 (kt_E w x P X) M 11 [(0, va_rf (some a0)), (1, .int v1), (2, .int v2)] []) (h : vc_X10_set_11 w gr d P X nx11 a0 v1 v2 M) : kt_S w x 3 (kt_E w x P X) M 11 [(0, va_rf (some a0)), (1, .int v1), (2, .int v2)] [] := by
  unfold vc_X10_set_11 at h
  refine kr_iload_n O dX10_set_11 rfl 2 rfl ?_
  refine kr_if_lt (tgt := 35) O dX10_set_12 rfl (fun hc => ?_) (fun hc => ?_)
  · replace h := h.1 hc
    refine kr_iload_n O dX10_set_35 rfl 1 rfl ?_
    exact kr_iret O dX10_set_36 rfl h
  · replace h := h.2 hc
    refine kr_iload_n O dX10_set_15 rfl 1 rfl ?_
    refine kr_iconst O dX10_set_16 (v := (1 : Int32)) (by decide) ?_
    refine kr_iload_n O dX10_set_17 rfl 2 rfl ?_
    refine kr_ishl O dX10_set_18 ?_
    refine kr_ior O dX10_set_19 ?_
    refine kr_istore_n O dX10_set_20 rfl (Nat.le_of_ble_eq_true rfl) rfl rfl ?_
    refine kr_aload_n O dX10_set_21 rfl 1 rfl ?_
    obtain ⟨p1, ep1, h⟩ := h
    refine kr_getf O dX10_set_22 fs_X10_14 ep1 ?_
    refine kr_iload_n O dX10_set_25 rfl 2 rfl ?_
    refine kr_iconst O dX10_set_26 (v := (1 : Int32)) (by decide) ?_
    refine kr_iadd O dX10_set_27 ?_
    obtain ⟨b2, rfl, h⟩ := h
    obtain ⟨hco, h⟩ := h
    refine kr_caI (rest := []) O cd_J21_nextSetBit h (Nat.le_of_ble_eq_true rfl) (fun ls _ => kt_ivV (ci := 18) O dX10_set_28 cd_J21_nextSetBit in_J21_nextSetBit (Or.inl q608) q537 q538 hco (by decide) hy_J21_nextSetBit) (fun u3 M4 hq => ?_) (fun E q M9 hx => kr_out O hx)
    replace h := hq
    clear hq
    refine kr_istore_n O dX10_set_31 rfl (Nat.le_of_ble_eq_true rfl) rfl rfl ?_
    refine kr_goto (tgt := 11) O dX10_set_32 rfl ?_
    refine kr_sub [2, 1, 0] rfl ?_
    exact hn11 _ _ _ h
def vl_X10_set_11 (w : kt_W) (gr : kt_g × kt_M) (d : Nat) (P : Option Value → kt_M → Prop) (X : String → Nat → kt_M → Prop)  (a0 : Nat) (v1 : Int32) (v2 : Int32) (M : kt_M) : Prop :=
  ∃ Inv : Nat → Int32 → Int32 → kt_M → Prop, (∃ k, Inv k v1 v2 M) ∧ ∀ k v1 v2 M, kt_le gr.1 gr.2 M → Inv k v1 v2 M → vc_X10_set_11 w gr d P X (fun v1' v2' M' => ∃ k', k' < k ∧ Inv k' v1' v2' M') a0 v1 v2 M
theorem cl_X10_set_11 {w : kt_W} {x : kt_X} {gr : kt_g × kt_M} {d : Nat} {P : Option Value → kt_M → Prop} {X : String → Nat → kt_M → Prop}  {a0 : Nat} {v1 : Int32} {v2 : Int32} {M : kt_M} (O : kt_O w x gr (d + 1) cX10_set "KeyTurns$Sealed" 3 ("set", "()I") (Option.some Jvm.ClassFile.FieldType.int) [])  (h : vl_X10_set_11 w gr d P X  a0 v1 v2 M) : kt_S w x 3 (kt_E w x P X) M 11 [(0, va_rf (some a0)), (1, .int v1), (2, .int v2)] [] := by
  obtain ⟨Inv, ⟨k, hk⟩, hb⟩ := h
  induction k using Nat.strongRecOn generalizing v1 v2 M with
  | ind k ih =>
    exact kr_le O fun hle => cj_X10_set_11 O (fun v1' v2' M' hi => let ⟨k', h1, h2⟩ := hi; ih k' h1 h2) (hb k _ _ _ hle hk)
def vc_X10_set (w : kt_W) (gr : kt_g × kt_M) (d : Nat) (P : Option Value → kt_M → Prop) (X : String → Nat → kt_M → Prop) (a0 : Nat) (M : kt_M) : Prop :=
  ∃ p1, kt_gf M a0 26 = some (va_rf p1) ∧ ∃ b2, p1 = some b2 ∧ (kt_co M b2 = some 18) ∧ 
  kt_Ca w gr d yJ21_nextSetBit kc_J21_nextSetBit [va_rf (some b2), .int (0 : Int32)] M (kt_pI fun u3 M4 => vl_X10_set_11 w gr d P X  a0 (0 : Int32) u3 M4) X
theorem ce_X10_set {w : kt_W} {g : kt_g} {d : Nat} {P : Option Value → kt_M → Prop} {X : String → Nat → kt_M → Prop} {a0 : Nat} {M : kt_M} (h : vc_X10_set w (g, M) d P X a0 M) : kt_Sp w g (d + 1) yX10_set kc_X10_set [va_rf (some a0)] M P X := by
  refine kt_of (L0 := [(0, va_rf (some a0))]) (by decide +kernel) (Nat.le_of_ble_eq_true rfl) rfl fun x O => ?_
  replace O : kt_O w x (g, M) (d + 1) cX10_set "KeyTurns$Sealed" 3 ("set", "()I") (Option.some Jvm.ClassFile.FieldType.int) [] := O
  unfold vc_X10_set at h
  refine kr_iconst O dX10_set_0 (v := (0 : Int32)) (by decide) ?_
  refine kr_istore_n O dX10_set_1 rfl (Nat.le_of_ble_eq_true rfl) rfl rfl ?_
  refine kr_aload_n O dX10_set_2 rfl 1 rfl ?_
  obtain ⟨p1, ep1, h⟩ := h
  refine kr_getf O dX10_set_3 fs_X10_14 ep1 ?_
  refine kr_iconst O dX10_set_6 (v := (0 : Int32)) (by decide) ?_
  obtain ⟨b2, rfl, h⟩ := h
  obtain ⟨hco, h⟩ := h
  refine kr_caI (rest := []) O cd_J21_nextSetBit h (Nat.le_of_ble_eq_true rfl) (fun ls _ => kt_ivV (ci := 18) O dX10_set_7 cd_J21_nextSetBit in_J21_nextSetBit (Or.inl q608) q537 q538 hco (by decide) hy_J21_nextSetBit) (fun u3 M4 hq => ?_) (fun E q M9 hx => kr_out O hx)
  replace h := hq
  clear hq
  refine kr_istore_n O dX10_set_10 rfl (Nat.le_of_ble_eq_true rfl) rfl rfl ?_
  refine kr_sub [2, 1, 0] rfl ?_
  exact cl_X10_set_11 O  h
def vc_X10_copy (w : kt_W) (gr : kt_g × kt_M) (d : Nat) (P : Option Value → kt_M → Prop) (X : String → Nat → kt_M → Prop) (a0 : Nat) (M : kt_M) : Prop :=
  kt_fits w M 4 ∧ ∃ t1, ∀ M2, M2 = kt_new M 4 (t1 + 2, .inr (4, [.int 0, va_rf none, .int 0, .int 0])) → ∃ u3, kt_gf M2 a0 25 = some (.int u3) ∧ 
  kt_Ca w gr d yX10_init kc_X10_init [va_rf (some M.1), .int u3] M2 (kt_pV fun M4 => ∃ p5, kt_gf M4 M.1 26 = some (va_rf p5) ∧ ∃ p6, kt_gf M4 a0 26 = some (va_rf p6) ∧ ∃ b7, p5 = some b7 ∧ (kt_co M4 b7 = some 18) ∧ 
  kt_Ca w gr d yJ21_or kc_J21_or [va_rf (some b7), va_rf p6] M4 (kt_pV fun M8 => ∃ u9, kt_gf M8 a0 27 = some (.int u9) ∧ kt_hf gr M8 M.1 27 ∧ ∀ M10, M10 = kt_pf M8 M.1 27 (.int u9) → ∃ u11, kt_gf M10 a0 28 = some (.int u11) ∧ kt_ok 28 (.int u11) ∧ kt_hf gr M10 M.1 28 ∧ ∀ M12, M12 = kt_pf M10 M.1 28 (.int u11) → P (some (va_rf (some M.1))) M12) X) X
theorem ce_X10_copy {w : kt_W} {g : kt_g} {d : Nat} {P : Option Value → kt_M → Prop} {X : String → Nat → kt_M → Prop} {a0 : Nat} {M : kt_M} (h : vc_X10_copy w (g, M) d P X a0 M) : kt_Sp w g (d + 1) yX10_copy kc_X10_copy [va_rf (some a0)] M P X := by
  refine kt_of (L0 := [(0, va_rf (some a0))]) (by decide +kernel) (Nat.le_of_ble_eq_true rfl) rfl fun x O => ?_
  replace O : kt_O w x (g, M) (d + 1) cX10_copy "KeyTurns$Sealed" 2 ("copy", "()LKeyTurns$Sealed;") (Option.some (Jvm.ClassFile.FieldType.object "KeyTurns$Sealed")) [] := O
  unfold vc_X10_copy at h
  obtain ⟨hf, t1, h⟩ := h
  refine kr_new (c := 4) (r := (RX10, TX10, 4)) (fs := [.int 0, va_rf none, .int 0, .int 0]) t1 O dX10_copy_0 rfl q742 q743 q142 rfl hf (kr_nmM fun M2 hM2 => ?_)
  replace h := h M2 hM2
  refine kr_dup O dX10_copy_3 (kt_nrf _) ?_
  refine kr_aload_n O dX10_copy_4 rfl 0 rfl ?_
  obtain ⟨u3, eu3, h⟩ := h
  refine kr_getf O dX10_copy_5 fs_X10_20 eu3 ?_
  refine kr_caV (rest := [va_rf (some M.1)]) O cd_X10_init h (Nat.le_of_ble_eq_true rfl) (fun ls _ => kt_ivI O dX10_copy_8 cd_X10_init in_X10_init (Or.inl q744) q745 hi_X10_init) (fun M4 hq => ?_) (fun E q M9 hx => kr_out O hx)
  replace h := hq
  clear hq
  refine kr_astore_n O dX10_copy_11 rfl (Nat.le_of_ble_eq_true rfl) rfl rfl ?_
  refine kr_aload_n O dX10_copy_12 rfl 0 rfl ?_
  obtain ⟨p5, ep5, h⟩ := h
  refine kr_getf O dX10_copy_13 fs_X10_14 ep5 ?_
  refine kr_aload_n O dX10_copy_16 rfl 1 rfl ?_
  obtain ⟨p6, ep6, h⟩ := h
  refine kr_getf O dX10_copy_17 fs_X10_14 ep6 ?_
  obtain ⟨b7, rfl, h⟩ := h
  obtain ⟨hco, h⟩ := h
  refine kr_caV (rest := []) O cd_J21_or h (Nat.le_of_ble_eq_true rfl) (fun ls _ => kt_ivV (ci := 18) O dX10_copy_20 cd_J21_or in_J21_or (Or.inl q788) q789 q790 hco (by decide) hy_J21_or) (fun M8 hq => ?_) (fun E q M9 hx => kr_out O hx)
  replace h := hq
  clear hq
  refine kr_aload_n O dX10_copy_23 rfl 0 rfl ?_
  refine kr_aload_n O dX10_copy_24 rfl 1 rfl ?_
  obtain ⟨u9, eu9, h⟩ := h
  refine kr_getf O dX10_copy_25 fs_X10_29 eu9 ?_
  obtain ⟨hw, h⟩ := h
  refine kr_putf O dX10_copy_28 fs_X10_29 (Or.inl rfl) ⟨rfl, rfl⟩ hw (kr_nmM fun M10 hM10 => ?_)
  replace h := h M10 hM10
  refine kr_aload_n O dX10_copy_31 rfl 0 rfl ?_
  refine kr_aload_n O dX10_copy_32 rfl 1 rfl ?_
  obtain ⟨u11, eu11, h⟩ := h
  refine kr_getf O dX10_copy_33 fs_X10_32 eu11 ?_
  obtain ⟨hok, h⟩ := h
  obtain ⟨hw, h⟩ := h
  refine kr_putf O dX10_copy_36 fs_X10_32 (Or.inl rfl) hok hw (kr_nmM fun M12 hM12 => ?_)
  replace h := h M12 hM12
  refine kr_aload_n O dX10_copy_39 rfl 0 rfl ?_
  exact kr_aret O dX10_copy_40 (by first | exact Or.inl ⟨_, rfl⟩ | exact Or.inr ⟨_, rfl⟩) h
def vc_X10_init (w : kt_W) (gr : kt_g × kt_M) (d : Nat) (P : Option Value → kt_M → Prop) (X : String → Nat → kt_M → Prop) (a0 : Nat) (v1 : Int32) (M : kt_M) : Prop :=
  kt_fits w M 3 ∧ ∃ t1, ∀ M2, M2 = kt_new M 3 (t1 + 2, .inr (18, [va_rf none, .int 0, .int 0])) → 
  kt_Ca w gr d yJ21_init kc_J21_init [va_rf (some M.1), .int (30 : Int32)] M2 (kt_pV fun M3 => kt_hf gr M3 a0 26 ∧ ∀ M4, M4 = kt_pf M3 a0 26 (va_rf (some M.1)) → kt_hf gr M4 a0 25 ∧ ∀ M5, M5 = kt_pf M4 a0 25 (.int v1) → P none M5) X
theorem ce_X10_init {w : kt_W} {g : kt_g} {d : Nat} {P : Option Value → kt_M → Prop} {X : String → Nat → kt_M → Prop} {a0 : Nat} {v1 : Int32} {M : kt_M} (h : vc_X10_init w (g, M) d P X a0 v1 M) : kt_Sp w g (d + 1) yX10_init kc_X10_init [va_rf (some a0), .int v1] M P X := by
  refine kt_of (L0 := [(0, va_rf (some a0)), (1, .int v1)]) (by decide +kernel) (Nat.le_of_ble_eq_true rfl) rfl fun x O => ?_
  replace O : kt_O w x (g, M) (d + 1) cX10_init "KeyTurns$Sealed" 2 ("<init>", "(I)V") (Option.none : Option Jvm.ClassFile.FieldType) [] := O
  unfold vc_X10_init at h
  refine kr_aload_n O dX10_init_0 rfl 0 rfl ?_
  refine kr_objinit O dX10_init_1 q747 q173 q174 (Nat.le_of_ble_eq_true rfl) ?_
  refine kr_aload_n O dX10_init_4 rfl 0 rfl ?_
  obtain ⟨hf, t1, h⟩ := h
  refine kr_new (c := 18) (r := (RJ21, TJ21, 3)) (fs := [va_rf none, .int 0, .int 0]) t1 O dX10_init_5 rfl q748 q525 q143 rfl hf (kr_nmM fun M2 hM2 => ?_)
  replace h := h M2 hM2
  refine kr_dup O dX10_init_8 (kt_nrf _) ?_
  refine kr_bipush O dX10_init_9 (v := (30 : Int32)) (by decide) ?_
  refine kr_caV (rest := [va_rf (some M.1), va_rf (some a0)]) O cd_J21_init h (Nat.le_of_ble_eq_true rfl) (fun ls _ => kt_ivI O dX10_init_11 cd_J21_init in_J21_init (Or.inl q749) q750 hi_J21_init) (fun M3 hq => ?_) (fun E q M9 hx => kr_out O hx)
  replace h := hq
  clear hq
  obtain ⟨hw, h⟩ := h
  refine kr_putf O dX10_init_14 fs_X10_14 (Or.inl rfl) (kt_ok_rf _ rfl) hw (kr_nmM fun M4 hM4 => ?_)
  replace h := h M4 hM4
  refine kr_aload_n O dX10_init_17 rfl 0 rfl ?_
  refine kr_iload_n O dX10_init_18 rfl 1 rfl ?_
  obtain ⟨hw, h⟩ := h
  refine kr_putf O dX10_init_19 fs_X10_20 (Or.inr ⟨rfl, rfl⟩) ⟨rfl, rfl⟩ hw (kr_nmM fun M5 hM5 => ?_)
  replace h := h M5 hM5
  exact kr_vret O dX10_init_22 h
def vc_J21_get (w : kt_W) (gr : kt_g × kt_M) (d : Nat) (P : Option Value → kt_M → Prop) (X : String → Nat → kt_M → Prop) (a0 : Nat) (v1 : Int32) (M : kt_M) : Prop :=
  
    ((0 ≤ v1 → (kt_co M a0 = some 18) ∧ 
    kt_Ca w gr d yJ21_checkInvariants kc_J21_checkInvariants [va_rf (some a0)] M (kt_pV fun M1 => 
    kt_Ca w gr d yJ21_wordIndex kc_J21_wordIndex [.int v1] M1 (kt_pI fun u2 M3 => ∃ u4, kt_gf M3 a0 108 = some (.int u4) ∧ 
      ((u4 ≤ u2 → P (some (.int (0 : Int32))) M3) ∧
      (¬ u4 ≤ u2 → ∃ p5, kt_gf M3 a0 107 = some (va_rf p5) ∧ ∃ b6, p5 = some b6 ∧ ∃ u7, kt_el 1 M3 b6 u2 = some (.long u7) ∧ 
        (((lg_cmp (u7 &&& ((1 : Int64) <<< (v1.toInt64 &&& 63))) (0 : Int64)) = 0 → P (some (.int (0 : Int32))) M3) ∧
        (¬ (lg_cmp (u7 &&& ((1 : Int64) <<< (v1.toInt64 &&& 63))) (0 : Int64)) = 0 → P (some (.int (1 : Int32))) M3))))) X) X) ∧
    (¬ 0 ≤ v1 → False))
theorem ce_J21_get {w : kt_W} {g : kt_g} {d : Nat} {P : Option Value → kt_M → Prop} {X : String → Nat → kt_M → Prop} {a0 : Nat} {v1 : Int32} {M : kt_M} (h : vc_J21_get w (g, M) d P X a0 v1 M) : kt_Sp w g (d + 1) yJ21_get kc_J21_get [va_rf (some a0), .int v1] M P X := by
  refine kt_of (L0 := [(0, va_rf (some a0)), (1, .int v1)]) (by decide +kernel) (Nat.le_of_ble_eq_true rfl) rfl fun x O => ?_
  replace O : kt_O w x (g, M) (d + 1) cJ21_get "java/util/BitSet" 3 ("get", "(I)Z") (Option.some Jvm.ClassFile.FieldType.boolean) [] := O
  unfold vc_J21_get at h
  refine kr_iload_n O dJ21_get_0 rfl 1 rfl ?_
  refine kr_if_ge (tgt := 31) O dJ21_get_1 rfl (fun hc => ?_) (fun hc => ?_)
  · replace h := h.1 hc
    refine kr_aload_n O dJ21_get_31 rfl 0 rfl ?_
    obtain ⟨hco, h⟩ := h
    refine kr_caV (rest := []) O cd_J21_checkInvariants h (Nat.le_of_ble_eq_true rfl) (fun ls _ => kt_ivV (ci := 18) O dJ21_get_32 cd_J21_checkInvariants in_J21_checkInvariants (Or.inl q522) q524 qs5 hco (by decide) hy_J21_checkInvariants) (fun M1 hq => ?_) (fun E q M9 hx => kr_out O hx)
    replace h := hq
    clear hq
    refine kr_iload_n O dJ21_get_35 rfl 1 rfl ?_
    refine kr_caI (rest := []) O cd_J21_wordIndex h (Nat.le_of_ble_eq_true rfl) (fun ls _ => kt_ivS O dJ21_get_36 cd_J21_wordIndex in_J21_wordIndex q529 q530 hy_J21_wordIndex) (fun u2 M3 hq => ?_) (fun E q M9 hx => kr_out O hx)
    replace h := hq
    clear hq
    refine kr_istore_n O dJ21_get_39 rfl (Nat.le_of_ble_eq_true rfl) rfl rfl ?_
    refine kr_iload_n O dJ21_get_40 rfl 0 rfl ?_
    refine kr_aload_n O dJ21_get_41 rfl 1 rfl ?_
    obtain ⟨u4, eu4, h⟩ := h
    refine kr_getf O dJ21_get_42 fs_J21_7 eu4 ?_
    refine kr_icmp_ge (tgt := 67) O dJ21_get_45 rfl (fun hc => ?_) (fun hc => ?_)
    · replace h := h.1 hc
      refine kr_iconst O dJ21_get_67 (v := (0 : Int32)) (by decide) ?_
      exact kr_iret O dJ21_get_68 (by decide) h
    · replace h := h.2 hc
      refine kr_aload_n O dJ21_get_48 rfl 1 rfl ?_
      obtain ⟨p5, ep5, h⟩ := h
      refine kr_getf O dJ21_get_49 fs_J21_11 ep5 ?_
      refine kr_iload_n O dJ21_get_52 rfl 0 rfl ?_
      obtain ⟨b6, rfl, h⟩ := h
      obtain ⟨u7, eu7, h⟩ := h
      refine kr_laload O dJ21_get_53 eu7 ?_
      refine kr_lconst O dJ21_get_54 (v := (1 : Int64)) (by decide) ?_
      refine kr_iload_n O dJ21_get_55 rfl 2 rfl ?_
      refine kr_lshl O dJ21_get_56 ?_
      refine kr_land O dJ21_get_57 ?_
      refine kr_lconst O dJ21_get_58 (v := (0 : Int64)) (by decide) ?_
      refine kr_lcmp O dJ21_get_59 ?_
      refine kr_if_eq (tgt := 67) O dJ21_get_60 rfl (fun hc => ?_) (fun hc => ?_)
      · replace h := h.1 hc
        refine kr_iconst O dJ21_get_67 (v := (0 : Int32)) (by decide) ?_
        exact kr_iret O dJ21_get_68 (by decide) h
      · replace h := h.2 hc
        refine kr_iconst O dJ21_get_63 (v := (1 : Int32)) (by decide) ?_
        refine kr_goto (tgt := 68) O dJ21_get_64 rfl ?_
        exact kr_iret O dJ21_get_68 (by decide) h
  · replace h := h.2 hc
    exact h.elim
def vc_J21_checkInvariants_70 (w : kt_W) (gr : kt_g × kt_M) (d : Nat) (P : Option Value → kt_M → Prop) (X : String → Nat → kt_M → Prop)  (a0 : Nat) (M : kt_M) : Prop :=
  
    ((¬ (1 : Int32) = 0 → P none M) ∧
    ((1 : Int32) = 0 → ∃ u1, kt_gf M a0 108 = some (.int u1) ∧ ∃ p2, kt_gf M a0 107 = some (va_rf p2) ∧ ∃ b3, p2 = some b3 ∧ ∃ n4, kt_len M b3 = some n4 ∧ 
      ((u1 = (nI n4) → P none M) ∧
      (¬ u1 = (nI n4) → ∃ p5, kt_gf M a0 107 = some (va_rf p5) ∧ ∃ u6, kt_gf M a0 108 = some (.int u6) ∧ ∃ b7, p5 = some b7 ∧ ∃ u8, kt_el 1 M b7 u6 = some (.long u8) ∧ 
        (((lg_cmp u8 (0 : Int64)) = 0 → P none M) ∧
        (¬ (lg_cmp u8 (0 : Int64)) = 0 → False))))))
theorem cj_J21_checkInvariants_70 {w : kt_W} {x : kt_X} {gr : kt_g × kt_M} {d : Nat} {P : Option Value → kt_M → Prop} {X : String → Nat → kt_M → Prop}  {a0 : Nat} {M : kt_M} (O : kt_O w x gr (d + 1) cJ21_checkInvariants "java/util/BitSet" 1 ("checkInvariants", "()V") (Option.none : Option Jvm.ClassFile.FieldType) [])  (h : vc_J21_checkInvariants_70 w gr d P X  a0 M) : kt_S w x 1 (kt_E w x P X) M 70 [(0, va_rf (some a0))] [] := by
  unfold vc_J21_checkInvariants_70 at h
  refine kr_getsI O dJ21_checkInvariants_70 q527 (kt_inI 1 rfl) ?_
  refine kr_if_ne (tgt := 110) O dJ21_checkInvariants_73 rfl (fun hc => ?_) (fun hc => ?_)
  · replace h := h.1 hc
    exact kr_vret O dJ21_checkInvariants_110 h
  · replace h := h.2 hc
    refine kr_aload_n O dJ21_checkInvariants_76 rfl 0 rfl ?_
    obtain ⟨u1, eu1, h⟩ := h
    refine kr_getf O dJ21_checkInvariants_77 fs_J21_7 eu1 ?_
    refine kr_aload_n O dJ21_checkInvariants_80 rfl 0 rfl ?_
    obtain ⟨p2, ep2, h⟩ := h
    refine kr_getf O dJ21_checkInvariants_81 fs_J21_11 ep2 ?_
    obtain ⟨b3, rfl, h⟩ := h
    obtain ⟨n4, en4, h⟩ := h
    refine kr_alen O dJ21_checkInvariants_84 en4 ?_
    refine kr_icmp_eq (tgt := 110) O dJ21_checkInvariants_85 rfl (fun hc => ?_) (fun hc => ?_)
    · replace h := h.1 hc
      exact kr_vret O dJ21_checkInvariants_110 h
    · replace h := h.2 hc
      refine kr_aload_n O dJ21_checkInvariants_88 rfl 0 rfl ?_
      obtain ⟨p5, ep5, h⟩ := h
      refine kr_getf O dJ21_checkInvariants_89 fs_J21_11 ep5 ?_
      refine kr_aload_n O dJ21_checkInvariants_92 rfl 0 rfl ?_
      obtain ⟨u6, eu6, h⟩ := h
      refine kr_getf O dJ21_checkInvariants_93 fs_J21_7 eu6 ?_
      obtain ⟨b7, rfl, h⟩ := h
      obtain ⟨u8, eu8, h⟩ := h
      refine kr_laload O dJ21_checkInvariants_96 eu8 ?_
      refine kr_lconst O dJ21_checkInvariants_97 (v := (0 : Int64)) (by decide) ?_
      refine kr_lcmp O dJ21_checkInvariants_98 ?_
      refine kr_if_eq (tgt := 110) O dJ21_checkInvariants_99 rfl (fun hc => ?_) (fun hc => ?_)
      · replace h := h.1 hc
        exact kr_vret O dJ21_checkInvariants_110 h
      · replace h := h.2 hc
        exact h.elim
def vc_J21_checkInvariants_62 (w : kt_W) (gr : kt_g × kt_M) (d : Nat) (P : Option Value → kt_M → Prop) (X : String → Nat → kt_M → Prop)   (M : kt_M) : Prop :=
  False
theorem cj_J21_checkInvariants_62 {w : kt_W} {x : kt_X} {gr : kt_g × kt_M} {d : Nat} {P : Option Value → kt_M → Prop} {X : String → Nat → kt_M → Prop}   {M : kt_M} (O : kt_O w x gr (d + 1) cJ21_checkInvariants "java/util/BitSet" 1 ("checkInvariants", "()V") (Option.none : Option Jvm.ClassFile.FieldType) [])  (h : vc_J21_checkInvariants_62 w gr d P X   M) : kt_S w x 1 (kt_E w x P X) M 62 [] [] := by
  unfold vc_J21_checkInvariants_62 at h
  exact h.elim
def vc_J21_checkInvariants_37 (w : kt_W) (gr : kt_g × kt_M) (d : Nat) (P : Option Value → kt_M → Prop) (X : String → Nat → kt_M → Prop)  (a0 : Nat) (M : kt_M) : Prop :=
  
    ((¬ (1 : Int32) = 0 → vc_J21_checkInvariants_70 w gr d P X  a0 M) ∧
    ((1 : Int32) = 0 → ∃ u1, kt_gf M a0 108 = some (.int u1) ∧ 
      ((u1 < 0 → vc_J21_checkInvariants_62 w gr d P X   M) ∧
      (¬ u1 < 0 → ∃ u2, kt_gf M a0 108 = some (.int u2) ∧ ∃ p3, kt_gf M a0 107 = some (va_rf p3) ∧ ∃ b4, p3 = some b4 ∧ ∃ n5, kt_len M b4 = some n5 ∧ 
        ((u2 ≤ (nI n5) → vc_J21_checkInvariants_70 w gr d P X  a0 M) ∧
        (¬ u2 ≤ (nI n5) → vc_J21_checkInvariants_62 w gr d P X   M))))))
theorem cj_J21_checkInvariants_37 {w : kt_W} {x : kt_X} {gr : kt_g × kt_M} {d : Nat} {P : Option Value → kt_M → Prop} {X : String → Nat → kt_M → Prop}  {a0 : Nat} {M : kt_M} (O : kt_O w x gr (d + 1) cJ21_checkInvariants "java/util/BitSet" 1 ("checkInvariants", "()V") (Option.none : Option Jvm.ClassFile.FieldType) [])  (h : vc_J21_checkInvariants_37 w gr d P X  a0 M) : kt_S w x 1 (kt_E w x P X) M 37 [(0, va_rf (some a0))] [] := by
  unfold vc_J21_checkInvariants_37 at h
  refine kr_getsI O dJ21_checkInvariants_37 q527 (kt_inI 1 rfl) ?_
  refine kr_if_ne (tgt := 70) O dJ21_checkInvariants_40 rfl (fun hc => ?_) (fun hc => ?_)
  · replace h := h.1 hc
    exact cj_J21_checkInvariants_70 O  h
  · replace h := h.2 hc
    refine kr_aload_n O dJ21_checkInvariants_43 rfl 0 rfl ?_
    obtain ⟨u1, eu1, h⟩ := h
    refine kr_getf O dJ21_checkInvariants_44 fs_J21_7 eu1 ?_
    refine kr_if_lt (tgt := 62) O dJ21_checkInvariants_47 rfl (fun hc => ?_) (fun hc => ?_)
    · replace h := h.1 hc
      refine kr_sub [] rfl ?_
      exact cj_J21_checkInvariants_62 O  h
    · replace h := h.2 hc
      refine kr_aload_n O dJ21_checkInvariants_50 rfl 0 rfl ?_
      obtain ⟨u2, eu2, h⟩ := h
      refine kr_getf O dJ21_checkInvariants_51 fs_J21_7 eu2 ?_
      refine kr_aload_n O dJ21_checkInvariants_54 rfl 0 rfl ?_
      obtain ⟨p3, ep3, h⟩ := h
      refine kr_getf O dJ21_checkInvariants_55 fs_J21_11 ep3 ?_
      obtain ⟨b4, rfl, h⟩ := h
      obtain ⟨n5, en5, h⟩ := h
      refine kr_alen O dJ21_checkInvariants_58 en5 ?_
      refine kr_icmp_le (tgt := 70) O dJ21_checkInvariants_59 rfl (fun hc => ?_) (fun hc => ?_)
      · replace h := h.1 hc
        exact cj_J21_checkInvariants_70 O  h
      · replace h := h.2 hc
        refine kr_sub [] rfl ?_
        exact cj_J21_checkInvariants_62 O  h
def vc_J21_checkInvariants (w : kt_W) (gr : kt_g × kt_M) (d : Nat) (P : Option Value → kt_M → Prop) (X : String → Nat → kt_M → Prop) (a0 : Nat) (M : kt_M) : Prop :=
  
    ((¬ (1 : Int32) = 0 → vc_J21_checkInvariants_37 w gr d P X  a0 M) ∧
    ((1 : Int32) = 0 → ∃ u1, kt_gf M a0 108 = some (.int u1) ∧ 
      ((u1 = 0 → vc_J21_checkInvariants_37 w gr d P X  a0 M) ∧
      (¬ u1 = 0 → ∃ p2, kt_gf M a0 107 = some (va_rf p2) ∧ ∃ u3, kt_gf M a0 108 = some (.int u3) ∧ ∃ b4, p2 = some b4 ∧ ∃ u5, kt_el 1 M b4 (u3 - (1 : Int32)) = some (.long u5) ∧ 
        ((¬ (lg_cmp u5 (0 : Int64)) = 0 → vc_J21_checkInvariants_37 w gr d P X  a0 M) ∧
        ((lg_cmp u5 (0 : Int64)) = 0 → False))))))
theorem ce_J21_checkInvariants {w : kt_W} {g : kt_g} {d : Nat} {P : Option Value → kt_M → Prop} {X : String → Nat → kt_M → Prop} {a0 : Nat} {M : kt_M} (h : vc_J21_checkInvariants w (g, M) d P X a0 M) : kt_Sp w g (d + 1) yJ21_checkInvariants kc_J21_checkInvariants [va_rf (some a0)] M P X := by
  refine kt_of (L0 := [(0, va_rf (some a0))]) (by decide +kernel) (Nat.le_of_ble_eq_true rfl) rfl fun x O => ?_
  replace O : kt_O w x (g, M) (d + 1) cJ21_checkInvariants "java/util/BitSet" 1 ("checkInvariants", "()V") (Option.none : Option Jvm.ClassFile.FieldType) [] := O
  unfold vc_J21_checkInvariants at h
  refine kr_getsI O dJ21_checkInvariants_0 q527 (kt_inI 1 rfl) ?_
  refine kr_if_ne (tgt := 37) O dJ21_checkInvariants_3 rfl (fun hc => ?_) (fun hc => ?_)
  · replace h := h.1 hc
    exact cj_J21_checkInvariants_37 O  h
  · replace h := h.2 hc
    refine kr_aload_n O dJ21_checkInvariants_6 rfl 0 rfl ?_
    obtain ⟨u1, eu1, h⟩ := h
    refine kr_getf O dJ21_checkInvariants_7 fs_J21_7 eu1 ?_
    refine kr_if_eq (tgt := 37) O dJ21_checkInvariants_10 rfl (fun hc => ?_) (fun hc => ?_)
    · replace h := h.1 hc
      exact cj_J21_checkInvariants_37 O  h
    · replace h := h.2 hc
      refine kr_aload_n O dJ21_checkInvariants_13 rfl 0 rfl ?_
      obtain ⟨p2, ep2, h⟩ := h
      refine kr_getf O dJ21_checkInvariants_14 fs_J21_11 ep2 ?_
      refine kr_aload_n O dJ21_checkInvariants_17 rfl 0 rfl ?_
      obtain ⟨u3, eu3, h⟩ := h
      refine kr_getf O dJ21_checkInvariants_18 fs_J21_7 eu3 ?_
      refine kr_iconst O dJ21_checkInvariants_21 (v := (1 : Int32)) (by decide) ?_
      refine kr_isub O dJ21_checkInvariants_22 ?_
      obtain ⟨b4, rfl, h⟩ := h
      obtain ⟨u5, eu5, h⟩ := h
      refine kr_laload O dJ21_checkInvariants_23 eu5 ?_
      refine kr_lconst O dJ21_checkInvariants_24 (v := (0 : Int64)) (by decide) ?_
      refine kr_lcmp O dJ21_checkInvariants_25 ?_
      refine kr_if_ne (tgt := 37) O dJ21_checkInvariants_26 rfl (fun hc => ?_) (fun hc => ?_)
      · replace h := h.1 hc
        exact cj_J21_checkInvariants_37 O  h
      · replace h := h.2 hc
        exact h.elim
def vc_J21_wordIndex (w : kt_W) (gr : kt_g × kt_M) (d : Nat) (P : Option Value → kt_M → Prop) (X : String → Nat → kt_M → Prop) (v0 : Int32) (M : kt_M) : Prop :=
  P (some (.int (v0 >>> ((6 : Int32) &&& 31)))) M
theorem ce_J21_wordIndex {w : kt_W} {g : kt_g} {d : Nat} {P : Option Value → kt_M → Prop} {X : String → Nat → kt_M → Prop} {v0 : Int32} {M : kt_M} (h : vc_J21_wordIndex w (g, M) d P X v0 M) : kt_Sp w g (d + 1) yJ21_wordIndex kc_J21_wordIndex [.int v0] M P X := by
  refine kt_of (L0 := [(0, .int v0)]) (by decide +kernel) (Nat.le_of_ble_eq_true rfl) rfl fun x O => ?_
  replace O : kt_O w x (g, M) (d + 1) cJ21_wordIndex "java/util/BitSet" 1 ("wordIndex", "(I)I") (Option.some Jvm.ClassFile.FieldType.int) [] := O
  unfold vc_J21_wordIndex at h
  refine kr_iload_n O dJ21_wordIndex_0 rfl 0 rfl ?_
  refine kr_bipush O dJ21_wordIndex_1 (v := (6 : Int32)) (by decide) ?_
  refine kr_ishr O dJ21_wordIndex_3 ?_
  exact kr_iret O dJ21_wordIndex_4 rfl h
def vc_J21_nextSetBit_63 (w : kt_W) (gr : kt_g × kt_M) (d : Nat) (P : Option Value → kt_M → Prop) (X : String → Nat → kt_M → Prop) (nx63 : Int32 → Int64 → kt_M → Prop) (a0 : Nat) (v2 : Int32) (v3 : Int64) (M : kt_M) : Prop :=
  
    (((lg_cmp v3 (0 : Int64)) = 0 → ∃ u1, kt_gf M a0 108 = some (.int u1) ∧ 
      ((¬ (v2 + (1 : Int32)) = u1 → ∃ p2, kt_gf M a0 107 = some (va_rf p2) ∧ ∃ b3, p2 = some b3 ∧ ∃ u4, kt_el 1 M b3 (v2 + (1 : Int32)) = some (.long u4) ∧ nx63 (v2 + (1 : Int32)) u4 M) ∧
      ((v2 + (1 : Int32)) = u1 → P (some (.int (-1 : Int32))) M))) ∧
    (¬ (lg_cmp v3 (0 : Int64)) = 0 → 
    kt_Ca w gr d yJ24_numberOfTrailingZeros kc_J24_numberOfTrailingZeros [.long v3] M (kt_pI fun u5 M6 => P (some (.int ((v2 * (64 : Int32)) + u5))) M6) X))
theorem cj_J21_nextSetBit_63 {w : kt_W} {x : kt_X} {gr : kt_g × kt_M} {d : Nat} {P : Option Value → kt_M → Prop} {X : String → Nat → kt_M → Prop} {nx63 : Int32 → Int64 → kt_M → Prop} {a0 : Nat} {v2 : Int32} {v3 : Int64} {M : kt_M} (O : kt_O w x gr (d + 1) cJ21_nextSetBit "java/util/BitSet" 5 ("nextSetBit", "(I)I") (Option.some Jvm.ClassFile.FieldType.int) []) (hn63 : ∀ v2 v3 M, nx63 v2 v3 M → kt_S w x 5 (kt_E w x P X) M 63 [(0, va_rf (some a0)), (2, .int v2), (3, .long v3)] []) (h : vc_J21_nextSetBit_63 w gr d P X nx63 a0 v2 v3 M) : kt_S w x 5 (kt_E w x P X) M 63 [(0, va_rf (some a0)), (2, .int v2), (3, .long v3)] [] := by
  unfold vc_J21_nextSetBit_63 at h
  refine kr_lload_n O dJ21_nextSetBit_63 rfl 2 rfl ?_
  refine kr_lconst O dJ21_nextSetBit_64 (v := (0 : Int64)) (by decide) ?_
  refine kr_lcmp O dJ21_nextSetBit_65 ?_
  refine kr_if_eq (tgt := 79) O dJ21_nextSetBit_66 rfl (fun hc => ?_) (fun hc => ?_)
  · replace h := h.1 hc
    refine kr_iinc O dJ21_nextSetBit_79 1 rfl (v := v2 + (1 : Int32)) rfl (Nat.le_of_ble_eq_true rfl) rfl rfl ?_
    refine kr_iload_n O dJ21_nextSetBit_82 rfl 0 rfl ?_
    refine kr_aload_n O dJ21_nextSetBit_83 rfl 1 rfl ?_
    obtain ⟨u1, eu1, h⟩ := h
    refine kr_getf O dJ21_nextSetBit_84 fs_J21_7 eu1 ?_
    refine kr_icmp_ne (tgt := 92) O dJ21_nextSetBit_87 rfl (fun hc => ?_) (fun hc => ?_)
    · replace h := h.1 hc
      refine kr_aload_n O dJ21_nextSetBit_92 rfl 1 rfl ?_
      obtain ⟨p2, ep2, h⟩ := h
      refine kr_getf O dJ21_nextSetBit_93 fs_J21_11 ep2 ?_
      refine kr_iload_n O dJ21_nextSetBit_96 rfl 0 rfl ?_
      obtain ⟨b3, rfl, h⟩ := h
      obtain ⟨u4, eu4, h⟩ := h
      refine kr_laload O dJ21_nextSetBit_97 eu4 ?_
      refine kr_lstore_n O dJ21_nextSetBit_98 rfl (Nat.le_of_ble_eq_true rfl) rfl rfl ?_
      refine kr_goto (tgt := 63) O dJ21_nextSetBit_99 rfl ?_
      refine kr_sub [2, 1, 0] rfl ?_
      exact hn63 _ _ _ h
    · replace h := h.2 hc
      refine kr_iconst O dJ21_nextSetBit_90 (v := (-1 : Int32)) (by decide) ?_
      exact kr_iret O dJ21_nextSetBit_91 rfl h
  · replace h := h.2 hc
    refine kr_iload_n O dJ21_nextSetBit_69 rfl 1 rfl ?_
    refine kr_bipush O dJ21_nextSetBit_70 (v := (64 : Int32)) (by decide) ?_
    refine kr_imul O dJ21_nextSetBit_72 ?_
    refine kr_lload_n O dJ21_nextSetBit_73 rfl 2 rfl ?_
    refine kr_caI (rest := [.int (v2 * (64 : Int32))]) O cd_J24_numberOfTrailingZeros h (Nat.le_of_ble_eq_true rfl) (fun ls _ => kt_ivS O dJ21_nextSetBit_74 cd_J24_numberOfTrailingZeros in_J24_numberOfTrailingZeros q541 q542 hy_J24_numberOfTrailingZeros) (fun u5 M6 hq => ?_) (fun E q M9 hx => kr_out O hx)
    replace h := hq
    clear hq
    refine kr_iadd O dJ21_nextSetBit_77 ?_
    exact kr_iret O dJ21_nextSetBit_78 rfl h
def vl_J21_nextSetBit_63 (w : kt_W) (gr : kt_g × kt_M) (d : Nat) (P : Option Value → kt_M → Prop) (X : String → Nat → kt_M → Prop)  (a0 : Nat) (v2 : Int32) (v3 : Int64) (M : kt_M) : Prop :=
  ∃ Inv : Nat → Int32 → Int64 → kt_M → Prop, (∃ k, Inv k v2 v3 M) ∧ ∀ k v2 v3 M, kt_le gr.1 gr.2 M → Inv k v2 v3 M → vc_J21_nextSetBit_63 w gr d P X (fun v2' v3' M' => ∃ k', k' < k ∧ Inv k' v2' v3' M') a0 v2 v3 M
theorem cl_J21_nextSetBit_63 {w : kt_W} {x : kt_X} {gr : kt_g × kt_M} {d : Nat} {P : Option Value → kt_M → Prop} {X : String → Nat → kt_M → Prop}  {a0 : Nat} {v2 : Int32} {v3 : Int64} {M : kt_M} (O : kt_O w x gr (d + 1) cJ21_nextSetBit "java/util/BitSet" 5 ("nextSetBit", "(I)I") (Option.some Jvm.ClassFile.FieldType.int) [])  (h : vl_J21_nextSetBit_63 w gr d P X  a0 v2 v3 M) : kt_S w x 5 (kt_E w x P X) M 63 [(0, va_rf (some a0)), (2, .int v2), (3, .long v3)] [] := by
  obtain ⟨Inv, ⟨k, hk⟩, hb⟩ := h
  induction k using Nat.strongRecOn generalizing v2 v3 M with
  | ind k ih =>
    exact kr_le O fun hle => cj_J21_nextSetBit_63 O (fun v2' v3' M' hi => let ⟨k', h1, h2⟩ := hi; ih k' h1 h2) (hb k _ _ _ hle hk)
def vc_J21_nextSetBit (w : kt_W) (gr : kt_g × kt_M) (d : Nat) (P : Option Value → kt_M → Prop) (X : String → Nat → kt_M → Prop) (a0 : Nat) (v1 : Int32) (M : kt_M) : Prop :=
  
    ((0 ≤ v1 → (kt_co M a0 = some 18) ∧ 
    kt_Ca w gr d yJ21_checkInvariants kc_J21_checkInvariants [va_rf (some a0)] M (kt_pV fun M1 => 
    kt_Ca w gr d yJ21_wordIndex kc_J21_wordIndex [.int v1] M1 (kt_pI fun u2 M3 => ∃ u4, kt_gf M3 a0 108 = some (.int u4) ∧ 
      ((u2 < u4 → ∃ p5, kt_gf M3 a0 107 = some (va_rf p5) ∧ ∃ b6, p5 = some b6 ∧ ∃ u7, kt_el 1 M3 b6 u2 = some (.long u7) ∧ vl_J21_nextSetBit_63 w gr d P X  a0 u2 (u7 &&& ((-1 : Int64) <<< (v1.toInt64 &&& 63))) M3) ∧
      (¬ u2 < u4 → P (some (.int (-1 : Int32))) M3))) X) X) ∧
    (¬ 0 ≤ v1 → False))
theorem ce_J21_nextSetBit {w : kt_W} {g : kt_g} {d : Nat} {P : Option Value → kt_M → Prop} {X : String → Nat → kt_M → Prop} {a0 : Nat} {v1 : Int32} {M : kt_M} (h : vc_J21_nextSetBit w (g, M) d P X a0 v1 M) : kt_Sp w g (d + 1) yJ21_nextSetBit kc_J21_nextSetBit [va_rf (some a0), .int v1] M P X := by
  refine kt_of (L0 := [(0, va_rf (some a0)), (1, .int v1)]) (by decide +kernel) (Nat.le_of_ble_eq_true rfl) rfl fun x O => ?_
  replace O : kt_O w x (g, M) (d + 1) cJ21_nextSetBit "java/util/BitSet" 5 ("nextSetBit", "(I)I") (Option.some Jvm.ClassFile.FieldType.int) [] := O
  unfold vc_J21_nextSetBit at h
  refine kr_iload_n O dJ21_nextSetBit_0 rfl 1 rfl ?_
  refine kr_if_ge (tgt := 31) O dJ21_nextSetBit_1 rfl (fun hc => ?_) (fun hc => ?_)
  · replace h := h.1 hc
    refine kr_aload_n O dJ21_nextSetBit_31 rfl 0 rfl ?_
    obtain ⟨hco, h⟩ := h
    refine kr_caV (rest := []) O cd_J21_checkInvariants h (Nat.le_of_ble_eq_true rfl) (fun ls _ => kt_ivV (ci := 18) O dJ21_nextSetBit_32 cd_J21_checkInvariants in_J21_checkInvariants (Or.inl q522) q524 qs5 hco (by decide) hy_J21_checkInvariants) (fun M1 hq => ?_) (fun E q M9 hx => kr_out O hx)
    replace h := hq
    clear hq
    refine kr_iload_n O dJ21_nextSetBit_35 rfl 1 rfl ?_
    refine kr_caI (rest := []) O cd_J21_wordIndex h (Nat.le_of_ble_eq_true rfl) (fun ls _ => kt_ivS O dJ21_nextSetBit_36 cd_J21_wordIndex in_J21_wordIndex q529 q530 hy_J21_wordIndex) (fun u2 M3 hq => ?_) (fun E q M9 hx => kr_out O hx)
    replace h := hq
    clear hq
    refine kr_istore_n O dJ21_nextSetBit_39 rfl (Nat.le_of_ble_eq_true rfl) rfl rfl ?_
    refine kr_iload_n O dJ21_nextSetBit_40 rfl 0 rfl ?_
    refine kr_aload_n O dJ21_nextSetBit_41 rfl 1 rfl ?_
    obtain ⟨u4, eu4, h⟩ := h
    refine kr_getf O dJ21_nextSetBit_42 fs_J21_7 eu4 ?_
    refine kr_icmp_lt (tgt := 50) O dJ21_nextSetBit_45 rfl (fun hc => ?_) (fun hc => ?_)
    · replace h := h.1 hc
      refine kr_aload_n O dJ21_nextSetBit_50 rfl 1 rfl ?_
      obtain ⟨p5, ep5, h⟩ := h
      refine kr_getf O dJ21_nextSetBit_51 fs_J21_11 ep5 ?_
      refine kr_iload_n O dJ21_nextSetBit_54 rfl 0 rfl ?_
      obtain ⟨b6, rfl, h⟩ := h
      obtain ⟨u7, eu7, h⟩ := h
      refine kr_laload O dJ21_nextSetBit_55 eu7 ?_
      refine kr_ldc2 O dJ21_nextSetBit_56 q540 ?_
      refine kr_iload_n O dJ21_nextSetBit_59 rfl 2 rfl ?_
      refine kr_lshl O dJ21_nextSetBit_60 ?_
      refine kr_land O dJ21_nextSetBit_61 ?_
      refine kr_lstore_n O dJ21_nextSetBit_62 rfl (Nat.le_of_ble_eq_true rfl) rfl rfl ?_
      refine kr_sub [2, 1, 0] rfl ?_
      exact cl_J21_nextSetBit_63 O  h
    · replace h := h.2 hc
      refine kr_iconst O dJ21_nextSetBit_48 (v := (-1 : Int32)) (by decide) ?_
      exact kr_iret O dJ21_nextSetBit_49 rfl h
  · replace h := h.2 hc
    exact h.elim
def vc_J21_cardinality_4 (w : kt_W) (gr : kt_g × kt_M) (d : Nat) (P : Option Value → kt_M → Prop) (X : String → Nat → kt_M → Prop) (nx4 : Int32 → Int32 → kt_M → Prop) (a0 : Nat) (v1 : Int32) (v2 : Int32) (M : kt_M) : Prop :=
  ∃ u1, kt_gf M a0 108 = some (.int u1) ∧ 
    ((u1 ≤ v2 → P (some (.int v1)) M) ∧
    (¬ u1 ≤ v2 → ∃ p2, kt_gf M a0 107 = some (va_rf p2) ∧ ∃ b3, p2 = some b3 ∧ ∃ u4, kt_el 1 M b3 v2 = some (.long u4) ∧ 
    kt_Ca w gr d yJ24_bitCount kc_J24_bitCount [.long u4] M (kt_pI fun u5 M6 => nx4 (v1 + u5) (v2 + (1 : Int32)) M6) X))
theorem cj_J21_cardinality_4 {w : kt_W} {x : kt_X} {gr : kt_g × kt_M} {d : Nat} {P : Option Value → kt_M → Prop} {X : String → Nat → kt_M → Prop} {nx4 : Int32 → Int32 → kt_M → Prop} {a0 : Nat} {v1 : Int32} {v2 : Int32} {M : kt_M} (O : kt_O w x gr (d + 1) cJ21_cardinality "java/util/BitSet" 3 ("cardinality", "()I") (Option.some Jvm.ClassFile.FieldType.int) []) (hn4 : ∀ v1 v2 M, nx4 v1 v2 M → kt_S w x 3 (kt_E w x P X) M 4 [(0, va_rf (some a0)), (1, .int v1), (2, .int v2)] []) (h : vc_J21_cardinality_4 w gr d P X nx4 a0 v1 v2 M) : kt_S w x 3 (kt_E w x P X) M 4 [(0, va_rf (some a0)), (1, .int v1), (2, .int v2)] [] := by
  unfold vc_J21_cardinality_4 at h
  refine kr_iload_n O dJ21_cardinality_4 rfl 2 rfl ?_
  refine kr_aload_n O dJ21_cardinality_5 rfl 0 rfl ?_
  obtain ⟨u1, eu1, h⟩ := h
  refine kr_getf O dJ21_cardinality_6 fs_J21_7 eu1 ?_
  refine kr_icmp_ge (tgt := 30) O dJ21_cardinality_9 rfl (fun hc => ?_) (fun hc => ?_)
  · replace h := h.1 hc
    refine kr_iload_n O dJ21_cardinality_30 rfl 1 rfl ?_
    exact kr_iret O dJ21_cardinality_31 rfl h
  · replace h := h.2 hc
    refine kr_iload_n O dJ21_cardinality_12 rfl 1 rfl ?_
    refine kr_aload_n O dJ21_cardinality_13 rfl 0 rfl ?_
    obtain ⟨p2, ep2, h⟩ := h
    refine kr_getf O dJ21_cardinality_14 fs_J21_11 ep2 ?_
    refine kr_iload_n O dJ21_cardinality_17 rfl 2 rfl ?_
    obtain ⟨b3, rfl, h⟩ := h
    obtain ⟨u4, eu4, h⟩ := h
    refine kr_laload O dJ21_cardinality_18 eu4 ?_
    refine kr_caI (rest := [.int v1]) O cd_J24_bitCount h (Nat.le_of_ble_eq_true rfl) (fun ls _ => kt_ivS O dJ21_cardinality_19 cd_J24_bitCount in_J24_bitCount q584 q585 hy_J24_bitCount) (fun u5 M6 hq => ?_) (fun E q M9 hx => kr_out O hx)
    replace h := hq
    clear hq
    refine kr_iadd O dJ21_cardinality_22 ?_
    refine kr_istore_n O dJ21_cardinality_23 rfl (Nat.le_of_ble_eq_true rfl) rfl rfl ?_
    refine kr_iinc O dJ21_cardinality_24 2 rfl (v := v2 + (1 : Int32)) rfl (Nat.le_of_ble_eq_true rfl) rfl rfl ?_
    refine kr_goto (tgt := 4) O dJ21_cardinality_27 rfl ?_
    refine kr_sub [2, 1, 0] rfl ?_
    exact hn4 _ _ _ h
def vl_J21_cardinality_4 (w : kt_W) (gr : kt_g × kt_M) (d : Nat) (P : Option Value → kt_M → Prop) (X : String → Nat → kt_M → Prop)  (a0 : Nat) (v1 : Int32) (v2 : Int32) (M : kt_M) : Prop :=
  ∃ Inv : Nat → Int32 → Int32 → kt_M → Prop, (∃ k, Inv k v1 v2 M) ∧ ∀ k v1 v2 M, kt_le gr.1 gr.2 M → Inv k v1 v2 M → vc_J21_cardinality_4 w gr d P X (fun v1' v2' M' => ∃ k', k' < k ∧ Inv k' v1' v2' M') a0 v1 v2 M
theorem cl_J21_cardinality_4 {w : kt_W} {x : kt_X} {gr : kt_g × kt_M} {d : Nat} {P : Option Value → kt_M → Prop} {X : String → Nat → kt_M → Prop}  {a0 : Nat} {v1 : Int32} {v2 : Int32} {M : kt_M} (O : kt_O w x gr (d + 1) cJ21_cardinality "java/util/BitSet" 3 ("cardinality", "()I") (Option.some Jvm.ClassFile.FieldType.int) [])  (h : vl_J21_cardinality_4 w gr d P X  a0 v1 v2 M) : kt_S w x 3 (kt_E w x P X) M 4 [(0, va_rf (some a0)), (1, .int v1), (2, .int v2)] [] := by
  obtain ⟨Inv, ⟨k, hk⟩, hb⟩ := h
  induction k using Nat.strongRecOn generalizing v1 v2 M with
  | ind k ih =>
    exact kr_le O fun hle => cj_J21_cardinality_4 O (fun v1' v2' M' hi => let ⟨k', h1, h2⟩ := hi; ih k' h1 h2) (hb k _ _ _ hle hk)
def vc_J21_cardinality (w : kt_W) (gr : kt_g × kt_M) (d : Nat) (P : Option Value → kt_M → Prop) (X : String → Nat → kt_M → Prop) (a0 : Nat) (M : kt_M) : Prop :=
  vl_J21_cardinality_4 w gr d P X  a0 (0 : Int32) (0 : Int32) M
theorem ce_J21_cardinality {w : kt_W} {g : kt_g} {d : Nat} {P : Option Value → kt_M → Prop} {X : String → Nat → kt_M → Prop} {a0 : Nat} {M : kt_M} (h : vc_J21_cardinality w (g, M) d P X a0 M) : kt_Sp w g (d + 1) yJ21_cardinality kc_J21_cardinality [va_rf (some a0)] M P X := by
  refine kt_of (L0 := [(0, va_rf (some a0))]) (by decide +kernel) (Nat.le_of_ble_eq_true rfl) rfl fun x O => ?_
  replace O : kt_O w x (g, M) (d + 1) cJ21_cardinality "java/util/BitSet" 3 ("cardinality", "()I") (Option.some Jvm.ClassFile.FieldType.int) [] := O
  unfold vc_J21_cardinality at h
  refine kr_iconst O dJ21_cardinality_0 (v := (0 : Int32)) (by decide) ?_
  refine kr_istore_n O dJ21_cardinality_1 rfl (Nat.le_of_ble_eq_true rfl) rfl rfl ?_
  refine kr_iconst O dJ21_cardinality_2 (v := (0 : Int32)) (by decide) ?_
  refine kr_istore_n O dJ21_cardinality_3 rfl (Nat.le_of_ble_eq_true rfl) rfl rfl ?_
  refine kr_sub [2, 1, 0] rfl ?_
  exact cl_J21_cardinality_4 O  h
def vc_J21_init (w : kt_W) (gr : kt_g × kt_M) (d : Nat) (P : Option Value → kt_M → Prop) (X : String → Nat → kt_M → Prop) (a0 : Nat) (v1 : Int32) (M : kt_M) : Prop :=
  kt_hf gr M a0 108 ∧ ∀ M1, M1 = kt_pf M a0 108 (.int (0 : Int32)) → kt_hf gr M1 a0 109 ∧ ∀ M2, M2 = kt_pf M1 a0 109 (.int (0 : Int32)) → 
    ((0 ≤ v1 → (kt_co M2 a0 = some 18) ∧ 
    kt_Ca w gr d yJ21_initWords kc_J21_initWords [va_rf (some a0), .int v1] M2 (kt_pV fun M3 => kt_hf gr M3 a0 109 ∧ ∀ M4, M4 = kt_pf M3 a0 109 (.int (1 : Int32)) → P none M4) X) ∧
    (¬ 0 ≤ v1 → False))
theorem ce_J21_init {w : kt_W} {g : kt_g} {d : Nat} {P : Option Value → kt_M → Prop} {X : String → Nat → kt_M → Prop} {a0 : Nat} {v1 : Int32} {M : kt_M} (h : vc_J21_init w (g, M) d P X a0 v1 M) : kt_Sp w g (d + 1) yJ21_init kc_J21_init [va_rf (some a0), .int v1] M P X := by
  refine kt_of (L0 := [(0, va_rf (some a0)), (1, .int v1)]) (by decide +kernel) (Nat.le_of_ble_eq_true rfl) rfl fun x O => ?_
  replace O : kt_O w x (g, M) (d + 1) cJ21_init "java/util/BitSet" 2 ("<init>", "(I)V") (Option.none : Option Jvm.ClassFile.FieldType) [] := O
  unfold vc_J21_init at h
  refine kr_aload_n O dJ21_init_0 rfl 0 rfl ?_
  refine kr_objinit O dJ21_init_1 q752 q173 q174 (Nat.le_of_ble_eq_true rfl) ?_
  refine kr_aload_n O dJ21_init_4 rfl 0 rfl ?_
  refine kr_iconst O dJ21_init_5 (v := (0 : Int32)) (by decide) ?_
  obtain ⟨hw, h⟩ := h
  refine kr_putf O dJ21_init_6 fs_J21_7 (Or.inl rfl) ⟨rfl, rfl⟩ hw (kr_nmM fun M1 hM1 => ?_)
  replace h := h M1 hM1
  refine kr_aload_n O dJ21_init_9 rfl 0 rfl ?_
  refine kr_iconst O dJ21_init_10 (v := (0 : Int32)) (by decide) ?_
  obtain ⟨hw, h⟩ := h
  refine kr_putf O dJ21_init_11 fs_J21_24 (Or.inl rfl) ⟨by decide, by decide⟩ hw (kr_nmM fun M2 hM2 => ?_)
  replace h := h M2 hM2
  refine kr_iload_n O dJ21_init_14 rfl 1 rfl ?_
  refine kr_if_ge (tgt := 45) O dJ21_init_15 rfl (fun hc => ?_) (fun hc => ?_)
  · replace h := h.1 hc
    refine kr_aload_n O dJ21_init_45 rfl 0 rfl ?_
    refine kr_iload_n O dJ21_init_46 rfl 1 rfl ?_
    obtain ⟨hco, h⟩ := h
    refine kr_caV (rest := []) O cd_J21_initWords h (Nat.le_of_ble_eq_true rfl) (fun ls _ => kt_ivV (ci := 18) O dJ21_init_47 cd_J21_initWords in_J21_initWords (Or.inl q753) q755 qs10 hco (by decide) hy_J21_initWords) (fun M3 hq => ?_) (fun E q M9 hx => kr_out O hx)
    replace h := hq
    clear hq
    refine kr_aload_n O dJ21_init_50 rfl 0 rfl ?_
    refine kr_iconst O dJ21_init_51 (v := (1 : Int32)) (by decide) ?_
    obtain ⟨hw, h⟩ := h
    refine kr_putf O dJ21_init_52 fs_J21_24 (Or.inl rfl) ⟨by decide, by decide⟩ hw (kr_nmM fun M4 hM4 => ?_)
    replace h := h M4 hM4
    exact kr_vret O dJ21_init_55 h
  · replace h := h.2 hc
    exact h.elim
def vc_J21_initWords (w : kt_W) (gr : kt_g × kt_M) (d : Nat) (P : Option Value → kt_M → Prop) (X : String → Nat → kt_M → Prop) (a0 : Nat) (v1 : Int32) (M : kt_M) : Prop :=
  
  kt_Ca w gr d yJ21_wordIndex kc_J21_wordIndex [.int (v1 - (1 : Int32))] M (kt_pI fun u1 M2 => ∃ n3, u1 + (1 : Int32) = nI n3 ∧ n3 < 2 ^ 31 ∧ kt_fits w M2 n3 ∧ ∃ t4, ∀ M5, M5 = kt_new M2 n3 (t4 + 2, .inl (1, kt_z 1 n3)) → kt_hf gr M5 a0 107 ∧ ∀ M6, M6 = kt_pf M5 a0 107 (va_rf (some M2.1)) → P none M6) X
theorem ce_J21_initWords {w : kt_W} {g : kt_g} {d : Nat} {P : Option Value → kt_M → Prop} {X : String → Nat → kt_M → Prop} {a0 : Nat} {v1 : Int32} {M : kt_M} (h : vc_J21_initWords w (g, M) d P X a0 v1 M) : kt_Sp w g (d + 1) yJ21_initWords kc_J21_initWords [va_rf (some a0), .int v1] M P X := by
  refine kt_of (L0 := [(0, va_rf (some a0)), (1, .int v1)]) (by decide +kernel) (Nat.le_of_ble_eq_true rfl) rfl fun x O => ?_
  replace O : kt_O w x (g, M) (d + 1) cJ21_initWords "java/util/BitSet" 2 ("initWords", "(I)V") (Option.none : Option Jvm.ClassFile.FieldType) [] := O
  unfold vc_J21_initWords at h
  refine kr_aload_n O dJ21_initWords_0 rfl 0 rfl ?_
  refine kr_iload_n O dJ21_initWords_1 rfl 1 rfl ?_
  refine kr_iconst O dJ21_initWords_2 (v := (1 : Int32)) (by decide) ?_
  refine kr_isub O dJ21_initWords_3 ?_
  refine kr_caI (rest := [va_rf (some a0)]) O cd_J21_wordIndex h (Nat.le_of_ble_eq_true rfl) (fun ls _ => kt_ivS O dJ21_initWords_4 cd_J21_wordIndex in_J21_wordIndex q529 q530 hy_J21_wordIndex) (fun u1 M2 hq => ?_) (fun E q M9 hx => kr_out O hx)
  replace h := hq
  clear hq
  refine kr_iconst O dJ21_initWords_7 (v := (1 : Int32)) (by decide) ?_
  refine kr_iadd O dJ21_initWords_8 ?_
  obtain ⟨n3, hn, hl, hf, t4, h⟩ := h
  refine kr_newarr t4 1 O dJ21_initWords_9 (by decide) rfl q767 hn hl hf (kr_nmM fun M5 hM5 => ?_)
  replace h := h M5 hM5
  obtain ⟨hw, h⟩ := h
  refine kr_putf O dJ21_initWords_11 fs_J21_11 (Or.inl rfl) (kt_ok_ra _ rfl) hw (kr_nmM fun M6 hM6 => ?_)
  replace h := h M6 hM6
  exact kr_vret O dJ21_initWords_14 h
def vc_J21_or_100 (w : kt_W) (gr : kt_g × kt_M) (d : Nat) (P : Option Value → kt_M → Prop) (X : String → Nat → kt_M → Prop)  (a0 : Nat) (M : kt_M) : Prop :=
  (kt_co M a0 = some 18) ∧ 
  kt_Ca w gr d yJ21_checkInvariants kc_J21_checkInvariants [va_rf (some a0)] M (kt_pV fun M1 => P none M1) X
theorem cj_J21_or_100 {w : kt_W} {x : kt_X} {gr : kt_g × kt_M} {d : Nat} {P : Option Value → kt_M → Prop} {X : String → Nat → kt_M → Prop}  {a0 : Nat} {M : kt_M} (O : kt_O w x gr (d + 1) cJ21_or "java/util/BitSet" 4 ("or", "(Ljava/util/BitSet;)V") (Option.none : Option Jvm.ClassFile.FieldType) [])  (h : vc_J21_or_100 w gr d P X  a0 M) : kt_S w x 4 (kt_E w x P X) M 100 [(0, va_rf (some a0))] [] := by
  unfold vc_J21_or_100 at h
  refine kr_aload_n O dJ21_or_100 rfl 0 rfl ?_
  obtain ⟨hco, h⟩ := h
  refine kr_caV (rest := []) O cd_J21_checkInvariants h (Nat.le_of_ble_eq_true rfl) (fun ls _ => kt_ivV (ci := 18) O dJ21_or_101 cd_J21_checkInvariants in_J21_checkInvariants (Or.inl q522) q524 qs5 hco (by decide) hy_J21_checkInvariants) (fun M1 hq => ?_) (fun E q M9 hx => kr_out O hx)
  replace h := hq
  clear hq
  exact kr_vret O dJ21_or_104 h
def vc_J21_or_47 (w : kt_W) (gr : kt_g × kt_M) (d : Nat) (P : Option Value → kt_M → Prop) (X : String → Nat → kt_M → Prop) (nx47 : Int32 → kt_M → Prop) (a0 : Nat) (a1 : Nat) (v2 : Int32) (v3 : Int32) (M : kt_M) : Prop :=
  
    ((v2 ≤ v3 → ∃ u1, kt_gf M a1 108 = some (.int u1) ∧ 
      ((u1 ≤ v2 → vc_J21_or_100 w gr d P X  a0 M) ∧
      (¬ u1 ≤ v2 → ∃ p2, kt_gf M a1 107 = some (va_rf p2) ∧ ∃ p3, kt_gf M a0 107 = some (va_rf p3) ∧ ∃ u4, kt_gf M a0 108 = some (.int u4) ∧ ∃ b5, p3 = some b5 ∧ ∃ b6, p2 = some b6 ∧ kt_ac gr M b6 v2 b5 v2 (u4 - v2) ∧ ∀ M7, M7 = kt_acp M b6 v2 b5 v2 (u4 - v2) → vc_J21_or_100 w gr d P X  a0 M7))) ∧
    (¬ v2 ≤ v3 → ∃ p8, kt_gf M a0 107 = some (va_rf p8) ∧ ∃ b9, p8 = some b9 ∧ ∃ u10, kt_el 1 M b9 v3 = some (.long u10) ∧ ∃ p11, kt_gf M a1 107 = some (va_rf p11) ∧ ∃ b12, p11 = some b12 ∧ ∃ u13, kt_el 1 M b12 v3 = some (.long u13) ∧ kt_hil gr 1 M b9 v3 ∧ ∀ M14, M14 = kt_sl M b9 v3 (u10 ||| u13) → nx47 (v3 + (1 : Int32)) M14))
theorem cj_J21_or_47 {w : kt_W} {x : kt_X} {gr : kt_g × kt_M} {d : Nat} {P : Option Value → kt_M → Prop} {X : String → Nat → kt_M → Prop} {nx47 : Int32 → kt_M → Prop} {a0 : Nat} {a1 : Nat} {v2 : Int32} {v3 : Int32} {M : kt_M} (O : kt_O w x gr (d + 1) cJ21_or "java/util/BitSet" 4 ("or", "(Ljava/util/BitSet;)V") (Option.none : Option Jvm.ClassFile.FieldType) []) (hn47 : ∀ v3 M, nx47 v3 M → kt_S w x 4 (kt_E w x P X) M 47 [(0, va_rf (some a0)), (1, va_rf (some a1)), (2, .int v2), (3, .int v3)] []) (h : vc_J21_or_47 w gr d P X nx47 a0 a1 v2 v3 M) : kt_S w x 4 (kt_E w x P X) M 47 [(0, va_rf (some a0)), (1, va_rf (some a1)), (2, .int v2), (3, .int v3)] [] := by
  unfold vc_J21_or_47 at h
  refine kr_iload_n O dJ21_or_47 rfl 3 rfl ?_
  refine kr_iload_n O dJ21_or_48 rfl 2 rfl ?_
  refine kr_icmp_ge (tgt := 73) O dJ21_or_49 rfl (fun hc => ?_) (fun hc => ?_)
  · replace h := h.1 hc
    refine kr_iload_n O dJ21_or_73 rfl 2 rfl ?_
    refine kr_aload_n O dJ21_or_74 rfl 1 rfl ?_
    obtain ⟨u1, eu1, h⟩ := h
    refine kr_getf O dJ21_or_75 fs_J21_7 eu1 ?_
    refine kr_icmp_ge (tgt := 100) O dJ21_or_78 rfl (fun hc => ?_) (fun hc => ?_)
    · replace h := h.1 hc
      refine kr_sub [0] rfl ?_
      exact cj_J21_or_100 O  h
    · replace h := h.2 hc
      refine kr_aload_n O dJ21_or_81 rfl 1 rfl ?_
      obtain ⟨p2, ep2, h⟩ := h
      refine kr_getf O dJ21_or_82 fs_J21_11 ep2 ?_
      refine kr_iload_n O dJ21_or_85 rfl 2 rfl ?_
      refine kr_aload_n O dJ21_or_86 rfl 0 rfl ?_
      obtain ⟨p3, ep3, h⟩ := h
      refine kr_getf O dJ21_or_87 fs_J21_11 ep3 ?_
      refine kr_iload_n O dJ21_or_90 rfl 2 rfl ?_
      refine kr_aload_n O dJ21_or_91 rfl 0 rfl ?_
      obtain ⟨u4, eu4, h⟩ := h
      refine kr_getf O dJ21_or_92 fs_J21_7 eu4 ?_
      refine kr_iload_n O dJ21_or_95 rfl 2 rfl ?_
      refine kr_isub O dJ21_or_96 ?_
      obtain ⟨b5, rfl, h⟩ := h
      obtain ⟨b6, rfl, h⟩ := h
      obtain ⟨hw, h⟩ := h
      refine kr_arraycopy O dJ21_or_97 q808 hw (Nat.le_of_ble_eq_true rfl) (kr_nmM fun M7 hM7 => ?_)
      replace h := h M7 hM7
      refine kr_sub [0] rfl ?_
      exact cj_J21_or_100 O  h
  · replace h := h.2 hc
    refine kr_aload_n O dJ21_or_52 rfl 0 rfl ?_
    obtain ⟨p8, ep8, h⟩ := h
    refine kr_getf O dJ21_or_53 fs_J21_11 ep8 ?_
    refine kr_iload_n O dJ21_or_56 rfl 3 rfl ?_
    refine kr_dup2 O dJ21_or_57 rfl (kt_nrf _) ?_
    obtain ⟨b9, rfl, h⟩ := h
    obtain ⟨u10, eu10, h⟩ := h
    refine kr_laload O dJ21_or_58 eu10 ?_
    refine kr_aload_n O dJ21_or_59 rfl 1 rfl ?_
    obtain ⟨p11, ep11, h⟩ := h
    refine kr_getf O dJ21_or_60 fs_J21_11 ep11 ?_
    refine kr_iload_n O dJ21_or_63 rfl 3 rfl ?_
    obtain ⟨b12, rfl, h⟩ := h
    obtain ⟨u13, eu13, h⟩ := h
    refine kr_laload O dJ21_or_64 eu13 ?_
    refine kr_lor O dJ21_or_65 ?_
    obtain ⟨hw, h⟩ := h
    refine kr_lastore O dJ21_or_66 hw (kr_nmM fun M14 hM14 => ?_)
    replace h := h M14 hM14
    refine kr_iinc O dJ21_or_67 3 rfl (v := v3 + (1 : Int32)) rfl (Nat.le_of_ble_eq_true rfl) rfl rfl ?_
    refine kr_goto (tgt := 47) O dJ21_or_70 rfl ?_
    refine kr_sub [1, 2, 3, 0] rfl ?_
    exact hn47 _ _ h
def vl_J21_or_47 (w : kt_W) (gr : kt_g × kt_M) (d : Nat) (P : Option Value → kt_M → Prop) (X : String → Nat → kt_M → Prop)  (a0 : Nat) (a1 : Nat) (v2 : Int32) (v3 : Int32) (M : kt_M) : Prop :=
  ∃ Inv : Nat → Int32 → kt_M → Prop, (∃ k, Inv k v3 M) ∧ ∀ k v3 M, kt_le gr.1 gr.2 M → Inv k v3 M → vc_J21_or_47 w gr d P X (fun v3' M' => ∃ k', k' < k ∧ Inv k' v3' M') a0 a1 v2 v3 M
theorem cl_J21_or_47 {w : kt_W} {x : kt_X} {gr : kt_g × kt_M} {d : Nat} {P : Option Value → kt_M → Prop} {X : String → Nat → kt_M → Prop}  {a0 : Nat} {a1 : Nat} {v2 : Int32} {v3 : Int32} {M : kt_M} (O : kt_O w x gr (d + 1) cJ21_or "java/util/BitSet" 4 ("or", "(Ljava/util/BitSet;)V") (Option.none : Option Jvm.ClassFile.FieldType) [])  (h : vl_J21_or_47 w gr d P X  a0 a1 v2 v3 M) : kt_S w x 4 (kt_E w x P X) M 47 [(0, va_rf (some a0)), (1, va_rf (some a1)), (2, .int v2), (3, .int v3)] [] := by
  obtain ⟨Inv, ⟨k, hk⟩, hb⟩ := h
  induction k using Nat.strongRecOn generalizing v3 M with
  | ind k ih =>
    exact kr_le O fun hle => cj_J21_or_47 O (fun v3' M' hi => let ⟨k', h1, h2⟩ := hi; ih k' h1 h2) (hb k _ _ hle hk)
def vc_J21_or (w : kt_W) (gr : kt_g × kt_M) (d : Nat) (P : Option Value → kt_M → Prop) (X : String → Nat → kt_M → Prop) (a0 : Nat) (r1 : Option Nat) (M : kt_M) : Prop :=
  
    ((¬ (some a0) = r1 → ∃ u1, kt_gf M a0 108 = some (.int u1) ∧ ∃ b2, r1 = some b2 ∧ ∃ u3, kt_gf M b2 108 = some (.int u3) ∧ 
    kt_Ca w gr d yJ7_min kc_J7_min [.int u1, .int u3] M (kt_pI fun u4 M5 => ∃ u6, kt_gf M5 a0 108 = some (.int u6) ∧ ∃ u7, kt_gf M5 b2 108 = some (.int u7) ∧ 
      ((u7 ≤ u6 → vl_J21_or_47 w gr d P X  a0 b2 u4 (0 : Int32) M5) ∧
      (¬ u7 ≤ u6 → ∃ u8, kt_gf M5 b2 108 = some (.int u8) ∧ (kt_co M5 a0 = some 18) ∧ 
      kt_Ca w gr d yJ21_ensureCapacity kc_J21_ensureCapacity [va_rf (some a0), .int u8] M5 (kt_pV fun M9 => ∃ u10, kt_gf M9 b2 108 = some (.int u10) ∧ kt_hf gr M9 a0 108 ∧ ∀ M11, M11 = kt_pf M9 a0 108 (.int u10) → vl_J21_or_47 w gr d P X  a0 b2 u4 (0 : Int32) M11) X))) X) ∧
    ((some a0) = r1 → P none M))
theorem ce_J21_or {w : kt_W} {g : kt_g} {d : Nat} {P : Option Value → kt_M → Prop} {X : String → Nat → kt_M → Prop} {a0 : Nat} {r1 : Option Nat} {M : kt_M} (h : vc_J21_or w (g, M) d P X a0 r1 M) : kt_Sp w g (d + 1) yJ21_or kc_J21_or [va_rf (some a0), va_rf r1] M P X := by
  refine kt_of (L0 := [(0, va_rf (some a0)), (1, va_rf r1)]) (by decide +kernel) (by simp only [kt_lgR, kt_lgI, kt_lgN] <;> exact Nat.le_of_ble_eq_true rfl) (by simp only [kt_lvR, kt_lvI, kt_lvN] <;> rfl) fun x O => ?_
  replace O : kt_O w x (g, M) (d + 1) cJ21_or "java/util/BitSet" 4 ("or", "(Ljava/util/BitSet;)V") (Option.none : Option Jvm.ClassFile.FieldType) [] := O
  unfold vc_J21_or at h
  refine kr_aload_n O dJ21_or_0 rfl 0 rfl ?_
  refine kr_aload_n O dJ21_or_1 rfl 1 rfl ?_
  refine kr_acmp_ne (tgt := 6) O dJ21_or_2 rfl (fun hc => ?_) (fun hc => ?_)
  · replace h := h.1 hc
    refine kr_aload_n O dJ21_or_6 rfl 0 rfl ?_
    obtain ⟨u1, eu1, h⟩ := h
    refine kr_getf O dJ21_or_7 fs_J21_7 eu1 ?_
    refine kr_aload_n O dJ21_or_10 rfl 1 rfl ?_
    obtain ⟨b2, rfl, h⟩ := h
    obtain ⟨u3, eu3, h⟩ := h
    refine kr_getf O dJ21_or_11 fs_J21_7 eu3 ?_
    refine kr_caI (rest := []) O cd_J7_min h (Nat.le_of_ble_eq_true rfl) (fun ls _ => kt_ivS O dJ21_or_14 cd_J7_min in_J7_min q792 q419 hy_J7_min) (fun u4 M5 hq => ?_) (fun E q M9 hx => kr_out O hx)
    replace h := hq
    clear hq
    refine kr_istore_n O dJ21_or_17 rfl (Nat.le_of_ble_eq_true rfl) rfl rfl ?_
    refine kr_aload_n O dJ21_or_18 rfl 1 rfl ?_
    obtain ⟨u6, eu6, h⟩ := h
    refine kr_getf O dJ21_or_19 fs_J21_7 eu6 ?_
    refine kr_aload_n O dJ21_or_22 rfl 2 rfl ?_
    obtain ⟨u7, eu7, h⟩ := h
    refine kr_getf O dJ21_or_23 fs_J21_7 eu7 ?_
    refine kr_icmp_ge (tgt := 45) O dJ21_or_26 rfl (fun hc => ?_) (fun hc => ?_)
    · replace h := h.1 hc
      refine kr_iconst O dJ21_or_45 (v := (0 : Int32)) (by decide) ?_
      refine kr_istore_n O dJ21_or_46 rfl (Nat.le_of_ble_eq_true rfl) rfl rfl ?_
      refine kr_sub [2, 3, 1, 0] rfl ?_
      exact cl_J21_or_47 O  h
    · replace h := h.2 hc
      refine kr_aload_n O dJ21_or_29 rfl 1 rfl ?_
      refine kr_aload_n O dJ21_or_30 rfl 2 rfl ?_
      obtain ⟨u8, eu8, h⟩ := h
      refine kr_getf O dJ21_or_31 fs_J21_7 eu8 ?_
      obtain ⟨hco, h⟩ := h
      refine kr_caV (rest := []) O cd_J21_ensureCapacity h (Nat.le_of_ble_eq_true rfl) (fun ls _ => kt_ivV (ci := 18) O dJ21_or_34 cd_J21_ensureCapacity in_J21_ensureCapacity (Or.inl q793) q795 qs11 hco (by decide) hy_J21_ensureCapacity) (fun M9 hq => ?_) (fun E q M9 hx => kr_out O hx)
      replace h := hq
      clear hq
      refine kr_aload_n O dJ21_or_37 rfl 1 rfl ?_
      refine kr_aload_n O dJ21_or_38 rfl 2 rfl ?_
      obtain ⟨u10, eu10, h⟩ := h
      refine kr_getf O dJ21_or_39 fs_J21_7 eu10 ?_
      obtain ⟨hw, h⟩ := h
      refine kr_putf O dJ21_or_42 fs_J21_7 (Or.inl rfl) ⟨rfl, rfl⟩ hw (kr_nmM fun M11 hM11 => ?_)
      replace h := h M11 hM11
      refine kr_iconst O dJ21_or_45 (v := (0 : Int32)) (by decide) ?_
      refine kr_istore_n O dJ21_or_46 rfl (Nat.le_of_ble_eq_true rfl) rfl rfl ?_
      refine kr_sub [2, 3, 1, 0] rfl ?_
      exact cl_J21_or_47 O  h
  · replace h := h.2 hc
    exact kr_vret O dJ21_or_5 h
def vc_J21_ensureCapacity (w : kt_W) (gr : kt_g × kt_M) (d : Nat) (P : Option Value → kt_M → Prop) (X : String → Nat → kt_M → Prop) (a0 : Nat) (v1 : Int32) (M : kt_M) : Prop :=
  ∃ p1, kt_gf M a0 107 = some (va_rf p1) ∧ ∃ b2, p1 = some b2 ∧ ∃ n3, kt_len M b2 = some n3 ∧ 
    ((v1 ≤ (nI n3) → P none M) ∧
    (¬ v1 ≤ (nI n3) → ∃ p4, kt_gf M a0 107 = some (va_rf p4) ∧ ∃ b5, p4 = some b5 ∧ ∃ n6, kt_len M b5 = some n6 ∧ 
    kt_Ca w gr d yJ7_max kc_J7_max [.int ((2 : Int32) * (nI n6)), .int v1] M (kt_pI fun u7 M8 => ∃ p9, kt_gf M8 a0 107 = some (va_rf p9) ∧ 
    kt_Ca w gr d yJ8_copyOf_3 kc_J8_copyOf_3 [va_rf p9, .int u7] M8 (kt_pR fun p10 M11 => kt_hf gr M11 a0 107 ∧ ∀ M12, M12 = kt_pf M11 a0 107 (va_rf p10) → kt_hf gr M12 a0 109 ∧ ∀ M13, M13 = kt_pf M12 a0 109 (.int (0 : Int32)) → P none M13) X) X))
theorem ce_J21_ensureCapacity {w : kt_W} {g : kt_g} {d : Nat} {P : Option Value → kt_M → Prop} {X : String → Nat → kt_M → Prop} {a0 : Nat} {v1 : Int32} {M : kt_M} (h : vc_J21_ensureCapacity w (g, M) d P X a0 v1 M) : kt_Sp w g (d + 1) yJ21_ensureCapacity kc_J21_ensureCapacity [va_rf (some a0), .int v1] M P X := by
  refine kt_of (L0 := [(0, va_rf (some a0)), (1, .int v1)]) (by decide +kernel) (Nat.le_of_ble_eq_true rfl) rfl fun x O => ?_
  replace O : kt_O w x (g, M) (d + 1) cJ21_ensureCapacity "java/util/BitSet" 3 ("ensureCapacity", "(I)V") (Option.none : Option Jvm.ClassFile.FieldType) [] := O
  unfold vc_J21_ensureCapacity at h
  refine kr_aload_n O dJ21_ensureCapacity_0 rfl 0 rfl ?_
  obtain ⟨p1, ep1, h⟩ := h
  refine kr_getf O dJ21_ensureCapacity_1 fs_J21_11 ep1 ?_
  obtain ⟨b2, rfl, h⟩ := h
  obtain ⟨n3, en3, h⟩ := h
  refine kr_alen O dJ21_ensureCapacity_4 en3 ?_
  refine kr_iload_n O dJ21_ensureCapacity_5 rfl 1 rfl ?_
  refine kr_icmp_ge (tgt := 38) O dJ21_ensureCapacity_6 rfl (fun hc => ?_) (fun hc => ?_)
  · replace h := h.1 hc
    exact kr_vret O dJ21_ensureCapacity_38 h
  · replace h := h.2 hc
    refine kr_iconst O dJ21_ensureCapacity_9 (v := (2 : Int32)) (by decide) ?_
    refine kr_aload_n O dJ21_ensureCapacity_10 rfl 0 rfl ?_
    obtain ⟨p4, ep4, h⟩ := h
    refine kr_getf O dJ21_ensureCapacity_11 fs_J21_11 ep4 ?_
    obtain ⟨b5, rfl, h⟩ := h
    obtain ⟨n6, en6, h⟩ := h
    refine kr_alen O dJ21_ensureCapacity_14 en6 ?_
    refine kr_imul O dJ21_ensureCapacity_15 ?_
    refine kr_iload_n O dJ21_ensureCapacity_16 rfl 1 rfl ?_
    refine kr_caI (rest := []) O cd_J7_max h (Nat.le_of_ble_eq_true rfl) (fun ls _ => kt_ivS O dJ21_ensureCapacity_17 cd_J7_max in_J7_max q797 q367 hy_J7_max) (fun u7 M8 hq => ?_) (fun E q M9 hx => kr_out O hx)
    replace h := hq
    clear hq
    refine kr_istore_n O dJ21_ensureCapacity_20 rfl (Nat.le_of_ble_eq_true rfl) rfl rfl ?_
    refine kr_aload_n O dJ21_ensureCapacity_21 rfl 1 rfl ?_
    refine kr_aload_n O dJ21_ensureCapacity_22 rfl 1 rfl ?_
    obtain ⟨p9, ep9, h⟩ := h
    refine kr_getf O dJ21_ensureCapacity_23 fs_J21_11 ep9 ?_
    refine kr_iload_n O dJ21_ensureCapacity_26 rfl 0 rfl ?_
    refine kr_caR (rest := [va_rf (some a0)]) O cd_J8_copyOf_3 h (Nat.le_of_ble_eq_true rfl) (fun ls _ => kt_ivS O dJ21_ensureCapacity_27 cd_J8_copyOf_3 in_J8_copyOf_3 q798 q799 hy_J8_copyOf_3) (fun p10 M11 hq => ?_) (fun E q M9 hx => kr_out O hx)
    replace h := hq
    clear hq
    obtain ⟨hw, h⟩ := h
    refine kr_putf O dJ21_ensureCapacity_30 fs_J21_11 (Or.inl rfl) (kt_ok_ra _ rfl) hw (kr_nmM fun M12 hM12 => ?_)
    replace h := h M12 hM12
    refine kr_aload_n O dJ21_ensureCapacity_33 rfl 1 rfl ?_
    refine kr_iconst O dJ21_ensureCapacity_34 (v := (0 : Int32)) (by decide) ?_
    obtain ⟨hw, h⟩ := h
    refine kr_putf O dJ21_ensureCapacity_35 fs_J21_24 (Or.inl rfl) ⟨by decide, by decide⟩ hw (kr_nmM fun M13 hM13 => ?_)
    replace h := h M13 hM13
    exact kr_vret O dJ21_ensureCapacity_38 h
def vc_J21_clear (w : kt_W) (gr : kt_g × kt_M) (d : Nat) (P : Option Value → kt_M → Prop) (X : String → Nat → kt_M → Prop) (a0 : Nat) (v1 : Int32) (M : kt_M) : Prop :=
  
    ((0 ≤ v1 → 
    kt_Ca w gr d yJ21_wordIndex kc_J21_wordIndex [.int v1] M (kt_pI fun u1 M2 => ∃ u3, kt_gf M2 a0 108 = some (.int u3) ∧ 
      ((u1 < u3 → ∃ p4, kt_gf M2 a0 107 = some (va_rf p4) ∧ ∃ b5, p4 = some b5 ∧ ∃ u6, kt_el 1 M2 b5 u1 = some (.long u6) ∧ kt_hil gr 1 M2 b5 u1 ∧ ∀ M7, M7 = kt_sl M2 b5 u1 (u6 &&& (((1 : Int64) <<< (v1.toInt64 &&& 63)) ^^^ (-1 : Int64))) → (kt_co M7 a0 = some 18) ∧ 
      kt_Ca w gr d yJ21_recalculateWordsInUse kc_J21_recalculateWordsInUse [va_rf (some a0)] M7 (kt_pV fun M8 => (kt_co M8 a0 = some 18) ∧ 
      kt_Ca w gr d yJ21_checkInvariants kc_J21_checkInvariants [va_rf (some a0)] M8 (kt_pV fun M9 => P none M9) X) X) ∧
      (¬ u1 < u3 → P none M2))) X) ∧
    (¬ 0 ≤ v1 → False))
theorem ce_J21_clear {w : kt_W} {g : kt_g} {d : Nat} {P : Option Value → kt_M → Prop} {X : String → Nat → kt_M → Prop} {a0 : Nat} {v1 : Int32} {M : kt_M} (h : vc_J21_clear w (g, M) d P X a0 v1 M) : kt_Sp w g (d + 1) yJ21_clear kc_J21_clear [va_rf (some a0), .int v1] M P X := by
  refine kt_of (L0 := [(0, va_rf (some a0)), (1, .int v1)]) (by decide +kernel) (Nat.le_of_ble_eq_true rfl) rfl fun x O => ?_
  replace O : kt_O w x (g, M) (d + 1) cJ21_clear "java/util/BitSet" 3 ("clear", "(I)V") (Option.none : Option Jvm.ClassFile.FieldType) [] := O
  unfold vc_J21_clear at h
  refine kr_iload_n O dJ21_clear_0 rfl 1 rfl ?_
  refine kr_if_ge (tgt := 31) O dJ21_clear_1 rfl (fun hc => ?_) (fun hc => ?_)
  · replace h := h.1 hc
    refine kr_iload_n O dJ21_clear_31 rfl 1 rfl ?_
    refine kr_caI (rest := []) O cd_J21_wordIndex h (Nat.le_of_ble_eq_true rfl) (fun ls _ => kt_ivS O dJ21_clear_32 cd_J21_wordIndex in_J21_wordIndex q529 q530 hy_J21_wordIndex) (fun u1 M2 hq => ?_) (fun E q M9 hx => kr_out O hx)
    replace h := hq
    clear hq
    refine kr_istore_n O dJ21_clear_35 rfl (Nat.le_of_ble_eq_true rfl) rfl rfl ?_
    refine kr_iload_n O dJ21_clear_36 rfl 0 rfl ?_
    refine kr_aload_n O dJ21_clear_37 rfl 1 rfl ?_
    obtain ⟨u3, eu3, h⟩ := h
    refine kr_getf O dJ21_clear_38 fs_J21_7 eu3 ?_
    refine kr_icmp_lt (tgt := 45) O dJ21_clear_41 rfl (fun hc => ?_) (fun hc => ?_)
    · replace h := h.1 hc
      refine kr_aload_n O dJ21_clear_45 rfl 1 rfl ?_
      obtain ⟨p4, ep4, h⟩ := h
      refine kr_getf O dJ21_clear_46 fs_J21_11 ep4 ?_
      refine kr_iload_n O dJ21_clear_49 rfl 0 rfl ?_
      refine kr_dup2 O dJ21_clear_50 rfl (kt_nrf _) ?_
      obtain ⟨b5, rfl, h⟩ := h
      obtain ⟨u6, eu6, h⟩ := h
      refine kr_laload O dJ21_clear_51 eu6 ?_
      refine kr_lconst O dJ21_clear_52 (v := (1 : Int64)) (by decide) ?_
      refine kr_iload_n O dJ21_clear_53 rfl 2 rfl ?_
      refine kr_lshl O dJ21_clear_54 ?_
      refine kr_ldc2 O dJ21_clear_55 q540 ?_
      refine kr_lxor O dJ21_clear_58 ?_
      refine kr_land O dJ21_clear_59 ?_
      obtain ⟨hw, h⟩ := h
      refine kr_lastore O dJ21_clear_60 hw (kr_nmM fun M7 hM7 => ?_)
      replace h := h M7 hM7
      refine kr_aload_n O dJ21_clear_61 rfl 1 rfl ?_
      obtain ⟨hco, h⟩ := h
      refine kr_caV (rest := []) O cd_J21_recalculateWordsInUse h (Nat.le_of_ble_eq_true rfl) (fun ls _ => kt_ivV (ci := 18) O dJ21_clear_62 cd_J21_recalculateWordsInUse in_J21_recalculateWordsInUse (Or.inl q1395) q1397 qs18 hco (by decide) hy_J21_recalculateWordsInUse) (fun M8 hq => ?_) (fun E q M9 hx => kr_out O hx)
      replace h := hq
      clear hq
      refine kr_aload_n O dJ21_clear_65 rfl 1 rfl ?_
      obtain ⟨hco, h⟩ := h
      refine kr_caV (rest := []) O cd_J21_checkInvariants h (Nat.le_of_ble_eq_true rfl) (fun ls _ => kt_ivV (ci := 18) O dJ21_clear_66 cd_J21_checkInvariants in_J21_checkInvariants (Or.inl q522) q524 qs5 hco (by decide) hy_J21_checkInvariants) (fun M9 hq => ?_) (fun E q M9 hx => kr_out O hx)
      replace h := hq
      clear hq
      exact kr_vret O dJ21_clear_69 h
    · replace h := h.2 hc
      exact kr_vret O dJ21_clear_44 h
  · replace h := h.2 hc
    exact h.elim
def vc_J21_recalculateWordsInUse_31 (w : kt_W) (gr : kt_g × kt_M) (d : Nat) (P : Option Value → kt_M → Prop) (X : String → Nat → kt_M → Prop)  (a0 : Nat) (v1 : Int32) (M : kt_M) : Prop :=
  kt_hf gr M a0 108 ∧ ∀ M1, M1 = kt_pf M a0 108 (.int (v1 + (1 : Int32))) → P none M1
theorem cj_J21_recalculateWordsInUse_31 {w : kt_W} {x : kt_X} {gr : kt_g × kt_M} {d : Nat} {P : Option Value → kt_M → Prop} {X : String → Nat → kt_M → Prop}  {a0 : Nat} {v1 : Int32} {M : kt_M} (O : kt_O w x gr (d + 1) cJ21_recalculateWordsInUse "java/util/BitSet" 2 ("recalculateWordsInUse", "()V") (Option.none : Option Jvm.ClassFile.FieldType) [])  (h : vc_J21_recalculateWordsInUse_31 w gr d P X  a0 v1 M) : kt_S w x 2 (kt_E w x P X) M 31 [(0, va_rf (some a0)), (1, .int v1)] [] := by
  unfold vc_J21_recalculateWordsInUse_31 at h
  refine kr_aload_n O dJ21_recalculateWordsInUse_31 rfl 0 rfl ?_
  refine kr_iload_n O dJ21_recalculateWordsInUse_32 rfl 1 rfl ?_
  refine kr_iconst O dJ21_recalculateWordsInUse_33 (v := (1 : Int32)) (by decide) ?_
  refine kr_iadd O dJ21_recalculateWordsInUse_34 ?_
  obtain ⟨hw, h⟩ := h
  refine kr_putf O dJ21_recalculateWordsInUse_35 fs_J21_7 (Or.inl rfl) ⟨rfl, rfl⟩ hw (kr_nmM fun M1 hM1 => ?_)
  replace h := h M1 hM1
  exact kr_vret O dJ21_recalculateWordsInUse_38 h
def vc_J21_recalculateWordsInUse_7 (w : kt_W) (gr : kt_g × kt_M) (d : Nat) (P : Option Value → kt_M → Prop) (X : String → Nat → kt_M → Prop) (nx7 : Int32 → kt_M → Prop) (a0 : Nat) (v1 : Int32) (M : kt_M) : Prop :=
  
    ((v1 < 0 → vc_J21_recalculateWordsInUse_31 w gr d P X  a0 v1 M) ∧
    (¬ v1 < 0 → ∃ p1, kt_gf M a0 107 = some (va_rf p1) ∧ ∃ b2, p1 = some b2 ∧ ∃ u3, kt_el 1 M b2 v1 = some (.long u3) ∧ 
      (((lg_cmp u3 (0 : Int64)) = 0 → nx7 (v1 + (-1 : Int32)) M) ∧
      (¬ (lg_cmp u3 (0 : Int64)) = 0 → vc_J21_recalculateWordsInUse_31 w gr d P X  a0 v1 M))))
theorem cj_J21_recalculateWordsInUse_7 {w : kt_W} {x : kt_X} {gr : kt_g × kt_M} {d : Nat} {P : Option Value → kt_M → Prop} {X : String → Nat → kt_M → Prop} {nx7 : Int32 → kt_M → Prop} {a0 : Nat} {v1 : Int32} {M : kt_M} (O : kt_O w x gr (d + 1) cJ21_recalculateWordsInUse "java/util/BitSet" 2 ("recalculateWordsInUse", "()V") (Option.none : Option Jvm.ClassFile.FieldType) []) (hn7 : ∀ v1 M, nx7 v1 M → kt_S w x 2 (kt_E w x P X) M 7 [(0, va_rf (some a0)), (1, .int v1)] []) (h : vc_J21_recalculateWordsInUse_7 w gr d P X nx7 a0 v1 M) : kt_S w x 2 (kt_E w x P X) M 7 [(0, va_rf (some a0)), (1, .int v1)] [] := by
  unfold vc_J21_recalculateWordsInUse_7 at h
  refine kr_iload_n O dJ21_recalculateWordsInUse_7 rfl 1 rfl ?_
  refine kr_if_lt (tgt := 31) O dJ21_recalculateWordsInUse_8 rfl (fun hc => ?_) (fun hc => ?_)
  · replace h := h.1 hc
    exact cj_J21_recalculateWordsInUse_31 O  h
  · replace h := h.2 hc
    refine kr_aload_n O dJ21_recalculateWordsInUse_11 rfl 0 rfl ?_
    obtain ⟨p1, ep1, h⟩ := h
    refine kr_getf O dJ21_recalculateWordsInUse_12 fs_J21_11 ep1 ?_
    refine kr_iload_n O dJ21_recalculateWordsInUse_15 rfl 1 rfl ?_
    obtain ⟨b2, rfl, h⟩ := h
    obtain ⟨u3, eu3, h⟩ := h
    refine kr_laload O dJ21_recalculateWordsInUse_16 eu3 ?_
    refine kr_lconst O dJ21_recalculateWordsInUse_17 (v := (0 : Int64)) (by decide) ?_
    refine kr_lcmp O dJ21_recalculateWordsInUse_18 ?_
    refine kr_if_eq (tgt := 25) O dJ21_recalculateWordsInUse_19 rfl (fun hc => ?_) (fun hc => ?_)
    · replace h := h.1 hc
      refine kr_iinc O dJ21_recalculateWordsInUse_25 1 rfl (v := v1 + (-1 : Int32)) rfl (Nat.le_of_ble_eq_true rfl) rfl rfl ?_
      refine kr_goto (tgt := 7) O dJ21_recalculateWordsInUse_28 rfl ?_
      refine kr_sub [1, 0] rfl ?_
      exact hn7 _ _ h
    · replace h := h.2 hc
      refine kr_goto (tgt := 31) O dJ21_recalculateWordsInUse_22 rfl ?_
      exact cj_J21_recalculateWordsInUse_31 O  h
def vl_J21_recalculateWordsInUse_7 (w : kt_W) (gr : kt_g × kt_M) (d : Nat) (P : Option Value → kt_M → Prop) (X : String → Nat → kt_M → Prop)  (a0 : Nat) (v1 : Int32) (M : kt_M) : Prop :=
  ∃ Inv : Nat → Int32 → kt_M → Prop, (∃ k, Inv k v1 M) ∧ ∀ k v1 M, kt_le gr.1 gr.2 M → Inv k v1 M → vc_J21_recalculateWordsInUse_7 w gr d P X (fun v1' M' => ∃ k', k' < k ∧ Inv k' v1' M') a0 v1 M
theorem cl_J21_recalculateWordsInUse_7 {w : kt_W} {x : kt_X} {gr : kt_g × kt_M} {d : Nat} {P : Option Value → kt_M → Prop} {X : String → Nat → kt_M → Prop}  {a0 : Nat} {v1 : Int32} {M : kt_M} (O : kt_O w x gr (d + 1) cJ21_recalculateWordsInUse "java/util/BitSet" 2 ("recalculateWordsInUse", "()V") (Option.none : Option Jvm.ClassFile.FieldType) [])  (h : vl_J21_recalculateWordsInUse_7 w gr d P X  a0 v1 M) : kt_S w x 2 (kt_E w x P X) M 7 [(0, va_rf (some a0)), (1, .int v1)] [] := by
  obtain ⟨Inv, ⟨k, hk⟩, hb⟩ := h
  induction k using Nat.strongRecOn generalizing v1 M with
  | ind k ih =>
    exact kr_le O fun hle => cj_J21_recalculateWordsInUse_7 O (fun v1' M' hi => let ⟨k', h1, h2⟩ := hi; ih k' h1 h2) (hb k _ _ hle hk)
def vc_J21_recalculateWordsInUse (w : kt_W) (gr : kt_g × kt_M) (d : Nat) (P : Option Value → kt_M → Prop) (X : String → Nat → kt_M → Prop) (a0 : Nat) (M : kt_M) : Prop :=
  ∃ u1, kt_gf M a0 108 = some (.int u1) ∧ vl_J21_recalculateWordsInUse_7 w gr d P X  a0 (u1 - (1 : Int32)) M
theorem ce_J21_recalculateWordsInUse {w : kt_W} {g : kt_g} {d : Nat} {P : Option Value → kt_M → Prop} {X : String → Nat → kt_M → Prop} {a0 : Nat} {M : kt_M} (h : vc_J21_recalculateWordsInUse w (g, M) d P X a0 M) : kt_Sp w g (d + 1) yJ21_recalculateWordsInUse kc_J21_recalculateWordsInUse [va_rf (some a0)] M P X := by
  refine kt_of (L0 := [(0, va_rf (some a0))]) (by decide +kernel) (Nat.le_of_ble_eq_true rfl) rfl fun x O => ?_
  replace O : kt_O w x (g, M) (d + 1) cJ21_recalculateWordsInUse "java/util/BitSet" 2 ("recalculateWordsInUse", "()V") (Option.none : Option Jvm.ClassFile.FieldType) [] := O
  unfold vc_J21_recalculateWordsInUse at h
  refine kr_aload_n O dJ21_recalculateWordsInUse_0 rfl 0 rfl ?_
  obtain ⟨u1, eu1, h⟩ := h
  refine kr_getf O dJ21_recalculateWordsInUse_1 fs_J21_7 eu1 ?_
  refine kr_iconst O dJ21_recalculateWordsInUse_4 (v := (1 : Int32)) (by decide) ?_
  refine kr_isub O dJ21_recalculateWordsInUse_5 ?_
  refine kr_istore_n O dJ21_recalculateWordsInUse_6 rfl (Nat.le_of_ble_eq_true rfl) rfl rfl ?_
  refine kr_sub [1, 0] rfl ?_
  exact cl_J21_recalculateWordsInUse_7 O  h
def vc_J21_set (w : kt_W) (gr : kt_g × kt_M) (d : Nat) (P : Option Value → kt_M → Prop) (X : String → Nat → kt_M → Prop) (a0 : Nat) (v1 : Int32) (M : kt_M) : Prop :=
  
    ((0 ≤ v1 → 
    kt_Ca w gr d yJ21_wordIndex kc_J21_wordIndex [.int v1] M (kt_pI fun u1 M2 => (kt_co M2 a0 = some 18) ∧ 
    kt_Ca w gr d yJ21_expandTo kc_J21_expandTo [va_rf (some a0), .int u1] M2 (kt_pV fun M3 => ∃ p4, kt_gf M3 a0 107 = some (va_rf p4) ∧ ∃ b5, p4 = some b5 ∧ ∃ u6, kt_el 1 M3 b5 u1 = some (.long u6) ∧ kt_hil gr 1 M3 b5 u1 ∧ ∀ M7, M7 = kt_sl M3 b5 u1 (u6 ||| ((1 : Int64) <<< (v1.toInt64 &&& 63))) → (kt_co M7 a0 = some 18) ∧ 
    kt_Ca w gr d yJ21_checkInvariants kc_J21_checkInvariants [va_rf (some a0)] M7 (kt_pV fun M8 => P none M8) X) X) X) ∧
    (¬ 0 ≤ v1 → False))
theorem ce_J21_set {w : kt_W} {g : kt_g} {d : Nat} {P : Option Value → kt_M → Prop} {X : String → Nat → kt_M → Prop} {a0 : Nat} {v1 : Int32} {M : kt_M} (h : vc_J21_set w (g, M) d P X a0 v1 M) : kt_Sp w g (d + 1) yJ21_set kc_J21_set [va_rf (some a0), .int v1] M P X := by
  refine kt_of (L0 := [(0, va_rf (some a0)), (1, .int v1)]) (by decide +kernel) (Nat.le_of_ble_eq_true rfl) rfl fun x O => ?_
  replace O : kt_O w x (g, M) (d + 1) cJ21_set "java/util/BitSet" 3 ("set", "(I)V") (Option.none : Option Jvm.ClassFile.FieldType) [] := O
  unfold vc_J21_set at h
  refine kr_iload_n O dJ21_set_0 rfl 1 rfl ?_
  refine kr_if_ge (tgt := 31) O dJ21_set_1 rfl (fun hc => ?_) (fun hc => ?_)
  · replace h := h.1 hc
    refine kr_iload_n O dJ21_set_31 rfl 1 rfl ?_
    refine kr_caI (rest := []) O cd_J21_wordIndex h (Nat.le_of_ble_eq_true rfl) (fun ls _ => kt_ivS O dJ21_set_32 cd_J21_wordIndex in_J21_wordIndex q529 q530 hy_J21_wordIndex) (fun u1 M2 hq => ?_) (fun E q M9 hx => kr_out O hx)
    replace h := hq
    clear hq
    refine kr_istore_n O dJ21_set_35 rfl (Nat.le_of_ble_eq_true rfl) rfl rfl ?_
    refine kr_aload_n O dJ21_set_36 rfl 1 rfl ?_
    refine kr_iload_n O dJ21_set_37 rfl 0 rfl ?_
    obtain ⟨hco, h⟩ := h
    refine kr_caV (rest := []) O cd_J21_expandTo h (Nat.le_of_ble_eq_true rfl) (fun ls _ => kt_ivV (ci := 18) O dJ21_set_38 cd_J21_expandTo in_J21_expandTo (Or.inl q1403) q1405 qs19 hco (by decide) hy_J21_expandTo) (fun M3 hq => ?_) (fun E q M9 hx => kr_out O hx)
    replace h := hq
    clear hq
    refine kr_aload_n O dJ21_set_41 rfl 1 rfl ?_
    obtain ⟨p4, ep4, h⟩ := h
    refine kr_getf O dJ21_set_42 fs_J21_11 ep4 ?_
    refine kr_iload_n O dJ21_set_45 rfl 0 rfl ?_
    refine kr_dup2 O dJ21_set_46 rfl (kt_nrf _) ?_
    obtain ⟨b5, rfl, h⟩ := h
    obtain ⟨u6, eu6, h⟩ := h
    refine kr_laload O dJ21_set_47 eu6 ?_
    refine kr_lconst O dJ21_set_48 (v := (1 : Int64)) (by decide) ?_
    refine kr_iload_n O dJ21_set_49 rfl 2 rfl ?_
    refine kr_lshl O dJ21_set_50 ?_
    refine kr_lor O dJ21_set_51 ?_
    obtain ⟨hw, h⟩ := h
    refine kr_lastore O dJ21_set_52 hw (kr_nmM fun M7 hM7 => ?_)
    replace h := h M7 hM7
    refine kr_aload_n O dJ21_set_53 rfl 1 rfl ?_
    obtain ⟨hco, h⟩ := h
    refine kr_caV (rest := []) O cd_J21_checkInvariants h (Nat.le_of_ble_eq_true rfl) (fun ls _ => kt_ivV (ci := 18) O dJ21_set_54 cd_J21_checkInvariants in_J21_checkInvariants (Or.inl q522) q524 qs5 hco (by decide) hy_J21_checkInvariants) (fun M8 hq => ?_) (fun E q M9 hx => kr_out O hx)
    replace h := hq
    clear hq
    exact kr_vret O dJ21_set_57 h
  · replace h := h.2 hc
    exact h.elim
def vc_J21_expandTo (w : kt_W) (gr : kt_g × kt_M) (d : Nat) (P : Option Value → kt_M → Prop) (X : String → Nat → kt_M → Prop) (a0 : Nat) (v1 : Int32) (M : kt_M) : Prop :=
  ∃ u1, kt_gf M a0 108 = some (.int u1) ∧ 
    (((v1 + (1 : Int32)) ≤ u1 → P none M) ∧
    (¬ (v1 + (1 : Int32)) ≤ u1 → (kt_co M a0 = some 18) ∧ 
    kt_Ca w gr d yJ21_ensureCapacity kc_J21_ensureCapacity [va_rf (some a0), .int (v1 + (1 : Int32))] M (kt_pV fun M2 => kt_hf gr M2 a0 108 ∧ ∀ M3, M3 = kt_pf M2 a0 108 (.int (v1 + (1 : Int32))) → P none M3) X))
theorem ce_J21_expandTo {w : kt_W} {g : kt_g} {d : Nat} {P : Option Value → kt_M → Prop} {X : String → Nat → kt_M → Prop} {a0 : Nat} {v1 : Int32} {M : kt_M} (h : vc_J21_expandTo w (g, M) d P X a0 v1 M) : kt_Sp w g (d + 1) yJ21_expandTo kc_J21_expandTo [va_rf (some a0), .int v1] M P X := by
  refine kt_of (L0 := [(0, va_rf (some a0)), (1, .int v1)]) (by decide +kernel) (Nat.le_of_ble_eq_true rfl) rfl fun x O => ?_
  replace O : kt_O w x (g, M) (d + 1) cJ21_expandTo "java/util/BitSet" 3 ("expandTo", "(I)V") (Option.none : Option Jvm.ClassFile.FieldType) [] := O
  unfold vc_J21_expandTo at h
  refine kr_iload_n O dJ21_expandTo_0 rfl 1 rfl ?_
  refine kr_iconst O dJ21_expandTo_1 (v := (1 : Int32)) (by decide) ?_
  refine kr_iadd O dJ21_expandTo_2 ?_
  refine kr_istore_n O dJ21_expandTo_3 rfl (Nat.le_of_ble_eq_true rfl) rfl rfl ?_
  refine kr_aload_n O dJ21_expandTo_4 rfl 1 rfl ?_
  obtain ⟨u1, eu1, h⟩ := h
  refine kr_getf O dJ21_expandTo_5 fs_J21_7 eu1 ?_
  refine kr_iload_n O dJ21_expandTo_8 rfl 0 rfl ?_
  refine kr_icmp_ge (tgt := 22) O dJ21_expandTo_9 rfl (fun hc => ?_) (fun hc => ?_)
  · replace h := h.1 hc
    exact kr_vret O dJ21_expandTo_22 h
  · replace h := h.2 hc
    refine kr_aload_n O dJ21_expandTo_12 rfl 1 rfl ?_
    refine kr_iload_n O dJ21_expandTo_13 rfl 0 rfl ?_
    obtain ⟨hco, h⟩ := h
    refine kr_caV (rest := []) O cd_J21_ensureCapacity h (Nat.le_of_ble_eq_true rfl) (fun ls _ => kt_ivV (ci := 18) O dJ21_expandTo_14 cd_J21_ensureCapacity in_J21_ensureCapacity (Or.inl q793) q795 qs11 hco (by decide) hy_J21_ensureCapacity) (fun M2 hq => ?_) (fun E q M9 hx => kr_out O hx)
    replace h := hq
    clear hq
    refine kr_aload_n O dJ21_expandTo_17 rfl 1 rfl ?_
    refine kr_iload_n O dJ21_expandTo_18 rfl 0 rfl ?_
    obtain ⟨hw, h⟩ := h
    refine kr_putf O dJ21_expandTo_19 fs_J21_7 (Or.inl rfl) ⟨rfl, rfl⟩ hw (kr_nmM fun M3 hM3 => ?_)
    replace h := h M3 hM3
    exact kr_vret O dJ21_expandTo_22 h
def vc_J21_length (w : kt_W) (gr : kt_g × kt_M) (d : Nat) (P : Option Value → kt_M → Prop) (X : String → Nat → kt_M → Prop) (a0 : Nat) (M : kt_M) : Prop :=
  ∃ u1, kt_gf M a0 108 = some (.int u1) ∧ 
    ((¬ u1 = 0 → ∃ u2, kt_gf M a0 108 = some (.int u2) ∧ ∃ p3, kt_gf M a0 107 = some (va_rf p3) ∧ ∃ u4, kt_gf M a0 108 = some (.int u4) ∧ ∃ b5, p3 = some b5 ∧ ∃ u6, kt_el 1 M b5 (u4 - (1 : Int32)) = some (.long u6) ∧ 
    kt_Ca w gr d yJ24_numberOfLeadingZeros kc_J24_numberOfLeadingZeros [.long u6] M (kt_pI fun u7 M8 => P (some (.int (((64 : Int32) * (u2 - (1 : Int32))) + ((64 : Int32) - u7)))) M8) X) ∧
    (u1 = 0 → P (some (.int (0 : Int32))) M))
theorem ce_J21_length {w : kt_W} {g : kt_g} {d : Nat} {P : Option Value → kt_M → Prop} {X : String → Nat → kt_M → Prop} {a0 : Nat} {M : kt_M} (h : vc_J21_length w (g, M) d P X a0 M) : kt_Sp w g (d + 1) yJ21_length kc_J21_length [va_rf (some a0)] M P X := by
  refine kt_of (L0 := [(0, va_rf (some a0))]) (by decide +kernel) (Nat.le_of_ble_eq_true rfl) rfl fun x O => ?_
  replace O : kt_O w x (g, M) (d + 1) cJ21_length "java/util/BitSet" 1 ("length", "()I") (Option.some Jvm.ClassFile.FieldType.int) [] := O
  unfold vc_J21_length at h
  refine kr_aload_n O dJ21_length_0 rfl 0 rfl ?_
  obtain ⟨u1, eu1, h⟩ := h
  refine kr_getf O dJ21_length_1 fs_J21_7 eu1 ?_
  refine kr_if_ne (tgt := 9) O dJ21_length_4 rfl (fun hc => ?_) (fun hc => ?_)
  · replace h := h.1 hc
    refine kr_bipush O dJ21_length_9 (v := (64 : Int32)) (by decide) ?_
    refine kr_aload_n O dJ21_length_11 rfl 0 rfl ?_
    obtain ⟨u2, eu2, h⟩ := h
    refine kr_getf O dJ21_length_12 fs_J21_7 eu2 ?_
    refine kr_iconst O dJ21_length_15 (v := (1 : Int32)) (by decide) ?_
    refine kr_isub O dJ21_length_16 ?_
    refine kr_imul O dJ21_length_17 ?_
    refine kr_bipush O dJ21_length_18 (v := (64 : Int32)) (by decide) ?_
    refine kr_aload_n O dJ21_length_20 rfl 0 rfl ?_
    obtain ⟨p3, ep3, h⟩ := h
    refine kr_getf O dJ21_length_21 fs_J21_11 ep3 ?_
    refine kr_aload_n O dJ21_length_24 rfl 0 rfl ?_
    obtain ⟨u4, eu4, h⟩ := h
    refine kr_getf O dJ21_length_25 fs_J21_7 eu4 ?_
    refine kr_iconst O dJ21_length_28 (v := (1 : Int32)) (by decide) ?_
    refine kr_isub O dJ21_length_29 ?_
    obtain ⟨b5, rfl, h⟩ := h
    obtain ⟨u6, eu6, h⟩ := h
    refine kr_laload O dJ21_length_30 eu6 ?_
    refine kr_caI (rest := [.int (64 : Int32), .int ((64 : Int32) * (u2 - (1 : Int32)))]) O cd_J24_numberOfLeadingZeros h (Nat.le_of_ble_eq_true rfl) (fun ls _ => kt_ivS O dJ21_length_31 cd_J24_numberOfLeadingZeros in_J24_numberOfLeadingZeros q2425 q2426 hy_J24_numberOfLeadingZeros) (fun u7 M8 hq => ?_) (fun E q M9 hx => kr_out O hx)
    replace h := hq
    clear hq
    refine kr_isub O dJ21_length_34 ?_
    refine kr_iadd O dJ21_length_35 ?_
    exact kr_iret O dJ21_length_36 rfl h
  · replace h := h.2 hc
    refine kr_iconst O dJ21_length_7 (v := (0 : Int32)) (by decide) ?_
    exact kr_iret O dJ21_length_8 rfl h
def vc_J22_checkIndex (w : kt_W) (gr : kt_g × kt_M) (d : Nat) (P : Option Value → kt_M → Prop) (X : String → Nat → kt_M → Prop) (v0 : Int32) (v1 : Int32) (M : kt_M) : Prop :=
  
  kt_Ca w gr d yJ18_checkIndex kc_J18_checkIndex [.int v0, .int v1, va_rf none] M (kt_pI fun u1 M2 => P (some (.int u1)) M2) X
theorem ce_J22_checkIndex {w : kt_W} {g : kt_g} {d : Nat} {P : Option Value → kt_M → Prop} {X : String → Nat → kt_M → Prop} {v0 : Int32} {v1 : Int32} {M : kt_M} (h : vc_J22_checkIndex w (g, M) d P X v0 v1 M) : kt_Sp w g (d + 1) yJ22_checkIndex kc_J22_checkIndex [.int v0, .int v1] M P X := by
  refine kt_of (L0 := [(0, .int v0), (1, .int v1)]) (by decide +kernel) (Nat.le_of_ble_eq_true rfl) rfl fun x O => ?_
  replace O : kt_O w x (g, M) (d + 1) cJ22_checkIndex "java/util/Objects" 2 ("checkIndex", "(II)I") (Option.some Jvm.ClassFile.FieldType.int) [] := O
  unfold vc_J22_checkIndex at h
  refine kr_iload_n O dJ22_checkIndex_0 rfl 0 rfl ?_
  refine kr_iload_n O dJ22_checkIndex_1 rfl 1 rfl ?_
  refine kr_null O dJ22_checkIndex_2 ?_
  refine kr_caI (rest := []) O cd_J18_checkIndex h (Nat.le_of_ble_eq_true rfl) (fun ls _ => kt_ivS O dJ22_checkIndex_3 cd_J18_checkIndex in_J18_checkIndex q488 q489 hy_J18_checkIndex) (fun u1 M2 hq => ?_) (fun E q M9 hx => kr_out O hx)
  replace h := hq
  clear hq
  exact kr_iret O dJ22_checkIndex_6 rfl h
def vc_J22_requireNonNull (w : kt_W) (gr : kt_g × kt_M) (d : Nat) (P : Option Value → kt_M → Prop) (X : String → Nat → kt_M → Prop) (r0 : Option Nat) (M : kt_M) : Prop :=
  
    ((r0 = none → False) ∧
    (∀ b1, r0 = some b1 → P (some (va_rf (some b1))) M))
theorem ce_J22_requireNonNull {w : kt_W} {g : kt_g} {d : Nat} {P : Option Value → kt_M → Prop} {X : String → Nat → kt_M → Prop} {r0 : Option Nat} {M : kt_M} (h : vc_J22_requireNonNull w (g, M) d P X r0 M) : kt_Sp w g (d + 1) yJ22_requireNonNull kc_J22_requireNonNull [va_rf r0] M P X := by
  refine kt_of (L0 := [(0, va_rf r0)]) (by decide +kernel) (by simp only [kt_lgR, kt_lgI, kt_lgN] <;> exact Nat.le_of_ble_eq_true rfl) (by simp only [kt_lvR, kt_lvI, kt_lvN] <;> rfl) fun x O => ?_
  replace O : kt_O w x (g, M) (d + 1) cJ22_requireNonNull "java/util/Objects" 1 ("requireNonNull", "(Ljava/lang/Object;)Ljava/lang/Object;") (Option.some (Jvm.ClassFile.FieldType.object "java/lang/Object")) [] := O
  unfold vc_J22_requireNonNull at h
  refine kr_aload_n O dJ22_requireNonNull_0 rfl 0 rfl ?_
  refine kr_ifnonnull (tgt := 12) O dJ22_requireNonNull_1 rfl (fun b1 hb => ?_) (fun hc => ?_)
  · subst hb
    replace h := h.2 b1 rfl
    refine kr_aload_n O dJ22_requireNonNull_12 rfl 0 rfl ?_
    exact kr_aret O dJ22_requireNonNull_13 (by first | exact Or.inl ⟨_, rfl⟩ | exact Or.inr ⟨_, rfl⟩) h
  · subst hc
    replace h := h.1 rfl
    exact h.elim
def vc_J22_equals (w : kt_W) (gr : kt_g × kt_M) (d : Nat) (P : Option Value → kt_M → Prop) (X : String → Nat → kt_M → Prop) (r0 : Option Nat) (r1 : Option Nat) (M : kt_M) : Prop :=
  
    ((r0 = r1 → P (some (.int (1 : Int32))) M) ∧
    (¬ r0 = r1 → 
      ((r0 = none → P (some (.int (0 : Int32))) M) ∧
      (∀ b1, r0 = some b1 → ∃ K4 : Int32 → kt_M → Prop, ((kt_co M b1 = some 0 ∧ kt_Ca w gr d yJ37_equals kc_J37_equals [va_rf (some b1), va_rf r1] M (kt_pI K4) X) ∨ (kt_co M b1 = some 1 ∧ kt_Ca w gr d yJ37_equals kc_J37_equals [va_rf (some b1), va_rf r1] M (kt_pI K4) X) ∨ (kt_co M b1 = some 2 ∧ kt_Ca w gr d yJ37_equals kc_J37_equals [va_rf (some b1), va_rf r1] M (kt_pI K4) X) ∨ (kt_co M b1 = some 12 ∧ kt_Ca w gr d yJ37_equals kc_J37_equals [va_rf (some b1), va_rf r1] M (kt_pI K4) X) ∨ (kt_co M b1 = some 7 ∧ kt_Ca w gr d yJ37_equals kc_J37_equals [va_rf (some b1), va_rf r1] M (kt_pI K4) X) ∨ (kt_co M b1 = some 19 ∧ kt_Ca w gr d yJ37_equals kc_J37_equals [va_rf (some b1), va_rf r1] M (kt_pI K4) X) ∨ (kt_co M b1 = some 20 ∧ kt_Ca w gr d yJ15_equals kc_J15_equals [va_rf (some b1), va_rf r1] M (kt_pI K4) X) ∨ (kt_co M b1 = some 6 ∧ kt_Ca w gr d yJ37_equals kc_J37_equals [va_rf (some b1), va_rf r1] M (kt_pI K4) X) ∨ (kt_co M b1 = some 5 ∧ kt_Ca w gr d yJ37_equals kc_J37_equals [va_rf (some b1), va_rf r1] M (kt_pI K4) X) ∨ (kt_co M b1 = some 4 ∧ kt_Ca w gr d yJ37_equals kc_J37_equals [va_rf (some b1), va_rf r1] M (kt_pI K4) X) ∨ (kt_co M b1 = some 3 ∧ kt_Ca w gr d yJ37_equals kc_J37_equals [va_rf (some b1), va_rf r1] M (kt_pI K4) X) ∨ (kt_co M b1 = some 8 ∧ kt_Ca w gr d yJ37_equals kc_J37_equals [va_rf (some b1), va_rf r1] M (kt_pI K4) X) ∨ (kt_co M b1 = some 9 ∧ kt_Ca w gr d yJ37_equals kc_J37_equals [va_rf (some b1), va_rf r1] M (kt_pI K4) X) ∨ (kt_co M b1 = some 10 ∧ kt_Ca w gr d yJ37_equals kc_J37_equals [va_rf (some b1), va_rf r1] M (kt_pI K4) X) ∨ (kt_co M b1 = some 11 ∧ kt_Ca w gr d yJ37_equals kc_J37_equals [va_rf (some b1), va_rf r1] M (kt_pI K4) X)) ∧ (∀ u2 M3, K4 u2 M3 → 
          ((u2 = 0 → P (some (.int (0 : Int32))) M3) ∧
          (¬ u2 = 0 → P (some (.int (1 : Int32))) M3)))))))
theorem ce_J22_equals {w : kt_W} {g : kt_g} {d : Nat} {P : Option Value → kt_M → Prop} {X : String → Nat → kt_M → Prop} {r0 : Option Nat} {r1 : Option Nat} {M : kt_M} (h : vc_J22_equals w (g, M) d P X r0 r1 M) : kt_Sp w g (d + 1) yJ22_equals kc_J22_equals [va_rf r0, va_rf r1] M P X := by
  refine kt_of (L0 := [(0, va_rf r0), (1, va_rf r1)]) (by decide +kernel) (by simp only [kt_lgR, kt_lgI, kt_lgN] <;> exact Nat.le_of_ble_eq_true rfl) (by simp only [kt_lvR, kt_lvI, kt_lvN] <;> rfl) fun x O => ?_
  replace O : kt_O w x (g, M) (d + 1) cJ22_equals "java/util/Objects" 2 ("equals", "(Ljava/lang/Object;Ljava/lang/Object;)Z") (Option.some Jvm.ClassFile.FieldType.boolean) [] := O
  unfold vc_J22_equals at h
  refine kr_aload_n O dJ22_equals_0 rfl 0 rfl ?_
  refine kr_aload_n O dJ22_equals_1 rfl 1 rfl ?_
  refine kr_acmp_eq (tgt := 17) O dJ22_equals_2 rfl (fun hc => ?_) (fun hc => ?_)
  · replace h := h.1 hc
    refine kr_iconst O dJ22_equals_17 (v := (1 : Int32)) (by decide) ?_
    refine kr_goto (tgt := 22) O dJ22_equals_18 rfl ?_
    exact kr_iret O dJ22_equals_22 (by decide) h
  · replace h := h.2 hc
    refine kr_aload_n O dJ22_equals_5 rfl 0 rfl ?_
    refine kr_ifnull (tgt := 21) O dJ22_equals_6 rfl (fun hc => ?_) (fun b1 hb => ?_)
    · subst hc
      replace h := h.1 rfl
      refine kr_iconst O dJ22_equals_21 (v := (0 : Int32)) (by decide) ?_
      exact kr_iret O dJ22_equals_22 (by decide) h
    · subst hb
      replace h := h.2 b1 rfl
      refine kr_aload_n O dJ22_equals_9 rfl 0 rfl ?_
      refine kr_aload_n O dJ22_equals_10 rfl 1 rfl ?_
      obtain ⟨K4, hca, hK⟩ := h
      have h9 : ∀ u2 M3, K4 u2 M3 → kt_S w x 2 (kt_E w x P X) M3 (11 + 3) [(0, va_rf (some b1)), (1, va_rf r1)] (.int u2 :: []) := by
        intro u2 M3 h
        replace h := hK u2 M3 h
        refine kr_if_eq (tgt := 21) O dJ22_equals_14 rfl (fun hc => ?_) (fun hc => ?_)
        · replace h := h.1 hc
          refine kr_iconst O dJ22_equals_21 (v := (0 : Int32)) (by decide) ?_
          exact kr_iret O dJ22_equals_22 (by decide) h
        · replace h := h.2 hc
          refine kr_iconst O dJ22_equals_17 (v := (1 : Int32)) (by decide) ?_
          refine kr_goto (tgt := 22) O dJ22_equals_18 rfl ?_
          exact kr_iret O dJ22_equals_22 (by decide) h
      rcases hca with ⟨hco, h⟩ | ⟨hco, h⟩ | ⟨hco, h⟩ | ⟨hco, h⟩ | ⟨hco, h⟩ | ⟨hco, h⟩ | ⟨hco, h⟩ | ⟨hco, h⟩ | ⟨hco, h⟩ | ⟨hco, h⟩ | ⟨hco, h⟩ | ⟨hco, h⟩ | ⟨hco, h⟩ | ⟨hco, h⟩ | ⟨hco, h⟩
      · exact kr_caI (rest := []) O cd_J37_equals h (Nat.le_of_ble_eq_true rfl) (fun ls _ => kt_ivV (ci := 0) O dJ22_equals_11 cd_J37_equals in_J37_equals (Or.inl q2361) q2318 q2320 hco (by decide) hy_J37_equals) h9 (fun E q M9 hx => kr_out O hx)
      · exact kr_caI (rest := []) O cd_J37_equals h (Nat.le_of_ble_eq_true rfl) (fun ls _ => kt_ivV (ci := 1) O dJ22_equals_11 cd_J37_equals in_J37_equals (Or.inl q2361) q2318 q2335 hco (by decide) hy_J37_equals) h9 (fun E q M9 hx => kr_out O hx)
      · exact kr_caI (rest := []) O cd_J37_equals h (Nat.le_of_ble_eq_true rfl) (fun ls _ => kt_ivV (ci := 2) O dJ22_equals_11 cd_J37_equals in_J37_equals (Or.inl q2361) q2318 q2323 hco (by decide) hy_J37_equals) h9 (fun E q M9 hx => kr_out O hx)
      · exact kr_caI (rest := []) O cd_J37_equals h (Nat.le_of_ble_eq_true rfl) (fun ls _ => kt_ivV (ci := 12) O dJ22_equals_11 cd_J37_equals in_J37_equals (Or.inl q2361) q2318 q2339 hco (by decide) hy_J37_equals) h9 (fun E q M9 hx => kr_out O hx)
      · exact kr_caI (rest := []) O cd_J37_equals h (Nat.le_of_ble_eq_true rfl) (fun ls _ => kt_ivV (ci := 7) O dJ22_equals_11 cd_J37_equals in_J37_equals (Or.inl q2361) q2318 q2325 hco (by decide) hy_J37_equals) h9 (fun E q M9 hx => kr_out O hx)
      · exact kr_caI (rest := []) O cd_J37_equals h (Nat.le_of_ble_eq_true rfl) (fun ls _ => kt_ivV (ci := 19) O dJ22_equals_11 cd_J37_equals in_J37_equals (Or.inl q2361) q2318 q2342 hco (by decide) hy_J37_equals) h9 (fun E q M9 hx => kr_out O hx)
      · exact kr_caI (rest := []) O cd_J15_equals h (Nat.le_of_ble_eq_true rfl) (fun ls _ => kt_ivU (ci := 20) O dJ22_equals_11 cd_J15_equals q2361 q2319 (Or.inr q2316) q1635 q2341 hco (by decide) ⟨by decide, by decide, rfl⟩) h9 (fun E q M9 hx => kr_out O hx)
      · exact kr_caI (rest := []) O cd_J37_equals h (Nat.le_of_ble_eq_true rfl) (fun ls _ => kt_ivV (ci := 6) O dJ22_equals_11 cd_J37_equals in_J37_equals (Or.inl q2361) q2318 q2336 hco (by decide) hy_J37_equals) h9 (fun E q M9 hx => kr_out O hx)
      · exact kr_caI (rest := []) O cd_J37_equals h (Nat.le_of_ble_eq_true rfl) (fun ls _ => kt_ivV (ci := 5) O dJ22_equals_11 cd_J37_equals in_J37_equals (Or.inl q2361) q2318 q2321 hco (by decide) hy_J37_equals) h9 (fun E q M9 hx => kr_out O hx)
      · exact kr_caI (rest := []) O cd_J37_equals h (Nat.le_of_ble_eq_true rfl) (fun ls _ => kt_ivV (ci := 4) O dJ22_equals_11 cd_J37_equals in_J37_equals (Or.inl q2361) q2318 q2328 hco (by decide) hy_J37_equals) h9 (fun E q M9 hx => kr_out O hx)
      · exact kr_caI (rest := []) O cd_J37_equals h (Nat.le_of_ble_eq_true rfl) (fun ls _ => kt_ivV (ci := 3) O dJ22_equals_11 cd_J37_equals in_J37_equals (Or.inl q2361) q2318 q2338 hco (by decide) hy_J37_equals) h9 (fun E q M9 hx => kr_out O hx)
      · exact kr_caI (rest := []) O cd_J37_equals h (Nat.le_of_ble_eq_true rfl) (fun ls _ => kt_ivV (ci := 8) O dJ22_equals_11 cd_J37_equals in_J37_equals (Or.inl q2361) q2318 q2327 hco (by decide) hy_J37_equals) h9 (fun E q M9 hx => kr_out O hx)
      · exact kr_caI (rest := []) O cd_J37_equals h (Nat.le_of_ble_eq_true rfl) (fun ls _ => kt_ivV (ci := 9) O dJ22_equals_11 cd_J37_equals in_J37_equals (Or.inl q2361) q2318 q2326 hco (by decide) hy_J37_equals) h9 (fun E q M9 hx => kr_out O hx)
      · exact kr_caI (rest := []) O cd_J37_equals h (Nat.le_of_ble_eq_true rfl) (fun ls _ => kt_ivV (ci := 10) O dJ22_equals_11 cd_J37_equals in_J37_equals (Or.inl q2361) q2318 q2322 hco (by decide) hy_J37_equals) h9 (fun E q M9 hx => kr_out O hx)
      · exact kr_caI (rest := []) O cd_J37_equals h (Nat.le_of_ble_eq_true rfl) (fun ls _ => kt_ivV (ci := 11) O dJ22_equals_11 cd_J37_equals in_J37_equals (Or.inl q2361) q2318 q2324 hco (by decide) hy_J37_equals) h9 (fun E q M9 hx => kr_out O hx)
def vc_J24_numberOfTrailingZeros (w : kt_W) (gr : kt_g × kt_M) (d : Nat) (P : Option Value → kt_M → Prop) (X : String → Nat → kt_M → Prop) (v0 : Int64) (M : kt_M) : Prop :=
  
    ((¬ v0.toInt32 = 0 → 
    kt_Ca w gr d yJ19_numberOfTrailingZeros kc_J19_numberOfTrailingZeros [.int v0.toInt32] M (kt_pI fun u1 M2 => P (some (.int u1)) M2) X) ∧
    (v0.toInt32 = 0 → 
    kt_Ca w gr d yJ19_numberOfTrailingZeros kc_J19_numberOfTrailingZeros [.int (((v0.toUInt64 >>> ((32 : Int32).toInt64.toUInt64 &&& Int64.toUInt64 63)).toInt64).toInt32)] M (kt_pI fun u3 M4 => P (some (.int ((32 : Int32) + u3))) M4) X))
theorem ce_J24_numberOfTrailingZeros {w : kt_W} {g : kt_g} {d : Nat} {P : Option Value → kt_M → Prop} {X : String → Nat → kt_M → Prop} {v0 : Int64} {M : kt_M} (h : vc_J24_numberOfTrailingZeros w (g, M) d P X v0 M) : kt_Sp w g (d + 1) yJ24_numberOfTrailingZeros kc_J24_numberOfTrailingZeros [.long v0] M P X := by
  refine kt_of (L0 := [(0, .long v0)]) (by decide +kernel) (Nat.le_of_ble_eq_true rfl) rfl fun x O => ?_
  replace O : kt_O w x (g, M) (d + 1) cJ24_numberOfTrailingZeros "java/lang/Long" 3 ("numberOfTrailingZeros", "(J)I") (Option.some Jvm.ClassFile.FieldType.int) [] := O
  unfold vc_J24_numberOfTrailingZeros at h
  refine kr_lload_n O dJ24_numberOfTrailingZeros_0 rfl 0 rfl ?_
  refine kr_l2i O dJ24_numberOfTrailingZeros_1 ?_
  refine kr_istore_n O dJ24_numberOfTrailingZeros_2 rfl (Nat.le_of_ble_eq_true rfl) rfl rfl ?_
  refine kr_iload_n O dJ24_numberOfTrailingZeros_3 rfl 0 rfl ?_
  refine kr_if_ne (tgt := 21) O dJ24_numberOfTrailingZeros_4 rfl (fun hc => ?_) (fun hc => ?_)
  · replace h := h.1 hc
    refine kr_iload_n O dJ24_numberOfTrailingZeros_21 rfl 0 rfl ?_
    refine kr_caI (rest := []) O cd_J19_numberOfTrailingZeros h (Nat.le_of_ble_eq_true rfl) (fun ls _ => kt_ivS O dJ24_numberOfTrailingZeros_22 cd_J19_numberOfTrailingZeros in_J19_numberOfTrailingZeros q544 q545 hy_J19_numberOfTrailingZeros) (fun u1 M2 hq => ?_) (fun E q M9 hx => kr_out O hx)
    replace h := hq
    clear hq
    exact kr_iret O dJ24_numberOfTrailingZeros_25 rfl h
  · replace h := h.2 hc
    refine kr_bipush O dJ24_numberOfTrailingZeros_7 (v := (32 : Int32)) (by decide) ?_
    refine kr_lload_n O dJ24_numberOfTrailingZeros_9 rfl 1 rfl ?_
    refine kr_bipush O dJ24_numberOfTrailingZeros_10 (v := (32 : Int32)) (by decide) ?_
    refine kr_lushr O dJ24_numberOfTrailingZeros_12 ?_
    refine kr_l2i O dJ24_numberOfTrailingZeros_13 ?_
    refine kr_caI (rest := [.int (32 : Int32)]) O cd_J19_numberOfTrailingZeros h (Nat.le_of_ble_eq_true rfl) (fun ls _ => kt_ivS O dJ24_numberOfTrailingZeros_14 cd_J19_numberOfTrailingZeros in_J19_numberOfTrailingZeros q544 q545 hy_J19_numberOfTrailingZeros) (fun u3 M4 hq => ?_) (fun E q M9 hx => kr_out O hx)
    replace h := hq
    clear hq
    refine kr_iadd O dJ24_numberOfTrailingZeros_17 ?_
    refine kr_goto (tgt := 25) O dJ24_numberOfTrailingZeros_18 rfl ?_
    exact kr_iret O dJ24_numberOfTrailingZeros_25 rfl h
def vc_J24_bitCount (w : kt_W) (gr : kt_g × kt_M) (d : Nat) (P : Option Value → kt_M → Prop) (X : String → Nat → kt_M → Prop) (v0 : Int64) (M : kt_M) : Prop :=
  P (some (.int ((((((((((v0 - (((v0.toUInt64 >>> ((1 : Int32).toInt64.toUInt64 &&& Int64.toUInt64 63)).toInt64) &&& (6148914691236517205 : Int64))) &&& (3689348814741910323 : Int64)) + ((((v0 - (((v0.toUInt64 >>> ((1 : Int32).toInt64.toUInt64 &&& Int64.toUInt64 63)).toInt64) &&& (6148914691236517205 : Int64))).toUInt64 >>> ((2 : Int32).toInt64.toUInt64 &&& Int64.toUInt64 63)).toInt64) &&& (3689348814741910323 : Int64))) + (((((v0 - (((v0.toUInt64 >>> ((1 : Int32).toInt64.toUInt64 &&& Int64.toUInt64 63)).toInt64) &&& (6148914691236517205 : Int64))) &&& (3689348814741910323 : Int64)) + ((((v0 - (((v0.toUInt64 >>> ((1 : Int32).toInt64.toUInt64 &&& Int64.toUInt64 63)).toInt64) &&& (6148914691236517205 : Int64))).toUInt64 >>> ((2 : Int32).toInt64.toUInt64 &&& Int64.toUInt64 63)).toInt64) &&& (3689348814741910323 : Int64))).toUInt64 >>> ((4 : Int32).toInt64.toUInt64 &&& Int64.toUInt64 63)).toInt64)) &&& (1085102592571150095 : Int64)) + (((((((v0 - (((v0.toUInt64 >>> ((1 : Int32).toInt64.toUInt64 &&& Int64.toUInt64 63)).toInt64) &&& (6148914691236517205 : Int64))) &&& (3689348814741910323 : Int64)) + ((((v0 - (((v0.toUInt64 >>> ((1 : Int32).toInt64.toUInt64 &&& Int64.toUInt64 63)).toInt64) &&& (6148914691236517205 : Int64))).toUInt64 >>> ((2 : Int32).toInt64.toUInt64 &&& Int64.toUInt64 63)).toInt64) &&& (3689348814741910323 : Int64))) + (((((v0 - (((v0.toUInt64 >>> ((1 : Int32).toInt64.toUInt64 &&& Int64.toUInt64 63)).toInt64) &&& (6148914691236517205 : Int64))) &&& (3689348814741910323 : Int64)) + ((((v0 - (((v0.toUInt64 >>> ((1 : Int32).toInt64.toUInt64 &&& Int64.toUInt64 63)).toInt64) &&& (6148914691236517205 : Int64))).toUInt64 >>> ((2 : Int32).toInt64.toUInt64 &&& Int64.toUInt64 63)).toInt64) &&& (3689348814741910323 : Int64))).toUInt64 >>> ((4 : Int32).toInt64.toUInt64 &&& Int64.toUInt64 63)).toInt64)) &&& (1085102592571150095 : Int64)).toUInt64 >>> ((8 : Int32).toInt64.toUInt64 &&& Int64.toUInt64 63)).toInt64)) + ((((((((v0 - (((v0.toUInt64 >>> ((1 : Int32).toInt64.toUInt64 &&& Int64.toUInt64 63)).toInt64) &&& (6148914691236517205 : Int64))) &&& (3689348814741910323 : Int64)) + ((((v0 - (((v0.toUInt64 >>> ((1 : Int32).toInt64.toUInt64 &&& Int64.toUInt64 63)).toInt64) &&& (6148914691236517205 : Int64))).toUInt64 >>> ((2 : Int32).toInt64.toUInt64 &&& Int64.toUInt64 63)).toInt64) &&& (3689348814741910323 : Int64))) + (((((v0 - (((v0.toUInt64 >>> ((1 : Int32).toInt64.toUInt64 &&& Int64.toUInt64 63)).toInt64) &&& (6148914691236517205 : Int64))) &&& (3689348814741910323 : Int64)) + ((((v0 - (((v0.toUInt64 >>> ((1 : Int32).toInt64.toUInt64 &&& Int64.toUInt64 63)).toInt64) &&& (6148914691236517205 : Int64))).toUInt64 >>> ((2 : Int32).toInt64.toUInt64 &&& Int64.toUInt64 63)).toInt64) &&& (3689348814741910323 : Int64))).toUInt64 >>> ((4 : Int32).toInt64.toUInt64 &&& Int64.toUInt64 63)).toInt64)) &&& (1085102592571150095 : Int64)) + (((((((v0 - (((v0.toUInt64 >>> ((1 : Int32).toInt64.toUInt64 &&& Int64.toUInt64 63)).toInt64) &&& (6148914691236517205 : Int64))) &&& (3689348814741910323 : Int64)) + ((((v0 - (((v0.toUInt64 >>> ((1 : Int32).toInt64.toUInt64 &&& Int64.toUInt64 63)).toInt64) &&& (6148914691236517205 : Int64))).toUInt64 >>> ((2 : Int32).toInt64.toUInt64 &&& Int64.toUInt64 63)).toInt64) &&& (3689348814741910323 : Int64))) + (((((v0 - (((v0.toUInt64 >>> ((1 : Int32).toInt64.toUInt64 &&& Int64.toUInt64 63)).toInt64) &&& (6148914691236517205 : Int64))) &&& (3689348814741910323 : Int64)) + ((((v0 - (((v0.toUInt64 >>> ((1 : Int32).toInt64.toUInt64 &&& Int64.toUInt64 63)).toInt64) &&& (6148914691236517205 : Int64))).toUInt64 >>> ((2 : Int32).toInt64.toUInt64 &&& Int64.toUInt64 63)).toInt64) &&& (3689348814741910323 : Int64))).toUInt64 >>> ((4 : Int32).toInt64.toUInt64 &&& Int64.toUInt64 63)).toInt64)) &&& (1085102592571150095 : Int64)).toUInt64 >>> ((8 : Int32).toInt64.toUInt64 &&& Int64.toUInt64 63)).toInt64)).toUInt64 >>> ((16 : Int32).toInt64.toUInt64 &&& Int64.toUInt64 63)).toInt64)) + (((((((((v0 - (((v0.toUInt64 >>> ((1 : Int32).toInt64.toUInt64 &&& Int64.toUInt64 63)).toInt64) &&& (6148914691236517205 : Int64))) &&& (3689348814741910323 : Int64)) + ((((v0 - (((v0.toUInt64 >>> ((1 : Int32).toInt64.toUInt64 &&& Int64.toUInt64 63)).toInt64) &&& (6148914691236517205 : Int64))).toUInt64 >>> ((2 : Int32).toInt64.toUInt64 &&& Int64.toUInt64 63)).toInt64) &&& (3689348814741910323 : Int64))) + (((((v0 - (((v0.toUInt64 >>> ((1 : Int32).toInt64.toUInt64 &&& Int64.toUInt64 63)).toInt64) &&& (6148914691236517205 : Int64))) &&& (3689348814741910323 : Int64)) + ((((v0 - (((v0.toUInt64 >>> ((1 : Int32).toInt64.toUInt64 &&& Int64.toUInt64 63)).toInt64) &&& (6148914691236517205 : Int64))).toUInt64 >>> ((2 : Int32).toInt64.toUInt64 &&& Int64.toUInt64 63)).toInt64) &&& (3689348814741910323 : Int64))).toUInt64 >>> ((4 : Int32).toInt64.toUInt64 &&& Int64.toUInt64 63)).toInt64)) &&& (1085102592571150095 : Int64)) + (((((((v0 - (((v0.toUInt64 >>> ((1 : Int32).toInt64.toUInt64 &&& Int64.toUInt64 63)).toInt64) &&& (6148914691236517205 : Int64))) &&& (3689348814741910323 : Int64)) + ((((v0 - (((v0.toUInt64 >>> ((1 : Int32).toInt64.toUInt64 &&& Int64.toUInt64 63)).toInt64) &&& (6148914691236517205 : Int64))).toUInt64 >>> ((2 : Int32).toInt64.toUInt64 &&& Int64.toUInt64 63)).toInt64) &&& (3689348814741910323 : Int64))) + (((((v0 - (((v0.toUInt64 >>> ((1 : Int32).toInt64.toUInt64 &&& Int64.toUInt64 63)).toInt64) &&& (6148914691236517205 : Int64))) &&& (3689348814741910323 : Int64)) + ((((v0 - (((v0.toUInt64 >>> ((1 : Int32).toInt64.toUInt64 &&& Int64.toUInt64 63)).toInt64) &&& (6148914691236517205 : Int64))).toUInt64 >>> ((2 : Int32).toInt64.toUInt64 &&& Int64.toUInt64 63)).toInt64) &&& (3689348814741910323 : Int64))).toUInt64 >>> ((4 : Int32).toInt64.toUInt64 &&& Int64.toUInt64 63)).toInt64)) &&& (1085102592571150095 : Int64)).toUInt64 >>> ((8 : Int32).toInt64.toUInt64 &&& Int64.toUInt64 63)).toInt64)) + ((((((((v0 - (((v0.toUInt64 >>> ((1 : Int32).toInt64.toUInt64 &&& Int64.toUInt64 63)).toInt64) &&& (6148914691236517205 : Int64))) &&& (3689348814741910323 : Int64)) + ((((v0 - (((v0.toUInt64 >>> ((1 : Int32).toInt64.toUInt64 &&& Int64.toUInt64 63)).toInt64) &&& (6148914691236517205 : Int64))).toUInt64 >>> ((2 : Int32).toInt64.toUInt64 &&& Int64.toUInt64 63)).toInt64) &&& (3689348814741910323 : Int64))) + (((((v0 - (((v0.toUInt64 >>> ((1 : Int32).toInt64.toUInt64 &&& Int64.toUInt64 63)).toInt64) &&& (6148914691236517205 : Int64))) &&& (3689348814741910323 : Int64)) + ((((v0 - (((v0.toUInt64 >>> ((1 : Int32).toInt64.toUInt64 &&& Int64.toUInt64 63)).toInt64) &&& (6148914691236517205 : Int64))).toUInt64 >>> ((2 : Int32).toInt64.toUInt64 &&& Int64.toUInt64 63)).toInt64) &&& (3689348814741910323 : Int64))).toUInt64 >>> ((4 : Int32).toInt64.toUInt64 &&& Int64.toUInt64 63)).toInt64)) &&& (1085102592571150095 : Int64)) + (((((((v0 - (((v0.toUInt64 >>> ((1 : Int32).toInt64.toUInt64 &&& Int64.toUInt64 63)).toInt64) &&& (6148914691236517205 : Int64))) &&& (3689348814741910323 : Int64)) + ((((v0 - (((v0.toUInt64 >>> ((1 : Int32).toInt64.toUInt64 &&& Int64.toUInt64 63)).toInt64) &&& (6148914691236517205 : Int64))).toUInt64 >>> ((2 : Int32).toInt64.toUInt64 &&& Int64.toUInt64 63)).toInt64) &&& (3689348814741910323 : Int64))) + (((((v0 - (((v0.toUInt64 >>> ((1 : Int32).toInt64.toUInt64 &&& Int64.toUInt64 63)).toInt64) &&& (6148914691236517205 : Int64))) &&& (3689348814741910323 : Int64)) + ((((v0 - (((v0.toUInt64 >>> ((1 : Int32).toInt64.toUInt64 &&& Int64.toUInt64 63)).toInt64) &&& (6148914691236517205 : Int64))).toUInt64 >>> ((2 : Int32).toInt64.toUInt64 &&& Int64.toUInt64 63)).toInt64) &&& (3689348814741910323 : Int64))).toUInt64 >>> ((4 : Int32).toInt64.toUInt64 &&& Int64.toUInt64 63)).toInt64)) &&& (1085102592571150095 : Int64)).toUInt64 >>> ((8 : Int32).toInt64.toUInt64 &&& Int64.toUInt64 63)).toInt64)).toUInt64 >>> ((16 : Int32).toInt64.toUInt64 &&& Int64.toUInt64 63)).toInt64)).toUInt64 >>> ((32 : Int32).toInt64.toUInt64 &&& Int64.toUInt64 63)).toInt64)).toInt32) &&& (127 : Int32)))) M
theorem ce_J24_bitCount {w : kt_W} {g : kt_g} {d : Nat} {P : Option Value → kt_M → Prop} {X : String → Nat → kt_M → Prop} {v0 : Int64} {M : kt_M} (h : vc_J24_bitCount w (g, M) d P X v0 M) : kt_Sp w g (d + 1) yJ24_bitCount kc_J24_bitCount [.long v0] M P X := by
  refine kt_of (L0 := [(0, .long v0)]) (by decide +kernel) (Nat.le_of_ble_eq_true rfl) rfl fun x O => ?_
  replace O : kt_O w x (g, M) (d + 1) cJ24_bitCount "java/lang/Long" 2 ("bitCount", "(J)I") (Option.some Jvm.ClassFile.FieldType.int) [] := O
  unfold vc_J24_bitCount at h
  refine kr_lload_n O dJ24_bitCount_0 rfl 0 rfl ?_
  refine kr_lload_n O dJ24_bitCount_1 rfl 0 rfl ?_
  refine kr_iconst O dJ24_bitCount_2 (v := (1 : Int32)) (by decide) ?_
  refine kr_lushr O dJ24_bitCount_3 ?_
  refine kr_ldc2 O dJ24_bitCount_4 q587 ?_
  refine kr_land O dJ24_bitCount_7 ?_
  refine kr_lsub O dJ24_bitCount_8 ?_
  refine kr_lstore_n O dJ24_bitCount_9 rfl (Nat.le_of_ble_eq_true rfl) rfl rfl ?_
  refine kr_lload_n O dJ24_bitCount_10 rfl 0 rfl ?_
  refine kr_ldc2 O dJ24_bitCount_11 q588 ?_
  refine kr_land O dJ24_bitCount_14 ?_
  refine kr_lload_n O dJ24_bitCount_15 rfl 0 rfl ?_
  refine kr_iconst O dJ24_bitCount_16 (v := (2 : Int32)) (by decide) ?_
  refine kr_lushr O dJ24_bitCount_17 ?_
  refine kr_ldc2 O dJ24_bitCount_18 q588 ?_
  refine kr_land O dJ24_bitCount_21 ?_
  refine kr_ladd O dJ24_bitCount_22 ?_
  refine kr_lstore_n O dJ24_bitCount_23 rfl (Nat.le_of_ble_eq_true rfl) rfl rfl ?_
  refine kr_lload_n O dJ24_bitCount_24 rfl 0 rfl ?_
  refine kr_lload_n O dJ24_bitCount_25 rfl 0 rfl ?_
  refine kr_iconst O dJ24_bitCount_26 (v := (4 : Int32)) (by decide) ?_
  refine kr_lushr O dJ24_bitCount_27 ?_
  refine kr_ladd O dJ24_bitCount_28 ?_
  refine kr_ldc2 O dJ24_bitCount_29 q589 ?_
  refine kr_land O dJ24_bitCount_32 ?_
  refine kr_lstore_n O dJ24_bitCount_33 rfl (Nat.le_of_ble_eq_true rfl) rfl rfl ?_
  refine kr_lload_n O dJ24_bitCount_34 rfl 0 rfl ?_
  refine kr_lload_n O dJ24_bitCount_35 rfl 0 rfl ?_
  refine kr_bipush O dJ24_bitCount_36 (v := (8 : Int32)) (by decide) ?_
  refine kr_lushr O dJ24_bitCount_38 ?_
  refine kr_ladd O dJ24_bitCount_39 ?_
  refine kr_lstore_n O dJ24_bitCount_40 rfl (Nat.le_of_ble_eq_true rfl) rfl rfl ?_
  refine kr_lload_n O dJ24_bitCount_41 rfl 0 rfl ?_
  refine kr_lload_n O dJ24_bitCount_42 rfl 0 rfl ?_
  refine kr_bipush O dJ24_bitCount_43 (v := (16 : Int32)) (by decide) ?_
  refine kr_lushr O dJ24_bitCount_45 ?_
  refine kr_ladd O dJ24_bitCount_46 ?_
  refine kr_lstore_n O dJ24_bitCount_47 rfl (Nat.le_of_ble_eq_true rfl) rfl rfl ?_
  refine kr_lload_n O dJ24_bitCount_48 rfl 0 rfl ?_
  refine kr_lload_n O dJ24_bitCount_49 rfl 0 rfl ?_
  refine kr_bipush O dJ24_bitCount_50 (v := (32 : Int32)) (by decide) ?_
  refine kr_lushr O dJ24_bitCount_52 ?_
  refine kr_ladd O dJ24_bitCount_53 ?_
  refine kr_lstore_n O dJ24_bitCount_54 rfl (Nat.le_of_ble_eq_true rfl) rfl rfl ?_
  refine kr_lload_n O dJ24_bitCount_55 rfl 0 rfl ?_
  refine kr_l2i O dJ24_bitCount_56 ?_
  refine kr_bipush O dJ24_bitCount_57 (v := (127 : Int32)) (by decide) ?_
  refine kr_iand O dJ24_bitCount_59 ?_
  exact kr_iret O dJ24_bitCount_60 rfl h
def vc_J24_numberOfLeadingZeros (w : kt_W) (gr : kt_g × kt_M) (d : Nat) (P : Option Value → kt_M → Prop) (X : String → Nat → kt_M → Prop) (v0 : Int64) (M : kt_M) : Prop :=
  
    ((¬ (((v0.toUInt64 >>> ((32 : Int32).toInt64.toUInt64 &&& Int64.toUInt64 63)).toInt64).toInt32) = 0 → 
    kt_Ca w gr d yJ19_numberOfLeadingZeros kc_J19_numberOfLeadingZeros [.int (((v0.toUInt64 >>> ((32 : Int32).toInt64.toUInt64 &&& Int64.toUInt64 63)).toInt64).toInt32)] M (kt_pI fun u1 M2 => P (some (.int u1)) M2) X) ∧
    ((((v0.toUInt64 >>> ((32 : Int32).toInt64.toUInt64 &&& Int64.toUInt64 63)).toInt64).toInt32) = 0 → 
    kt_Ca w gr d yJ19_numberOfLeadingZeros kc_J19_numberOfLeadingZeros [.int v0.toInt32] M (kt_pI fun u3 M4 => P (some (.int ((32 : Int32) + u3))) M4) X))
theorem ce_J24_numberOfLeadingZeros {w : kt_W} {g : kt_g} {d : Nat} {P : Option Value → kt_M → Prop} {X : String → Nat → kt_M → Prop} {v0 : Int64} {M : kt_M} (h : vc_J24_numberOfLeadingZeros w (g, M) d P X v0 M) : kt_Sp w g (d + 1) yJ24_numberOfLeadingZeros kc_J24_numberOfLeadingZeros [.long v0] M P X := by
  refine kt_of (L0 := [(0, .long v0)]) (by decide +kernel) (Nat.le_of_ble_eq_true rfl) rfl fun x O => ?_
  replace O : kt_O w x (g, M) (d + 1) cJ24_numberOfLeadingZeros "java/lang/Long" 3 ("numberOfLeadingZeros", "(J)I") (Option.some Jvm.ClassFile.FieldType.int) [] := O
  unfold vc_J24_numberOfLeadingZeros at h
  refine kr_lload_n O dJ24_numberOfLeadingZeros_0 rfl 0 rfl ?_
  refine kr_bipush O dJ24_numberOfLeadingZeros_1 (v := (32 : Int32)) (by decide) ?_
  refine kr_lushr O dJ24_numberOfLeadingZeros_3 ?_
  refine kr_l2i O dJ24_numberOfLeadingZeros_4 ?_
  refine kr_istore_n O dJ24_numberOfLeadingZeros_5 rfl (Nat.le_of_ble_eq_true rfl) rfl rfl ?_
  refine kr_iload_n O dJ24_numberOfLeadingZeros_6 rfl 0 rfl ?_
  refine kr_if_ne (tgt := 21) O dJ24_numberOfLeadingZeros_7 rfl (fun hc => ?_) (fun hc => ?_)
  · replace h := h.1 hc
    refine kr_iload_n O dJ24_numberOfLeadingZeros_21 rfl 0 rfl ?_
    refine kr_caI (rest := []) O cd_J19_numberOfLeadingZeros h (Nat.le_of_ble_eq_true rfl) (fun ls _ => kt_ivS O dJ24_numberOfLeadingZeros_22 cd_J19_numberOfLeadingZeros in_J19_numberOfLeadingZeros q2428 q2429 hy_J19_numberOfLeadingZeros) (fun u1 M2 hq => ?_) (fun E q M9 hx => kr_out O hx)
    replace h := hq
    clear hq
    exact kr_iret O dJ24_numberOfLeadingZeros_25 rfl h
  · replace h := h.2 hc
    refine kr_bipush O dJ24_numberOfLeadingZeros_10 (v := (32 : Int32)) (by decide) ?_
    refine kr_lload_n O dJ24_numberOfLeadingZeros_12 rfl 1 rfl ?_
    refine kr_l2i O dJ24_numberOfLeadingZeros_13 ?_
    refine kr_caI (rest := [.int (32 : Int32)]) O cd_J19_numberOfLeadingZeros h (Nat.le_of_ble_eq_true rfl) (fun ls _ => kt_ivS O dJ24_numberOfLeadingZeros_14 cd_J19_numberOfLeadingZeros in_J19_numberOfLeadingZeros q2428 q2429 hy_J19_numberOfLeadingZeros) (fun u3 M4 hq => ?_) (fun E q M9 hx => kr_out O hx)
    replace h := hq
    clear hq
    refine kr_iadd O dJ24_numberOfLeadingZeros_17 ?_
    refine kr_goto (tgt := 25) O dJ24_numberOfLeadingZeros_18 rfl ?_
    exact kr_iret O dJ24_numberOfLeadingZeros_25 rfl h
def vc_X11_of_13 (w : kt_W) (gr : kt_g × kt_M) (d : Nat) (P : Option Value → kt_M → Prop) (X : String → Nat → kt_M → Prop) (nx13 : Int32 → Int32 → kt_M → Prop) (r0 : Option Nat) (v1 : Int32) (v2 : Int32) (a3 : Nat) (v4 : Int32) (v5 : Int32) (M : kt_M) : Prop :=
  
    ((v4 ≤ v5 → P (some (.int v2)) M) ∧
    (¬ v4 ≤ v5 → ∃ k2, 3 ≤ k2 ∧ ∃ p1, kt_el k2 M a3 v5 = some (va_rf p1) ∧ ∃ b3, p1 = some b3 ∧ ∃ K6 : Int32 → kt_M → Prop, ((b3 = kt_cA w 5 ∧ kt_Ca w gr d yX18_fits kc_X18_fits [va_rf (some b3), va_rf r0, .int v1] M (kt_pI K6) X) ∨ (b3 = kt_cA w 6 ∧ kt_Ca w gr d yX19_fits kc_X19_fits [va_rf (some b3), va_rf r0, .int v1] M (kt_pI K6) X) ∨ (b3 = kt_cA w 7 ∧ kt_Ca w gr d yX20_fits kc_X20_fits [va_rf (some b3), va_rf r0, .int v1] M (kt_pI K6) X) ∨ (b3 = kt_cA w 8 ∧ kt_Ca w gr d yX21_fits kc_X21_fits [va_rf (some b3), va_rf r0, .int v1] M (kt_pI K6) X)) ∧ (∀ u4 M5, K6 u4 M5 → 
        ((u4 = 0 → nx13 v2 (v5 + (1 : Int32)) M5) ∧
        (¬ u4 = 0 → (b3 = kt_cA w 5 ∨ b3 = kt_cA w 6 ∨ b3 = kt_cA w 7 ∨ b3 = kt_cA w 8) ∧ 
        kt_Ca w gr d yJ20_ordinal kc_J20_ordinal [va_rf (some b3)] M5 (kt_pI fun u7 M8 => nx13 u7 (v5 + (1 : Int32)) M8) X)))))
theorem cj_X11_of_13 {w : kt_W} {x : kt_X} {gr : kt_g × kt_M} {d : Nat} {P : Option Value → kt_M → Prop} {X : String → Nat → kt_M → Prop} {nx13 : Int32 → Int32 → kt_M → Prop} {r0 : Option Nat} {v1 : Int32} {v2 : Int32} {a3 : Nat} {v4 : Int32} {v5 : Int32} {M : kt_M} (O : kt_O w x gr (d + 1) cX11_of "KeyTurns$Standing" 7 ("of", "(LKeyTurns$Version;I)I") (Option.some Jvm.ClassFile.FieldType.int) []) (hn13 : ∀ v2 v5 M, nx13 v2 v5 M → kt_S w x 7 (kt_E w x P X) M 13 [(0, va_rf r0), (1, .int v1), (2, .int v2), (3, va_rf (some a3)), (4, .int v4), (5, .int v5)] []) (h : vc_X11_of_13 w gr d P X nx13 r0 v1 v2 a3 v4 v5 M) : kt_S w x 7 (kt_E w x P X) M 13 [(0, va_rf r0), (1, .int v1), (2, .int v2), (3, va_rf (some a3)), (4, .int v4), (5, .int v5)] [] := by
  unfold vc_X11_of_13 at h
  refine kr_iload O dX11_of_13 5 rfl ?_
  refine kr_iload O dX11_of_15 4 rfl ?_
  refine kr_icmp_ge (tgt := 52) O dX11_of_17 rfl (fun hc => ?_) (fun hc => ?_)
  · replace h := h.1 hc
    refine kr_iload_n O dX11_of_52 rfl 2 rfl ?_
    exact kr_iret O dX11_of_53 rfl h
  · replace h := h.2 hc
    refine kr_aload_n O dX11_of_20 rfl 3 rfl ?_
    refine kr_iload O dX11_of_21 5 rfl ?_
    obtain ⟨k2, hk2, p1, ep1, h⟩ := h
    refine kr_aaload k2 hk2 O dX11_of_23 ep1 ?_
    refine kr_astore O dX11_of_24 (Nat.le_of_ble_eq_true rfl) rfl rfl ?_
    refine kr_aload O dX11_of_26 0 rfl ?_
    refine kr_aload_n O dX11_of_28 rfl 1 rfl ?_
    refine kr_iload_n O dX11_of_29 rfl 2 rfl ?_
    obtain ⟨b3, rfl, h⟩ := h
    obtain ⟨K6, hca, hK⟩ := h
    have h9 : ∀ u4 M5, K6 u4 M5 → kt_S w x 7 (kt_E w x P X) M5 (30 + 3) [(6, va_rf (some b3)), (0, va_rf r0), (1, .int v1), (2, .int v2), (3, va_rf (some a3)), (4, .int v4), (5, .int v5)] (.int u4 :: []) := by
      intro u4 M5 h
      replace h := hK u4 M5 h
      refine kr_if_eq (tgt := 44) O dX11_of_33 rfl (fun hc => ?_) (fun hc => ?_)
      · replace h := h.1 hc
        refine kr_iload_n O dX11_of_44 rfl 3 rfl ?_
        refine kr_istore_n O dX11_of_45 rfl (Nat.le_of_ble_eq_true rfl) rfl rfl ?_
        refine kr_iinc O dX11_of_46 6 rfl (v := v5 + (1 : Int32)) rfl (Nat.le_of_ble_eq_true rfl) rfl rfl ?_
        refine kr_goto (tgt := 13) O dX11_of_49 rfl ?_
        refine kr_sub [3, 4, 1, 5, 6, 0] rfl ?_
        exact hn13 _ _ _ h
      · replace h := h.2 hc
        refine kr_aload O dX11_of_36 0 rfl ?_
        obtain ⟨hco, h⟩ := h
        refine kr_caI (rest := []) O cd_J20_ordinal h (Nat.le_of_ble_eq_true rfl) (fun ls _ => by rcases hco with hco | hco | hco | hco <;> first | exact kt_ivUc O dX11_of_38 cd_J20_ordinal q1873 q1874 (Or.inr q1875) q1880 q1876 (hco ▸ kt_cls_st 0 (by decide)) ⟨by decide, by decide, rfl⟩ | exact kt_ivUc O dX11_of_38 cd_J20_ordinal q1873 q1874 (Or.inr q1875) q1880 q1877 (hco ▸ kt_cls_st 1 (by decide)) ⟨by decide, by decide, rfl⟩ | exact kt_ivUc O dX11_of_38 cd_J20_ordinal q1873 q1874 (Or.inr q1875) q1880 q1878 (hco ▸ kt_cls_st 2 (by decide)) ⟨by decide, by decide, rfl⟩ | exact kt_ivUc O dX11_of_38 cd_J20_ordinal q1873 q1874 (Or.inr q1875) q1880 q1879 (hco ▸ kt_cls_st 3 (by decide)) ⟨by decide, by decide, rfl⟩) (fun u7 M8 hq => ?_) (fun E q M9 hx => kr_out O hx)
        replace h := hq
        clear hq
        refine kr_goto (tgt := 45) O dX11_of_41 rfl ?_
        refine kr_istore_n O dX11_of_45 rfl (Nat.le_of_ble_eq_true rfl) rfl rfl ?_
        refine kr_iinc O dX11_of_46 6 rfl (v := v5 + (1 : Int32)) rfl (Nat.le_of_ble_eq_true rfl) rfl rfl ?_
        refine kr_goto (tgt := 13) O dX11_of_49 rfl ?_
        refine kr_sub [3, 4, 1, 5, 6, 0] rfl ?_
        exact hn13 _ _ _ h
    rcases hca with ⟨hco, h⟩ | ⟨hco, h⟩ | ⟨hco, h⟩ | ⟨hco, h⟩
    · exact kr_caI (rest := []) O cd_X18_fits h (Nat.le_of_ble_eq_true rfl) (fun ls _ => kt_ivUc O dX11_of_30 cd_X18_fits q1855 q1857 (Or.inr q1856) q1859 q1858 (hco ▸ kt_cls_st 0 (by decide)) ⟨by decide, by decide, rfl⟩) h9 (fun E q M9 hx => kr_out O hx)
    · exact kr_caI (rest := []) O cd_X19_fits h (Nat.le_of_ble_eq_true rfl) (fun ls _ => kt_ivUc O dX11_of_30 cd_X19_fits q1855 q1857 (Or.inr q1856) q1862 q1861 (hco ▸ kt_cls_st 1 (by decide)) ⟨by decide, by decide, rfl⟩) h9 (fun E q M9 hx => kr_out O hx)
    · exact kr_caI (rest := []) O cd_X20_fits h (Nat.le_of_ble_eq_true rfl) (fun ls _ => kt_ivUc O dX11_of_30 cd_X20_fits q1855 q1857 (Or.inr q1856) q1866 q1865 (hco ▸ kt_cls_st 2 (by decide)) ⟨by decide, by decide, rfl⟩) h9 (fun E q M9 hx => kr_out O hx)
    · exact kr_caI (rest := []) O cd_X21_fits h (Nat.le_of_ble_eq_true rfl) (fun ls _ => kt_ivUc O dX11_of_30 cd_X21_fits q1855 q1857 (Or.inr q1856) q1870 q1869 (hco ▸ kt_cls_st 3 (by decide)) ⟨by decide, by decide, rfl⟩) h9 (fun E q M9 hx => kr_out O hx)
def vl_X11_of_13 (w : kt_W) (gr : kt_g × kt_M) (d : Nat) (P : Option Value → kt_M → Prop) (X : String → Nat → kt_M → Prop)  (r0 : Option Nat) (v1 : Int32) (v2 : Int32) (a3 : Nat) (v4 : Int32) (v5 : Int32) (M : kt_M) : Prop :=
  ∃ Inv : Nat → Int32 → Int32 → kt_M → Prop, (∃ k, Inv k v2 v5 M) ∧ ∀ k v2 v5 M, kt_le gr.1 gr.2 M → Inv k v2 v5 M → vc_X11_of_13 w gr d P X (fun v2' v5' M' => ∃ k', k' < k ∧ Inv k' v2' v5' M') r0 v1 v2 a3 v4 v5 M
theorem cl_X11_of_13 {w : kt_W} {x : kt_X} {gr : kt_g × kt_M} {d : Nat} {P : Option Value → kt_M → Prop} {X : String → Nat → kt_M → Prop}  {r0 : Option Nat} {v1 : Int32} {v2 : Int32} {a3 : Nat} {v4 : Int32} {v5 : Int32} {M : kt_M} (O : kt_O w x gr (d + 1) cX11_of "KeyTurns$Standing" 7 ("of", "(LKeyTurns$Version;I)I") (Option.some Jvm.ClassFile.FieldType.int) [])  (h : vl_X11_of_13 w gr d P X  r0 v1 v2 a3 v4 v5 M) : kt_S w x 7 (kt_E w x P X) M 13 [(0, va_rf r0), (1, .int v1), (2, .int v2), (3, va_rf (some a3)), (4, .int v4), (5, .int v5)] [] := by
  obtain ⟨Inv, ⟨k, hk⟩, hb⟩ := h
  induction k using Nat.strongRecOn generalizing v2 v5 M with
  | ind k ih =>
    exact kr_le O fun hle => cj_X11_of_13 O (fun v2' v5' M' hi => let ⟨k', h1, h2⟩ := hi; ih k' h1 h2) (hb k _ _ _ hle hk)
def vc_X11_of (w : kt_W) (gr : kt_g × kt_M) (d : Nat) (P : Option Value → kt_M → Prop) (X : String → Nat → kt_M → Prop) (r0 : Option Nat) (v1 : Int32) (M : kt_M) : Prop :=
  
  kt_Ca w gr d yX11_values kc_X11_values [] M (kt_pR fun p1 M2 => ∃ b3, p1 = some b3 ∧ ∃ n4, kt_len M2 b3 = some n4 ∧ vl_X11_of_13 w gr d P X  r0 v1 (-1 : Int32) b3 (nI n4) (0 : Int32) M2) X
theorem ce_X11_of {w : kt_W} {g : kt_g} {d : Nat} {P : Option Value → kt_M → Prop} {X : String → Nat → kt_M → Prop} {r0 : Option Nat} {v1 : Int32} {M : kt_M} (h : vc_X11_of w (g, M) d P X r0 v1 M) : kt_Sp w g (d + 1) yX11_of kc_X11_of [va_rf r0, .int v1] M P X := by
  refine kt_of (L0 := [(0, va_rf r0), (1, .int v1)]) (by decide +kernel) (by simp only [kt_lgR, kt_lgI, kt_lgN] <;> exact Nat.le_of_ble_eq_true rfl) (by simp only [kt_lvR, kt_lvI, kt_lvN] <;> rfl) fun x O => ?_
  replace O : kt_O w x (g, M) (d + 1) cX11_of "KeyTurns$Standing" 7 ("of", "(LKeyTurns$Version;I)I") (Option.some Jvm.ClassFile.FieldType.int) [] := O
  unfold vc_X11_of at h
  refine kr_iconst O dX11_of_0 (v := (-1 : Int32)) (by decide) ?_
  refine kr_istore_n O dX11_of_1 rfl (Nat.le_of_ble_eq_true rfl) rfl rfl ?_
  refine kr_caR (rest := []) O cd_X11_values h (Nat.le_of_ble_eq_true rfl) (fun ls _ => kt_ivS O dX11_of_2 cd_X11_values in_X11_values q1844 q1845 hy_X11_values) (fun p1 M2 hq => ?_) (fun E q M9 hx => kr_out O hx)
  replace h := hq
  clear hq
  refine kr_astore_n O dX11_of_5 rfl (Nat.le_of_ble_eq_true rfl) rfl rfl ?_
  refine kr_aload_n O dX11_of_6 rfl 0 rfl ?_
  obtain ⟨b3, rfl, h⟩ := h
  obtain ⟨n4, en4, h⟩ := h
  refine kr_alen O dX11_of_7 en4 ?_
  refine kr_istore O dX11_of_8 (Nat.le_of_ble_eq_true rfl) rfl rfl ?_
  refine kr_iconst O dX11_of_10 (v := (0 : Int32)) (by decide) ?_
  refine kr_istore O dX11_of_11 (Nat.le_of_ble_eq_true rfl) rfl rfl ?_
  refine kr_sub [4, 5, 3, 2, 1, 0] rfl ?_
  exact cl_X11_of_13 O  h
def vc_X11_values (w : kt_W) (gr : kt_g × kt_M) (d : Nat) (P : Option Value → kt_M → Prop) (X : String → Nat → kt_M → Prop)  (M : kt_M) : Prop :=
  ∃ n2, kt_cln w 4 M (kt_cA w 4) n2 ∧ kt_fits w M n2 ∧ ∃ t1, ∀ M3, M3 = kt_new M n2 (t1 + 2, (M.2.2 (kt_cA w 4)).2) → (∃ t y, M3.2.2 M.1 = (t + 2, .inl (4, y))) ∧ P (some (va_rf (some M.1))) M3
theorem ce_X11_values {w : kt_W} {g : kt_g} {d : Nat} {P : Option Value → kt_M → Prop} {X : String → Nat → kt_M → Prop}  {M : kt_M} (h : vc_X11_values w (g, M) d P X  M) : kt_Sp w g (d + 1) yX11_values kc_X11_values [] M P X := by
  refine kt_of (L0 := []) (by decide +kernel) (Nat.le_of_ble_eq_true rfl) rfl fun x O => ?_
  replace O : kt_O w x (g, M) (d + 1) cX11_values "KeyTurns$Standing" 0 ("values", "()[LKeyTurns$Standing;") (Option.some (Jvm.ClassFile.FieldType.array (Jvm.ClassFile.FieldType.object "KeyTurns$Standing"))) [] := O
  unfold vc_X11_values at h
  refine kr_gets O dX11_values_0 q1847 (kt_inT 4 rfl) ?_
  obtain ⟨n2, hcl, hf, t1, h⟩ := h
  refine kr_clone 4 t1 O dX11_values_3 (by decide) q1849 q1850 q1851 q1852 hcl hf (Nat.le_of_ble_eq_true rfl) (kr_nmM fun M3 hM3 => ?_)
  replace h := h M3 hM3
  obtain ⟨⟨tc, yc, hc⟩, h⟩ := h
  refine kr_castA O dX11_values_6 q1854 (by decide) hc ?_
  exact kr_aret O dX11_values_9 (by first | exact Or.inl ⟨_, rfl⟩ | exact Or.inr ⟨_, rfl⟩) h
def vc_J28_init_38 (w : kt_W) (gr : kt_g × kt_M) (d : Nat) (P : Option Value → kt_M → Prop) (X : String → Nat → kt_M → Prop)  (a0 : Nat) (v2 : Int32) (sr0 : Option Nat) (sa1 : Nat) (M : kt_M) : Prop :=
  kt_hf gr M sa1 100 ∧ ∀ M1, M1 = kt_pf M sa1 100 (va_rf sr0) → kt_hf gr M1 a0 101 ∧ ∀ M2, M2 = kt_pf M1 a0 101 (.int v2) → P none M2
theorem cj_J28_init_38 {w : kt_W} {x : kt_X} {gr : kt_g × kt_M} {d : Nat} {P : Option Value → kt_M → Prop} {X : String → Nat → kt_M → Prop}  {a0 : Nat} {v2 : Int32} {sr0 : Option Nat} {sa1 : Nat} {M : kt_M} (O : kt_O w x gr (d + 1) cJ28_init "java/util/LinkedList$ListItr" 3 ("<init>", "(Ljava/util/LinkedList;I)V") (Option.none : Option Jvm.ClassFile.FieldType) [])  (h : vc_J28_init_38 w gr d P X  a0 v2 sr0 sa1 M) : kt_S w x 3 (kt_E w x P X) M 38 [(0, va_rf (some a0)), (2, .int v2)] [va_rf sr0, va_rf (some sa1)] := by
  unfold vc_J28_init_38 at h
  obtain ⟨hw, h⟩ := h
  refine kr_putf O dJ28_init_38 fs_J28_29 (Or.inl rfl) (kt_ok_rf _ rfl) hw (kr_nmM fun M1 hM1 => ?_)
  replace h := h M1 hM1
  refine kr_aload_n O dJ28_init_41 rfl 0 rfl ?_
  refine kr_iload_n O dJ28_init_42 rfl 1 rfl ?_
  obtain ⟨hw, h⟩ := h
  refine kr_putf O dJ28_init_43 fs_J28_33 (Or.inl rfl) ⟨rfl, rfl⟩ hw (kr_nmM fun M2 hM2 => ?_)
  replace h := h M2 hM2
  exact kr_vret O dJ28_init_46 h
def vc_J28_init (w : kt_W) (gr : kt_g × kt_M) (d : Nat) (P : Option Value → kt_M → Prop) (X : String → Nat → kt_M → Prop) (a0 : Nat) (r1 : Option Nat) (v2 : Int32) (M : kt_M) : Prop :=
  kt_hf gr M a0 103 ∧ ∀ M1, M1 = kt_pf M a0 103 (va_rf r1) → ∃ p2, kt_gf M1 a0 103 = some (va_rf p2) ∧ ∃ b3, p2 = some b3 ∧ ∃ u4, kt_gf M1 b3 90 = some (.int u4) ∧ kt_hf gr M1 a0 102 ∧ ∀ M5, M5 = kt_pf M1 a0 102 (.int u4) → ∃ b6, r1 = some b6 ∧ ∃ u7, kt_gf M5 b6 93 = some (.int u7) ∧ 
    ((¬ v2 = u7 → (kt_co M5 b6 = some 14) ∧ 
    kt_Ca w gr d yJ5_node kc_J5_node [va_rf (some b6), .int v2] M5 (kt_pR fun p8 M9 => vc_J28_init_38 w gr d P X  a0 v2 p8 a0 M9) X) ∧
    (v2 = u7 → vc_J28_init_38 w gr d P X  a0 v2 none a0 M5))
theorem ce_J28_init {w : kt_W} {g : kt_g} {d : Nat} {P : Option Value → kt_M → Prop} {X : String → Nat → kt_M → Prop} {a0 : Nat} {r1 : Option Nat} {v2 : Int32} {M : kt_M} (h : vc_J28_init w (g, M) d P X a0 r1 v2 M) : kt_Sp w g (d + 1) yJ28_init kc_J28_init [va_rf (some a0), va_rf r1, .int v2] M P X := by
  refine kt_of (L0 := [(0, va_rf (some a0)), (1, va_rf r1), (2, .int v2)]) (by decide +kernel) (by simp only [kt_lgR, kt_lgI, kt_lgN] <;> exact Nat.le_of_ble_eq_true rfl) (by simp only [kt_lvR, kt_lvI, kt_lvN] <;> rfl) fun x O => ?_
  replace O : kt_O w x (g, M) (d + 1) cJ28_init "java/util/LinkedList$ListItr" 3 ("<init>", "(Ljava/util/LinkedList;I)V") (Option.none : Option Jvm.ClassFile.FieldType) [] := O
  unfold vc_J28_init at h
  refine kr_aload_n O dJ28_init_0 rfl 0 rfl ?_
  refine kr_aload_n O dJ28_init_1 rfl 1 rfl ?_
  obtain ⟨hw, h⟩ := h
  refine kr_putf O dJ28_init_2 fs_J28_1 (Or.inr ⟨rfl, rfl⟩) (kt_ok_rf _ rfl) hw (kr_nmM fun M1 hM1 => ?_)
  replace h := h M1 hM1
  refine kr_aload_n O dJ28_init_5 rfl 0 rfl ?_
  refine kr_objinit O dJ28_init_6 q925 q173 q174 (Nat.le_of_ble_eq_true rfl) ?_
  refine kr_aload_n O dJ28_init_9 rfl 0 rfl ?_
  refine kr_aload_n O dJ28_init_10 rfl 0 rfl ?_
  obtain ⟨p2, ep2, h⟩ := h
  refine kr_getf O dJ28_init_11 fs_J28_1 ep2 ?_
  obtain ⟨b3, rfl, h⟩ := h
  obtain ⟨u4, eu4, h⟩ := h
  refine kr_getf O dJ28_init_14 fs_J28_13 eu4 ?_
  obtain ⟨hw, h⟩ := h
  refine kr_putf O dJ28_init_17 fs_J28_19 (Or.inl rfl) ⟨rfl, rfl⟩ hw (kr_nmM fun M5 hM5 => ?_)
  replace h := h M5 hM5
  refine kr_aload_n O dJ28_init_20 rfl 0 rfl ?_
  refine kr_iload_n O dJ28_init_21 rfl 2 rfl ?_
  refine kr_aload_n O dJ28_init_22 rfl 1 rfl ?_
  obtain ⟨b6, rfl, h⟩ := h
  obtain ⟨u7, eu7, h⟩ := h
  refine kr_getf O dJ28_init_23 fs_J28_22 eu7 ?_
  refine kr_icmp_ne (tgt := 33) O dJ28_init_26 rfl (fun hc => ?_) (fun hc => ?_)
  · replace h := h.1 hc
    refine kr_aload_n O dJ28_init_33 rfl 1 rfl ?_
    refine kr_iload_n O dJ28_init_34 rfl 2 rfl ?_
    obtain ⟨hco, h⟩ := h
    refine kr_caR (rest := [va_rf (some a0)]) O cd_J5_node h (Nat.le_of_ble_eq_true rfl) (fun ls _ => kt_ivV (ci := 14) O dJ28_init_35 cd_J5_node in_J5_node (Or.inl q926) q927 q928 hco (by decide) hy_J5_node) (fun p8 M9 hq => ?_) (fun E q M9 hx => kr_out O hx)
    replace h := hq
    clear hq
    refine kr_sub [0, 2] rfl ?_
    exact cj_J28_init_38 O  h
  · replace h := h.2 hc
    refine kr_null O dJ28_init_29 ?_
    refine kr_goto (tgt := 38) O dJ28_init_30 rfl ?_
    refine kr_sub [0, 2] rfl ?_
    exact cj_J28_init_38 O  h
def vc_J28_hasNext (w : kt_W) (gr : kt_g × kt_M) (d : Nat) (P : Option Value → kt_M → Prop) (X : String → Nat → kt_M → Prop) (a0 : Nat) (M : kt_M) : Prop :=
  ∃ u1, kt_gf M a0 101 = some (.int u1) ∧ ∃ p2, kt_gf M a0 103 = some (va_rf p2) ∧ ∃ b3, p2 = some b3 ∧ ∃ u4, kt_gf M b3 93 = some (.int u4) ∧ 
    ((u4 ≤ u1 → P (some (.int (0 : Int32))) M) ∧
    (¬ u4 ≤ u1 → P (some (.int (1 : Int32))) M))
theorem ce_J28_hasNext {w : kt_W} {g : kt_g} {d : Nat} {P : Option Value → kt_M → Prop} {X : String → Nat → kt_M → Prop} {a0 : Nat} {M : kt_M} (h : vc_J28_hasNext w (g, M) d P X a0 M) : kt_Sp w g (d + 1) yJ28_hasNext kc_J28_hasNext [va_rf (some a0)] M P X := by
  refine kt_of (L0 := [(0, va_rf (some a0))]) (by decide +kernel) (Nat.le_of_ble_eq_true rfl) rfl fun x O => ?_
  replace O : kt_O w x (g, M) (d + 1) cJ28_hasNext "java/util/LinkedList$ListItr" 1 ("hasNext", "()Z") (Option.some Jvm.ClassFile.FieldType.boolean) [] := O
  unfold vc_J28_hasNext at h
  refine kr_aload_n O dJ28_hasNext_0 rfl 0 rfl ?_
  obtain ⟨u1, eu1, h⟩ := h
  refine kr_getf O dJ28_hasNext_1 fs_J28_33 eu1 ?_
  refine kr_aload_n O dJ28_hasNext_4 rfl 0 rfl ?_
  obtain ⟨p2, ep2, h⟩ := h
  refine kr_getf O dJ28_hasNext_5 fs_J28_1 ep2 ?_
  obtain ⟨b3, rfl, h⟩ := h
  obtain ⟨u4, eu4, h⟩ := h
  refine kr_getf O dJ28_hasNext_8 fs_J28_22 eu4 ?_
  refine kr_icmp_ge (tgt := 18) O dJ28_hasNext_11 rfl (fun hc => ?_) (fun hc => ?_)
  · replace h := h.1 hc
    refine kr_iconst O dJ28_hasNext_18 (v := (0 : Int32)) (by decide) ?_
    exact kr_iret O dJ28_hasNext_19 (by decide) h
  · replace h := h.2 hc
    refine kr_iconst O dJ28_hasNext_14 (v := (1 : Int32)) (by decide) ?_
    refine kr_goto (tgt := 19) O dJ28_hasNext_15 rfl ?_
    exact kr_iret O dJ28_hasNext_19 (by decide) h
def vc_J28_next (w : kt_W) (gr : kt_g × kt_M) (d : Nat) (P : Option Value → kt_M → Prop) (X : String → Nat → kt_M → Prop) (a0 : Nat) (M : kt_M) : Prop :=
  (kt_co M a0 = some 16) ∧ 
  kt_Ca w gr d yJ28_checkForComodification kc_J28_checkForComodification [va_rf (some a0)] M (kt_pV fun M1 => (kt_co M1 a0 = some 16) ∧ 
  kt_Ca w gr d yJ28_hasNext kc_J28_hasNext [va_rf (some a0)] M1 (kt_pI fun u2 M3 => 
    ((¬ u2 = 0 → ∃ p4, kt_gf M3 a0 100 = some (va_rf p4) ∧ kt_hf gr M3 a0 99 ∧ ∀ M5, M5 = kt_pf M3 a0 99 (va_rf p4) → ∃ p6, kt_gf M5 a0 100 = some (va_rf p6) ∧ ∃ b7, p6 = some b7 ∧ ∃ p8, kt_gf M5 b7 97 = some (va_rf p8) ∧ kt_hf gr M5 a0 100 ∧ ∀ M9, M9 = kt_pf M5 a0 100 (va_rf p8) → ∃ u10, kt_gf M9 a0 101 = some (.int u10) ∧ kt_hf gr M9 a0 101 ∧ ∀ M11, M11 = kt_pf M9 a0 101 (.int (u10 + (1 : Int32))) → ∃ p12, kt_gf M11 a0 99 = some (va_rf p12) ∧ ∃ b13, p12 = some b13 ∧ ∃ p14, kt_gf M11 b13 96 = some (va_rf p14) ∧ P (some (va_rf p14)) M11) ∧
    (u2 = 0 → False))) X) X
theorem ce_J28_next {w : kt_W} {g : kt_g} {d : Nat} {P : Option Value → kt_M → Prop} {X : String → Nat → kt_M → Prop} {a0 : Nat} {M : kt_M} (h : vc_J28_next w (g, M) d P X a0 M) : kt_Sp w g (d + 1) yJ28_next kc_J28_next [va_rf (some a0)] M P X := by
  refine kt_of (L0 := [(0, va_rf (some a0))]) (by decide +kernel) (Nat.le_of_ble_eq_true rfl) rfl fun x O => ?_
  replace O : kt_O w x (g, M) (d + 1) cJ28_next "java/util/LinkedList$ListItr" 1 ("next", "()Ljava/lang/Object;") (Option.some (Jvm.ClassFile.FieldType.object "java/lang/Object")) [] := O
  unfold vc_J28_next at h
  refine kr_aload_n O dJ28_next_0 rfl 0 rfl ?_
  obtain ⟨hco, h⟩ := h
  refine kr_caV (rest := []) O cd_J28_checkForComodification h (Nat.le_of_ble_eq_true rfl) (fun ls _ => kt_ivV (ci := 16) O dJ28_next_1 cd_J28_checkForComodification in_J28_checkForComodification (Or.inl q1309) q1310 q1311 hco (by decide) hy_J28_checkForComodification) (fun M1 hq => ?_) (fun E q M9 hx => kr_out O hx)
  replace h := hq
  clear hq
  refine kr_aload_n O dJ28_next_4 rfl 0 rfl ?_
  obtain ⟨hco, h⟩ := h
  refine kr_caI (rest := []) O cd_J28_hasNext h (Nat.le_of_ble_eq_true rfl) (fun ls _ => kt_ivV (ci := 16) O dJ28_next_5 cd_J28_hasNext in_J28_hasNext (Or.inl q1313) q973 q3015 hco (by decide) hy_J28_hasNext) (fun u2 M3 hq => ?_) (fun E q M9 hx => kr_out O hx)
  replace h := hq
  clear hq
  refine kr_if_ne (tgt := 19) O dJ28_next_8 rfl (fun hc => ?_) (fun hc => ?_)
  · replace h := h.1 hc
    refine kr_aload_n O dJ28_next_19 rfl 0 rfl ?_
    refine kr_aload_n O dJ28_next_20 rfl 0 rfl ?_
    obtain ⟨p4, ep4, h⟩ := h
    refine kr_getf O dJ28_next_21 fs_J28_29 ep4 ?_
    obtain ⟨hw, h⟩ := h
    refine kr_putf O dJ28_next_24 fs_J28_46 (Or.inl rfl) (kt_ok_rf _ rfl) hw (kr_nmM fun M5 hM5 => ?_)
    replace h := h M5 hM5
    refine kr_aload_n O dJ28_next_27 rfl 0 rfl ?_
    refine kr_aload_n O dJ28_next_28 rfl 0 rfl ?_
    obtain ⟨p6, ep6, h⟩ := h
    refine kr_getf O dJ28_next_29 fs_J28_29 ep6 ?_
    obtain ⟨b7, rfl, h⟩ := h
    obtain ⟨p8, ep8, h⟩ := h
    refine kr_getf O dJ28_next_32 fs_J28_49 ep8 ?_
    obtain ⟨hw, h⟩ := h
    refine kr_putf O dJ28_next_35 fs_J28_29 (Or.inl rfl) (kt_ok_rf _ rfl) hw (kr_nmM fun M9 hM9 => ?_)
    replace h := h M9 hM9
    refine kr_aload_n O dJ28_next_38 rfl 0 rfl ?_
    refine kr_dup O dJ28_next_39 (kt_nrf _) ?_
    obtain ⟨u10, eu10, h⟩ := h
    refine kr_getf O dJ28_next_40 fs_J28_33 eu10 ?_
    refine kr_iconst O dJ28_next_43 (v := (1 : Int32)) (by decide) ?_
    refine kr_iadd O dJ28_next_44 ?_
    obtain ⟨hw, h⟩ := h
    refine kr_putf O dJ28_next_45 fs_J28_33 (Or.inl rfl) ⟨rfl, rfl⟩ hw (kr_nmM fun M11 hM11 => ?_)
    replace h := h M11 hM11
    refine kr_aload_n O dJ28_next_48 rfl 0 rfl ?_
    obtain ⟨p12, ep12, h⟩ := h
    refine kr_getf O dJ28_next_49 fs_J28_46 ep12 ?_
    obtain ⟨b13, rfl, h⟩ := h
    obtain ⟨p14, ep14, h⟩ := h
    refine kr_getf O dJ28_next_52 fs_J28_52 ep14 ?_
    exact kr_aret O dJ28_next_55 (by first | exact Or.inl ⟨_, rfl⟩ | exact Or.inr ⟨_, rfl⟩) h
  · replace h := h.2 hc
    exact h.elim
def vc_J28_checkForComodification (w : kt_W) (gr : kt_g × kt_M) (d : Nat) (P : Option Value → kt_M → Prop) (X : String → Nat → kt_M → Prop) (a0 : Nat) (M : kt_M) : Prop :=
  ∃ p1, kt_gf M a0 103 = some (va_rf p1) ∧ ∃ b2, p1 = some b2 ∧ ∃ u3, kt_gf M b2 90 = some (.int u3) ∧ ∃ u4, kt_gf M a0 102 = some (.int u4) ∧ 
    ((u3 = u4 → P none M) ∧
    (¬ u3 = u4 → False))
theorem ce_J28_checkForComodification {w : kt_W} {g : kt_g} {d : Nat} {P : Option Value → kt_M → Prop} {X : String → Nat → kt_M → Prop} {a0 : Nat} {M : kt_M} (h : vc_J28_checkForComodification w (g, M) d P X a0 M) : kt_Sp w g (d + 1) yJ28_checkForComodification kc_J28_checkForComodification [va_rf (some a0)] M P X := by
  refine kt_of (L0 := [(0, va_rf (some a0))]) (by decide +kernel) (Nat.le_of_ble_eq_true rfl) rfl fun x O => ?_
  replace O : kt_O w x (g, M) (d + 1) cJ28_checkForComodification "java/util/LinkedList$ListItr" 1 ("checkForComodification", "()V") (Option.none : Option Jvm.ClassFile.FieldType) [] := O
  unfold vc_J28_checkForComodification at h
  refine kr_aload_n O dJ28_checkForComodification_0 rfl 0 rfl ?_
  obtain ⟨p1, ep1, h⟩ := h
  refine kr_getf O dJ28_checkForComodification_1 fs_J28_1 ep1 ?_
  obtain ⟨b2, rfl, h⟩ := h
  obtain ⟨u3, eu3, h⟩ := h
  refine kr_getf O dJ28_checkForComodification_4 fs_J28_13 eu3 ?_
  refine kr_aload_n O dJ28_checkForComodification_7 rfl 0 rfl ?_
  obtain ⟨u4, eu4, h⟩ := h
  refine kr_getf O dJ28_checkForComodification_8 fs_J28_19 eu4 ?_
  refine kr_icmp_eq (tgt := 22) O dJ28_checkForComodification_11 rfl (fun hc => ?_) (fun hc => ?_)
  · replace h := h.1 hc
    exact kr_vret O dJ28_checkForComodification_22 h
  · replace h := h.2 hc
    exact h.elim
def vc_J29_init (w : kt_W) (gr : kt_g × kt_M) (d : Nat) (P : Option Value → kt_M → Prop) (X : String → Nat → kt_M → Prop) (a0 : Nat) (r1 : Option Nat) (r2 : Option Nat) (r3 : Option Nat) (M : kt_M) : Prop :=
  kt_hf gr M a0 96 ∧ ∀ M1, M1 = kt_pf M a0 96 (va_rf r2) → kt_hf gr M1 a0 97 ∧ ∀ M2, M2 = kt_pf M1 a0 97 (va_rf r3) → kt_hf gr M2 a0 98 ∧ ∀ M3, M3 = kt_pf M2 a0 98 (va_rf r1) → P none M3
theorem ce_J29_init {w : kt_W} {g : kt_g} {d : Nat} {P : Option Value → kt_M → Prop} {X : String → Nat → kt_M → Prop} {a0 : Nat} {r1 : Option Nat} {r2 : Option Nat} {r3 : Option Nat} {M : kt_M} (h : vc_J29_init w (g, M) d P X a0 r1 r2 r3 M) : kt_Sp w g (d + 1) yJ29_init kc_J29_init [va_rf (some a0), va_rf r1, va_rf r2, va_rf r3] M P X := by
  refine kt_of (L0 := [(0, va_rf (some a0)), (1, va_rf r1), (2, va_rf r2), (3, va_rf r3)]) (by decide +kernel) (by simp only [kt_lgR, kt_lgI, kt_lgN] <;> exact Nat.le_of_ble_eq_true rfl) (by simp only [kt_lvR, kt_lvI, kt_lvN] <;> rfl) fun x O => ?_
  replace O : kt_O w x (g, M) (d + 1) cJ29_init "java/util/LinkedList$Node" 4 ("<init>", "(Ljava/util/LinkedList$Node;Ljava/lang/Object;Ljava/util/LinkedList$Node;)V") (Option.none : Option Jvm.ClassFile.FieldType) [] := O
  unfold vc_J29_init at h
  refine kr_aload_n O dJ29_init_0 rfl 0 rfl ?_
  refine kr_objinit O dJ29_init_1 q1330 q173 q174 (Nat.le_of_ble_eq_true rfl) ?_
  refine kr_aload_n O dJ29_init_4 rfl 0 rfl ?_
  refine kr_aload_n O dJ29_init_5 rfl 2 rfl ?_
  obtain ⟨hw, h⟩ := h
  refine kr_putf O dJ29_init_6 fs_J29_7 (Or.inl rfl) (kt_ok_rf _ rfl) hw (kr_nmM fun M1 hM1 => ?_)
  replace h := h M1 hM1
  refine kr_aload_n O dJ29_init_9 rfl 0 rfl ?_
  refine kr_aload_n O dJ29_init_10 rfl 3 rfl ?_
  obtain ⟨hw, h⟩ := h
  refine kr_putf O dJ29_init_11 fs_J29_13 (Or.inl rfl) (kt_ok_rf _ rfl) hw (kr_nmM fun M2 hM2 => ?_)
  replace h := h M2 hM2
  refine kr_aload_n O dJ29_init_14 rfl 0 rfl ?_
  refine kr_aload_n O dJ29_init_15 rfl 1 rfl ?_
  obtain ⟨hw, h⟩ := h
  refine kr_putf O dJ29_init_16 fs_J29_17 (Or.inl rfl) (kt_ok_rf _ rfl) hw (kr_nmM fun M3 hM3 => ?_)
  replace h := h M3 hM3
  exact kr_vret O dJ29_init_19 h
def vc_X12_init (w : kt_W) (gr : kt_g × kt_M) (d : Nat) (P : Option Value → kt_M → Prop) (X : String → Nat → kt_M → Prop) (a0 : Nat) (r1 : Option Nat) (v2 : Int32) (M : kt_M) : Prop :=
  ∃ b1, r1 = some b1 ∧ ∃ u2, kt_gf M b1 21 = some (.int u2) ∧ ∃ u3, kt_gf M b1 22 = some (.int u3) ∧ ∃ u4, kt_gf M b1 23 = some (.int u4) ∧ 
  kt_Ca w gr d yX3_init kc_X3_init [va_rf (some a0), .int u2, .int u3, .int u4] M (kt_pV fun M5 => kt_hf gr M5 a0 24 ∧ ∀ M6, M6 = kt_pf M5 a0 24 (.int v2) → P none M6) X
theorem ce_X12_init {w : kt_W} {g : kt_g} {d : Nat} {P : Option Value → kt_M → Prop} {X : String → Nat → kt_M → Prop} {a0 : Nat} {r1 : Option Nat} {v2 : Int32} {M : kt_M} (h : vc_X12_init w (g, M) d P X a0 r1 v2 M) : kt_Sp w g (d + 1) yX12_init kc_X12_init [va_rf (some a0), va_rf r1, .int v2] M P X := by
  refine kt_of (L0 := [(0, va_rf (some a0)), (1, va_rf r1), (2, .int v2)]) (by decide +kernel) (by simp only [kt_lgR, kt_lgI, kt_lgN] <;> exact Nat.le_of_ble_eq_true rfl) (by simp only [kt_lvR, kt_lvI, kt_lvN] <;> rfl) fun x O => ?_
  replace O : kt_O w x (g, M) (d + 1) cX12_init "KeyTurns$Withdrawn" 3 ("<init>", "(LKeyTurns$Version;I)V") (Option.none : Option Jvm.ClassFile.FieldType) [] := O
  unfold vc_X12_init at h
  refine kr_aload_n O dX12_init_0 rfl 0 rfl ?_
  refine kr_aload_n O dX12_init_1 rfl 1 rfl ?_
  obtain ⟨b1, rfl, h⟩ := h
  obtain ⟨u2, eu2, h⟩ := h
  refine kr_getf O dX12_init_2 fs_X12_1 eu2 ?_
  refine kr_aload_n O dX12_init_5 rfl 1 rfl ?_
  obtain ⟨u3, eu3, h⟩ := h
  refine kr_getf O dX12_init_6 fs_X12_7 eu3 ?_
  refine kr_aload_n O dX12_init_9 rfl 1 rfl ?_
  obtain ⟨u4, eu4, h⟩ := h
  refine kr_getf O dX12_init_10 fs_X12_10 eu4 ?_
  refine kr_caV (rest := []) O cd_X3_init h (Nat.le_of_ble_eq_true rfl) (fun ls _ => kt_ivI O dX12_init_13 cd_X3_init in_X3_init (Or.inl q1367) q319 hi_X3_init) (fun M5 hq => ?_) (fun E q M9 hx => kr_out O hx)
  replace h := hq
  clear hq
  refine kr_aload_n O dX12_init_16 rfl 0 rfl ?_
  refine kr_iload_n O dX12_init_17 rfl 2 rfl ?_
  obtain ⟨hw, h⟩ := h
  refine kr_putf O dX12_init_18 fs_X12_17 (Or.inr ⟨rfl, rfl⟩) ⟨rfl, rfl⟩ hw (kr_nmM fun M6 hM6 => ?_)
  replace h := h M6 hM6
  exact kr_vret O dX12_init_21 h
def vc_J30_floatToIntBits (w : kt_W) (gr : kt_g × kt_M) (d : Nat) (P : Option Value → kt_M → Prop) (X : String → Nat → kt_M → Prop) (v0 : UInt32) (M : kt_M) : Prop :=
  
  kt_Ca w gr d yJ30_isNaN kc_J30_isNaN [.float v0] M (kt_pI fun u1 M2 => 
    ((¬ u1 = 0 → P (some (.int (2143289344 : Int32))) M2) ∧
    (u1 = 0 → P (some (.int v0.toInt32)) M2))) X
theorem ce_J30_floatToIntBits {w : kt_W} {g : kt_g} {d : Nat} {P : Option Value → kt_M → Prop} {X : String → Nat → kt_M → Prop} {v0 : UInt32} {M : kt_M} (h : vc_J30_floatToIntBits w (g, M) d P X v0 M) : kt_Sp w g (d + 1) yJ30_floatToIntBits kc_J30_floatToIntBits [.float v0] M P X := by
  refine kt_of (L0 := [(0, .float v0)]) (by decide +kernel) (Nat.le_of_ble_eq_true rfl) rfl fun x O => ?_
  replace O : kt_O w x (g, M) (d + 1) cJ30_floatToIntBits "java/lang/Float" 1 ("floatToIntBits", "(F)I") (Option.some Jvm.ClassFile.FieldType.int) [] := O
  unfold vc_J30_floatToIntBits at h
  refine kr_fload_n O dJ30_floatToIntBits_0 rfl 0 rfl ?_
  refine kr_caI (rest := []) O cd_J30_isNaN h (Nat.le_of_ble_eq_true rfl) (fun ls _ => kt_ivS O dJ30_floatToIntBits_1 cd_J30_isNaN in_J30_isNaN q2002 q2003 hy_J30_isNaN) (fun u1 M2 hq => ?_) (fun E q M9 hx => kr_out O hx)
  replace h := hq
  clear hq
  refine kr_if_ne (tgt := 12) O dJ30_floatToIntBits_4 rfl (fun hc => ?_) (fun hc => ?_)
  · replace h := h.1 hc
    refine kr_ldc O dJ30_floatToIntBits_12 q2008 ?_
    exact kr_iret O dJ30_floatToIntBits_14 rfl h
  · replace h := h.2 hc
    refine kr_fload_n O dJ30_floatToIntBits_7 rfl 0 rfl ?_
    refine kr_f2i O dJ30_floatToIntBits_8 q2005 (Nat.le_of_ble_eq_true rfl) ?_
    exact kr_iret O dJ30_floatToIntBits_11 rfl h
def vc_J30_isNaN (w : kt_W) (gr : kt_g × kt_M) (d : Nat) (P : Option Value → kt_M → Prop) (X : String → Nat → kt_M → Prop) (v0 : UInt32) (M : kt_M) : Prop :=
  
    (((Op.cmpValue (FP.fcmp v0 v0) .l) = 0 → P (some (.int (0 : Int32))) M) ∧
    (¬ (Op.cmpValue (FP.fcmp v0 v0) .l) = 0 → P (some (.int (1 : Int32))) M))
theorem ce_J30_isNaN {w : kt_W} {g : kt_g} {d : Nat} {P : Option Value → kt_M → Prop} {X : String → Nat → kt_M → Prop} {v0 : UInt32} {M : kt_M} (h : vc_J30_isNaN w (g, M) d P X v0 M) : kt_Sp w g (d + 1) yJ30_isNaN kc_J30_isNaN [.float v0] M P X := by
  refine kt_of (L0 := [(0, .float v0)]) (by decide +kernel) (Nat.le_of_ble_eq_true rfl) rfl fun x O => ?_
  replace O : kt_O w x (g, M) (d + 1) cJ30_isNaN "java/lang/Float" 1 ("isNaN", "(F)Z") (Option.some Jvm.ClassFile.FieldType.boolean) [] := O
  unfold vc_J30_isNaN at h
  refine kr_fload_n O dJ30_isNaN_0 rfl 0 rfl ?_
  refine kr_fload_n O dJ30_isNaN_1 rfl 0 rfl ?_
  refine kr_fcmp O dJ30_isNaN_2 ?_
  refine kr_if_eq (tgt := 10) O dJ30_isNaN_3 rfl (fun hc => ?_) (fun hc => ?_)
  · replace h := h.1 hc
    refine kr_iconst O dJ30_isNaN_10 (v := (0 : Int32)) (by decide) ?_
    exact kr_iret O dJ30_isNaN_11 (by decide) h
  · replace h := h.2 hc
    refine kr_iconst O dJ30_isNaN_6 (v := (1 : Int32)) (by decide) ?_
    refine kr_goto (tgt := 11) O dJ30_isNaN_7 rfl ?_
    exact kr_iret O dJ30_isNaN_11 (by decide) h
def vc_X13_init (w : kt_W) (gr : kt_g × kt_M) (d : Nat) (P : Option Value → kt_M → Prop) (X : String → Nat → kt_M → Prop) (a0 : Nat) (r1 : Option Nat) (v2 : Int32) (M : kt_M) : Prop :=
  kt_hf gr M a0 58 ∧ ∀ M1, M1 = kt_pf M a0 58 (va_rf r1) → 
  kt_Ca w gr d yX6_init kc_X6_init [va_rf (some a0), va_rf r1, .int v2] M1 (kt_pV fun M2 => P none M2) X
theorem ce_X13_init {w : kt_W} {g : kt_g} {d : Nat} {P : Option Value → kt_M → Prop} {X : String → Nat → kt_M → Prop} {a0 : Nat} {r1 : Option Nat} {v2 : Int32} {M : kt_M} (h : vc_X13_init w (g, M) d P X a0 r1 v2 M) : kt_Sp w g (d + 1) yX13_init kc_X13_init [va_rf (some a0), va_rf r1, .int v2] M P X := by
  refine kt_of (L0 := [(0, va_rf (some a0)), (1, va_rf r1), (2, .int v2)]) (by decide +kernel) (by simp only [kt_lgR, kt_lgI, kt_lgN] <;> exact Nat.le_of_ble_eq_true rfl) (by simp only [kt_lvR, kt_lvI, kt_lvN] <;> rfl) fun x O => ?_
  replace O : kt_O w x (g, M) (d + 1) cX13_init "KeyTurns$QueryParser" 3 ("<init>", "(LKeyTurns;I)V") (Option.none : Option Jvm.ClassFile.FieldType) [] := O
  unfold vc_X13_init at h
  refine kr_aload_n O dX13_init_0 rfl 0 rfl ?_
  refine kr_aload_n O dX13_init_1 rfl 1 rfl ?_
  obtain ⟨hw, h⟩ := h
  refine kr_putf O dX13_init_2 fs_X13_3 (Or.inr ⟨rfl, rfl⟩) (kt_ok_rf _ rfl) hw (kr_nmM fun M1 hM1 => ?_)
  replace h := h M1 hM1
  refine kr_aload_n O dX13_init_5 rfl 0 rfl ?_
  refine kr_aload_n O dX13_init_6 rfl 1 rfl ?_
  refine kr_iload_n O dX13_init_7 rfl 2 rfl ?_
  refine kr_caV (rest := []) O cd_X6_init h (Nat.le_of_ble_eq_true rfl) (fun ls _ => kt_ivI O dX13_init_8 cd_X6_init in_X6_init (Or.inl q2151) q1510 hi_X6_init) (fun M2 hq => ?_) (fun E q M9 hx => kr_out O hx)
  replace h := hq
  clear hq
  exact kr_vret O dX13_init_11 h
def vc_X13_parse_57 (w : kt_W) (gr : kt_g × kt_M) (d : Nat) (P : Option Value → kt_M → Prop) (X : String → Nat → kt_M → Prop)  (r1 : Option Nat) (s0 : Int32) (sa1 : Nat) (M : kt_M) : Prop :=
  (kt_co M sa1 = some 8) ∧ 
  kt_Ca w gr d yX6_check kc_X6_check [va_rf (some sa1), .int s0, .int (1 : Int32)] M (kt_pV fun M1 => P (some (va_rf r1)) M1) X
theorem cj_X13_parse_57 {w : kt_W} {x : kt_X} {gr : kt_g × kt_M} {d : Nat} {P : Option Value → kt_M → Prop} {X : String → Nat → kt_M → Prop}  {r1 : Option Nat} {s0 : Int32} {sa1 : Nat} {M : kt_M} (O : kt_O w x gr (d + 1) cX13_parse "KeyTurns$QueryParser" 2 ("parse", "()LKeyTurns$Test;") (Option.some (Jvm.ClassFile.FieldType.object "KeyTurns$Test")) [])  (h : vc_X13_parse_57 w gr d P X  r1 s0 sa1 M) : kt_S w x 2 (kt_E w x P X) M 57 [(1, va_rf r1)] [.int s0, va_rf (some sa1)] := by
  unfold vc_X13_parse_57 at h
  refine kr_iconst O dX13_parse_57 (v := (1 : Int32)) (by decide) ?_
  obtain ⟨hco, h⟩ := h
  refine kr_caV (rest := []) O cd_X6_check h (Nat.le_of_ble_eq_true rfl) (fun ls _ => kt_ivU (ci := 8) O dX13_parse_58 cd_X6_check q2180 q2181 (Or.inr q1644) q1646 q2182 hco (by decide) ⟨by decide, by decide, rfl⟩) (fun M1 hq => ?_) (fun E q M9 hx => kr_out O hx)
  replace h := hq
  clear hq
  refine kr_aload_n O dX13_parse_61 rfl 0 rfl ?_
  exact kr_aret O dX13_parse_62 (by first | exact Or.inl ⟨_, rfl⟩ | exact Or.inr ⟨_, rfl⟩) h
def vc_X13_parse_32 (w : kt_W) (gr : kt_g × kt_M) (d : Nat) (P : Option Value → kt_M → Prop) (X : String → Nat → kt_M → Prop)  (a0 : Nat) (s0 : Int32) (sa1 : Nat) (M : kt_M) : Prop :=
  (kt_co M sa1 = some 8) ∧ 
  kt_Ca w gr d yX6_check kc_X6_check [va_rf (some sa1), .int s0, .int (1 : Int32)] M (kt_pV fun M1 => (kt_co M1 a0 = some 8) ∧ 
  kt_Ca w gr d yX13_test kc_X13_test [va_rf (some a0)] M1 (kt_pR fun p2 M3 => ∃ p4, kt_gf M3 a0 51 = some (va_rf p4) ∧ 
    ((¬ p4 = (some (kt_cA w 3)) → vc_X13_parse_57 w gr d P X  p2 (0 : Int32) a0 M3) ∧
    (p4 = (some (kt_cA w 3)) → vc_X13_parse_57 w gr d P X  p2 (1 : Int32) a0 M3))) X) X
theorem cj_X13_parse_32 {w : kt_W} {x : kt_X} {gr : kt_g × kt_M} {d : Nat} {P : Option Value → kt_M → Prop} {X : String → Nat → kt_M → Prop}  {a0 : Nat} {s0 : Int32} {sa1 : Nat} {M : kt_M} (O : kt_O w x gr (d + 1) cX13_parse "KeyTurns$QueryParser" 2 ("parse", "()LKeyTurns$Test;") (Option.some (Jvm.ClassFile.FieldType.object "KeyTurns$Test")) [])  (h : vc_X13_parse_32 w gr d P X  a0 s0 sa1 M) : kt_S w x 2 (kt_E w x P X) M 32 [(0, va_rf (some a0))] [.int s0, va_rf (some sa1)] := by
  unfold vc_X13_parse_32 at h
  refine kr_iconst O dX13_parse_32 (v := (1 : Int32)) (by decide) ?_
  obtain ⟨hco, h⟩ := h
  refine kr_caV (rest := []) O cd_X6_check h (Nat.le_of_ble_eq_true rfl) (fun ls _ => kt_ivU (ci := 8) O dX13_parse_33 cd_X6_check q2180 q2181 (Or.inr q1644) q1646 q2182 hco (by decide) ⟨by decide, by decide, rfl⟩) (fun M1 hq => ?_) (fun E q M9 hx => kr_out O hx)
  replace h := hq
  clear hq
  refine kr_aload_n O dX13_parse_36 rfl 0 rfl ?_
  obtain ⟨hco, h⟩ := h
  refine kr_caR (rest := []) O cd_X13_test h (Nat.le_of_ble_eq_true rfl) (fun ls _ => kt_ivV (ci := 8) O dX13_parse_37 cd_X13_test in_X13_test (Or.inl q2183) q2185 qs32 hco (by decide) hy_X13_test) (fun p2 M3 hq => ?_) (fun E q M9 hx => kr_out O hx)
  replace h := hq
  clear hq
  refine kr_astore_n O dX13_parse_40 rfl (Nat.le_of_ble_eq_true rfl) rfl rfl ?_
  refine kr_aload_n O dX13_parse_41 rfl 1 rfl ?_
  refine kr_aload_n O dX13_parse_42 rfl 1 rfl ?_
  obtain ⟨p4, ep4, h⟩ := h
  refine kr_getf O dX13_parse_43 fs_X13_35 ep4 ?_
  refine kr_gets O dX13_parse_46 q2407 (kt_inT 3 rfl) ?_
  refine kr_acmp_ne (tgt := 56) O dX13_parse_49 rfl (fun hc => ?_) (fun hc => ?_)
  · replace h := h.1 hc
    refine kr_iconst O dX13_parse_56 (v := (0 : Int32)) (by decide) ?_
    refine kr_sub [0] rfl ?_
    exact cj_X13_parse_57 O  h
  · replace h := h.2 hc
    refine kr_iconst O dX13_parse_52 (v := (1 : Int32)) (by decide) ?_
    refine kr_goto (tgt := 57) O dX13_parse_53 rfl ?_
    refine kr_sub [0] rfl ?_
    exact cj_X13_parse_57 O  h
def vc_X13_parse_27 (w : kt_W) (gr : kt_g × kt_M) (d : Nat) (P : Option Value → kt_M → Prop) (X : String → Nat → kt_M → Prop)  (a0 : Nat) (sa0 : Nat) (M : kt_M) : Prop :=
  vc_X13_parse_32 w gr d P X  a0 (1 : Int32) sa0 M
theorem cj_X13_parse_27 {w : kt_W} {x : kt_X} {gr : kt_g × kt_M} {d : Nat} {P : Option Value → kt_M → Prop} {X : String → Nat → kt_M → Prop}  {a0 : Nat} {sa0 : Nat} {M : kt_M} (O : kt_O w x gr (d + 1) cX13_parse "KeyTurns$QueryParser" 2 ("parse", "()LKeyTurns$Test;") (Option.some (Jvm.ClassFile.FieldType.object "KeyTurns$Test")) [])  (h : vc_X13_parse_27 w gr d P X  a0 sa0 M) : kt_S w x 2 (kt_E w x P X) M 27 [(0, va_rf (some a0))] [va_rf (some sa0)] := by
  unfold vc_X13_parse_27 at h
  refine kr_iconst O dX13_parse_27 (v := (1 : Int32)) (by decide) ?_
  refine kr_goto (tgt := 32) O dX13_parse_28 rfl ?_
  exact cj_X13_parse_32 O  h
def vc_X13_parse (w : kt_W) (gr : kt_g × kt_M) (d : Nat) (P : Option Value → kt_M → Prop) (X : String → Nat → kt_M → Prop) (a0 : Nat) (M : kt_M) : Prop :=
  (kt_co M a0 = some 8) ∧ 
  kt_Ca w gr d yX6_accept kc_X6_accept [va_rf (some a0), va_rf (some (kt_cA w 30))] M (kt_pI fun u1 M2 => kt_ok 56 (.int u1) ∧ kt_hf gr M2 a0 56 ∧ ∀ M3, M3 = kt_pf M2 a0 56 (.int u1) → ∃ u4, kt_gf M3 a0 56 = some (.int u4) ∧ 
    ((¬ u4 = 0 → vc_X13_parse_27 w gr d P X  a0 a0 M3) ∧
    (u4 = 0 → (kt_co M3 a0 = some 8) ∧ 
    kt_Ca w gr d yX6_accept kc_X6_accept [va_rf (some a0), va_rf (some (kt_cA w 31))] M3 (kt_pI fun u5 M6 => 
      ((u5 = 0 → vc_X13_parse_32 w gr d P X  a0 (0 : Int32) a0 M6) ∧
      (¬ u5 = 0 → vc_X13_parse_27 w gr d P X  a0 a0 M6))) X))) X
theorem ce_X13_parse {w : kt_W} {g : kt_g} {d : Nat} {P : Option Value → kt_M → Prop} {X : String → Nat → kt_M → Prop} {a0 : Nat} {M : kt_M} (h : vc_X13_parse w (g, M) d P X a0 M) : kt_Sp w g (d + 1) yX13_parse kc_X13_parse [va_rf (some a0)] M P X := by
  refine kt_of (L0 := [(0, va_rf (some a0))]) (by decide +kernel) (Nat.le_of_ble_eq_true rfl) rfl fun x O => ?_
  replace O : kt_O w x (g, M) (d + 1) cX13_parse "KeyTurns$QueryParser" 2 ("parse", "()LKeyTurns$Test;") (Option.some (Jvm.ClassFile.FieldType.object "KeyTurns$Test")) [] := O
  unfold vc_X13_parse at h
  refine kr_aload_n O dX13_parse_0 rfl 0 rfl ?_
  refine kr_aload_n O dX13_parse_1 rfl 0 rfl ?_
  refine kr_ldcS O dX13_parse_2 st_X13_15 ?_
  obtain ⟨hco, h⟩ := h
  refine kr_caI (rest := [va_rf (some a0)]) O cd_X6_accept h (Nat.le_of_ble_eq_true rfl) (fun ls _ => kt_ivU (ci := 8) O dX13_parse_4 cd_X6_accept q2176 q2177 (Or.inr q1622) q1624 q2178 hco (by decide) ⟨by decide, by decide, rfl⟩) (fun u1 M2 hq => ?_) (fun E q M9 hx => kr_out O hx)
  replace h := hq
  clear hq
  obtain ⟨hok, h⟩ := h
  obtain ⟨hw, h⟩ := h
  refine kr_putf O dX13_parse_7 fs_X13_21 (Or.inl rfl) hok hw (kr_nmM fun M3 hM3 => ?_)
  replace h := h M3 hM3
  refine kr_aload_n O dX13_parse_10 rfl 0 rfl ?_
  refine kr_aload_n O dX13_parse_11 rfl 0 rfl ?_
  obtain ⟨u4, eu4, h⟩ := h
  refine kr_getf O dX13_parse_12 fs_X13_21 eu4 ?_
  refine kr_if_ne (tgt := 27) O dX13_parse_15 rfl (fun hc => ?_) (fun hc => ?_)
  · replace h := h.1 hc
    exact cj_X13_parse_27 O  h
  · replace h := h.2 hc
    refine kr_aload_n O dX13_parse_18 rfl 0 rfl ?_
    refine kr_ldcS O dX13_parse_19 st_X13_25 ?_
    obtain ⟨hco, h⟩ := h
    refine kr_caI (rest := [va_rf (some a0)]) O cd_X6_accept h (Nat.le_of_ble_eq_true rfl) (fun ls _ => kt_ivU (ci := 8) O dX13_parse_21 cd_X6_accept q2176 q2177 (Or.inr q1622) q1624 q2178 hco (by decide) ⟨by decide, by decide, rfl⟩) (fun u5 M6 hq => ?_) (fun E q M9 hx => kr_out O hx)
    replace h := hq
    clear hq
    refine kr_if_eq (tgt := 31) O dX13_parse_24 rfl (fun hc => ?_) (fun hc => ?_)
    · replace h := h.1 hc
      refine kr_iconst O dX13_parse_31 (v := (0 : Int32)) (by decide) ?_
      exact cj_X13_parse_32 O  h
    · replace h := h.2 hc
      exact cj_X13_parse_27 O  h
def vc_X13_test_8 (w : kt_W) (gr : kt_g × kt_M) (d : Nat) (P : Option Value → kt_M → Prop) (X : String → Nat → kt_M → Prop) (nx8 : kt_M → Prop) (a0 : Nat) (a1 : Nat) (M : kt_M) : Prop :=
  (kt_co M a0 = some 8) ∧ 
  kt_Ca w gr d yX13_conjunction kc_X13_conjunction [va_rf (some a0)] M (kt_pR fun p1 M2 => (kt_co M2 a1 = some 13) ∧ 
  kt_Ca w gr d yJ3_add kc_J3_add [va_rf (some a1), va_rf p1] M2 (kt_pI fun u3 M4 => (kt_co M4 a0 = some 8) ∧ 
  kt_Ca w gr d yX6_accept kc_X6_accept [va_rf (some a0), va_rf (some (kt_cA w 42))] M4 (kt_pI fun u5 M6 => 
    ((¬ u5 = 0 → nx8  M6) ∧
    (u5 = 0 → kt_fits w M6 2 ∧ ∃ t7, ∀ M8, M8 = kt_new M6 2 (t7 + 2, .inr (11, [va_rf none, .int 0])) → 
    kt_Ca w gr d yX17_init kc_X17_init [va_rf (some M6.1), va_rf (some a1), .int (1 : Int32)] M8 (kt_pV fun M9 => P (some (va_rf (some M6.1))) M9) X))) X) X) X
theorem cj_X13_test_8 {w : kt_W} {x : kt_X} {gr : kt_g × kt_M} {d : Nat} {P : Option Value → kt_M → Prop} {X : String → Nat → kt_M → Prop} {nx8 : kt_M → Prop} {a0 : Nat} {a1 : Nat} {M : kt_M} (O : kt_O w x gr (d + 1) cX13_test "KeyTurns$QueryParser" 2 ("test", "()LKeyTurns$Test;") (Option.some (Jvm.ClassFile.FieldType.object "KeyTurns$Test")) []) (hn8 : ∀ M, nx8  M → kt_S w x 2 (kt_E w x P X) M 8 [(0, va_rf (some a0)), (1, va_rf (some a1))] []) (h : vc_X13_test_8 w gr d P X nx8 a0 a1 M) : kt_S w x 2 (kt_E w x P X) M 8 [(0, va_rf (some a0)), (1, va_rf (some a1))] [] := by
  unfold vc_X13_test_8 at h
  refine kr_aload_n O dX13_test_8 rfl 1 rfl ?_
  refine kr_aload_n O dX13_test_9 rfl 0 rfl ?_
  obtain ⟨hco, h⟩ := h
  refine kr_caR (rest := [va_rf (some a1)]) O cd_X13_conjunction h (Nat.le_of_ble_eq_true rfl) (fun ls _ => kt_ivV (ci := 8) O dX13_test_10 cd_X13_conjunction in_X13_conjunction (Or.inl q2189) q2191 qs33 hco (by decide) hy_X13_conjunction) (fun p1 M2 hq => ?_) (fun E q M9 hx => kr_out O hx)
  replace h := hq
  clear hq
  obtain ⟨hco, h⟩ := h
  refine kr_caI (rest := []) O cd_J3_add h (Nat.le_of_ble_eq_true rfl) (fun ls _ => kt_ivV (ci := 13) O dX13_test_13 cd_J3_add in_J3_add (Or.inl q2391) q348 q349 hco (by decide) hy_J3_add) (fun u3 M4 hq => ?_) (fun E q M9 hx => kr_out O hx)
  replace h := hq
  clear hq
  refine kr_pop O dX13_test_16 rfl ?_
  refine kr_aload_n O dX13_test_17 rfl 0 rfl ?_
  refine kr_ldcS O dX13_test_18 st_X13_56 ?_
  obtain ⟨hco, h⟩ := h
  refine kr_caI (rest := []) O cd_X6_accept h (Nat.le_of_ble_eq_true rfl) (fun ls _ => kt_ivU (ci := 8) O dX13_test_20 cd_X6_accept q2176 q2177 (Or.inr q1622) q1624 q2178 hco (by decide) ⟨by decide, by decide, rfl⟩) (fun u5 M6 hq => ?_) (fun E q M9 hx => kr_out O hx)
  replace h := hq
  clear hq
  refine kr_if_ne (tgt := 8) O dX13_test_23 rfl (fun hc => ?_) (fun hc => ?_)
  · replace h := h.1 hc
    exact hn8  _ h
  · replace h := h.2 hc
    obtain ⟨hf, t7, h⟩ := h
    refine kr_new (c := 11) (r := (RX17, TX17, 2)) (fs := [va_rf none, .int 0]) t7 O dX13_test_26 rfl q2393 q2394 q166 rfl hf (kr_nmM fun M8 hM8 => ?_)
    replace h := h M8 hM8
    refine kr_dup O dX13_test_29 (kt_nrf _) ?_
    refine kr_aload_n O dX13_test_30 rfl 1 rfl ?_
    refine kr_iconst O dX13_test_31 (v := (1 : Int32)) (by decide) ?_
    refine kr_caV (rest := [va_rf (some M6.1)]) O cd_X17_init h (Nat.le_of_ble_eq_true rfl) (fun ls _ => kt_ivI O dX13_test_32 cd_X17_init in_X17_init (Or.inl q2395) q2396 hi_X17_init) (fun M9 hq => ?_) (fun E q M9 hx => kr_out O hx)
    replace h := hq
    clear hq
    exact kr_aret O dX13_test_35 (by first | exact Or.inl ⟨_, rfl⟩ | exact Or.inr ⟨_, rfl⟩) h
def vl_X13_test_8 (w : kt_W) (gr : kt_g × kt_M) (d : Nat) (P : Option Value → kt_M → Prop) (X : String → Nat → kt_M → Prop)  (a0 : Nat) (a1 : Nat) (M : kt_M) : Prop :=
  ∃ Inv : Nat → kt_M → Prop, (∃ k, Inv k  M) ∧ ∀ k  M, kt_le gr.1 gr.2 M → Inv k  M → vc_X13_test_8 w gr d P X (fun M' => ∃ k', k' < k ∧ Inv k'  M') a0 a1 M
theorem cl_X13_test_8 {w : kt_W} {x : kt_X} {gr : kt_g × kt_M} {d : Nat} {P : Option Value → kt_M → Prop} {X : String → Nat → kt_M → Prop}  {a0 : Nat} {a1 : Nat} {M : kt_M} (O : kt_O w x gr (d + 1) cX13_test "KeyTurns$QueryParser" 2 ("test", "()LKeyTurns$Test;") (Option.some (Jvm.ClassFile.FieldType.object "KeyTurns$Test")) [])  (h : vl_X13_test_8 w gr d P X  a0 a1 M) : kt_S w x 2 (kt_E w x P X) M 8 [(0, va_rf (some a0)), (1, va_rf (some a1))] [] := by
  obtain ⟨Inv, ⟨k, hk⟩, hb⟩ := h
  induction k using Nat.strongRecOn generalizing  M with
  | ind k ih =>
    exact kr_le O fun hle => cj_X13_test_8 O (fun  M' hi => let ⟨k', h1, h2⟩ := hi; ih k' h1 h2) (hb k  _ hle hk)
def vc_X13_test (w : kt_W) (gr : kt_g × kt_M) (d : Nat) (P : Option Value → kt_M → Prop) (X : String → Nat → kt_M → Prop) (a0 : Nat) (M : kt_M) : Prop :=
  kt_fits w M 3 ∧ ∃ t1, ∀ M2, M2 = kt_new M 3 (t1 + 2, .inr (13, [.int 0, va_rf none, .int 0])) → 
  kt_Ca w gr d yJ3_init kc_J3_init [va_rf (some M.1)] M2 (kt_pV fun M3 => vl_X13_test_8 w gr d P X  a0 M.1 M3) X
theorem ce_X13_test {w : kt_W} {g : kt_g} {d : Nat} {P : Option Value → kt_M → Prop} {X : String → Nat → kt_M → Prop} {a0 : Nat} {M : kt_M} (h : vc_X13_test w (g, M) d P X a0 M) : kt_Sp w g (d + 1) yX13_test kc_X13_test [va_rf (some a0)] M P X := by
  refine kt_of (L0 := [(0, va_rf (some a0))]) (by decide +kernel) (Nat.le_of_ble_eq_true rfl) rfl fun x O => ?_
  replace O : kt_O w x (g, M) (d + 1) cX13_test "KeyTurns$QueryParser" 2 ("test", "()LKeyTurns$Test;") (Option.some (Jvm.ClassFile.FieldType.object "KeyTurns$Test")) [] := O
  unfold vc_X13_test at h
  obtain ⟨hf, t1, h⟩ := h
  refine kr_new (c := 13) (r := (RJ3, TJ3, 3)) (fs := [.int 0, va_rf none, .int 0]) t1 O dX13_test_0 rfl q2187 q207 q114 rfl hf (kr_nmM fun M2 hM2 => ?_)
  replace h := h M2 hM2
  refine kr_dup O dX13_test_3 (kt_nrf _) ?_
  refine kr_caV (rest := [va_rf (some M.1)]) O cd_J3_init h (Nat.le_of_ble_eq_true rfl) (fun ls _ => kt_ivI O dX13_test_4 cd_J3_init in_J3_init (Or.inl q2188) q209 hi_J3_init) (fun M3 hq => ?_) (fun E q M9 hx => kr_out O hx)
  replace h := hq
  clear hq
  refine kr_astore_n O dX13_test_7 rfl (Nat.le_of_ble_eq_true rfl) rfl rfl ?_
  refine kr_sub [1, 0] rfl ?_
  exact cl_X13_test_8 O  h
def vc_X13_conjunction_8 (w : kt_W) (gr : kt_g × kt_M) (d : Nat) (P : Option Value → kt_M → Prop) (X : String → Nat → kt_M → Prop) (nx8 : kt_M → Prop) (a0 : Nat) (a1 : Nat) (M : kt_M) : Prop :=
  (kt_co M a0 = some 8) ∧ 
  kt_Ca w gr d yX13_factor kc_X13_factor [va_rf (some a0)] M (kt_pR fun p1 M2 => (kt_co M2 a1 = some 13) ∧ 
  kt_Ca w gr d yJ3_add kc_J3_add [va_rf (some a1), va_rf p1] M2 (kt_pI fun u3 M4 => (kt_co M4 a0 = some 8) ∧ 
  kt_Ca w gr d yX6_accept kc_X6_accept [va_rf (some a0), va_rf (some (kt_cA w 41))] M4 (kt_pI fun u5 M6 => 
    ((¬ u5 = 0 → nx8  M6) ∧
    (u5 = 0 → kt_fits w M6 2 ∧ ∃ t7, ∀ M8, M8 = kt_new M6 2 (t7 + 2, .inr (11, [va_rf none, .int 0])) → 
    kt_Ca w gr d yX17_init kc_X17_init [va_rf (some M6.1), va_rf (some a1), .int (0 : Int32)] M8 (kt_pV fun M9 => P (some (va_rf (some M6.1))) M9) X))) X) X) X
theorem cj_X13_conjunction_8 {w : kt_W} {x : kt_X} {gr : kt_g × kt_M} {d : Nat} {P : Option Value → kt_M → Prop} {X : String → Nat → kt_M → Prop} {nx8 : kt_M → Prop} {a0 : Nat} {a1 : Nat} {M : kt_M} (O : kt_O w x gr (d + 1) cX13_conjunction "KeyTurns$QueryParser" 2 ("conjunction", "()LKeyTurns$Test;") (Option.some (Jvm.ClassFile.FieldType.object "KeyTurns$Test")) []) (hn8 : ∀ M, nx8  M → kt_S w x 2 (kt_E w x P X) M 8 [(0, va_rf (some a0)), (1, va_rf (some a1))] []) (h : vc_X13_conjunction_8 w gr d P X nx8 a0 a1 M) : kt_S w x 2 (kt_E w x P X) M 8 [(0, va_rf (some a0)), (1, va_rf (some a1))] [] := by
  unfold vc_X13_conjunction_8 at h
  refine kr_aload_n O dX13_conjunction_8 rfl 1 rfl ?_
  refine kr_aload_n O dX13_conjunction_9 rfl 0 rfl ?_
  obtain ⟨hco, h⟩ := h
  refine kr_caR (rest := [va_rf (some a1)]) O cd_X13_factor h (Nat.le_of_ble_eq_true rfl) (fun ls _ => kt_ivV (ci := 8) O dX13_conjunction_10 cd_X13_factor in_X13_factor (Or.inl q2193) q2195 qs34 hco (by decide) hy_X13_factor) (fun p1 M2 hq => ?_) (fun E q M9 hx => kr_out O hx)
  replace h := hq
  clear hq
  obtain ⟨hco, h⟩ := h
  refine kr_caI (rest := []) O cd_J3_add h (Nat.le_of_ble_eq_true rfl) (fun ls _ => kt_ivV (ci := 13) O dX13_conjunction_13 cd_J3_add in_J3_add (Or.inl q2391) q348 q349 hco (by decide) hy_J3_add) (fun u3 M4 hq => ?_) (fun E q M9 hx => kr_out O hx)
  replace h := hq
  clear hq
  refine kr_pop O dX13_conjunction_16 rfl ?_
  refine kr_aload_n O dX13_conjunction_17 rfl 0 rfl ?_
  refine kr_ldcS O dX13_conjunction_18 st_X13_66 ?_
  obtain ⟨hco, h⟩ := h
  refine kr_caI (rest := []) O cd_X6_accept h (Nat.le_of_ble_eq_true rfl) (fun ls _ => kt_ivU (ci := 8) O dX13_conjunction_20 cd_X6_accept q2176 q2177 (Or.inr q1622) q1624 q2178 hco (by decide) ⟨by decide, by decide, rfl⟩) (fun u5 M6 hq => ?_) (fun E q M9 hx => kr_out O hx)
  replace h := hq
  clear hq
  refine kr_if_ne (tgt := 8) O dX13_conjunction_23 rfl (fun hc => ?_) (fun hc => ?_)
  · replace h := h.1 hc
    exact hn8  _ h
  · replace h := h.2 hc
    obtain ⟨hf, t7, h⟩ := h
    refine kr_new (c := 11) (r := (RX17, TX17, 2)) (fs := [va_rf none, .int 0]) t7 O dX13_conjunction_26 rfl q2393 q2394 q166 rfl hf (kr_nmM fun M8 hM8 => ?_)
    replace h := h M8 hM8
    refine kr_dup O dX13_conjunction_29 (kt_nrf _) ?_
    refine kr_aload_n O dX13_conjunction_30 rfl 1 rfl ?_
    refine kr_iconst O dX13_conjunction_31 (v := (0 : Int32)) (by decide) ?_
    refine kr_caV (rest := [va_rf (some M6.1)]) O cd_X17_init h (Nat.le_of_ble_eq_true rfl) (fun ls _ => kt_ivI O dX13_conjunction_32 cd_X17_init in_X17_init (Or.inl q2395) q2396 hi_X17_init) (fun M9 hq => ?_) (fun E q M9 hx => kr_out O hx)
    replace h := hq
    clear hq
    exact kr_aret O dX13_conjunction_35 (by first | exact Or.inl ⟨_, rfl⟩ | exact Or.inr ⟨_, rfl⟩) h
def vl_X13_conjunction_8 (w : kt_W) (gr : kt_g × kt_M) (d : Nat) (P : Option Value → kt_M → Prop) (X : String → Nat → kt_M → Prop)  (a0 : Nat) (a1 : Nat) (M : kt_M) : Prop :=
  ∃ Inv : Nat → kt_M → Prop, (∃ k, Inv k  M) ∧ ∀ k  M, kt_le gr.1 gr.2 M → Inv k  M → vc_X13_conjunction_8 w gr d P X (fun M' => ∃ k', k' < k ∧ Inv k'  M') a0 a1 M
theorem cl_X13_conjunction_8 {w : kt_W} {x : kt_X} {gr : kt_g × kt_M} {d : Nat} {P : Option Value → kt_M → Prop} {X : String → Nat → kt_M → Prop}  {a0 : Nat} {a1 : Nat} {M : kt_M} (O : kt_O w x gr (d + 1) cX13_conjunction "KeyTurns$QueryParser" 2 ("conjunction", "()LKeyTurns$Test;") (Option.some (Jvm.ClassFile.FieldType.object "KeyTurns$Test")) [])  (h : vl_X13_conjunction_8 w gr d P X  a0 a1 M) : kt_S w x 2 (kt_E w x P X) M 8 [(0, va_rf (some a0)), (1, va_rf (some a1))] [] := by
  obtain ⟨Inv, ⟨k, hk⟩, hb⟩ := h
  induction k using Nat.strongRecOn generalizing  M with
  | ind k ih =>
    exact kr_le O fun hle => cj_X13_conjunction_8 O (fun  M' hi => let ⟨k', h1, h2⟩ := hi; ih k' h1 h2) (hb k  _ hle hk)
def vc_X13_conjunction (w : kt_W) (gr : kt_g × kt_M) (d : Nat) (P : Option Value → kt_M → Prop) (X : String → Nat → kt_M → Prop) (a0 : Nat) (M : kt_M) : Prop :=
  kt_fits w M 3 ∧ ∃ t1, ∀ M2, M2 = kt_new M 3 (t1 + 2, .inr (13, [.int 0, va_rf none, .int 0])) → 
  kt_Ca w gr d yJ3_init kc_J3_init [va_rf (some M.1)] M2 (kt_pV fun M3 => vl_X13_conjunction_8 w gr d P X  a0 M.1 M3) X
theorem ce_X13_conjunction {w : kt_W} {g : kt_g} {d : Nat} {P : Option Value → kt_M → Prop} {X : String → Nat → kt_M → Prop} {a0 : Nat} {M : kt_M} (h : vc_X13_conjunction w (g, M) d P X a0 M) : kt_Sp w g (d + 1) yX13_conjunction kc_X13_conjunction [va_rf (some a0)] M P X := by
  refine kt_of (L0 := [(0, va_rf (some a0))]) (by decide +kernel) (Nat.le_of_ble_eq_true rfl) rfl fun x O => ?_
  replace O : kt_O w x (g, M) (d + 1) cX13_conjunction "KeyTurns$QueryParser" 2 ("conjunction", "()LKeyTurns$Test;") (Option.some (Jvm.ClassFile.FieldType.object "KeyTurns$Test")) [] := O
  unfold vc_X13_conjunction at h
  obtain ⟨hf, t1, h⟩ := h
  refine kr_new (c := 13) (r := (RJ3, TJ3, 3)) (fs := [.int 0, va_rf none, .int 0]) t1 O dX13_conjunction_0 rfl q2187 q207 q114 rfl hf (kr_nmM fun M2 hM2 => ?_)
  replace h := h M2 hM2
  refine kr_dup O dX13_conjunction_3 (kt_nrf _) ?_
  refine kr_caV (rest := [va_rf (some M.1)]) O cd_J3_init h (Nat.le_of_ble_eq_true rfl) (fun ls _ => kt_ivI O dX13_conjunction_4 cd_J3_init in_J3_init (Or.inl q2188) q209 hi_J3_init) (fun M3 hq => ?_) (fun E q M9 hx => kr_out O hx)
  replace h := hq
  clear hq
  refine kr_astore_n O dX13_conjunction_7 rfl (Nat.le_of_ble_eq_true rfl) rfl rfl ?_
  refine kr_sub [1, 0] rfl ?_
  exact cl_X13_conjunction_8 O  h
def vc_X13_factor (w : kt_W) (gr : kt_g × kt_M) (d : Nat) (P : Option Value → kt_M → Prop) (X : String → Nat → kt_M → Prop) (a0 : Nat) (M : kt_M) : Prop :=
  (kt_co M a0 = some 8) ∧ 
  kt_Ca w gr d yX6_keyword kc_X6_keyword [va_rf (some a0)] M (kt_pR fun p1 M2 => ∃ b3, p1 = some b3 ∧ (kt_co M2 b3 = some 20) ∧ 
  kt_Ca w gr d yJ15_equals kc_J15_equals [va_rf (some b3), va_rf (some (kt_cA w 32))] M2 (kt_pI fun u4 M5 => 
    ((u4 = 0 → (kt_co M5 a0 = some 8) ∧ 
    kt_Ca w gr d yX6_isSign kc_X6_isSign [va_rf (some a0), .int (40 : Int32)] M5 (kt_pI fun u6 M7 => 
      ((u6 = 0 → (kt_co M7 a0 = some 8) ∧ 
      kt_Ca w gr d yX13_operand kc_X13_operand [va_rf (some a0)] M7 (kt_pI fun u8 M9 => (kt_co M9 a0 = some 8) ∧ 
      kt_Ca w gr d yX6_relationSign kc_X6_relationSign [va_rf (some a0)] M9 (kt_pI fun u10 M11 => kt_fits w M11 3 ∧ ∃ t12, ∀ M13, M13 = kt_new M11 3 (t12 + 2, .inr (10, [.int 0, .int 0, .int 0])) → (kt_co M13 a0 = some 8) ∧ 
      kt_Ca w gr d yX13_operand kc_X13_operand [va_rf (some a0)] M13 (kt_pI fun u14 M15 => 
      kt_Ca w gr d yX16_init kc_X16_init [va_rf (some M11.1), .int u8, .int u10, .int u14] M15 (kt_pV fun M16 => P (some (va_rf (some M11.1))) M16) X) X) X) X) ∧
      (¬ u6 = 0 → (kt_co M7 a0 = some 8) ∧ 
      kt_Ca w gr d yX13_enter kc_X13_enter [va_rf (some a0)] M7 (kt_pV fun M17 => (kt_co M17 a0 = some 8) ∧ 
      kt_Ca w gr d yX13_test kc_X13_test [va_rf (some a0)] M17 (kt_pR fun p18 M19 => (kt_co M19 a0 = some 8) ∧ 
      kt_Ca w gr d yX6_expectSign kc_X6_expectSign [va_rf (some a0), .int (41 : Int32)] M19 (kt_pV fun M20 => ∃ u21, kt_gf M20 a0 57 = some (.int u21) ∧ kt_hf gr M20 a0 57 ∧ ∀ M22, M22 = kt_pf M20 a0 57 (.int (u21 - (1 : Int32))) → P (some (va_rf p18)) M22) X) X) X))) X) ∧
    (¬ u4 = 0 → (kt_co M5 a0 = some 8) ∧ 
    kt_Ca w gr d yX13_enter kc_X13_enter [va_rf (some a0)] M5 (kt_pV fun M23 => kt_fits w M23 1 ∧ ∃ t24, ∀ M25, M25 = kt_new M23 1 (t24 + 2, .inr (9, [va_rf none])) → (kt_co M25 a0 = some 8) ∧ 
    kt_Ca w gr d yX13_factor kc_X13_factor [va_rf (some a0)] M25 (kt_pR fun p26 M27 => 
    kt_Ca w gr d yX15_init kc_X15_init [va_rf (some M23.1), va_rf p26] M27 (kt_pV fun M28 => ∃ u29, kt_gf M28 a0 57 = some (.int u29) ∧ kt_hf gr M28 a0 57 ∧ ∀ M30, M30 = kt_pf M28 a0 57 (.int (u29 - (1 : Int32))) → P (some (va_rf (some M23.1))) M30) X) X) X))) X) X
theorem ce_X13_factor {w : kt_W} {g : kt_g} {d : Nat} {P : Option Value → kt_M → Prop} {X : String → Nat → kt_M → Prop} {a0 : Nat} {M : kt_M} (h : vc_X13_factor w (g, M) d P X a0 M) : kt_Sp w g (d + 1) yX13_factor kc_X13_factor [va_rf (some a0)] M P X := by
  refine kt_of (L0 := [(0, va_rf (some a0))]) (by decide +kernel) (Nat.le_of_ble_eq_true rfl) rfl fun x O => ?_
  replace O : kt_O w x (g, M) (d + 1) cX13_factor "KeyTurns$QueryParser" 3 ("factor", "()LKeyTurns$Test;") (Option.some (Jvm.ClassFile.FieldType.object "KeyTurns$Test")) [] := O
  unfold vc_X13_factor at h
  refine kr_aload_n O dX13_factor_0 rfl 0 rfl ?_
  obtain ⟨hco, h⟩ := h
  refine kr_caR (rest := []) O cd_X6_keyword h (Nat.le_of_ble_eq_true rfl) (fun ls _ => kt_ivU (ci := 8) O dX13_factor_1 cd_X6_keyword q2197 q2198 (Or.inr q1705) q1627 q2199 hco (by decide) ⟨by decide, by decide, rfl⟩) (fun p1 M2 hq => ?_) (fun E q M9 hx => kr_out O hx)
  replace h := hq
  clear hq
  refine kr_ldcS O dX13_factor_4 st_X13_79 ?_
  obtain ⟨b3, rfl, h⟩ := h
  obtain ⟨hco, h⟩ := h
  refine kr_caI (rest := []) O cd_J15_equals h (Nat.le_of_ble_eq_true rfl) (fun ls _ => kt_ivV (ci := 20) O dX13_factor_6 cd_J15_equals in_J15_equals (Or.inl q2201) q1635 q1636 hco (by decide) hy_J15_equals) (fun u4 M5 hq => ?_) (fun E q M9 hx => kr_out O hx)
  replace h := hq
  clear hq
  refine kr_if_eq (tgt := 40) O dX13_factor_9 rfl (fun hc => ?_) (fun hc => ?_)
  · replace h := h.1 hc
    refine kr_aload_n O dX13_factor_40 rfl 0 rfl ?_
    refine kr_bipush O dX13_factor_41 (v := (40 : Int32)) (by decide) ?_
    obtain ⟨hco, h⟩ := h
    refine kr_caI (rest := []) O cd_X6_isSign h (Nat.le_of_ble_eq_true rfl) (fun ls _ => kt_ivU (ci := 8) O dX13_factor_43 cd_X6_isSign q2222 q2223 (Or.inr q2224) q1697 q2225 hco (by decide) ⟨by decide, by decide, rfl⟩) (fun u6 M7 hq => ?_) (fun E q M9 hx => kr_out O hx)
    replace h := hq
    clear hq
    refine kr_if_eq (tgt := 76) O dX13_factor_46 rfl (fun hc => ?_) (fun hc => ?_)
    · replace h := h.1 hc
      refine kr_aload_n O dX13_factor_76 rfl 0 rfl ?_
      obtain ⟨hco, h⟩ := h
      refine kr_caI (rest := []) O cd_X13_operand h (Nat.le_of_ble_eq_true rfl) (fun ls _ => kt_ivV (ci := 8) O dX13_factor_77 cd_X13_operand in_X13_operand (Or.inl q2229) q2231 qs36 hco (by decide) hy_X13_operand) (fun u8 M9 hq => ?_) (fun E q M9 hx => kr_out O hx)
      replace h := hq
      clear hq
      refine kr_istore_n O dX13_factor_80 rfl (Nat.le_of_ble_eq_true rfl) rfl rfl ?_
      refine kr_aload_n O dX13_factor_81 rfl 1 rfl ?_
      obtain ⟨hco, h⟩ := h
      refine kr_caI (rest := []) O cd_X6_relationSign h (Nat.le_of_ble_eq_true rfl) (fun ls _ => kt_ivU (ci := 8) O dX13_factor_82 cd_X6_relationSign q2369 q2370 (Or.inr q2371) q2373 q2372 hco (by decide) ⟨by decide, by decide, rfl⟩) (fun u10 M11 hq => ?_) (fun E q M9 hx => kr_out O hx)
      replace h := hq
      clear hq
      refine kr_istore_n O dX13_factor_85 rfl (Nat.le_of_ble_eq_true rfl) rfl rfl ?_
      obtain ⟨hf, t12, h⟩ := h
      refine kr_new (c := 10) (r := (RX16, TX16, 3)) (fs := [.int 0, .int 0, .int 0]) t12 O dX13_factor_86 rfl q2375 q2376 q165 rfl hf (kr_nmM fun M13 hM13 => ?_)
      replace h := h M13 hM13
      refine kr_dup O dX13_factor_89 (kt_nrf _) ?_
      refine kr_iload_n O dX13_factor_90 rfl 1 rfl ?_
      refine kr_iload_n O dX13_factor_91 rfl 0 rfl ?_
      refine kr_aload_n O dX13_factor_92 rfl 2 rfl ?_
      obtain ⟨hco, h⟩ := h
      refine kr_caI (rest := [.int u10, .int u8, va_rf (some M11.1), va_rf (some M11.1)]) O cd_X13_operand h (Nat.le_of_ble_eq_true rfl) (fun ls _ => kt_ivV (ci := 8) O dX13_factor_93 cd_X13_operand in_X13_operand (Or.inl q2229) q2231 qs36 hco (by decide) hy_X13_operand) (fun u14 M15 hq => ?_) (fun E q M9 hx => kr_out O hx)
      replace h := hq
      clear hq
      refine kr_caV (rest := [va_rf (some M11.1)]) O cd_X16_init h (Nat.le_of_ble_eq_true rfl) (fun ls _ => kt_ivI O dX13_factor_96 cd_X16_init in_X16_init (Or.inl q2377) q2378 hi_X16_init) (fun M16 hq => ?_) (fun E q M9 hx => kr_out O hx)
      replace h := hq
      clear hq
      exact kr_aret O dX13_factor_99 (by first | exact Or.inl ⟨_, rfl⟩ | exact Or.inr ⟨_, rfl⟩) h
    · replace h := h.2 hc
      refine kr_aload_n O dX13_factor_49 rfl 0 rfl ?_
      obtain ⟨hco, h⟩ := h
      refine kr_caV (rest := []) O cd_X13_enter h (Nat.le_of_ble_eq_true rfl) (fun ls _ => kt_ivV (ci := 8) O dX13_factor_50 cd_X13_enter in_X13_enter (Or.inl q2202) q2204 qs35 hco (by decide) hy_X13_enter) (fun M17 hq => ?_) (fun E q M9 hx => kr_out O hx)
      replace h := hq
      clear hq
      refine kr_aload_n O dX13_factor_53 rfl 0 rfl ?_
      obtain ⟨hco, h⟩ := h
      refine kr_caR (rest := []) O cd_X13_test h (Nat.le_of_ble_eq_true rfl) (fun ls _ => kt_ivV (ci := 8) O dX13_factor_54 cd_X13_test in_X13_test (Or.inl q2183) q2185 qs32 hco (by decide) hy_X13_test) (fun p18 M19 hq => ?_) (fun E q M9 hx => kr_out O hx)
      replace h := hq
      clear hq
      refine kr_astore_n O dX13_factor_57 rfl (Nat.le_of_ble_eq_true rfl) rfl rfl ?_
      refine kr_aload_n O dX13_factor_58 rfl 1 rfl ?_
      refine kr_bipush O dX13_factor_59 (v := (41 : Int32)) (by decide) ?_
      obtain ⟨hco, h⟩ := h
      refine kr_caV (rest := []) O cd_X6_expectSign h (Nat.le_of_ble_eq_true rfl) (fun ls _ => kt_ivU (ci := 8) O dX13_factor_61 cd_X6_expectSign q2226 q2227 (Or.inr q1692) q1694 q2228 hco (by decide) ⟨by decide, by decide, rfl⟩) (fun M20 hq => ?_) (fun E q M9 hx => kr_out O hx)
      replace h := hq
      clear hq
      refine kr_aload_n O dX13_factor_64 rfl 1 rfl ?_
      refine kr_dup O dX13_factor_65 (kt_nrf _) ?_
      obtain ⟨u21, eu21, h⟩ := h
      refine kr_getf O dX13_factor_66 fs_X13_68 eu21 ?_
      refine kr_iconst O dX13_factor_69 (v := (1 : Int32)) (by decide) ?_
      refine kr_isub O dX13_factor_70 ?_
      obtain ⟨hw, h⟩ := h
      refine kr_putf O dX13_factor_71 fs_X13_68 (Or.inl rfl) ⟨rfl, rfl⟩ hw (kr_nmM fun M22 hM22 => ?_)
      replace h := h M22 hM22
      refine kr_aload_n O dX13_factor_74 rfl 0 rfl ?_
      exact kr_aret O dX13_factor_75 (by first | exact Or.inl ⟨_, rfl⟩ | exact Or.inr ⟨_, rfl⟩) h
  · replace h := h.2 hc
    refine kr_aload_n O dX13_factor_12 rfl 0 rfl ?_
    obtain ⟨hco, h⟩ := h
    refine kr_caV (rest := []) O cd_X13_enter h (Nat.le_of_ble_eq_true rfl) (fun ls _ => kt_ivV (ci := 8) O dX13_factor_13 cd_X13_enter in_X13_enter (Or.inl q2202) q2204 qs35 hco (by decide) hy_X13_enter) (fun M23 hq => ?_) (fun E q M9 hx => kr_out O hx)
    replace h := hq
    clear hq
    obtain ⟨hf, t24, h⟩ := h
    refine kr_new (c := 9) (r := (RX15, TX15, 1)) (fs := [va_rf none]) t24 O dX13_factor_16 rfl q2209 q2210 q158 rfl hf (kr_nmM fun M25 hM25 => ?_)
    replace h := h M25 hM25
    refine kr_dup O dX13_factor_19 (kt_nrf _) ?_
    refine kr_aload_n O dX13_factor_20 rfl 0 rfl ?_
    obtain ⟨hco, h⟩ := h
    refine kr_caR (rest := [va_rf (some M23.1), va_rf (some M23.1)]) O cd_X13_factor h (Nat.le_of_ble_eq_true rfl) (fun ls _ => kt_ivV (ci := 8) O dX13_factor_21 cd_X13_factor in_X13_factor (Or.inl q2193) q2195 qs34 hco (by decide) hy_X13_factor) (fun p26 M27 hq => ?_) (fun E q M9 hx => kr_out O hx)
    replace h := hq
    clear hq
    refine kr_caV (rest := [va_rf (some M23.1)]) O cd_X15_init h (Nat.le_of_ble_eq_true rfl) (fun ls _ => kt_ivI O dX13_factor_24 cd_X15_init in_X15_init (Or.inl q2211) q2212 hi_X15_init) (fun M28 hq => ?_) (fun E q M9 hx => kr_out O hx)
    replace h := hq
    clear hq
    refine kr_astore_n O dX13_factor_27 rfl (Nat.le_of_ble_eq_true rfl) rfl rfl ?_
    refine kr_aload_n O dX13_factor_28 rfl 1 rfl ?_
    refine kr_dup O dX13_factor_29 (kt_nrf _) ?_
    obtain ⟨u29, eu29, h⟩ := h
    refine kr_getf O dX13_factor_30 fs_X13_68 eu29 ?_
    refine kr_iconst O dX13_factor_33 (v := (1 : Int32)) (by decide) ?_
    refine kr_isub O dX13_factor_34 ?_
    obtain ⟨hw, h⟩ := h
    refine kr_putf O dX13_factor_35 fs_X13_68 (Or.inl rfl) ⟨rfl, rfl⟩ hw (kr_nmM fun M30 hM30 => ?_)
    replace h := h M30 hM30
    refine kr_aload_n O dX13_factor_38 rfl 0 rfl ?_
    exact kr_aret O dX13_factor_39 (by first | exact Or.inl ⟨_, rfl⟩ | exact Or.inr ⟨_, rfl⟩) h
def vc_X13_enter_15 (w : kt_W) (gr : kt_g × kt_M) (d : Nat) (P : Option Value → kt_M → Prop) (X : String → Nat → kt_M → Prop)  (a0 : Nat) (s0 : Int32) (sa1 : Nat) (M : kt_M) : Prop :=
  (kt_co M sa1 = some 8) ∧ 
  kt_Ca w gr d yX6_check kc_X6_check [va_rf (some sa1), .int s0, .int (3 : Int32)] M (kt_pV fun M1 => ∃ u2, kt_gf M1 a0 57 = some (.int u2) ∧ kt_hf gr M1 a0 57 ∧ ∀ M3, M3 = kt_pf M1 a0 57 (.int (u2 + (1 : Int32))) → (kt_co M3 a0 = some 8) ∧ 
  kt_Ca w gr d yX6_next kc_X6_next [va_rf (some a0)] M3 (kt_pV fun M4 => P none M4) X) X
theorem cj_X13_enter_15 {w : kt_W} {x : kt_X} {gr : kt_g × kt_M} {d : Nat} {P : Option Value → kt_M → Prop} {X : String → Nat → kt_M → Prop}  {a0 : Nat} {s0 : Int32} {sa1 : Nat} {M : kt_M} (O : kt_O w x gr (d + 1) cX13_enter "KeyTurns$QueryParser" 1 ("enter", "()V") (Option.none : Option Jvm.ClassFile.FieldType) [])  (h : vc_X13_enter_15 w gr d P X  a0 s0 sa1 M) : kt_S w x 1 (kt_E w x P X) M 15 [(0, va_rf (some a0))] [.int s0, va_rf (some sa1)] := by
  unfold vc_X13_enter_15 at h
  refine kr_iconst O dX13_enter_15 (v := (3 : Int32)) (by decide) ?_
  obtain ⟨hco, h⟩ := h
  refine kr_caV (rest := []) O cd_X6_check h (Nat.le_of_ble_eq_true rfl) (fun ls _ => kt_ivU (ci := 8) O dX13_enter_16 cd_X6_check q2180 q2181 (Or.inr q1644) q1646 q2182 hco (by decide) ⟨by decide, by decide, rfl⟩) (fun M1 hq => ?_) (fun E q M9 hx => kr_out O hx)
  replace h := hq
  clear hq
  refine kr_aload_n O dX13_enter_19 rfl 0 rfl ?_
  refine kr_dup O dX13_enter_20 (kt_nrf _) ?_
  obtain ⟨u2, eu2, h⟩ := h
  refine kr_getf O dX13_enter_21 fs_X13_68 eu2 ?_
  refine kr_iconst O dX13_enter_24 (v := (1 : Int32)) (by decide) ?_
  refine kr_iadd O dX13_enter_25 ?_
  obtain ⟨hw, h⟩ := h
  refine kr_putf O dX13_enter_26 fs_X13_68 (Or.inl rfl) ⟨rfl, rfl⟩ hw (kr_nmM fun M3 hM3 => ?_)
  replace h := h M3 hM3
  refine kr_aload_n O dX13_enter_29 rfl 0 rfl ?_
  obtain ⟨hco, h⟩ := h
  refine kr_caV (rest := []) O cd_X6_next h (Nat.le_of_ble_eq_true rfl) (fun ls _ => kt_ivU (ci := 8) O dX13_enter_30 cd_X6_next q2206 q2207 (Or.inr q1774) q1516 q2208 hco (by decide) ⟨by decide, by decide, rfl⟩) (fun M4 hq => ?_) (fun E q M9 hx => kr_out O hx)
  replace h := hq
  clear hq
  exact kr_vret O dX13_enter_33 h
def vc_X13_enter (w : kt_W) (gr : kt_g × kt_M) (d : Nat) (P : Option Value → kt_M → Prop) (X : String → Nat → kt_M → Prop) (a0 : Nat) (M : kt_M) : Prop :=
  ∃ u1, kt_gf M a0 57 = some (.int u1) ∧ 
    (((6 : Int32) ≤ u1 → vc_X13_enter_15 w gr d P X  a0 (0 : Int32) a0 M) ∧
    (¬ (6 : Int32) ≤ u1 → vc_X13_enter_15 w gr d P X  a0 (1 : Int32) a0 M))
theorem ce_X13_enter {w : kt_W} {g : kt_g} {d : Nat} {P : Option Value → kt_M → Prop} {X : String → Nat → kt_M → Prop} {a0 : Nat} {M : kt_M} (h : vc_X13_enter w (g, M) d P X a0 M) : kt_Sp w g (d + 1) yX13_enter kc_X13_enter [va_rf (some a0)] M P X := by
  refine kt_of (L0 := [(0, va_rf (some a0))]) (by decide +kernel) (Nat.le_of_ble_eq_true rfl) rfl fun x O => ?_
  replace O : kt_O w x (g, M) (d + 1) cX13_enter "KeyTurns$QueryParser" 1 ("enter", "()V") (Option.none : Option Jvm.ClassFile.FieldType) [] := O
  unfold vc_X13_enter at h
  refine kr_aload_n O dX13_enter_0 rfl 0 rfl ?_
  refine kr_aload_n O dX13_enter_1 rfl 0 rfl ?_
  obtain ⟨u1, eu1, h⟩ := h
  refine kr_getf O dX13_enter_2 fs_X13_68 eu1 ?_
  refine kr_bipush O dX13_enter_5 (v := (6 : Int32)) (by decide) ?_
  refine kr_icmp_ge (tgt := 14) O dX13_enter_7 rfl (fun hc => ?_) (fun hc => ?_)
  · replace h := h.1 hc
    refine kr_iconst O dX13_enter_14 (v := (0 : Int32)) (by decide) ?_
    exact cj_X13_enter_15 O  h
  · replace h := h.2 hc
    refine kr_iconst O dX13_enter_10 (v := (1 : Int32)) (by decide) ?_
    refine kr_goto (tgt := 15) O dX13_enter_11 rfl ?_
    exact cj_X13_enter_15 O  h
def vc_X13_operand_40 (w : kt_W) (gr : kt_g × kt_M) (d : Nat) (P : Option Value → kt_M → Prop) (X : String → Nat → kt_M → Prop)  (a0 : Nat) (v1 : Int32) (s0 : Int32) (sa1 : Nat) (M : kt_M) : Prop :=
  (kt_co M sa1 = some 8) ∧ 
  kt_Ca w gr d yX6_check kc_X6_check [va_rf (some sa1), .int s0, .int (1 : Int32)] M (kt_pV fun M1 => (kt_co M1 a0 = some 8) ∧ 
  kt_Ca w gr d yX6_next kc_X6_next [va_rf (some a0)] M1 (kt_pV fun M2 => P (some (.int v1)) M2) X) X
theorem cj_X13_operand_40 {w : kt_W} {x : kt_X} {gr : kt_g × kt_M} {d : Nat} {P : Option Value → kt_M → Prop} {X : String → Nat → kt_M → Prop}  {a0 : Nat} {v1 : Int32} {s0 : Int32} {sa1 : Nat} {M : kt_M} (O : kt_O w x gr (d + 1) cX13_operand "KeyTurns$QueryParser" 2 ("operand", "()I") (Option.some Jvm.ClassFile.FieldType.int) [])  (h : vc_X13_operand_40 w gr d P X  a0 v1 s0 sa1 M) : kt_S w x 2 (kt_E w x P X) M 40 [(0, va_rf (some a0)), (1, .int v1)] [.int s0, va_rf (some sa1)] := by
  unfold vc_X13_operand_40 at h
  refine kr_iconst O dX13_operand_40 (v := (1 : Int32)) (by decide) ?_
  obtain ⟨hco, h⟩ := h
  refine kr_caV (rest := []) O cd_X6_check h (Nat.le_of_ble_eq_true rfl) (fun ls _ => kt_ivU (ci := 8) O dX13_operand_41 cd_X6_check q2180 q2181 (Or.inr q1644) q1646 q2182 hco (by decide) ⟨by decide, by decide, rfl⟩) (fun M1 hq => ?_) (fun E q M9 hx => kr_out O hx)
  replace h := hq
  clear hq
  refine kr_aload_n O dX13_operand_44 rfl 0 rfl ?_
  obtain ⟨hco, h⟩ := h
  refine kr_caV (rest := []) O cd_X6_next h (Nat.le_of_ble_eq_true rfl) (fun ls _ => kt_ivU (ci := 8) O dX13_operand_45 cd_X6_next q2206 q2207 (Or.inr q1774) q1516 q2208 hco (by decide) ⟨by decide, by decide, rfl⟩) (fun M2 hq => ?_) (fun E q M9 hx => kr_out O hx)
  replace h := hq
  clear hq
  refine kr_iload_n O dX13_operand_48 rfl 1 rfl ?_
  exact kr_iret O dX13_operand_49 rfl h
def vc_X13_operand (w : kt_W) (gr : kt_g × kt_M) (d : Nat) (P : Option Value → kt_M → Prop) (X : String → Nat → kt_M → Prop) (a0 : Nat) (M : kt_M) : Prop :=
  ∃ p1, kt_gf M a0 51 = some (va_rf p1) ∧ 
    ((¬ p1 = (some (kt_cA w 1)) → (kt_co M a0 = some 8) ∧ 
    kt_Ca w gr d yX6_keyword kc_X6_keyword [va_rf (some a0)] M (kt_pR fun p2 M3 => 
    kt_Ca w gr d yX1_propertyCode kc_X1_propertyCode [va_rf p2] M3 (kt_pI fun u4 M5 => 
      ((u4 = (-1 : Int32) → vc_X13_operand_40 w gr d P X  a0 u4 (0 : Int32) a0 M5) ∧
      (¬ u4 = (-1 : Int32) → vc_X13_operand_40 w gr d P X  a0 u4 (1 : Int32) a0 M5))) X) X) ∧
    (p1 = (some (kt_cA w 1)) → (kt_co M a0 = some 8) ∧ 
    kt_Ca w gr d yX6_number kc_X6_number [va_rf (some a0), .int (0 : Int32), .int (9999 : Int32)] M (kt_pI fun u6 M7 => P (some (.int ((-1 : Int32) - u6))) M7) X))
theorem ce_X13_operand {w : kt_W} {g : kt_g} {d : Nat} {P : Option Value → kt_M → Prop} {X : String → Nat → kt_M → Prop} {a0 : Nat} {M : kt_M} (h : vc_X13_operand w (g, M) d P X a0 M) : kt_Sp w g (d + 1) yX13_operand kc_X13_operand [va_rf (some a0)] M P X := by
  refine kt_of (L0 := [(0, va_rf (some a0))]) (by decide +kernel) (Nat.le_of_ble_eq_true rfl) rfl fun x O => ?_
  replace O : kt_O w x (g, M) (d + 1) cX13_operand "KeyTurns$QueryParser" 2 ("operand", "()I") (Option.some Jvm.ClassFile.FieldType.int) [] := O
  unfold vc_X13_operand at h
  refine kr_aload_n O dX13_operand_0 rfl 0 rfl ?_
  obtain ⟨p1, ep1, h⟩ := h
  refine kr_getf O dX13_operand_1 fs_X13_35 ep1 ?_
  refine kr_gets O dX13_operand_4 q2233 (kt_inT 1 rfl) ?_
  refine kr_acmp_ne (tgt := 21) O dX13_operand_7 rfl (fun hc => ?_) (fun hc => ?_)
  · replace h := h.1 hc
    refine kr_aload_n O dX13_operand_21 rfl 0 rfl ?_
    obtain ⟨hco, h⟩ := h
    refine kr_caR (rest := []) O cd_X6_keyword h (Nat.le_of_ble_eq_true rfl) (fun ls _ => kt_ivU (ci := 8) O dX13_operand_22 cd_X6_keyword q2197 q2198 (Or.inr q1705) q1627 q2199 hco (by decide) ⟨by decide, by decide, rfl⟩) (fun p2 M3 hq => ?_) (fun E q M9 hx => kr_out O hx)
    replace h := hq
    clear hq
    refine kr_caI (rest := []) O cd_X1_propertyCode h (Nat.le_of_ble_eq_true rfl) (fun ls _ => kt_ivSN O dX13_operand_25 cd_X1_propertyCode in_X1_propertyCode q2237 q2238 hy_X1_propertyCode) (fun u4 M5 hq => ?_) (fun E q M9 hx => kr_out O hx)
    replace h := hq
    clear hq
    refine kr_istore_n O dX13_operand_28 rfl (Nat.le_of_ble_eq_true rfl) rfl rfl ?_
    refine kr_aload_n O dX13_operand_29 rfl 1 rfl ?_
    refine kr_iload_n O dX13_operand_30 rfl 0 rfl ?_
    refine kr_iconst O dX13_operand_31 (v := (-1 : Int32)) (by decide) ?_
    refine kr_icmp_eq (tgt := 39) O dX13_operand_32 rfl (fun hc => ?_) (fun hc => ?_)
    · replace h := h.1 hc
      refine kr_iconst O dX13_operand_39 (v := (0 : Int32)) (by decide) ?_
      refine kr_sub [1, 0] rfl ?_
      exact cj_X13_operand_40 O  h
    · replace h := h.2 hc
      refine kr_iconst O dX13_operand_35 (v := (1 : Int32)) (by decide) ?_
      refine kr_goto (tgt := 40) O dX13_operand_36 rfl ?_
      refine kr_sub [1, 0] rfl ?_
      exact cj_X13_operand_40 O  h
  · replace h := h.2 hc
    refine kr_iconst O dX13_operand_10 (v := (-1 : Int32)) (by decide) ?_
    refine kr_aload_n O dX13_operand_11 rfl 0 rfl ?_
    refine kr_iconst O dX13_operand_12 (v := (0 : Int32)) (by decide) ?_
    refine kr_sipush O dX13_operand_13 (v := (9999 : Int32)) (by decide) ?_
    obtain ⟨hco, h⟩ := h
    refine kr_caI (rest := [.int (-1 : Int32)]) O cd_X6_number h (Nat.le_of_ble_eq_true rfl) (fun ls _ => kt_ivU (ci := 8) O dX13_operand_16 cd_X6_number q2234 q2235 (Or.inr q1678) q1680 q2236 hco (by decide) ⟨by decide, by decide, rfl⟩) (fun u6 M7 hq => ?_) (fun E q M9 hx => kr_out O hx)
    replace h := hq
    clear hq
    refine kr_isub O dX13_operand_19 ?_
    exact kr_iret O dX13_operand_20 rfl h
def vc_X14_init (w : kt_W) (gr : kt_g × kt_M) (d : Nat) (P : Option Value → kt_M → Prop) (X : String → Nat → kt_M → Prop) (a0 : Nat) (M : kt_M) : Prop :=
  P none M
theorem ce_X14_init {w : kt_W} {g : kt_g} {d : Nat} {P : Option Value → kt_M → Prop} {X : String → Nat → kt_M → Prop} {a0 : Nat} {M : kt_M} (h : vc_X14_init w (g, M) d P X a0 M) : kt_Sp w g (d + 1) yX14_init kc_X14_init [va_rf (some a0)] M P X := by
  refine kt_of (L0 := [(0, va_rf (some a0))]) (by decide +kernel) (Nat.le_of_ble_eq_true rfl) rfl fun x O => ?_
  replace O : kt_O w x (g, M) (d + 1) cX14_init "KeyTurns$Test" 1 ("<init>", "()V") (Option.none : Option Jvm.ClassFile.FieldType) [] := O
  unfold vc_X14_init at h
  refine kr_aload_n O dX14_init_0 rfl 0 rfl ?_
  refine kr_objinit O dX14_init_1 q2217 q173 q174 (Nat.le_of_ble_eq_true rfl) ?_
  exact kr_vret O dX14_init_4 h
def vc_X15_init (w : kt_W) (gr : kt_g × kt_M) (d : Nat) (P : Option Value → kt_M → Prop) (X : String → Nat → kt_M → Prop) (a0 : Nat) (r1 : Option Nat) (M : kt_M) : Prop :=
  
  kt_Ca w gr d yX14_init kc_X14_init [va_rf (some a0)] M (kt_pV fun M1 => kt_hf gr M1 a0 59 ∧ ∀ M2, M2 = kt_pf M1 a0 59 (va_rf r1) → P none M2) X
theorem ce_X15_init {w : kt_W} {g : kt_g} {d : Nat} {P : Option Value → kt_M → Prop} {X : String → Nat → kt_M → Prop} {a0 : Nat} {r1 : Option Nat} {M : kt_M} (h : vc_X15_init w (g, M) d P X a0 r1 M) : kt_Sp w g (d + 1) yX15_init kc_X15_init [va_rf (some a0), va_rf r1] M P X := by
  refine kt_of (L0 := [(0, va_rf (some a0)), (1, va_rf r1)]) (by decide +kernel) (by simp only [kt_lgR, kt_lgI, kt_lgN] <;> exact Nat.le_of_ble_eq_true rfl) (by simp only [kt_lvR, kt_lvI, kt_lvN] <;> rfl) fun x O => ?_
  replace O : kt_O w x (g, M) (d + 1) cX15_init "KeyTurns$Not" 2 ("<init>", "(LKeyTurns$Test;)V") (Option.none : Option Jvm.ClassFile.FieldType) [] := O
  unfold vc_X15_init at h
  refine kr_aload_n O dX15_init_0 rfl 0 rfl ?_
  refine kr_caV (rest := []) O cd_X14_init h (Nat.le_of_ble_eq_true rfl) (fun ls _ => kt_ivI O dX15_init_1 cd_X14_init in_X14_init (Or.inr ⟨_, q2214⟩) q2215 hi_X14_init) (fun M1 hq => ?_) (fun E q M9 hx => kr_out O hx)
  replace h := hq
  clear hq
  refine kr_aload_n O dX15_init_4 rfl 0 rfl ?_
  refine kr_aload_n O dX15_init_5 rfl 1 rfl ?_
  obtain ⟨hw, h⟩ := h
  refine kr_putf O dX15_init_6 fs_X15_7 (Or.inr ⟨rfl, rfl⟩) (kt_ok_rf _ rfl) hw (kr_nmM fun M2 hM2 => ?_)
  replace h := h M2 hM2
  exact kr_vret O dX15_init_9 h
def vc_X15_holds (w : kt_W) (gr : kt_g × kt_M) (d : Nat) (P : Option Value → kt_M → Prop) (X : String → Nat → kt_M → Prop) (a0 : Nat) (r1 : Option Nat) (v2 : Int32) (M : kt_M) : Prop :=
  ∃ p1, kt_gf M a0 59 = some (va_rf p1) ∧ ∃ b2, p1 = some b2 ∧ ∃ K5 : Int32 → kt_M → Prop, ((kt_co M b2 = some 9 ∧ kt_Ca w gr d yX15_holds kc_X15_holds [va_rf (some b2), va_rf r1, .int v2] M (kt_pI K5) X) ∨ (kt_co M b2 = some 10 ∧ kt_Ca w gr d yX16_holds kc_X16_holds [va_rf (some b2), va_rf r1, .int v2] M (kt_pI K5) X) ∨ (kt_co M b2 = some 11 ∧ kt_Ca w gr d yX17_holds kc_X17_holds [va_rf (some b2), va_rf r1, .int v2] M (kt_pI K5) X)) ∧ (∀ u3 M4, K5 u3 M4 → 
      ((¬ u3 = 0 → P (some (.int (0 : Int32))) M4) ∧
      (u3 = 0 → P (some (.int (1 : Int32))) M4)))
theorem ce_X15_holds {w : kt_W} {g : kt_g} {d : Nat} {P : Option Value → kt_M → Prop} {X : String → Nat → kt_M → Prop} {a0 : Nat} {r1 : Option Nat} {v2 : Int32} {M : kt_M} (h : vc_X15_holds w (g, M) d P X a0 r1 v2 M) : kt_Sp w g (d + 1) yX15_holds kc_X15_holds [va_rf (some a0), va_rf r1, .int v2] M P X := by
  refine kt_of (L0 := [(0, va_rf (some a0)), (1, va_rf r1), (2, .int v2)]) (by decide +kernel) (by simp only [kt_lgR, kt_lgI, kt_lgN] <;> exact Nat.le_of_ble_eq_true rfl) (by simp only [kt_lvR, kt_lvI, kt_lvN] <;> rfl) fun x O => ?_
  replace O : kt_O w x (g, M) (d + 1) cX15_holds "KeyTurns$Not" 3 ("holds", "(LKeyTurns$State;I)Z") (Option.some Jvm.ClassFile.FieldType.boolean) [] := O
  unfold vc_X15_holds at h
  refine kr_aload_n O dX15_holds_0 rfl 0 rfl ?_
  obtain ⟨p1, ep1, h⟩ := h
  refine kr_getf O dX15_holds_1 fs_X15_7 ep1 ?_
  refine kr_aload_n O dX15_holds_4 rfl 1 rfl ?_
  refine kr_iload_n O dX15_holds_5 rfl 2 rfl ?_
  obtain ⟨b2, rfl, h⟩ := h
  obtain ⟨K5, hca, hK⟩ := h
  have h9 : ∀ u3 M4, K5 u3 M4 → kt_S w x 3 (kt_E w x P X) M4 (6 + 3) [(0, va_rf (some a0)), (1, va_rf r1), (2, .int v2)] (.int u3 :: []) := by
    intro u3 M4 h
    replace h := hK u3 M4 h
    refine kr_if_ne (tgt := 16) O dX15_holds_9 rfl (fun hc => ?_) (fun hc => ?_)
    · replace h := h.1 hc
      refine kr_iconst O dX15_holds_16 (v := (0 : Int32)) (by decide) ?_
      exact kr_iret O dX15_holds_17 (by decide) h
    · replace h := h.2 hc
      refine kr_iconst O dX15_holds_12 (v := (1 : Int32)) (by decide) ?_
      refine kr_goto (tgt := 17) O dX15_holds_13 rfl ?_
      exact kr_iret O dX15_holds_17 (by decide) h
  rcases hca with ⟨hco, h⟩ | ⟨hco, h⟩ | ⟨hco, h⟩
  · exact kr_caI (rest := []) O cd_X15_holds h (Nat.le_of_ble_eq_true rfl) (fun ls _ => kt_ivU (ci := 9) O dX15_holds_6 cd_X15_holds q2441 q2411 (Or.inr q2410) q2439 q2442 hco (by decide) ⟨by decide, by decide, rfl⟩) h9 (fun E q M9 hx => kr_out O hx)
  · exact kr_caI (rest := []) O cd_X16_holds h (Nat.le_of_ble_eq_true rfl) (fun ls _ => kt_ivU (ci := 10) O dX15_holds_6 cd_X16_holds q2441 q2411 (Or.inr q2410) q2413 q2412 hco (by decide) ⟨by decide, by decide, rfl⟩) h9 (fun E q M9 hx => kr_out O hx)
  · exact kr_caI (rest := []) O cd_X17_holds h (Nat.le_of_ble_eq_true rfl) (fun ls _ => kt_ivU (ci := 11) O dX15_holds_6 cd_X17_holds q2441 q2411 (Or.inr q2410) q2433 q2432 hco (by decide) ⟨by decide, by decide, rfl⟩) h9 (fun E q M9 hx => kr_out O hx)
def vc_J31_of (w : kt_W) (gr : kt_g × kt_M) (d : Nat) (P : Option Value → kt_M → Prop) (X : String → Nat → kt_M → Prop) (r0 : Option Nat) (r1 : Option Nat) (r2 : Option Nat) (r3 : Option Nat) (r4 : Option Nat) (r5 : Option Nat) (r6 : Option Nat) (r7 : Option Nat) (M : kt_M) : Prop :=
  ∃ n1, (8 : Int32) = nI n1 ∧ n1 < 2 ^ 31 ∧ kt_fits w M n1 ∧ ∃ t2, ∀ M3, M3 = kt_new M n1 (t2 + 2, .inl (3, kt_z 3 n1)) → ∃ k4, 3 ≤ k4 ∧ kt_hiq gr k4 M3 M.1 (0 : Int32) ∧ (∀ c, r0 = some c → kt_fo k4 M3 c) ∧ ∀ M5, M5 = kt_sq M3 M.1 (0 : Int32) r0 → ∃ k6, 3 ≤ k6 ∧ kt_hiq gr k6 M5 M.1 (1 : Int32) ∧ (∀ c, r1 = some c → kt_fo k6 M5 c) ∧ ∀ M7, M7 = kt_sq M5 M.1 (1 : Int32) r1 → ∃ k8, 3 ≤ k8 ∧ kt_hiq gr k8 M7 M.1 (2 : Int32) ∧ (∀ c, r2 = some c → kt_fo k8 M7 c) ∧ ∀ M9, M9 = kt_sq M7 M.1 (2 : Int32) r2 → ∃ k10, 3 ≤ k10 ∧ kt_hiq gr k10 M9 M.1 (3 : Int32) ∧ (∀ c, r3 = some c → kt_fo k10 M9 c) ∧ ∀ M11, M11 = kt_sq M9 M.1 (3 : Int32) r3 → ∃ k12, 3 ≤ k12 ∧ kt_hiq gr k12 M11 M.1 (4 : Int32) ∧ (∀ c, r4 = some c → kt_fo k12 M11 c) ∧ ∀ M13, M13 = kt_sq M11 M.1 (4 : Int32) r4 → ∃ k14, 3 ≤ k14 ∧ kt_hiq gr k14 M13 M.1 (5 : Int32) ∧ (∀ c, r5 = some c → kt_fo k14 M13 c) ∧ ∀ M15, M15 = kt_sq M13 M.1 (5 : Int32) r5 → ∃ k16, 3 ≤ k16 ∧ kt_hiq gr k16 M15 M.1 (6 : Int32) ∧ (∀ c, r6 = some c → kt_fo k16 M15 c) ∧ ∀ M17, M17 = kt_sq M15 M.1 (6 : Int32) r6 → ∃ k18, 3 ≤ k18 ∧ kt_hiq gr k18 M17 M.1 (7 : Int32) ∧ (∀ c, r7 = some c → kt_fo k18 M17 c) ∧ ∀ M19, M19 = kt_sq M17 M.1 (7 : Int32) r7 → 
  kt_Ca w gr d yJ32_listFromTrustedArray kc_J32_listFromTrustedArray [va_rf (some M.1)] M19 (kt_pR fun p20 M21 => P (some (va_rf p20)) M21) X
theorem ce_J31_of {w : kt_W} {g : kt_g} {d : Nat} {P : Option Value → kt_M → Prop} {X : String → Nat → kt_M → Prop} {r0 : Option Nat} {r1 : Option Nat} {r2 : Option Nat} {r3 : Option Nat} {r4 : Option Nat} {r5 : Option Nat} {r6 : Option Nat} {r7 : Option Nat} {M : kt_M} (h : vc_J31_of w (g, M) d P X r0 r1 r2 r3 r4 r5 r6 r7 M) : kt_Sp w g (d + 1) yJ31_of kc_J31_of [va_rf r0, va_rf r1, va_rf r2, va_rf r3, va_rf r4, va_rf r5, va_rf r6, va_rf r7] M P X := by
  refine kt_of (L0 := [(0, va_rf r0), (1, va_rf r1), (2, va_rf r2), (3, va_rf r3), (4, va_rf r4), (5, va_rf r5), (6, va_rf r6), (7, va_rf r7)]) (by decide +kernel) (by simp only [kt_lgR, kt_lgI, kt_lgN] <;> exact Nat.le_of_ble_eq_true rfl) (by simp only [kt_lvR, kt_lvI, kt_lvN] <;> rfl) fun x O => ?_
  replace O : kt_O w x (g, M) (d + 1) cJ31_of "java/util/List" 8 ("of", "(Ljava/lang/Object;Ljava/lang/Object;Ljava/lang/Object;Ljava/lang/Object;Ljava/lang/Object;Ljava/lang/Object;Ljava/lang/Object;Ljava/lang/Object;)Ljava/util/List;") (Option.some (Jvm.ClassFile.FieldType.object "java/util/List")) [] := O
  unfold vc_J31_of at h
  refine kr_bipush O dJ31_of_0 (v := (8 : Int32)) (by decide) ?_
  obtain ⟨n1, hn, hl, hf, t2, h⟩ := h
  refine kr_anew t2 3 O dJ31_of_2 (by decide) (by decide) rfl q2251 q185 hn hl hf (kr_nmM fun M3 hM3 => ?_)
  replace h := h M3 hM3
  refine kr_dup O dJ31_of_5 (kt_nrf _) ?_
  refine kr_iconst O dJ31_of_6 (v := (0 : Int32)) (by decide) ?_
  refine kr_aload_n O dJ31_of_7 rfl 0 rfl ?_
  obtain ⟨k4, hk4, hw, hfo, h⟩ := h
  refine kr_aastore k4 hk4 O dJ31_of_8 hw hfo (kr_nmM fun M5 hM5 => ?_)
  replace h := h M5 hM5
  refine kr_dup O dJ31_of_9 (kt_nrf _) ?_
  refine kr_iconst O dJ31_of_10 (v := (1 : Int32)) (by decide) ?_
  refine kr_aload_n O dJ31_of_11 rfl 1 rfl ?_
  obtain ⟨k6, hk6, hw, hfo, h⟩ := h
  refine kr_aastore k6 hk6 O dJ31_of_12 hw hfo (kr_nmM fun M7 hM7 => ?_)
  replace h := h M7 hM7
  refine kr_dup O dJ31_of_13 (kt_nrf _) ?_
  refine kr_iconst O dJ31_of_14 (v := (2 : Int32)) (by decide) ?_
  refine kr_aload_n O dJ31_of_15 rfl 2 rfl ?_
  obtain ⟨k8, hk8, hw, hfo, h⟩ := h
  refine kr_aastore k8 hk8 O dJ31_of_16 hw hfo (kr_nmM fun M9 hM9 => ?_)
  replace h := h M9 hM9
  refine kr_dup O dJ31_of_17 (kt_nrf _) ?_
  refine kr_iconst O dJ31_of_18 (v := (3 : Int32)) (by decide) ?_
  refine kr_aload_n O dJ31_of_19 rfl 3 rfl ?_
  obtain ⟨k10, hk10, hw, hfo, h⟩ := h
  refine kr_aastore k10 hk10 O dJ31_of_20 hw hfo (kr_nmM fun M11 hM11 => ?_)
  replace h := h M11 hM11
  refine kr_dup O dJ31_of_21 (kt_nrf _) ?_
  refine kr_iconst O dJ31_of_22 (v := (4 : Int32)) (by decide) ?_
  refine kr_aload O dJ31_of_23 4 rfl ?_
  obtain ⟨k12, hk12, hw, hfo, h⟩ := h
  refine kr_aastore k12 hk12 O dJ31_of_25 hw hfo (kr_nmM fun M13 hM13 => ?_)
  replace h := h M13 hM13
  refine kr_dup O dJ31_of_26 (kt_nrf _) ?_
  refine kr_iconst O dJ31_of_27 (v := (5 : Int32)) (by decide) ?_
  refine kr_aload O dJ31_of_28 5 rfl ?_
  obtain ⟨k14, hk14, hw, hfo, h⟩ := h
  refine kr_aastore k14 hk14 O dJ31_of_30 hw hfo (kr_nmM fun M15 hM15 => ?_)
  replace h := h M15 hM15
  refine kr_dup O dJ31_of_31 (kt_nrf _) ?_
  refine kr_bipush O dJ31_of_32 (v := (6 : Int32)) (by decide) ?_
  refine kr_aload O dJ31_of_34 6 rfl ?_
  obtain ⟨k16, hk16, hw, hfo, h⟩ := h
  refine kr_aastore k16 hk16 O dJ31_of_36 hw hfo (kr_nmM fun M17 hM17 => ?_)
  replace h := h M17 hM17
  refine kr_dup O dJ31_of_37 (kt_nrf _) ?_
  refine kr_bipush O dJ31_of_38 (v := (7 : Int32)) (by decide) ?_
  refine kr_aload O dJ31_of_40 7 rfl ?_
  obtain ⟨k18, hk18, hw, hfo, h⟩ := h
  refine kr_aastore k18 hk18 O dJ31_of_42 hw hfo (kr_nmM fun M19 hM19 => ?_)
  replace h := h M19 hM19
  refine kr_caR (rest := []) O cd_J32_listFromTrustedArray h (Nat.le_of_ble_eq_true rfl) (fun ls _ => kt_ivS O dJ31_of_43 cd_J32_listFromTrustedArray in_J32_listFromTrustedArray q2252 q2253 hy_J32_listFromTrustedArray) (fun p20 M21 hq => ?_) (fun E q M9 hx => kr_out O hx)
  replace h := hq
  clear hq
  exact kr_aret O dJ31_of_46 (by first | exact Or.inl ⟨_, rfl⟩ | exact Or.inr ⟨_, rfl⟩) h
def vc_J32_listFromTrustedArray_30 (w : kt_W) (gr : kt_g × kt_M) (d : Nat) (P : Option Value → kt_M → Prop) (X : String → Nat → kt_M → Prop) (nx30 : Int32 → kt_M → Prop) (a0 : Nat) (a1 : Nat) (v2 : Int32) (v3 : Int32) (M : kt_M) : Prop :=
  
    ((v2 ≤ v3 → ∃ n1, kt_len M a0 = some n1 ∧ 
      (((nI n1).toInt < 0 ∨ 2 < (nI n1).toInt → kt_fits w M 2 ∧ ∃ t2, ∀ M3, M3 = kt_new M 2 (t2 + 2, .inr (21, [va_rf none, .int 0])) → 
      kt_Ca w gr d yJ36_init kc_J36_init [va_rf (some M.1), va_rf (some a0), .int (0 : Int32)] M3 (kt_pV fun M4 => P (some (va_rf (some M.1))) M4) X) ∧
      ((nI n1).toInt = 0 → False) ∧
      ((nI n1).toInt = 1 → False) ∧
      ((nI n1).toInt = 2 → False))) ∧
    (¬ v2 ≤ v3 → ∃ k6, 3 ≤ k6 ∧ ∃ p5, kt_el k6 M a1 v3 = some (va_rf p5) ∧ 
    kt_Ca w gr d yJ22_requireNonNull kc_J22_requireNonNull [va_rf p5] M (kt_pR fun p7 M8 => nx30 (v3 + (1 : Int32)) M8) X))
theorem cj_J32_listFromTrustedArray_30 {w : kt_W} {x : kt_X} {gr : kt_g × kt_M} {d : Nat} {P : Option Value → kt_M → Prop} {X : String → Nat → kt_M → Prop} {nx30 : Int32 → kt_M → Prop} {a0 : Nat} {a1 : Nat} {v2 : Int32} {v3 : Int32} {M : kt_M} (O : kt_O w x gr (d + 1) cJ32_listFromTrustedArray "java/util/ImmutableCollections" 5 ("listFromTrustedArray", "([Ljava/lang/Object;)Ljava/util/List;") (Option.some (Jvm.ClassFile.FieldType.object "java/util/List")) []) (hn30 : ∀ v3 M, nx30 v3 M → kt_S w x 5 (kt_E w x P X) M 30 [(0, va_rf (some a0)), (1, va_rf (some a1)), (2, .int v2), (3, .int v3)] []) (h : vc_J32_listFromTrustedArray_30 w gr d P X nx30 a0 a1 v2 v3 M) : kt_S w x 5 (kt_E w x P X) M 30 [(0, va_rf (some a0)), (1, va_rf (some a1)), (2, .int v2), (3, .int v3)] [] := by
  unfold vc_J32_listFromTrustedArray_30 at h
  refine kr_iload_n O dJ32_listFromTrustedArray_30 rfl 3 rfl ?_
  refine kr_iload_n O dJ32_listFromTrustedArray_31 rfl 2 rfl ?_
  refine kr_icmp_ge (tgt := 52) O dJ32_listFromTrustedArray_32 rfl (fun hc => ?_) (fun hc => ?_)
  · replace h := h.1 hc
    refine kr_aload_n O dJ32_listFromTrustedArray_52 rfl 0 rfl ?_
    obtain ⟨n1, en1, h⟩ := h
    refine kr_alen O dJ32_listFromTrustedArray_53 en1 ?_
    by_cases hs : (nI n1).toInt < 0 ∨ 2 < (nI n1).toInt
    · refine kr_tableOut (tgt := 115) O dJ32_listFromTrustedArray_54 hs rfl ?_
      replace h := h.1 hs
      obtain ⟨hf, t2, h⟩ := h
      refine kr_new (c := 21) (r := (RJ36, TJ36, 2)) (fs := [va_rf none, .int 0]) t2 O dJ32_listFromTrustedArray_115 rfl q2289 q2290 q164 rfl hf (kr_nmM fun M3 hM3 => ?_)
      replace h := h M3 hM3
      refine kr_dup O dJ32_listFromTrustedArray_118 (kt_nrf _) ?_
      refine kr_aload_n O dJ32_listFromTrustedArray_119 rfl 0 rfl ?_
      refine kr_iconst O dJ32_listFromTrustedArray_120 (v := (0 : Int32)) (by decide) ?_
      refine kr_caV (rest := [va_rf (some M.1)]) O cd_J36_init h (Nat.le_of_ble_eq_true rfl) (fun ls _ => kt_ivI O dJ32_listFromTrustedArray_121 cd_J36_init in_J36_init (Or.inr ⟨_, q2291⟩) q2292 hi_J36_init) (fun M4 hq => ?_) (fun E q M9 hx => kr_out O hx)
      replace h := hq
      clear hq
      exact kr_aret O dJ32_listFromTrustedArray_124 (by first | exact Or.inl ⟨_, rfl⟩ | exact Or.inr ⟨_, rfl⟩) h
    replace h := h.2
    have hs2 : (nI n1).toInt = 0 ∨ (nI n1).toInt = 1 ∨ (nI n1).toInt = 2 := by omega
    rcases hs2 with hs2 | hs2 | hs2
    · refine kr_tableIn (tgt := 80) O dJ32_listFromTrustedArray_54 (0) hs2 (by decide) (by decide) rfl rfl ?_
      replace h := h.1 hs2
      exact h.elim
    · refine kr_tableIn (tgt := 86) O dJ32_listFromTrustedArray_54 (1) hs2 (by decide) (by decide) rfl rfl ?_
      replace h := h.2.1 hs2
      exact h.elim
    · refine kr_tableIn (tgt := 99) O dJ32_listFromTrustedArray_54 (2) hs2 (by decide) (by decide) rfl rfl ?_
      replace h := h.2.2 hs2
      exact h.elim
  · replace h := h.2 hc
    refine kr_aload_n O dJ32_listFromTrustedArray_35 rfl 1 rfl ?_
    refine kr_iload_n O dJ32_listFromTrustedArray_36 rfl 3 rfl ?_
    obtain ⟨k6, hk6, p5, ep5, h⟩ := h
    refine kr_aaload k6 hk6 O dJ32_listFromTrustedArray_37 ep5 ?_
    refine kr_astore O dJ32_listFromTrustedArray_38 (Nat.le_of_ble_eq_true rfl) rfl rfl ?_
    refine kr_aload O dJ32_listFromTrustedArray_40 0 rfl ?_
    refine kr_caR (rest := []) O cd_J22_requireNonNull h (Nat.le_of_ble_eq_true rfl) (fun ls _ => kt_ivS O dJ32_listFromTrustedArray_42 cd_J22_requireNonNull in_J22_requireNonNull q2259 q2260 hy_J22_requireNonNull) (fun p7 M8 hq => ?_) (fun E q M9 hx => kr_out O hx)
    replace h := hq
    clear hq
    refine kr_pop O dJ32_listFromTrustedArray_45 (kt_nrf _) ?_
    refine kr_iinc O dJ32_listFromTrustedArray_46 4 rfl (v := v3 + (1 : Int32)) rfl (Nat.le_of_ble_eq_true rfl) rfl rfl ?_
    refine kr_goto (tgt := 30) O dJ32_listFromTrustedArray_49 rfl ?_
    refine kr_sub [2, 3, 4, 0] rfl ?_
    exact hn30 _ _ h
def vl_J32_listFromTrustedArray_30 (w : kt_W) (gr : kt_g × kt_M) (d : Nat) (P : Option Value → kt_M → Prop) (X : String → Nat → kt_M → Prop)  (a0 : Nat) (a1 : Nat) (v2 : Int32) (v3 : Int32) (M : kt_M) : Prop :=
  ∃ Inv : Nat → Int32 → kt_M → Prop, (∃ k, Inv k v3 M) ∧ ∀ k v3 M, kt_le gr.1 gr.2 M → Inv k v3 M → vc_J32_listFromTrustedArray_30 w gr d P X (fun v3' M' => ∃ k', k' < k ∧ Inv k' v3' M') a0 a1 v2 v3 M
theorem cl_J32_listFromTrustedArray_30 {w : kt_W} {x : kt_X} {gr : kt_g × kt_M} {d : Nat} {P : Option Value → kt_M → Prop} {X : String → Nat → kt_M → Prop}  {a0 : Nat} {a1 : Nat} {v2 : Int32} {v3 : Int32} {M : kt_M} (O : kt_O w x gr (d + 1) cJ32_listFromTrustedArray "java/util/ImmutableCollections" 5 ("listFromTrustedArray", "([Ljava/lang/Object;)Ljava/util/List;") (Option.some (Jvm.ClassFile.FieldType.object "java/util/List")) [])  (h : vl_J32_listFromTrustedArray_30 w gr d P X  a0 a1 v2 v3 M) : kt_S w x 5 (kt_E w x P X) M 30 [(0, va_rf (some a0)), (1, va_rf (some a1)), (2, .int v2), (3, .int v3)] [] := by
  obtain ⟨Inv, ⟨k, hk⟩, hb⟩ := h
  induction k using Nat.strongRecOn generalizing v3 M with
  | ind k ih =>
    exact kr_le O fun hle => cj_J32_listFromTrustedArray_30 O (fun v3' M' hi => let ⟨k', h1, h2⟩ := hi; ih k' h1 h2) (hb k _ _ hle hk)
def vc_J32_listFromTrustedArray_23 (w : kt_W) (gr : kt_g × kt_M) (d : Nat) (P : Option Value → kt_M → Prop) (X : String → Nat → kt_M → Prop)  (r0 : Option Nat) (M : kt_M) : Prop :=
  ∃ b1, r0 = some b1 ∧ ∃ n2, kt_len M b1 = some n2 ∧ vl_J32_listFromTrustedArray_30 w gr d P X  b1 b1 (nI n2) (0 : Int32) M
theorem cj_J32_listFromTrustedArray_23 {w : kt_W} {x : kt_X} {gr : kt_g × kt_M} {d : Nat} {P : Option Value → kt_M → Prop} {X : String → Nat → kt_M → Prop}  {r0 : Option Nat} {M : kt_M} (O : kt_O w x gr (d + 1) cJ32_listFromTrustedArray "java/util/ImmutableCollections" 5 ("listFromTrustedArray", "([Ljava/lang/Object;)Ljava/util/List;") (Option.some (Jvm.ClassFile.FieldType.object "java/util/List")) [])  (h : vc_J32_listFromTrustedArray_23 w gr d P X  r0 M) : kt_S w x 5 (kt_E w x P X) M 23 [(0, va_rf r0)] [] := by
  unfold vc_J32_listFromTrustedArray_23 at h
  refine kr_aload_n O dJ32_listFromTrustedArray_23 rfl 0 rfl ?_
  refine kr_astore_n O dJ32_listFromTrustedArray_24 rfl (Nat.le_of_ble_eq_true rfl) (by simp [kt_nw, kt_nrf, kt_cI, kt_cJ, kt_cF, kt_cD, kt_cR, kt_cU]) rfl ?_
  refine kr_aload_n O dJ32_listFromTrustedArray_25 rfl 0 rfl ?_
  obtain ⟨b1, rfl, h⟩ := h
  obtain ⟨n2, en2, h⟩ := h
  refine kr_alen O dJ32_listFromTrustedArray_26 en2 ?_
  refine kr_istore_n O dJ32_listFromTrustedArray_27 rfl (Nat.le_of_ble_eq_true rfl) rfl rfl ?_
  refine kr_iconst O dJ32_listFromTrustedArray_28 (v := (0 : Int32)) (by decide) ?_
  refine kr_istore_n O dJ32_listFromTrustedArray_29 rfl (Nat.le_of_ble_eq_true rfl) rfl rfl ?_
  refine kr_sub [3, 2, 1, 0] rfl ?_
  exact cl_J32_listFromTrustedArray_30 O  h
def vc_J32_listFromTrustedArray (w : kt_W) (gr : kt_g × kt_M) (d : Nat) (P : Option Value → kt_M → Prop) (X : String → Nat → kt_M → Prop) (r0 : Option Nat) (M : kt_M) : Prop :=
  
    ((¬ (1 : Int32) = 0 → vc_J32_listFromTrustedArray_23 w gr d P X  r0 M) ∧
    ((1 : Int32) = 0 → ∃ b1, r0 = some b1 ∧ (∃ t y, M.2.2 b1 = (t + 2, .inl (3, y))) ∧ 
      (((some (kt_cA w 90)) = (some (kt_cA w 90)) → vc_J32_listFromTrustedArray_23 w gr d P X  (some b1) M) ∧
      (¬ (some (kt_cA w 90)) = (some (kt_cA w 90)) → False))))
theorem ce_J32_listFromTrustedArray {w : kt_W} {g : kt_g} {d : Nat} {P : Option Value → kt_M → Prop} {X : String → Nat → kt_M → Prop} {r0 : Option Nat} {M : kt_M} (h : vc_J32_listFromTrustedArray w (g, M) d P X r0 M) : kt_Sp w g (d + 1) yJ32_listFromTrustedArray kc_J32_listFromTrustedArray [va_rf r0] M P X := by
  refine kt_of (L0 := [(0, va_rf r0)]) (by decide +kernel) (by simp only [kt_lgR, kt_lgI, kt_lgN] <;> exact Nat.le_of_ble_eq_true rfl) (by simp only [kt_lvR, kt_lvI, kt_lvN] <;> rfl) fun x O => ?_
  replace O : kt_O w x (g, M) (d + 1) cJ32_listFromTrustedArray "java/util/ImmutableCollections" 5 ("listFromTrustedArray", "([Ljava/lang/Object;)Ljava/util/List;") (Option.some (Jvm.ClassFile.FieldType.object "java/util/List")) [] := O
  unfold vc_J32_listFromTrustedArray at h
  refine kr_getsI O dJ32_listFromTrustedArray_0 q2255 (kt_inI 2 rfl) ?_
  refine kr_if_ne (tgt := 23) O dJ32_listFromTrustedArray_3 rfl (fun hc => ?_) (fun hc => ?_)
  · replace h := h.1 hc
    exact cj_J32_listFromTrustedArray_23 O  h
  · replace h := h.2 hc
    refine kr_aload_n O dJ32_listFromTrustedArray_6 rfl 0 rfl ?_
    obtain ⟨b1, rfl, h⟩ := h
    obtain ⟨⟨tc, yc, hc⟩, h⟩ := h
    refine kr_getClass O dJ32_listFromTrustedArray_7 q2257 hc (Nat.le_of_ble_eq_true rfl) ?_
    refine kr_ldcM O dJ32_listFromTrustedArray_10 q2258 ?_
    refine kr_acmp_eq (tgt := 23) O dJ32_listFromTrustedArray_12 rfl (fun hc => ?_) (fun hc => ?_)
    · replace h := h.1 hc
      exact cj_J32_listFromTrustedArray_23 O  h
    · replace h := h.2 hc
      exact h.elim
def vc_J33_init (w : kt_W) (gr : kt_g × kt_M) (d : Nat) (P : Option Value → kt_M → Prop) (X : String → Nat → kt_M → Prop) (a0 : Nat) (M : kt_M) : Prop :=
  
  kt_Ca w gr d yJ0_init kc_J0_init [va_rf (some a0)] M (kt_pV fun M1 => P none M1) X
theorem ce_J33_init {w : kt_W} {g : kt_g} {d : Nat} {P : Option Value → kt_M → Prop} {X : String → Nat → kt_M → Prop} {a0 : Nat} {M : kt_M} (h : vc_J33_init w (g, M) d P X a0 M) : kt_Sp w g (d + 1) yJ33_init kc_J33_init [va_rf (some a0)] M P X := by
  refine kt_of (L0 := [(0, va_rf (some a0))]) (by decide +kernel) (Nat.le_of_ble_eq_true rfl) rfl fun x O => ?_
  replace O : kt_O w x (g, M) (d + 1) cJ33_init "java/util/ImmutableCollections$AbstractImmutableCollection" 1 ("<init>", "()V") (Option.none : Option Jvm.ClassFile.FieldType) [] := O
  unfold vc_J33_init at h
  refine kr_aload_n O dJ33_init_0 rfl 0 rfl ?_
  refine kr_caV (rest := []) O cd_J0_init h (Nat.le_of_ble_eq_true rfl) (fun ls _ => kt_ivI O dJ33_init_1 cd_J0_init in_J0_init (Or.inl q2275) q181 hi_J0_init) (fun M1 hq => ?_) (fun E q M9 hx => kr_out O hx)
  replace h := hq
  clear hq
  exact kr_vret O dJ33_init_4 h
def vc_J34_init (w : kt_W) (gr : kt_g × kt_M) (d : Nat) (P : Option Value → kt_M → Prop) (X : String → Nat → kt_M → Prop) (a0 : Nat) (M : kt_M) : Prop :=
  
  kt_Ca w gr d yJ33_init kc_J33_init [va_rf (some a0)] M (kt_pV fun M1 => P none M1) X
theorem ce_J34_init {w : kt_W} {g : kt_g} {d : Nat} {P : Option Value → kt_M → Prop} {X : String → Nat → kt_M → Prop} {a0 : Nat} {M : kt_M} (h : vc_J34_init w (g, M) d P X a0 M) : kt_Sp w g (d + 1) yJ34_init kc_J34_init [va_rf (some a0)] M P X := by
  refine kt_of (L0 := [(0, va_rf (some a0))]) (by decide +kernel) (Nat.le_of_ble_eq_true rfl) rfl fun x O => ?_
  replace O : kt_O w x (g, M) (d + 1) cJ34_init "java/util/ImmutableCollections$AbstractImmutableList" 1 ("<init>", "()V") (Option.none : Option Jvm.ClassFile.FieldType) [] := O
  unfold vc_J34_init at h
  refine kr_aload_n O dJ34_init_0 rfl 0 rfl ?_
  refine kr_caV (rest := []) O cd_J33_init h (Nat.le_of_ble_eq_true rfl) (fun ls _ => kt_ivI O dJ34_init_1 cd_J33_init in_J33_init (Or.inl q2272) q2273 hi_J33_init) (fun M1 hq => ?_) (fun E q M9 hx => kr_out O hx)
  replace h := hq
  clear hq
  exact kr_vret O dJ34_init_4 h
def vc_J36_init (w : kt_W) (gr : kt_g × kt_M) (d : Nat) (P : Option Value → kt_M → Prop) (X : String → Nat → kt_M → Prop) (a0 : Nat) (r1 : Option Nat) (v2 : Int32) (M : kt_M) : Prop :=
  
  kt_Ca w gr d yJ34_init kc_J34_init [va_rf (some a0)] M (kt_pV fun M1 => kt_hf gr M1 a0 118 ∧ ∀ M2, M2 = kt_pf M1 a0 118 (va_rf r1) → kt_ok 119 (.int v2) ∧ kt_hf gr M2 a0 119 ∧ ∀ M3, M3 = kt_pf M2 a0 119 (.int v2) → P none M3) X
theorem ce_J36_init {w : kt_W} {g : kt_g} {d : Nat} {P : Option Value → kt_M → Prop} {X : String → Nat → kt_M → Prop} {a0 : Nat} {r1 : Option Nat} {v2 : Int32} {M : kt_M} (h : vc_J36_init w (g, M) d P X a0 r1 v2 M) : kt_Sp w g (d + 1) yJ36_init kc_J36_init [va_rf (some a0), va_rf r1, .int v2] M P X := by
  refine kt_of (L0 := [(0, va_rf (some a0)), (1, va_rf r1), (2, .int v2)]) (by decide +kernel) (by simp only [kt_lgR, kt_lgI, kt_lgN] <;> exact Nat.le_of_ble_eq_true rfl) (by simp only [kt_lvR, kt_lvI, kt_lvN] <;> rfl) fun x O => ?_
  replace O : kt_O w x (g, M) (d + 1) cJ36_init "java/util/ImmutableCollections$ListN" 3 ("<init>", "([Ljava/lang/Object;Z)V") (Option.none : Option Jvm.ClassFile.FieldType) [] := O
  unfold vc_J36_init at h
  refine kr_aload_n O dJ36_init_0 rfl 0 rfl ?_
  refine kr_caV (rest := []) O cd_J34_init h (Nat.le_of_ble_eq_true rfl) (fun ls _ => kt_ivI O dJ36_init_1 cd_J34_init in_J34_init (Or.inl q2294) q2270 hi_J34_init) (fun M1 hq => ?_) (fun E q M9 hx => kr_out O hx)
  replace h := hq
  clear hq
  refine kr_aload_n O dJ36_init_4 rfl 0 rfl ?_
  refine kr_aload_n O dJ36_init_5 rfl 1 rfl ?_
  obtain ⟨hw, h⟩ := h
  refine kr_putf O dJ36_init_6 fs_J36_7 (Or.inr ⟨rfl, rfl⟩) (kt_ok_ra _ rfl) hw (kr_nmM fun M2 hM2 => ?_)
  replace h := h M2 hM2
  refine kr_aload_n O dJ36_init_9 rfl 0 rfl ?_
  refine kr_iload_n O dJ36_init_10 rfl 2 rfl ?_
  obtain ⟨hok, h⟩ := h
  obtain ⟨hw, h⟩ := h
  refine kr_putf O dJ36_init_11 fs_J36_13 (Or.inr ⟨rfl, rfl⟩) hok hw (kr_nmM fun M3 hM3 => ?_)
  replace h := h M3 hM3
  exact kr_vret O dJ36_init_14 h
def vc_J36_indexOf_26 (w : kt_W) (gr : kt_g × kt_M) (d : Nat) (P : Option Value → kt_M → Prop) (X : String → Nat → kt_M → Prop) (nx26 : Int32 → kt_M → Prop) (r1 : Option Nat) (r2 : Option Nat) (v3 : Int32) (M : kt_M) : Prop :=
  ∃ b1, r2 = some b1 ∧ ∃ n2, kt_len M b1 = some n2 ∧ 
    (((nI n2) ≤ v3 → P (some (.int (-1 : Int32))) M) ∧
    (¬ (nI n2) ≤ v3 → ∃ k4, 3 ≤ k4 ∧ ∃ p3, kt_el k4 M b1 v3 = some (va_rf p3) ∧ 
    kt_Ca w gr d yJ22_equals kc_J22_equals [va_rf r1, va_rf p3] M (kt_pI fun u5 M6 => 
      ((u5 = 0 → nx26 (v3 + (1 : Int32)) M6) ∧
      (¬ u5 = 0 → P (some (.int v3)) M6))) X))
theorem cj_J36_indexOf_26 {w : kt_W} {x : kt_X} {gr : kt_g × kt_M} {d : Nat} {P : Option Value → kt_M → Prop} {X : String → Nat → kt_M → Prop} {nx26 : Int32 → kt_M → Prop} {r1 : Option Nat} {r2 : Option Nat} {v3 : Int32} {M : kt_M} (O : kt_O w x gr (d + 1) cJ36_indexOf "java/util/ImmutableCollections$ListN" 4 ("indexOf", "(Ljava/lang/Object;)I") (Option.some Jvm.ClassFile.FieldType.int) []) (hn26 : ∀ v3 M, nx26 v3 M → kt_S w x 4 (kt_E w x P X) M 26 [(1, va_rf r1), (2, va_rf r2), (3, .int v3)] []) (h : vc_J36_indexOf_26 w gr d P X nx26 r1 r2 v3 M) : kt_S w x 4 (kt_E w x P X) M 26 [(1, va_rf r1), (2, va_rf r2), (3, .int v3)] [] := by
  unfold vc_J36_indexOf_26 at h
  refine kr_iload_n O dJ36_indexOf_26 rfl 2 rfl ?_
  refine kr_aload_n O dJ36_indexOf_27 rfl 1 rfl ?_
  obtain ⟨b1, rfl, h⟩ := h
  obtain ⟨n2, en2, h⟩ := h
  refine kr_alen O dJ36_indexOf_28 en2 ?_
  refine kr_icmp_ge (tgt := 50) O dJ36_indexOf_29 rfl (fun hc => ?_) (fun hc => ?_)
  · replace h := h.1 hc
    refine kr_iconst O dJ36_indexOf_50 (v := (-1 : Int32)) (by decide) ?_
    exact kr_iret O dJ36_indexOf_51 rfl h
  · replace h := h.2 hc
    refine kr_aload_n O dJ36_indexOf_32 rfl 0 rfl ?_
    refine kr_aload_n O dJ36_indexOf_33 rfl 1 rfl ?_
    refine kr_iload_n O dJ36_indexOf_34 rfl 2 rfl ?_
    obtain ⟨k4, hk4, p3, ep3, h⟩ := h
    refine kr_aaload k4 hk4 O dJ36_indexOf_35 ep3 ?_
    refine kr_caI (rest := []) O cd_J22_equals h (Nat.le_of_ble_eq_true rfl) (fun ls _ => kt_ivS O dJ36_indexOf_36 cd_J22_equals in_J22_equals q2358 q2359 hy_J22_equals) (fun u5 M6 hq => ?_) (fun E q M9 hx => kr_out O hx)
    replace h := hq
    clear hq
    refine kr_if_eq (tgt := 44) O dJ36_indexOf_39 rfl (fun hc => ?_) (fun hc => ?_)
    · replace h := h.1 hc
      refine kr_iinc O dJ36_indexOf_44 2 rfl (v := v3 + (1 : Int32)) rfl (Nat.le_of_ble_eq_true rfl) rfl rfl ?_
      refine kr_goto (tgt := 26) O dJ36_indexOf_47 rfl ?_
      refine kr_sub [1, 2, 0] rfl ?_
      exact hn26 _ _ h
    · replace h := h.2 hc
      refine kr_iload_n O dJ36_indexOf_42 rfl 2 rfl ?_
      exact kr_iret O dJ36_indexOf_43 rfl h
def vl_J36_indexOf_26 (w : kt_W) (gr : kt_g × kt_M) (d : Nat) (P : Option Value → kt_M → Prop) (X : String → Nat → kt_M → Prop)  (r1 : Option Nat) (r2 : Option Nat) (v3 : Int32) (M : kt_M) : Prop :=
  ∃ Inv : Nat → Int32 → kt_M → Prop, (∃ k, Inv k v3 M) ∧ ∀ k v3 M, kt_le gr.1 gr.2 M → Inv k v3 M → vc_J36_indexOf_26 w gr d P X (fun v3' M' => ∃ k', k' < k ∧ Inv k' v3' M') r1 r2 v3 M
theorem cl_J36_indexOf_26 {w : kt_W} {x : kt_X} {gr : kt_g × kt_M} {d : Nat} {P : Option Value → kt_M → Prop} {X : String → Nat → kt_M → Prop}  {r1 : Option Nat} {r2 : Option Nat} {v3 : Int32} {M : kt_M} (O : kt_O w x gr (d + 1) cJ36_indexOf "java/util/ImmutableCollections$ListN" 4 ("indexOf", "(Ljava/lang/Object;)I") (Option.some Jvm.ClassFile.FieldType.int) [])  (h : vl_J36_indexOf_26 w gr d P X  r1 r2 v3 M) : kt_S w x 4 (kt_E w x P X) M 26 [(1, va_rf r1), (2, va_rf r2), (3, .int v3)] [] := by
  obtain ⟨Inv, ⟨k, hk⟩, hb⟩ := h
  induction k using Nat.strongRecOn generalizing v3 M with
  | ind k ih =>
    exact kr_le O fun hle => cj_J36_indexOf_26 O (fun v3' M' hi => let ⟨k', h1, h2⟩ := hi; ih k' h1 h2) (hb k _ _ hle hk)
def vc_J36_indexOf_19 (w : kt_W) (gr : kt_g × kt_M) (d : Nat) (P : Option Value → kt_M → Prop) (X : String → Nat → kt_M → Prop)  (a0 : Nat) (r1 : Option Nat) (M : kt_M) : Prop :=
  ∃ p1, kt_gf M a0 118 = some (va_rf p1) ∧ vl_J36_indexOf_26 w gr d P X  r1 p1 (0 : Int32) M
theorem cj_J36_indexOf_19 {w : kt_W} {x : kt_X} {gr : kt_g × kt_M} {d : Nat} {P : Option Value → kt_M → Prop} {X : String → Nat → kt_M → Prop}  {a0 : Nat} {r1 : Option Nat} {M : kt_M} (O : kt_O w x gr (d + 1) cJ36_indexOf "java/util/ImmutableCollections$ListN" 4 ("indexOf", "(Ljava/lang/Object;)I") (Option.some Jvm.ClassFile.FieldType.int) [])  (h : vc_J36_indexOf_19 w gr d P X  a0 r1 M) : kt_S w x 4 (kt_E w x P X) M 19 [(0, va_rf (some a0)), (1, va_rf r1)] [] := by
  unfold vc_J36_indexOf_19 at h
  refine kr_aload_n O dJ36_indexOf_19 rfl 0 rfl ?_
  obtain ⟨p1, ep1, h⟩ := h
  refine kr_getf O dJ36_indexOf_20 fs_J36_7 ep1 ?_
  refine kr_astore_n O dJ36_indexOf_23 rfl (Nat.le_of_ble_eq_true rfl) (by simp [kt_nw, kt_nrf, kt_cI, kt_cJ, kt_cF, kt_cD, kt_cR, kt_cU]) rfl ?_
  refine kr_iconst O dJ36_indexOf_24 (v := (0 : Int32)) (by decide) ?_
  refine kr_istore_n O dJ36_indexOf_25 rfl (Nat.le_of_ble_eq_true rfl) (by simp [kt_nw, kt_nrf, kt_cI, kt_cJ, kt_cF, kt_cD, kt_cR, kt_cU]) rfl ?_
  refine kr_sub [3, 1, 0] rfl ?_
  exact cl_J36_indexOf_26 O  h
def vc_J36_indexOf (w : kt_W) (gr : kt_g × kt_M) (d : Nat) (P : Option Value → kt_M → Prop) (X : String → Nat → kt_M → Prop) (a0 : Nat) (r1 : Option Nat) (M : kt_M) : Prop :=
  ∃ u1, kt_gf M a0 119 = some (.int u1) ∧ 
    ((¬ u1 = 0 → vc_J36_indexOf_19 w gr d P X  a0 r1 M) ∧
    (u1 = 0 → 
      ((r1 = none → False) ∧
      (∀ b2, r1 = some b2 → vc_J36_indexOf_19 w gr d P X  a0 (some b2) M))))
theorem ce_J36_indexOf {w : kt_W} {g : kt_g} {d : Nat} {P : Option Value → kt_M → Prop} {X : String → Nat → kt_M → Prop} {a0 : Nat} {r1 : Option Nat} {M : kt_M} (h : vc_J36_indexOf w (g, M) d P X a0 r1 M) : kt_Sp w g (d + 1) yJ36_indexOf kc_J36_indexOf [va_rf (some a0), va_rf r1] M P X := by
  refine kt_of (L0 := [(0, va_rf (some a0)), (1, va_rf r1)]) (by decide +kernel) (by simp only [kt_lgR, kt_lgI, kt_lgN] <;> exact Nat.le_of_ble_eq_true rfl) (by simp only [kt_lvR, kt_lvI, kt_lvN] <;> rfl) fun x O => ?_
  replace O : kt_O w x (g, M) (d + 1) cJ36_indexOf "java/util/ImmutableCollections$ListN" 4 ("indexOf", "(Ljava/lang/Object;)I") (Option.some Jvm.ClassFile.FieldType.int) [] := O
  unfold vc_J36_indexOf at h
  refine kr_aload_n O dJ36_indexOf_0 rfl 0 rfl ?_
  obtain ⟨u1, eu1, h⟩ := h
  refine kr_getf O dJ36_indexOf_1 fs_J36_13 eu1 ?_
  refine kr_if_ne (tgt := 19) O dJ36_indexOf_4 rfl (fun hc => ?_) (fun hc => ?_)
  · replace h := h.1 hc
    exact cj_J36_indexOf_19 O  h
  · replace h := h.2 hc
    refine kr_aload_n O dJ36_indexOf_7 rfl 1 rfl ?_
    refine kr_ifnonnull (tgt := 19) O dJ36_indexOf_8 rfl (fun b2 hb => ?_) (fun hc => ?_)
    · subst hb
      replace h := h.2 b2 rfl
      exact cj_J36_indexOf_19 O  h
    · subst hc
      replace h := h.1 rfl
      exact h.elim
def vc_X16_init (w : kt_W) (gr : kt_g × kt_M) (d : Nat) (P : Option Value → kt_M → Prop) (X : String → Nat → kt_M → Prop) (a0 : Nat) (v1 : Int32) (v2 : Int32) (v3 : Int32) (M : kt_M) : Prop :=
  
  kt_Ca w gr d yX14_init kc_X14_init [va_rf (some a0)] M (kt_pV fun M1 => kt_hf gr M1 a0 60 ∧ ∀ M2, M2 = kt_pf M1 a0 60 (.int v1) → kt_hf gr M2 a0 61 ∧ ∀ M3, M3 = kt_pf M2 a0 61 (.int v2) → kt_hf gr M3 a0 62 ∧ ∀ M4, M4 = kt_pf M3 a0 62 (.int v3) → P none M4) X
theorem ce_X16_init {w : kt_W} {g : kt_g} {d : Nat} {P : Option Value → kt_M → Prop} {X : String → Nat → kt_M → Prop} {a0 : Nat} {v1 : Int32} {v2 : Int32} {v3 : Int32} {M : kt_M} (h : vc_X16_init w (g, M) d P X a0 v1 v2 v3 M) : kt_Sp w g (d + 1) yX16_init kc_X16_init [va_rf (some a0), .int v1, .int v2, .int v3] M P X := by
  refine kt_of (L0 := [(0, va_rf (some a0)), (1, .int v1), (2, .int v2), (3, .int v3)]) (by decide +kernel) (Nat.le_of_ble_eq_true rfl) rfl fun x O => ?_
  replace O : kt_O w x (g, M) (d + 1) cX16_init "KeyTurns$Comparison" 4 ("<init>", "(III)V") (Option.none : Option Jvm.ClassFile.FieldType) [] := O
  unfold vc_X16_init at h
  refine kr_aload_n O dX16_init_0 rfl 0 rfl ?_
  refine kr_caV (rest := []) O cd_X14_init h (Nat.le_of_ble_eq_true rfl) (fun ls _ => kt_ivI O dX16_init_1 cd_X14_init in_X14_init (Or.inr ⟨_, q2380⟩) q2215 hi_X14_init) (fun M1 hq => ?_) (fun E q M9 hx => kr_out O hx)
  replace h := hq
  clear hq
  refine kr_aload_n O dX16_init_4 rfl 0 rfl ?_
  refine kr_iload_n O dX16_init_5 rfl 1 rfl ?_
  obtain ⟨hw, h⟩ := h
  refine kr_putf O dX16_init_6 fs_X16_7 (Or.inr ⟨rfl, rfl⟩) ⟨rfl, rfl⟩ hw (kr_nmM fun M2 hM2 => ?_)
  replace h := h M2 hM2
  refine kr_aload_n O dX16_init_9 rfl 0 rfl ?_
  refine kr_iload_n O dX16_init_10 rfl 2 rfl ?_
  obtain ⟨hw, h⟩ := h
  refine kr_putf O dX16_init_11 fs_X16_13 (Or.inr ⟨rfl, rfl⟩) ⟨rfl, rfl⟩ hw (kr_nmM fun M3 hM3 => ?_)
  replace h := h M3 hM3
  refine kr_aload_n O dX16_init_14 rfl 0 rfl ?_
  refine kr_iload_n O dX16_init_15 rfl 3 rfl ?_
  obtain ⟨hw, h⟩ := h
  refine kr_putf O dX16_init_16 fs_X16_16 (Or.inr ⟨rfl, rfl⟩) ⟨rfl, rfl⟩ hw (kr_nmM fun M4 hM4 => ?_)
  replace h := h M4 hM4
  exact kr_vret O dX16_init_19 h
def vc_X16_holds (w : kt_W) (gr : kt_g × kt_M) (d : Nat) (P : Option Value → kt_M → Prop) (X : String → Nat → kt_M → Prop) (a0 : Nat) (r1 : Option Nat) (v2 : Int32) (M : kt_M) : Prop :=
  ∃ u1, kt_gf M a0 60 = some (.int u1) ∧ 
  kt_Ca w gr d yX16_value kc_X16_value [.int u1, va_rf r1, .int v2] M (kt_pI fun u2 M3 => ∃ u4, kt_gf M3 a0 62 = some (.int u4) ∧ 
  kt_Ca w gr d yX16_value kc_X16_value [.int u4, va_rf r1, .int v2] M3 (kt_pI fun u5 M6 => ∃ u7, kt_gf M6 a0 61 = some (.int u7) ∧ 
    ((¬ u7 = (60 : Int32) → ∃ u8, kt_gf M6 a0 61 = some (.int u8) ∧ 
      ((¬ u8 = (62 : Int32) → 
        ((¬ u2 = u5 → P (some (.int (0 : Int32))) M6) ∧
        (u2 = u5 → P (some (.int (1 : Int32))) M6))) ∧
      (u8 = (62 : Int32) → 
        ((u2 ≤ u5 → P (some (.int (0 : Int32))) M6) ∧
        (¬ u2 ≤ u5 → P (some (.int (1 : Int32))) M6))))) ∧
    (u7 = (60 : Int32) → 
      ((u5 ≤ u2 → P (some (.int (0 : Int32))) M6) ∧
      (¬ u5 ≤ u2 → P (some (.int (1 : Int32))) M6))))) X) X
theorem ce_X16_holds {w : kt_W} {g : kt_g} {d : Nat} {P : Option Value → kt_M → Prop} {X : String → Nat → kt_M → Prop} {a0 : Nat} {r1 : Option Nat} {v2 : Int32} {M : kt_M} (h : vc_X16_holds w (g, M) d P X a0 r1 v2 M) : kt_Sp w g (d + 1) yX16_holds kc_X16_holds [va_rf (some a0), va_rf r1, .int v2] M P X := by
  refine kt_of (L0 := [(0, va_rf (some a0)), (1, va_rf r1), (2, .int v2)]) (by decide +kernel) (by simp only [kt_lgR, kt_lgI, kt_lgN] <;> exact Nat.le_of_ble_eq_true rfl) (by simp only [kt_lvR, kt_lvI, kt_lvN] <;> rfl) fun x O => ?_
  replace O : kt_O w x (g, M) (d + 1) cX16_holds "KeyTurns$Comparison" 5 ("holds", "(LKeyTurns$State;I)Z") (Option.some Jvm.ClassFile.FieldType.boolean) [] := O
  unfold vc_X16_holds at h
  refine kr_aload_n O dX16_holds_0 rfl 0 rfl ?_
  obtain ⟨u1, eu1, h⟩ := h
  refine kr_getf O dX16_holds_1 fs_X16_7 eu1 ?_
  refine kr_aload_n O dX16_holds_4 rfl 1 rfl ?_
  refine kr_iload_n O dX16_holds_5 rfl 2 rfl ?_
  refine kr_caI (rest := []) O cd_X16_value h (Nat.le_of_ble_eq_true rfl) (fun ls _ => kt_ivS O dX16_holds_6 cd_X16_value in_X16_value q2415 q2416 hy_X16_value) (fun u2 M3 hq => ?_) (fun E q M9 hx => kr_out O hx)
  replace h := hq
  clear hq
  refine kr_istore_n O dX16_holds_9 rfl (Nat.le_of_ble_eq_true rfl) rfl rfl ?_
  refine kr_aload_n O dX16_holds_10 rfl 1 rfl ?_
  obtain ⟨u4, eu4, h⟩ := h
  refine kr_getf O dX16_holds_11 fs_X16_16 eu4 ?_
  refine kr_aload_n O dX16_holds_14 rfl 2 rfl ?_
  refine kr_iload_n O dX16_holds_15 rfl 3 rfl ?_
  refine kr_caI (rest := []) O cd_X16_value h (Nat.le_of_ble_eq_true rfl) (fun ls _ => kt_ivS O dX16_holds_16 cd_X16_value in_X16_value q2415 q2416 hy_X16_value) (fun u5 M6 hq => ?_) (fun E q M9 hx => kr_out O hx)
  replace h := hq
  clear hq
  refine kr_istore O dX16_holds_19 (Nat.le_of_ble_eq_true rfl) rfl rfl ?_
  refine kr_aload_n O dX16_holds_21 rfl 2 rfl ?_
  obtain ⟨u7, eu7, h⟩ := h
  refine kr_getf O dX16_holds_22 fs_X16_13 eu7 ?_
  refine kr_bipush O dX16_holds_25 (v := (60 : Int32)) (by decide) ?_
  refine kr_icmp_ne (tgt := 44) O dX16_holds_27 rfl (fun hc => ?_) (fun hc => ?_)
  · replace h := h.1 hc
    refine kr_aload_n O dX16_holds_44 rfl 2 rfl ?_
    obtain ⟨u8, eu8, h⟩ := h
    refine kr_getf O dX16_holds_45 fs_X16_13 eu8 ?_
    refine kr_bipush O dX16_holds_48 (v := (62 : Int32)) (by decide) ?_
    refine kr_icmp_ne (tgt := 67) O dX16_holds_50 rfl (fun hc => ?_) (fun hc => ?_)
    · replace h := h.1 hc
      refine kr_iload_n O dX16_holds_67 rfl 1 rfl ?_
      refine kr_iload O dX16_holds_68 0 rfl ?_
      refine kr_icmp_ne (tgt := 77) O dX16_holds_70 rfl (fun hc => ?_) (fun hc => ?_)
      · replace h := h.1 hc
        refine kr_iconst O dX16_holds_77 (v := (0 : Int32)) (by decide) ?_
        exact kr_iret O dX16_holds_78 (by decide) h
      · replace h := h.2 hc
        refine kr_iconst O dX16_holds_73 (v := (1 : Int32)) (by decide) ?_
        refine kr_goto (tgt := 78) O dX16_holds_74 rfl ?_
        exact kr_iret O dX16_holds_78 (by decide) h
    · replace h := h.2 hc
      refine kr_iload_n O dX16_holds_53 rfl 1 rfl ?_
      refine kr_iload O dX16_holds_54 0 rfl ?_
      refine kr_icmp_le (tgt := 63) O dX16_holds_56 rfl (fun hc => ?_) (fun hc => ?_)
      · replace h := h.1 hc
        refine kr_iconst O dX16_holds_63 (v := (0 : Int32)) (by decide) ?_
        refine kr_goto (tgt := 78) O dX16_holds_64 rfl ?_
        exact kr_iret O dX16_holds_78 (by decide) h
      · replace h := h.2 hc
        refine kr_iconst O dX16_holds_59 (v := (1 : Int32)) (by decide) ?_
        refine kr_goto (tgt := 78) O dX16_holds_60 rfl ?_
        exact kr_iret O dX16_holds_78 (by decide) h
  · replace h := h.2 hc
    refine kr_iload_n O dX16_holds_30 rfl 1 rfl ?_
    refine kr_iload O dX16_holds_31 0 rfl ?_
    refine kr_icmp_ge (tgt := 40) O dX16_holds_33 rfl (fun hc => ?_) (fun hc => ?_)
    · replace h := h.1 hc
      refine kr_iconst O dX16_holds_40 (v := (0 : Int32)) (by decide) ?_
      refine kr_goto (tgt := 78) O dX16_holds_41 rfl ?_
      exact kr_iret O dX16_holds_78 (by decide) h
    · replace h := h.2 hc
      refine kr_iconst O dX16_holds_36 (v := (1 : Int32)) (by decide) ?_
      refine kr_goto (tgt := 78) O dX16_holds_37 rfl ?_
      exact kr_iret O dX16_holds_78 (by decide) h
def vc_X16_value (w : kt_W) (gr : kt_g × kt_M) (d : Nat) (P : Option Value → kt_M → Prop) (X : String → Nat → kt_M → Prop) (v0 : Int32) (r1 : Option Nat) (v2 : Int32) (M : kt_M) : Prop :=
  
    ((0 ≤ v0 → 
    kt_Ca w gr d yX1_of kc_X1_of [.int v0, va_rf r1, .int v2] M (kt_pI fun u1 M2 => P (some (.int u1)) M2) X) ∧
    (¬ 0 ≤ v0 → P (some (.int ((-1 : Int32) - v0))) M))
theorem ce_X16_value {w : kt_W} {g : kt_g} {d : Nat} {P : Option Value → kt_M → Prop} {X : String → Nat → kt_M → Prop} {v0 : Int32} {r1 : Option Nat} {v2 : Int32} {M : kt_M} (h : vc_X16_value w (g, M) d P X v0 r1 v2 M) : kt_Sp w g (d + 1) yX16_value kc_X16_value [.int v0, va_rf r1, .int v2] M P X := by
  refine kt_of (L0 := [(0, .int v0), (1, va_rf r1), (2, .int v2)]) (by decide +kernel) (by simp only [kt_lgR, kt_lgI, kt_lgN] <;> exact Nat.le_of_ble_eq_true rfl) (by simp only [kt_lvR, kt_lvI, kt_lvN] <;> rfl) fun x O => ?_
  replace O : kt_O w x (g, M) (d + 1) cX16_value "KeyTurns$Comparison" 3 ("value", "(ILKeyTurns$State;I)I") (Option.some Jvm.ClassFile.FieldType.int) [] := O
  unfold vc_X16_value at h
  refine kr_iload_n O dX16_value_0 rfl 0 rfl ?_
  refine kr_if_ge (tgt := 8) O dX16_value_1 rfl (fun hc => ?_) (fun hc => ?_)
  · replace h := h.1 hc
    refine kr_iload_n O dX16_value_8 rfl 0 rfl ?_
    refine kr_aload_n O dX16_value_9 rfl 1 rfl ?_
    refine kr_iload_n O dX16_value_10 rfl 2 rfl ?_
    refine kr_caI (rest := []) O cd_X1_of h (Nat.le_of_ble_eq_true rfl) (fun ls _ => kt_ivSN O dX16_value_11 cd_X1_of in_X1_of q2418 q2419 hy_X1_of) (fun u1 M2 hq => ?_) (fun E q M9 hx => kr_out O hx)
    replace h := hq
    clear hq
    exact kr_iret O dX16_value_14 rfl h
  · replace h := h.2 hc
    refine kr_iconst O dX16_value_4 (v := (-1 : Int32)) (by decide) ?_
    refine kr_iload_n O dX16_value_5 rfl 0 rfl ?_
    refine kr_isub O dX16_value_6 ?_
    exact kr_iret O dX16_value_7 rfl h
def vc_X17_init (w : kt_W) (gr : kt_g × kt_M) (d : Nat) (P : Option Value → kt_M → Prop) (X : String → Nat → kt_M → Prop) (a0 : Nat) (r1 : Option Nat) (v2 : Int32) (M : kt_M) : Prop :=
  
  kt_Ca w gr d yX14_init kc_X14_init [va_rf (some a0)] M (kt_pV fun M1 => kt_hf gr M1 a0 63 ∧ ∀ M2, M2 = kt_pf M1 a0 63 (va_rf r1) → kt_ok 64 (.int v2) ∧ kt_hf gr M2 a0 64 ∧ ∀ M3, M3 = kt_pf M2 a0 64 (.int v2) → P none M3) X
theorem ce_X17_init {w : kt_W} {g : kt_g} {d : Nat} {P : Option Value → kt_M → Prop} {X : String → Nat → kt_M → Prop} {a0 : Nat} {r1 : Option Nat} {v2 : Int32} {M : kt_M} (h : vc_X17_init w (g, M) d P X a0 r1 v2 M) : kt_Sp w g (d + 1) yX17_init kc_X17_init [va_rf (some a0), va_rf r1, .int v2] M P X := by
  refine kt_of (L0 := [(0, va_rf (some a0)), (1, va_rf r1), (2, .int v2)]) (by decide +kernel) (by simp only [kt_lgR, kt_lgI, kt_lgN] <;> exact Nat.le_of_ble_eq_true rfl) (by simp only [kt_lvR, kt_lvI, kt_lvN] <;> rfl) fun x O => ?_
  replace O : kt_O w x (g, M) (d + 1) cX17_init "KeyTurns$Joined" 3 ("<init>", "(Ljava/util/ArrayList;Z)V") (Option.none : Option Jvm.ClassFile.FieldType) [] := O
  unfold vc_X17_init at h
  refine kr_aload_n O dX17_init_0 rfl 0 rfl ?_
  refine kr_caV (rest := []) O cd_X14_init h (Nat.le_of_ble_eq_true rfl) (fun ls _ => kt_ivI O dX17_init_1 cd_X14_init in_X14_init (Or.inr ⟨_, q2398⟩) q2215 hi_X14_init) (fun M1 hq => ?_) (fun E q M9 hx => kr_out O hx)
  replace h := hq
  clear hq
  refine kr_aload_n O dX17_init_4 rfl 0 rfl ?_
  refine kr_aload_n O dX17_init_5 rfl 1 rfl ?_
  obtain ⟨hw, h⟩ := h
  refine kr_putf O dX17_init_6 fs_X17_7 (Or.inr ⟨rfl, rfl⟩) (kt_ok_rf _ rfl) hw (kr_nmM fun M2 hM2 => ?_)
  replace h := h M2 hM2
  refine kr_aload_n O dX17_init_9 rfl 0 rfl ?_
  refine kr_iload_n O dX17_init_10 rfl 2 rfl ?_
  obtain ⟨hok, h⟩ := h
  obtain ⟨hw, h⟩ := h
  refine kr_putf O dX17_init_11 fs_X17_13 (Or.inr ⟨rfl, rfl⟩) hok hw (kr_nmM fun M3 hM3 => ?_)
  replace h := h M3 hM3
  exact kr_vret O dX17_init_14 h
def vc_X17_holds_2 (w : kt_W) (gr : kt_g × kt_M) (d : Nat) (P : Option Value → kt_M → Prop) (X : String → Nat → kt_M → Prop) (nx2 : Int32 → kt_M → Prop) (a0 : Nat) (r1 : Option Nat) (v2 : Int32) (v3 : Int32) (M : kt_M) : Prop :=
  ∃ p1, kt_gf M a0 63 = some (va_rf p1) ∧ ∃ b2, p1 = some b2 ∧ (kt_co M b2 = some 13) ∧ 
  kt_Ca w gr d yJ3_size kc_J3_size [va_rf (some b2)] M (kt_pI fun u3 M4 => 
    ((u3 ≤ v3 → ∃ u5, kt_gf M4 a0 64 = some (.int u5) ∧ 
      ((¬ u5 = 0 → P (some (.int (0 : Int32))) M4) ∧
      (u5 = 0 → P (some (.int (1 : Int32))) M4))) ∧
    (¬ u3 ≤ v3 → ∃ p6, kt_gf M4 a0 63 = some (va_rf p6) ∧ ∃ b7, p6 = some b7 ∧ (kt_co M4 b7 = some 13) ∧ 
    kt_Ca w gr d yJ3_get kc_J3_get [va_rf (some b7), .int v3] M4 (kt_pR fun p8 M9 => ∃ b10, p8 = some b10 ∧ (∃ c, kt_co M9 b10 = some c ∧ kt_is c "KeyTurns$Test") ∧ ∃ K13 : Int32 → kt_M → Prop, ((kt_co M9 b10 = some 9 ∧ kt_Ca w gr d yX15_holds kc_X15_holds [va_rf (some b10), va_rf r1, .int v2] M9 (kt_pI K13) X) ∨ (kt_co M9 b10 = some 10 ∧ kt_Ca w gr d yX16_holds kc_X16_holds [va_rf (some b10), va_rf r1, .int v2] M9 (kt_pI K13) X) ∨ (kt_co M9 b10 = some 11 ∧ kt_Ca w gr d yX17_holds kc_X17_holds [va_rf (some b10), va_rf r1, .int v2] M9 (kt_pI K13) X)) ∧ (∀ u11 M12, K13 u11 M12 → ∃ u14, kt_gf M12 a0 64 = some (.int u14) ∧ 
        ((¬ u11 = u14 → nx2 (v3 + (1 : Int32)) M12) ∧
        (u11 = u14 → ∃ u15, kt_gf M12 a0 64 = some (.int u15) ∧ narrow .boolean (.int u15) = .int u15 ∧ P (some (.int u15)) M12)))) X))) X
theorem cj_X17_holds_2 {w : kt_W} {x : kt_X} {gr : kt_g × kt_M} {d : Nat} {P : Option Value → kt_M → Prop} {X : String → Nat → kt_M → Prop} {nx2 : Int32 → kt_M → Prop} {a0 : Nat} {r1 : Option Nat} {v2 : Int32} {v3 : Int32} {M : kt_M} (O : kt_O w x gr (d + 1) cX17_holds "KeyTurns$Joined" 4 ("holds", "(LKeyTurns$State;I)Z") (Option.some Jvm.ClassFile.FieldType.boolean) []) (hn2 : ∀ v3 M, nx2 v3 M → kt_S w x 4 (kt_E w x P X) M 2 [(0, va_rf (some a0)), (1, va_rf r1), (2, .int v2), (3, .int v3)] []) (h : vc_X17_holds_2 w gr d P X nx2 a0 r1 v2 v3 M) : kt_S w x 4 (kt_E w x P X) M 2 [(0, va_rf (some a0)), (1, va_rf r1), (2, .int v2), (3, .int v3)] [] := by
  unfold vc_X17_holds_2 at h
  refine kr_iload_n O dX17_holds_2 rfl 3 rfl ?_
  refine kr_aload_n O dX17_holds_3 rfl 0 rfl ?_
  obtain ⟨p1, ep1, h⟩ := h
  refine kr_getf O dX17_holds_4 fs_X17_7 ep1 ?_
  obtain ⟨b2, rfl, h⟩ := h
  obtain ⟨hco, h⟩ := h
  refine kr_caI (rest := [.int v3]) O cd_J3_size h (Nat.le_of_ble_eq_true rfl) (fun ls _ => kt_ivV (ci := 13) O dX17_holds_7 cd_J3_size in_J3_size (Or.inl q2435) q478 q479 hco (by decide) hy_J3_size) (fun u3 M4 hq => ?_) (fun E q M9 hx => kr_out O hx)
  replace h := hq
  clear hq
  refine kr_icmp_ge (tgt := 47) O dX17_holds_10 rfl (fun hc => ?_) (fun hc => ?_)
  · replace h := h.1 hc
    refine kr_aload_n O dX17_holds_47 rfl 0 rfl ?_
    obtain ⟨u5, eu5, h⟩ := h
    refine kr_getf O dX17_holds_48 fs_X17_13 eu5 ?_
    refine kr_if_ne (tgt := 58) O dX17_holds_51 rfl (fun hc => ?_) (fun hc => ?_)
    · replace h := h.1 hc
      refine kr_iconst O dX17_holds_58 (v := (0 : Int32)) (by decide) ?_
      exact kr_iret O dX17_holds_59 (by decide) h
    · replace h := h.2 hc
      refine kr_iconst O dX17_holds_54 (v := (1 : Int32)) (by decide) ?_
      refine kr_goto (tgt := 59) O dX17_holds_55 rfl ?_
      exact kr_iret O dX17_holds_59 (by decide) h
  · replace h := h.2 hc
    refine kr_aload_n O dX17_holds_13 rfl 0 rfl ?_
    obtain ⟨p6, ep6, h⟩ := h
    refine kr_getf O dX17_holds_14 fs_X17_7 ep6 ?_
    refine kr_iload_n O dX17_holds_17 rfl 3 rfl ?_
    obtain ⟨b7, rfl, h⟩ := h
    obtain ⟨hco, h⟩ := h
    refine kr_caR (rest := []) O cd_J3_get h (Nat.le_of_ble_eq_true rfl) (fun ls _ => kt_ivV (ci := 13) O dX17_holds_18 cd_J3_get in_J3_get (Or.inl q2436) q482 q483 hco (by decide) hy_J3_get) (fun p8 M9 hq => ?_) (fun E q M9 hx => kr_out O hx)
    replace h := hq
    clear hq
    obtain ⟨b10, rfl, h⟩ := h
    obtain ⟨⟨cc1, hc1, hc2⟩, h⟩ := h
    refine kr_cast O dX17_holds_21 q2437 hc1 hc2 ?_
    refine kr_aload_n O dX17_holds_24 rfl 1 rfl ?_
    refine kr_iload_n O dX17_holds_25 rfl 2 rfl ?_
    obtain ⟨K13, hca, hK⟩ := h
    have h9 : ∀ u11 M12, K13 u11 M12 → kt_S w x 4 (kt_E w x P X) M12 (26 + 3) [(0, va_rf (some a0)), (1, va_rf r1), (2, .int v2), (3, .int v3)] (.int u11 :: []) := by
      intro u11 M12 h
      replace h := hK u11 M12 h
      refine kr_aload_n O dX17_holds_29 rfl 0 rfl ?_
      obtain ⟨u14, eu14, h⟩ := h
      refine kr_getf O dX17_holds_30 fs_X17_13 eu14 ?_
      refine kr_icmp_ne (tgt := 41) O dX17_holds_33 rfl (fun hc => ?_) (fun hc => ?_)
      · replace h := h.1 hc
        refine kr_iinc O dX17_holds_41 3 rfl (v := v3 + (1 : Int32)) rfl (Nat.le_of_ble_eq_true rfl) rfl rfl ?_
        refine kr_goto (tgt := 2) O dX17_holds_44 rfl ?_
        refine kr_sub [1, 2, 3, 0] rfl ?_
        exact hn2 _ _ h
      · replace h := h.2 hc
        refine kr_aload_n O dX17_holds_36 rfl 0 rfl ?_
        obtain ⟨u15, eu15, h⟩ := h
        refine kr_getf O dX17_holds_37 fs_X17_13 eu15 ?_
        exact kr_iret O dX17_holds_40 h.1 h.2
    rcases hca with ⟨hco, h⟩ | ⟨hco, h⟩ | ⟨hco, h⟩
    · exact kr_caI (rest := []) O cd_X15_holds h (Nat.le_of_ble_eq_true rfl) (fun ls _ => kt_ivU (ci := 9) O dX17_holds_26 cd_X15_holds q2438 q2411 (Or.inr q2410) q2439 q2442 hco (by decide) ⟨by decide, by decide, rfl⟩) h9 (fun E q M9 hx => kr_out O hx)
    · exact kr_caI (rest := []) O cd_X16_holds h (Nat.le_of_ble_eq_true rfl) (fun ls _ => kt_ivU (ci := 10) O dX17_holds_26 cd_X16_holds q2438 q2411 (Or.inr q2410) q2413 q2412 hco (by decide) ⟨by decide, by decide, rfl⟩) h9 (fun E q M9 hx => kr_out O hx)
    · exact kr_caI (rest := []) O cd_X17_holds h (Nat.le_of_ble_eq_true rfl) (fun ls _ => kt_ivU (ci := 11) O dX17_holds_26 cd_X17_holds q2438 q2411 (Or.inr q2410) q2433 q2432 hco (by decide) ⟨by decide, by decide, rfl⟩) h9 (fun E q M9 hx => kr_out O hx)
def vl_X17_holds_2 (w : kt_W) (gr : kt_g × kt_M) (d : Nat) (P : Option Value → kt_M → Prop) (X : String → Nat → kt_M → Prop)  (a0 : Nat) (r1 : Option Nat) (v2 : Int32) (v3 : Int32) (M : kt_M) : Prop :=
  ∃ Inv : Nat → Int32 → kt_M → Prop, (∃ k, Inv k v3 M) ∧ ∀ k v3 M, kt_le gr.1 gr.2 M → Inv k v3 M → vc_X17_holds_2 w gr d P X (fun v3' M' => ∃ k', k' < k ∧ Inv k' v3' M') a0 r1 v2 v3 M
theorem cl_X17_holds_2 {w : kt_W} {x : kt_X} {gr : kt_g × kt_M} {d : Nat} {P : Option Value → kt_M → Prop} {X : String → Nat → kt_M → Prop}  {a0 : Nat} {r1 : Option Nat} {v2 : Int32} {v3 : Int32} {M : kt_M} (O : kt_O w x gr (d + 1) cX17_holds "KeyTurns$Joined" 4 ("holds", "(LKeyTurns$State;I)Z") (Option.some Jvm.ClassFile.FieldType.boolean) [])  (h : vl_X17_holds_2 w gr d P X  a0 r1 v2 v3 M) : kt_S w x 4 (kt_E w x P X) M 2 [(0, va_rf (some a0)), (1, va_rf r1), (2, .int v2), (3, .int v3)] [] := by
  obtain ⟨Inv, ⟨k, hk⟩, hb⟩ := h
  induction k using Nat.strongRecOn generalizing v3 M with
  | ind k ih =>
    exact kr_le O fun hle => cj_X17_holds_2 O (fun v3' M' hi => let ⟨k', h1, h2⟩ := hi; ih k' h1 h2) (hb k _ _ hle hk)
def vc_X17_holds (w : kt_W) (gr : kt_g × kt_M) (d : Nat) (P : Option Value → kt_M → Prop) (X : String → Nat → kt_M → Prop) (a0 : Nat) (r1 : Option Nat) (v2 : Int32) (M : kt_M) : Prop :=
  vl_X17_holds_2 w gr d P X  a0 r1 v2 (0 : Int32) M
theorem ce_X17_holds {w : kt_W} {g : kt_g} {d : Nat} {P : Option Value → kt_M → Prop} {X : String → Nat → kt_M → Prop} {a0 : Nat} {r1 : Option Nat} {v2 : Int32} {M : kt_M} (h : vc_X17_holds w (g, M) d P X a0 r1 v2 M) : kt_Sp w g (d + 1) yX17_holds kc_X17_holds [va_rf (some a0), va_rf r1, .int v2] M P X := by
  refine kt_of (L0 := [(0, va_rf (some a0)), (1, va_rf r1), (2, .int v2)]) (by decide +kernel) (by simp only [kt_lgR, kt_lgI, kt_lgN] <;> exact Nat.le_of_ble_eq_true rfl) (by simp only [kt_lvR, kt_lvI, kt_lvN] <;> rfl) fun x O => ?_
  replace O : kt_O w x (g, M) (d + 1) cX17_holds "KeyTurns$Joined" 4 ("holds", "(LKeyTurns$State;I)Z") (Option.some Jvm.ClassFile.FieldType.boolean) [] := O
  unfold vc_X17_holds at h
  refine kr_iconst O dX17_holds_0 (v := (0 : Int32)) (by decide) ?_
  refine kr_istore_n O dX17_holds_1 rfl (Nat.le_of_ble_eq_true rfl) rfl rfl ?_
  refine kr_sub [1, 2, 3, 0] rfl ?_
  exact cl_X17_holds_2 O  h
def vc_J37_equals (w : kt_W) (gr : kt_g × kt_M) (d : Nat) (P : Option Value → kt_M → Prop) (X : String → Nat → kt_M → Prop) (a0 : Nat) (r1 : Option Nat) (M : kt_M) : Prop :=
  
    ((¬ (some a0) = r1 → P (some (.int (0 : Int32))) M) ∧
    ((some a0) = r1 → P (some (.int (1 : Int32))) M))
theorem ce_J37_equals {w : kt_W} {g : kt_g} {d : Nat} {P : Option Value → kt_M → Prop} {X : String → Nat → kt_M → Prop} {a0 : Nat} {r1 : Option Nat} {M : kt_M} (h : vc_J37_equals w (g, M) d P X a0 r1 M) : kt_Sp w g (d + 1) yJ37_equals kc_J37_equals [va_rf (some a0), va_rf r1] M P X := by
  refine kt_of (L0 := [(0, va_rf (some a0)), (1, va_rf r1)]) (by decide +kernel) (by simp only [kt_lgR, kt_lgI, kt_lgN] <;> exact Nat.le_of_ble_eq_true rfl) (by simp only [kt_lvR, kt_lvI, kt_lvN] <;> rfl) fun x O => ?_
  replace O : kt_O w x (g, M) (d + 1) cJ37_equals "java/lang/Object" 2 ("equals", "(Ljava/lang/Object;)Z") (Option.some Jvm.ClassFile.FieldType.boolean) [] := O
  unfold vc_J37_equals at h
  refine kr_aload_n O dJ37_equals_0 rfl 0 rfl ?_
  refine kr_aload_n O dJ37_equals_1 rfl 1 rfl ?_
  refine kr_acmp_ne (tgt := 9) O dJ37_equals_2 rfl (fun hc => ?_) (fun hc => ?_)
  · replace h := h.1 hc
    refine kr_iconst O dJ37_equals_9 (v := (0 : Int32)) (by decide) ?_
    exact kr_iret O dJ37_equals_10 (by decide) h
  · replace h := h.2 hc
    refine kr_iconst O dJ37_equals_5 (v := (1 : Int32)) (by decide) ?_
    refine kr_goto (tgt := 10) O dJ37_equals_6 rfl ?_
    exact kr_iret O dJ37_equals_10 (by decide) h
def vc_X18_fits (w : kt_W) (gr : kt_g × kt_M) (d : Nat) (P : Option Value → kt_M → Prop) (X : String → Nat → kt_M → Prop) (a0 : Nat) (r1 : Option Nat) (v2 : Int32) (M : kt_M) : Prop :=
  ∃ b1, r1 = some b1 ∧ ∃ u2, kt_gf M b1 22 = some (.int u2) ∧ 
    ((u2 ≤ v2 → P (some (.int (0 : Int32))) M) ∧
    (¬ u2 ≤ v2 → P (some (.int (1 : Int32))) M))
theorem ce_X18_fits {w : kt_W} {g : kt_g} {d : Nat} {P : Option Value → kt_M → Prop} {X : String → Nat → kt_M → Prop} {a0 : Nat} {r1 : Option Nat} {v2 : Int32} {M : kt_M} (h : vc_X18_fits w (g, M) d P X a0 r1 v2 M) : kt_Sp w g (d + 1) yX18_fits kc_X18_fits [va_rf (some a0), va_rf r1, .int v2] M P X := by
  refine kt_of (L0 := [(0, va_rf (some a0)), (1, va_rf r1), (2, .int v2)]) (by decide +kernel) (by simp only [kt_lgR, kt_lgI, kt_lgN] <;> exact Nat.le_of_ble_eq_true rfl) (by simp only [kt_lvR, kt_lvI, kt_lvN] <;> rfl) fun x O => ?_
  replace O : kt_O w x (g, M) (d + 1) cX18_fits "KeyTurns$Standing$1" 3 ("fits", "(LKeyTurns$Version;I)Z") (Option.some Jvm.ClassFile.FieldType.boolean) [] := O
  unfold vc_X18_fits at h
  refine kr_iload_n O dX18_fits_0 rfl 2 rfl ?_
  refine kr_aload_n O dX18_fits_1 rfl 1 rfl ?_
  obtain ⟨b1, rfl, h⟩ := h
  obtain ⟨u2, eu2, h⟩ := h
  refine kr_getf O dX18_fits_2 fs_X18_7 eu2 ?_
  refine kr_icmp_ge (tgt := 12) O dX18_fits_5 rfl (fun hc => ?_) (fun hc => ?_)
  · replace h := h.1 hc
    refine kr_iconst O dX18_fits_12 (v := (0 : Int32)) (by decide) ?_
    exact kr_iret O dX18_fits_13 (by decide) h
  · replace h := h.2 hc
    refine kr_iconst O dX18_fits_8 (v := (1 : Int32)) (by decide) ?_
    refine kr_goto (tgt := 13) O dX18_fits_9 rfl ?_
    exact kr_iret O dX18_fits_13 (by decide) h
def vc_X19_fits (w : kt_W) (gr : kt_g × kt_M) (d : Nat) (P : Option Value → kt_M → Prop) (X : String → Nat → kt_M → Prop) (a0 : Nat) (r1 : Option Nat) (v2 : Int32) (M : kt_M) : Prop :=
  ∃ b1, r1 = some b1 ∧ (kt_co M b1 = some 2 ∨ kt_co M b1 = some 3) ∧ 
  kt_Ca w gr d yX3_spans kc_X3_spans [va_rf (some b1), .int v2] M (kt_pI fun u2 M3 => narrow .boolean (.int u2) = .int u2 ∧ P (some (.int u2)) M3) X
theorem ce_X19_fits {w : kt_W} {g : kt_g} {d : Nat} {P : Option Value → kt_M → Prop} {X : String → Nat → kt_M → Prop} {a0 : Nat} {r1 : Option Nat} {v2 : Int32} {M : kt_M} (h : vc_X19_fits w (g, M) d P X a0 r1 v2 M) : kt_Sp w g (d + 1) yX19_fits kc_X19_fits [va_rf (some a0), va_rf r1, .int v2] M P X := by
  refine kt_of (L0 := [(0, va_rf (some a0)), (1, va_rf r1), (2, .int v2)]) (by decide +kernel) (by simp only [kt_lgR, kt_lgI, kt_lgN] <;> exact Nat.le_of_ble_eq_true rfl) (by simp only [kt_lvR, kt_lvI, kt_lvN] <;> rfl) fun x O => ?_
  replace O : kt_O w x (g, M) (d + 1) cX19_fits "KeyTurns$Standing$2" 3 ("fits", "(LKeyTurns$Version;I)Z") (Option.some Jvm.ClassFile.FieldType.boolean) [] := O
  unfold vc_X19_fits at h
  refine kr_aload_n O dX19_fits_0 rfl 1 rfl ?_
  refine kr_iload_n O dX19_fits_1 rfl 2 rfl ?_
  obtain ⟨b1, rfl, h⟩ := h
  obtain ⟨hco, h⟩ := h
  refine kr_caI (rest := []) O cd_X3_spans h (Nat.le_of_ble_eq_true rfl) (fun ls _ => by rcases hco with hco | hco <;> first | exact kt_ivV (ci := 2) O dX19_fits_2 cd_X3_spans in_X3_spans (Or.inl q1864) q504 q506 hco (by decide) hy_X3_spans | exact kt_ivV (ci := 3) O dX19_fits_2 cd_X3_spans in_X3_spans (Or.inl q1864) q504 q507 hco (by decide) hy_X3_spans) (fun u2 M3 hq => ?_) (fun E q M9 hx => kr_out O hx)
  replace h := hq
  clear hq
  exact kr_iret O dX19_fits_5 h.1 h.2
def vc_X20_fits (w : kt_W) (gr : kt_g × kt_M) (d : Nat) (P : Option Value → kt_M → Prop) (X : String → Nat → kt_M → Prop) (a0 : Nat) (r1 : Option Nat) (v2 : Int32) (M : kt_M) : Prop :=
  ∃ b1, r1 = some b1 ∧ (kt_co M b1 = some 2 ∨ kt_co M b1 = some 3) ∧ 
  kt_Ca w gr d yX3_hasEnded kc_X3_hasEnded [va_rf (some b1), .int v2] M (kt_pI fun u2 M3 => narrow .boolean (.int u2) = .int u2 ∧ P (some (.int u2)) M3) X
theorem ce_X20_fits {w : kt_W} {g : kt_g} {d : Nat} {P : Option Value → kt_M → Prop} {X : String → Nat → kt_M → Prop} {a0 : Nat} {r1 : Option Nat} {v2 : Int32} {M : kt_M} (h : vc_X20_fits w (g, M) d P X a0 r1 v2 M) : kt_Sp w g (d + 1) yX20_fits kc_X20_fits [va_rf (some a0), va_rf r1, .int v2] M P X := by
  refine kt_of (L0 := [(0, va_rf (some a0)), (1, va_rf r1), (2, .int v2)]) (by decide +kernel) (by simp only [kt_lgR, kt_lgI, kt_lgN] <;> exact Nat.le_of_ble_eq_true rfl) (by simp only [kt_lvR, kt_lvI, kt_lvN] <;> rfl) fun x O => ?_
  replace O : kt_O w x (g, M) (d + 1) cX20_fits "KeyTurns$Standing$3" 3 ("fits", "(LKeyTurns$Version;I)Z") (Option.some Jvm.ClassFile.FieldType.boolean) [] := O
  unfold vc_X20_fits at h
  refine kr_aload_n O dX20_fits_0 rfl 1 rfl ?_
  refine kr_iload_n O dX20_fits_1 rfl 2 rfl ?_
  obtain ⟨b1, rfl, h⟩ := h
  obtain ⟨hco, h⟩ := h
  refine kr_caI (rest := []) O cd_X3_hasEnded h (Nat.le_of_ble_eq_true rfl) (fun ls _ => by rcases hco with hco | hco <;> first | exact kt_ivV (ci := 2) O dX20_fits_2 cd_X3_hasEnded in_X3_hasEnded (Or.inl q1868) q1386 q1388 hco (by decide) hy_X3_hasEnded | exact kt_ivV (ci := 3) O dX20_fits_2 cd_X3_hasEnded in_X3_hasEnded (Or.inl q1868) q1386 q1389 hco (by decide) hy_X3_hasEnded) (fun u2 M3 hq => ?_) (fun E q M9 hx => kr_out O hx)
  replace h := hq
  clear hq
  exact kr_iret O dX20_fits_5 h.1 h.2
def vc_X21_fits (w : kt_W) (gr : kt_g × kt_M) (d : Nat) (P : Option Value → kt_M → Prop) (X : String → Nat → kt_M → Prop) (a0 : Nat) (r1 : Option Nat) (v2 : Int32) (M : kt_M) : Prop :=
  ∃ b1, r1 = some b1 ∧ ∃ z2, kt_io M b1 "KeyTurns$Withdrawn" z2 ∧ narrow .boolean (.int z2) = .int z2 ∧ P (some (.int z2)) M
theorem ce_X21_fits {w : kt_W} {g : kt_g} {d : Nat} {P : Option Value → kt_M → Prop} {X : String → Nat → kt_M → Prop} {a0 : Nat} {r1 : Option Nat} {v2 : Int32} {M : kt_M} (h : vc_X21_fits w (g, M) d P X a0 r1 v2 M) : kt_Sp w g (d + 1) yX21_fits kc_X21_fits [va_rf (some a0), va_rf r1, .int v2] M P X := by
  refine kt_of (L0 := [(0, va_rf (some a0)), (1, va_rf r1), (2, .int v2)]) (by decide +kernel) (by simp only [kt_lgR, kt_lgI, kt_lgN] <;> exact Nat.le_of_ble_eq_true rfl) (by simp only [kt_lvR, kt_lvI, kt_lvN] <;> rfl) fun x O => ?_
  replace O : kt_O w x (g, M) (d + 1) cX21_fits "KeyTurns$Standing$4" 3 ("fits", "(LKeyTurns$Version;I)Z") (Option.some Jvm.ClassFile.FieldType.boolean) [] := O
  unfold vc_X21_fits at h
  refine kr_aload_n O dX21_fits_0 rfl 1 rfl ?_
  obtain ⟨b1, rfl, h⟩ := h
  obtain ⟨z2, hz2, h⟩ := h
  refine kr_inst O dX21_fits_1 q1872 hz2 ?_
  exact kr_iret O dX21_fits_4 h.1 h.2
