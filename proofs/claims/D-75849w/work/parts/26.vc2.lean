set_option maxRecDepth 100000
def vc_J5_node_47 (w : kt_W) (gr : kt_g × kt_M) (d : Nat) (P : Option Value → kt_M → Prop) (X : String → Nat → kt_M → Prop) (nx47 : Option Nat → Int32 → kt_M → Prop) (v1 : Int32) (r2 : Option Nat) (v3 : Int32) (M : kt_M) : Prop :=
  
    ((v3 ≤ v1 → P (some (va_rf r2)) M) ∧
    (¬ v3 ≤ v1 → ∃ b1, r2 = some b1 ∧ ∃ p2, kt_gf M b1 98 = some (va_rf p2) ∧ nx47 p2 (v3 + (-1 : Int32)) M))
theorem cj_J5_node_47 {w : kt_W} {x : kt_X} {gr : kt_g × kt_M} {d : Nat} {P : Option Value → kt_M → Prop} {X : String → Nat → kt_M → Prop} {nx47 : Option Nat → Int32 → kt_M → Prop} {v1 : Int32} {r2 : Option Nat} {v3 : Int32} {M : kt_M} (O : kt_O w x gr (d + 1) cJ5_node "java/util/LinkedList" 4 ("node", "(I)Ljava/util/LinkedList$Node;") (Option.some (Jvm.ClassFile.FieldType.object "java/util/LinkedList$Node")) []) (hn47 : ∀ r2 v3 M, nx47 r2 v3 M → kt_S w x 4 (kt_E w x P X) M 47 [(1, .int v1), (2, va_rf r2), (3, .int v3)] []) (h : vc_J5_node_47 w gr d P X nx47 v1 r2 v3 M) : kt_S w x 4 (kt_E w x P X) M 47 [(1, .int v1), (2, va_rf r2), (3, .int v3)] [] := by
  unfold vc_J5_node_47 at h
  refine kr_iload_n O dJ5_node_47 rfl 2 rfl ?_
  refine kr_iload_n O dJ5_node_48 rfl 0 rfl ?_
  refine kr_icmp_le (tgt := 63) O dJ5_node_49 rfl (fun hc => ?_) (fun hc => ?_)
  · replace h := h.1 hc
    refine kr_aload_n O dJ5_node_63 rfl 1 rfl ?_
    exact kr_aret O dJ5_node_64 (by first | exact Or.inl ⟨_, rfl⟩ | exact Or.inr ⟨_, rfl⟩) h
  · replace h := h.2 hc
    refine kr_aload_n O dJ5_node_52 rfl 1 rfl ?_
    obtain ⟨b1, rfl, h⟩ := h
    obtain ⟨p2, ep2, h⟩ := h
    refine kr_getf O dJ5_node_53 fs_J5_30 ep2 ?_
    refine kr_astore_n O dJ5_node_56 rfl (Nat.le_of_ble_eq_true rfl) rfl rfl ?_
    refine kr_iinc O dJ5_node_57 2 rfl (v := v3 + (-1 : Int32)) rfl (Nat.le_of_ble_eq_true rfl) (by simp [kt_nw, kt_nrf, kt_cI, kt_cJ, kt_cF, kt_cD, kt_cR, kt_cU]) rfl ?_
    refine kr_goto (tgt := 47) O dJ5_node_60 rfl ?_
    refine kr_sub [2, 1, 0] rfl ?_
    exact hn47 _ _ _ h
def vl_J5_node_47 (w : kt_W) (gr : kt_g × kt_M) (d : Nat) (P : Option Value → kt_M → Prop) (X : String → Nat → kt_M → Prop)  (v1 : Int32) (r2 : Option Nat) (v3 : Int32) (M : kt_M) : Prop :=
  ∃ Inv : Nat → Option Nat → Int32 → kt_M → Prop, (∃ k, Inv k r2 v3 M) ∧ ∀ k r2 v3 M, kt_le gr.1 gr.2 M → Inv k r2 v3 M → vc_J5_node_47 w gr d P X (fun r2' v3' M' => ∃ k', k' < k ∧ Inv k' r2' v3' M') v1 r2 v3 M
theorem cl_J5_node_47 {w : kt_W} {x : kt_X} {gr : kt_g × kt_M} {d : Nat} {P : Option Value → kt_M → Prop} {X : String → Nat → kt_M → Prop}  {v1 : Int32} {r2 : Option Nat} {v3 : Int32} {M : kt_M} (O : kt_O w x gr (d + 1) cJ5_node "java/util/LinkedList" 4 ("node", "(I)Ljava/util/LinkedList$Node;") (Option.some (Jvm.ClassFile.FieldType.object "java/util/LinkedList$Node")) [])  (h : vl_J5_node_47 w gr d P X  v1 r2 v3 M) : kt_S w x 4 (kt_E w x P X) M 47 [(1, .int v1), (2, va_rf r2), (3, .int v3)] [] := by
  obtain ⟨Inv, ⟨k, hk⟩, hb⟩ := h
  induction k using Nat.strongRecOn generalizing r2 v3 M with
  | ind k ih =>
    exact kr_le O fun hle => cj_J5_node_47 O (fun r2' v3' M' hi => let ⟨k', h1, h2⟩ := hi; ih k' h1 h2) (hb k _ _ _ hle hk)
def vc_J5_node_17 (w : kt_W) (gr : kt_g × kt_M) (d : Nat) (P : Option Value → kt_M → Prop) (X : String → Nat → kt_M → Prop) (nx17 : Option Nat → Int32 → kt_M → Prop) (v1 : Int32) (r2 : Option Nat) (v3 : Int32) (M : kt_M) : Prop :=
  
    ((v1 ≤ v3 → P (some (va_rf r2)) M) ∧
    (¬ v1 ≤ v3 → ∃ b1, r2 = some b1 ∧ ∃ p2, kt_gf M b1 97 = some (va_rf p2) ∧ nx17 p2 (v3 + (1 : Int32)) M))
theorem cj_J5_node_17 {w : kt_W} {x : kt_X} {gr : kt_g × kt_M} {d : Nat} {P : Option Value → kt_M → Prop} {X : String → Nat → kt_M → Prop} {nx17 : Option Nat → Int32 → kt_M → Prop} {v1 : Int32} {r2 : Option Nat} {v3 : Int32} {M : kt_M} (O : kt_O w x gr (d + 1) cJ5_node "java/util/LinkedList" 4 ("node", "(I)Ljava/util/LinkedList$Node;") (Option.some (Jvm.ClassFile.FieldType.object "java/util/LinkedList$Node")) []) (hn17 : ∀ r2 v3 M, nx17 r2 v3 M → kt_S w x 4 (kt_E w x P X) M 17 [(1, .int v1), (2, va_rf r2), (3, .int v3)] []) (h : vc_J5_node_17 w gr d P X nx17 v1 r2 v3 M) : kt_S w x 4 (kt_E w x P X) M 17 [(1, .int v1), (2, va_rf r2), (3, .int v3)] [] := by
  unfold vc_J5_node_17 at h
  refine kr_iload_n O dJ5_node_17 rfl 2 rfl ?_
  refine kr_iload_n O dJ5_node_18 rfl 0 rfl ?_
  refine kr_icmp_ge (tgt := 33) O dJ5_node_19 rfl (fun hc => ?_) (fun hc => ?_)
  · replace h := h.1 hc
    refine kr_aload_n O dJ5_node_33 rfl 1 rfl ?_
    exact kr_aret O dJ5_node_34 (by first | exact Or.inl ⟨_, rfl⟩ | exact Or.inr ⟨_, rfl⟩) h
  · replace h := h.2 hc
    refine kr_aload_n O dJ5_node_22 rfl 1 rfl ?_
    obtain ⟨b1, rfl, h⟩ := h
    obtain ⟨p2, ep2, h⟩ := h
    refine kr_getf O dJ5_node_23 fs_J5_36 ep2 ?_
    refine kr_astore_n O dJ5_node_26 rfl (Nat.le_of_ble_eq_true rfl) rfl rfl ?_
    refine kr_iinc O dJ5_node_27 2 rfl (v := v3 + (1 : Int32)) rfl (Nat.le_of_ble_eq_true rfl) (by simp [kt_nw, kt_nrf, kt_cI, kt_cJ, kt_cF, kt_cD, kt_cR, kt_cU]) rfl ?_
    refine kr_goto (tgt := 17) O dJ5_node_30 rfl ?_
    refine kr_sub [2, 1, 0] rfl ?_
    exact hn17 _ _ _ h
def vl_J5_node_17 (w : kt_W) (gr : kt_g × kt_M) (d : Nat) (P : Option Value → kt_M → Prop) (X : String → Nat → kt_M → Prop)  (v1 : Int32) (r2 : Option Nat) (v3 : Int32) (M : kt_M) : Prop :=
  ∃ Inv : Nat → Option Nat → Int32 → kt_M → Prop, (∃ k, Inv k r2 v3 M) ∧ ∀ k r2 v3 M, kt_le gr.1 gr.2 M → Inv k r2 v3 M → vc_J5_node_17 w gr d P X (fun r2' v3' M' => ∃ k', k' < k ∧ Inv k' r2' v3' M') v1 r2 v3 M
theorem cl_J5_node_17 {w : kt_W} {x : kt_X} {gr : kt_g × kt_M} {d : Nat} {P : Option Value → kt_M → Prop} {X : String → Nat → kt_M → Prop}  {v1 : Int32} {r2 : Option Nat} {v3 : Int32} {M : kt_M} (O : kt_O w x gr (d + 1) cJ5_node "java/util/LinkedList" 4 ("node", "(I)Ljava/util/LinkedList$Node;") (Option.some (Jvm.ClassFile.FieldType.object "java/util/LinkedList$Node")) [])  (h : vl_J5_node_17 w gr d P X  v1 r2 v3 M) : kt_S w x 4 (kt_E w x P X) M 17 [(1, .int v1), (2, va_rf r2), (3, .int v3)] [] := by
  obtain ⟨Inv, ⟨k, hk⟩, hb⟩ := h
  induction k using Nat.strongRecOn generalizing r2 v3 M with
  | ind k ih =>
    exact kr_le O fun hle => cj_J5_node_17 O (fun r2' v3' M' hi => let ⟨k', h1, h2⟩ := hi; ih k' h1 h2) (hb k _ _ _ hle hk)
def vc_J5_node (w : kt_W) (gr : kt_g × kt_M) (d : Nat) (P : Option Value → kt_M → Prop) (X : String → Nat → kt_M → Prop) (a0 : Nat) (v1 : Int32) (M : kt_M) : Prop :=
  ∃ u1, kt_gf M a0 93 = some (.int u1) ∧ 
    (((u1 >>> ((1 : Int32) &&& 31)) ≤ v1 → ∃ p2, kt_gf M a0 95 = some (va_rf p2) ∧ ∃ u3, kt_gf M a0 93 = some (.int u3) ∧ vl_J5_node_47 w gr d P X  v1 p2 (u3 - (1 : Int32)) M) ∧
    (¬ (u1 >>> ((1 : Int32) &&& 31)) ≤ v1 → ∃ p4, kt_gf M a0 94 = some (va_rf p4) ∧ vl_J5_node_17 w gr d P X  v1 p4 (0 : Int32) M))
theorem ce_J5_node {w : kt_W} {g : kt_g} {d : Nat} {P : Option Value → kt_M → Prop} {X : String → Nat → kt_M → Prop} {a0 : Nat} {v1 : Int32} {M : kt_M} (h : vc_J5_node w (g, M) d P X a0 v1 M) : kt_Sp w g (d + 1) yJ5_node kc_J5_node [va_rf (some a0), .int v1] M P X := by
  refine kt_of (L0 := [(0, va_rf (some a0)), (1, .int v1)]) (by decide +kernel) (Nat.le_of_ble_eq_true rfl) rfl fun x O => ?_
  replace O : kt_O w x (g, M) (d + 1) cJ5_node "java/util/LinkedList" 4 ("node", "(I)Ljava/util/LinkedList$Node;") (Option.some (Jvm.ClassFile.FieldType.object "java/util/LinkedList$Node")) [] := O
  unfold vc_J5_node at h
  refine kr_iload_n O dJ5_node_0 rfl 1 rfl ?_
  refine kr_aload_n O dJ5_node_1 rfl 0 rfl ?_
  obtain ⟨u1, eu1, h⟩ := h
  refine kr_getf O dJ5_node_2 fs_J5_7 eu1 ?_
  refine kr_iconst O dJ5_node_5 (v := (1 : Int32)) (by decide) ?_
  refine kr_ishr O dJ5_node_6 ?_
  refine kr_icmp_ge (tgt := 35) O dJ5_node_7 rfl (fun hc => ?_) (fun hc => ?_)
  · replace h := h.1 hc
    refine kr_aload_n O dJ5_node_35 rfl 0 rfl ?_
    obtain ⟨p2, ep2, h⟩ := h
    refine kr_getf O dJ5_node_36 fs_J5_27 ep2 ?_
    refine kr_astore_n O dJ5_node_39 rfl (Nat.le_of_ble_eq_true rfl) rfl rfl ?_
    refine kr_aload_n O dJ5_node_40 rfl 1 rfl ?_
    obtain ⟨u3, eu3, h⟩ := h
    refine kr_getf O dJ5_node_41 fs_J5_7 eu3 ?_
    refine kr_iconst O dJ5_node_44 (v := (1 : Int32)) (by decide) ?_
    refine kr_isub O dJ5_node_45 ?_
    refine kr_istore_n O dJ5_node_46 rfl (Nat.le_of_ble_eq_true rfl) (by simp [kt_nw, kt_nrf, kt_cI, kt_cJ, kt_cF, kt_cD, kt_cR, kt_cU]) rfl ?_
    refine kr_sub [3, 1, 0] rfl ?_
    exact cl_J5_node_47 O  h
  · replace h := h.2 hc
    refine kr_aload_n O dJ5_node_10 rfl 0 rfl ?_
    obtain ⟨p4, ep4, h⟩ := h
    refine kr_getf O dJ5_node_11 fs_J5_18 ep4 ?_
    refine kr_astore_n O dJ5_node_14 rfl (Nat.le_of_ble_eq_true rfl) rfl rfl ?_
    refine kr_iconst O dJ5_node_15 (v := (0 : Int32)) (by decide) ?_
    refine kr_istore_n O dJ5_node_16 rfl (Nat.le_of_ble_eq_true rfl) (by simp [kt_nw, kt_nrf, kt_cI, kt_cJ, kt_cF, kt_cD, kt_cR, kt_cU]) rfl ?_
    refine kr_sub [3, 1, 0] rfl ?_
    exact cl_J5_node_17 O  h
def vc_J5_size (w : kt_W) (gr : kt_g × kt_M) (d : Nat) (P : Option Value → kt_M → Prop) (X : String → Nat → kt_M → Prop) (a0 : Nat) (M : kt_M) : Prop :=
  ∃ u1, kt_gf M a0 93 = some (.int u1) ∧ P (some (.int u1)) M
theorem ce_J5_size {w : kt_W} {g : kt_g} {d : Nat} {P : Option Value → kt_M → Prop} {X : String → Nat → kt_M → Prop} {a0 : Nat} {M : kt_M} (h : vc_J5_size w (g, M) d P X a0 M) : kt_Sp w g (d + 1) yJ5_size kc_J5_size [va_rf (some a0)] M P X := by
  refine kt_of (L0 := [(0, va_rf (some a0))]) (by decide +kernel) (Nat.le_of_ble_eq_true rfl) rfl fun x O => ?_
  replace O : kt_O w x (g, M) (d + 1) cJ5_size "java/util/LinkedList" 1 ("size", "()I") (Option.some Jvm.ClassFile.FieldType.int) [] := O
  unfold vc_J5_size at h
  refine kr_aload_n O dJ5_size_0 rfl 0 rfl ?_
  obtain ⟨u1, eu1, h⟩ := h
  refine kr_getf O dJ5_size_1 fs_J5_7 eu1 ?_
  exact kr_iret O dJ5_size_4 rfl h
def vc_J5_get (w : kt_W) (gr : kt_g × kt_M) (d : Nat) (P : Option Value → kt_M → Prop) (X : String → Nat → kt_M → Prop) (a0 : Nat) (v1 : Int32) (M : kt_M) : Prop :=
  (kt_co M a0 = some 14) ∧ 
  kt_Ca w gr d yJ5_checkElementIndex kc_J5_checkElementIndex [va_rf (some a0), .int v1] M (kt_pV fun M1 => (kt_co M1 a0 = some 14) ∧ 
  kt_Ca w gr d yJ5_node kc_J5_node [va_rf (some a0), .int v1] M1 (kt_pR fun p2 M3 => ∃ b4, p2 = some b4 ∧ ∃ p5, kt_gf M3 b4 96 = some (va_rf p5) ∧ P (some (va_rf p5)) M3) X) X
theorem ce_J5_get {w : kt_W} {g : kt_g} {d : Nat} {P : Option Value → kt_M → Prop} {X : String → Nat → kt_M → Prop} {a0 : Nat} {v1 : Int32} {M : kt_M} (h : vc_J5_get w (g, M) d P X a0 v1 M) : kt_Sp w g (d + 1) yJ5_get kc_J5_get [va_rf (some a0), .int v1] M P X := by
  refine kt_of (L0 := [(0, va_rf (some a0)), (1, .int v1)]) (by decide +kernel) (Nat.le_of_ble_eq_true rfl) rfl fun x O => ?_
  replace O : kt_O w x (g, M) (d + 1) cJ5_get "java/util/LinkedList" 2 ("get", "(I)Ljava/lang/Object;") (Option.some (Jvm.ClassFile.FieldType.object "java/lang/Object")) [] := O
  unfold vc_J5_get at h
  refine kr_aload_n O dJ5_get_0 rfl 0 rfl ?_
  refine kr_iload_n O dJ5_get_1 rfl 1 rfl ?_
  obtain ⟨hco, h⟩ := h
  refine kr_caV (rest := []) O cd_J5_checkElementIndex h (Nat.le_of_ble_eq_true rfl) (fun ls _ => kt_ivV (ci := 14) O dJ5_get_2 cd_J5_checkElementIndex in_J5_checkElementIndex (Or.inl q997) q999 qs15 hco (by decide) hy_J5_checkElementIndex) (fun M1 hq => ?_) (fun E q M9 hx => kr_out O hx)
  replace h := hq
  clear hq
  refine kr_aload_n O dJ5_get_5 rfl 0 rfl ?_
  refine kr_iload_n O dJ5_get_6 rfl 1 rfl ?_
  obtain ⟨hco, h⟩ := h
  refine kr_caR (rest := []) O cd_J5_node h (Nat.le_of_ble_eq_true rfl) (fun ls _ => kt_ivV (ci := 14) O dJ5_get_7 cd_J5_node in_J5_node (Or.inl q1005) q927 q928 hco (by decide) hy_J5_node) (fun p2 M3 hq => ?_) (fun E q M9 hx => kr_out O hx)
  replace h := hq
  clear hq
  obtain ⟨b4, rfl, h⟩ := h
  obtain ⟨p5, ep5, h⟩ := h
  refine kr_getf O dJ5_get_10 fs_J5_39 ep5 ?_
  exact kr_aret O dJ5_get_13 (by first | exact Or.inl ⟨_, rfl⟩ | exact Or.inr ⟨_, rfl⟩) h
def vc_J5_checkElementIndex (w : kt_W) (gr : kt_g × kt_M) (d : Nat) (P : Option Value → kt_M → Prop) (X : String → Nat → kt_M → Prop) (a0 : Nat) (v1 : Int32) (M : kt_M) : Prop :=
  (kt_co M a0 = some 14) ∧ 
  kt_Ca w gr d yJ5_isElementIndex kc_J5_isElementIndex [va_rf (some a0), .int v1] M (kt_pI fun u1 M2 => 
    ((¬ u1 = 0 → P none M2) ∧
    (u1 = 0 → False))) X
theorem ce_J5_checkElementIndex {w : kt_W} {g : kt_g} {d : Nat} {P : Option Value → kt_M → Prop} {X : String → Nat → kt_M → Prop} {a0 : Nat} {v1 : Int32} {M : kt_M} (h : vc_J5_checkElementIndex w (g, M) d P X a0 v1 M) : kt_Sp w g (d + 1) yJ5_checkElementIndex kc_J5_checkElementIndex [va_rf (some a0), .int v1] M P X := by
  refine kt_of (L0 := [(0, va_rf (some a0)), (1, .int v1)]) (by decide +kernel) (Nat.le_of_ble_eq_true rfl) rfl fun x O => ?_
  replace O : kt_O w x (g, M) (d + 1) cJ5_checkElementIndex "java/util/LinkedList" 2 ("checkElementIndex", "(I)V") (Option.none : Option Jvm.ClassFile.FieldType) [] := O
  unfold vc_J5_checkElementIndex at h
  refine kr_aload_n O dJ5_checkElementIndex_0 rfl 0 rfl ?_
  refine kr_iload_n O dJ5_checkElementIndex_1 rfl 1 rfl ?_
  obtain ⟨hco, h⟩ := h
  refine kr_caI (rest := []) O cd_J5_isElementIndex h (Nat.le_of_ble_eq_true rfl) (fun ls _ => kt_ivV (ci := 14) O dJ5_checkElementIndex_2 cd_J5_isElementIndex in_J5_isElementIndex (Or.inl q1001) q1003 qs16 hco (by decide) hy_J5_isElementIndex) (fun u1 M2 hq => ?_) (fun E q M9 hx => kr_out O hx)
  replace h := hq
  clear hq
  refine kr_if_ne (tgt := 21) O dJ5_checkElementIndex_5 rfl (fun hc => ?_) (fun hc => ?_)
  · replace h := h.1 hc
    exact kr_vret O dJ5_checkElementIndex_21 h
  · replace h := h.2 hc
    exact h.elim
def vc_J5_isElementIndex (w : kt_W) (gr : kt_g × kt_M) (d : Nat) (P : Option Value → kt_M → Prop) (X : String → Nat → kt_M → Prop) (a0 : Nat) (v1 : Int32) (M : kt_M) : Prop :=
  
    ((v1 < 0 → P (some (.int (0 : Int32))) M) ∧
    (¬ v1 < 0 → ∃ u1, kt_gf M a0 93 = some (.int u1) ∧ 
      ((u1 ≤ v1 → P (some (.int (0 : Int32))) M) ∧
      (¬ u1 ≤ v1 → P (some (.int (1 : Int32))) M))))
theorem ce_J5_isElementIndex {w : kt_W} {g : kt_g} {d : Nat} {P : Option Value → kt_M → Prop} {X : String → Nat → kt_M → Prop} {a0 : Nat} {v1 : Int32} {M : kt_M} (h : vc_J5_isElementIndex w (g, M) d P X a0 v1 M) : kt_Sp w g (d + 1) yJ5_isElementIndex kc_J5_isElementIndex [va_rf (some a0), .int v1] M P X := by
  refine kt_of (L0 := [(0, va_rf (some a0)), (1, .int v1)]) (by decide +kernel) (Nat.le_of_ble_eq_true rfl) rfl fun x O => ?_
  replace O : kt_O w x (g, M) (d + 1) cJ5_isElementIndex "java/util/LinkedList" 2 ("isElementIndex", "(I)Z") (Option.some Jvm.ClassFile.FieldType.boolean) [] := O
  unfold vc_J5_isElementIndex at h
  refine kr_iload_n O dJ5_isElementIndex_0 rfl 1 rfl ?_
  refine kr_if_lt (tgt := 16) O dJ5_isElementIndex_1 rfl (fun hc => ?_) (fun hc => ?_)
  · replace h := h.1 hc
    refine kr_iconst O dJ5_isElementIndex_16 (v := (0 : Int32)) (by decide) ?_
    exact kr_iret O dJ5_isElementIndex_17 (by decide) h
  · replace h := h.2 hc
    refine kr_iload_n O dJ5_isElementIndex_4 rfl 1 rfl ?_
    refine kr_aload_n O dJ5_isElementIndex_5 rfl 0 rfl ?_
    obtain ⟨u1, eu1, h⟩ := h
    refine kr_getf O dJ5_isElementIndex_6 fs_J5_7 eu1 ?_
    refine kr_icmp_ge (tgt := 16) O dJ5_isElementIndex_9 rfl (fun hc => ?_) (fun hc => ?_)
    · replace h := h.1 hc
      refine kr_iconst O dJ5_isElementIndex_16 (v := (0 : Int32)) (by decide) ?_
      exact kr_iret O dJ5_isElementIndex_17 (by decide) h
    · replace h := h.2 hc
      refine kr_iconst O dJ5_isElementIndex_12 (v := (1 : Int32)) (by decide) ?_
      refine kr_goto (tgt := 17) O dJ5_isElementIndex_13 rfl ?_
      exact kr_iret O dJ5_isElementIndex_17 (by decide) h
def vc_J5_addLast (w : kt_W) (gr : kt_g × kt_M) (d : Nat) (P : Option Value → kt_M → Prop) (X : String → Nat → kt_M → Prop) (a0 : Nat) (r1 : Option Nat) (M : kt_M) : Prop :=
  (kt_co M a0 = some 14) ∧ 
  kt_Ca w gr d yJ5_linkLast kc_J5_linkLast [va_rf (some a0), va_rf r1] M (kt_pV fun M1 => P none M1) X
theorem ce_J5_addLast {w : kt_W} {g : kt_g} {d : Nat} {P : Option Value → kt_M → Prop} {X : String → Nat → kt_M → Prop} {a0 : Nat} {r1 : Option Nat} {M : kt_M} (h : vc_J5_addLast w (g, M) d P X a0 r1 M) : kt_Sp w g (d + 1) yJ5_addLast kc_J5_addLast [va_rf (some a0), va_rf r1] M P X := by
  refine kt_of (L0 := [(0, va_rf (some a0)), (1, va_rf r1)]) (by decide +kernel) (by simp only [kt_lgR, kt_lgI, kt_lgN] <;> exact Nat.le_of_ble_eq_true rfl) (by simp only [kt_lvR, kt_lvI, kt_lvN] <;> rfl) fun x O => ?_
  replace O : kt_O w x (g, M) (d + 1) cJ5_addLast "java/util/LinkedList" 2 ("addLast", "(Ljava/lang/Object;)V") (Option.none : Option Jvm.ClassFile.FieldType) [] := O
  unfold vc_J5_addLast at h
  refine kr_aload_n O dJ5_addLast_0 rfl 0 rfl ?_
  refine kr_aload_n O dJ5_addLast_1 rfl 1 rfl ?_
  obtain ⟨hco, h⟩ := h
  refine kr_caV (rest := []) O cd_J5_linkLast h (Nat.le_of_ble_eq_true rfl) (fun ls _ => kt_ivV (ci := 14) O dJ5_addLast_2 cd_J5_linkLast in_J5_linkLast (Or.inl q1321) q1322 q1323 hco (by decide) hy_J5_linkLast) (fun M1 hq => ?_) (fun E q M9 hx => kr_out O hx)
  replace h := hq
  clear hq
  exact kr_vret O dJ5_addLast_5 h
def vc_J5_linkLast_38 (w : kt_W) (gr : kt_g × kt_M) (d : Nat) (P : Option Value → kt_M → Prop) (X : String → Nat → kt_M → Prop)  (a0 : Nat) (M : kt_M) : Prop :=
  ∃ u1, kt_gf M a0 93 = some (.int u1) ∧ kt_hf gr M a0 93 ∧ ∀ M2, M2 = kt_pf M a0 93 (.int (u1 + (1 : Int32))) → ∃ u3, kt_gf M2 a0 90 = some (.int u3) ∧ kt_hf gr M2 a0 90 ∧ ∀ M4, M4 = kt_pf M2 a0 90 (.int (u3 + (1 : Int32))) → P none M4
theorem cj_J5_linkLast_38 {w : kt_W} {x : kt_X} {gr : kt_g × kt_M} {d : Nat} {P : Option Value → kt_M → Prop} {X : String → Nat → kt_M → Prop}  {a0 : Nat} {M : kt_M} (O : kt_O w x gr (d + 1) cJ5_linkLast "java/util/LinkedList" 4 ("linkLast", "(Ljava/lang/Object;)V") (Option.none : Option Jvm.ClassFile.FieldType) [])  (h : vc_J5_linkLast_38 w gr d P X  a0 M) : kt_S w x 4 (kt_E w x P X) M 38 [(0, va_rf (some a0))] [] := by
  unfold vc_J5_linkLast_38 at h
  refine kr_aload_n O dJ5_linkLast_38 rfl 0 rfl ?_
  refine kr_dup O dJ5_linkLast_39 (kt_nrf _) ?_
  obtain ⟨u1, eu1, h⟩ := h
  refine kr_getf O dJ5_linkLast_40 fs_J5_7 eu1 ?_
  refine kr_iconst O dJ5_linkLast_43 (v := (1 : Int32)) (by decide) ?_
  refine kr_iadd O dJ5_linkLast_44 ?_
  obtain ⟨hw, h⟩ := h
  refine kr_putf O dJ5_linkLast_45 fs_J5_7 (Or.inl rfl) ⟨rfl, rfl⟩ hw (kr_nmM fun M2 hM2 => ?_)
  replace h := h M2 hM2
  refine kr_aload_n O dJ5_linkLast_48 rfl 0 rfl ?_
  refine kr_dup O dJ5_linkLast_49 (kt_nrf _) ?_
  obtain ⟨u3, eu3, h⟩ := h
  refine kr_getf O dJ5_linkLast_50 fs_J5_33 eu3 ?_
  refine kr_iconst O dJ5_linkLast_53 (v := (1 : Int32)) (by decide) ?_
  refine kr_iadd O dJ5_linkLast_54 ?_
  obtain ⟨hw, h⟩ := h
  refine kr_putf O dJ5_linkLast_55 fs_J5_33 (Or.inl rfl) ⟨rfl, rfl⟩ hw (kr_nmM fun M4 hM4 => ?_)
  replace h := h M4 hM4
  exact kr_vret O dJ5_linkLast_58 h
def vc_J5_linkLast (w : kt_W) (gr : kt_g × kt_M) (d : Nat) (P : Option Value → kt_M → Prop) (X : String → Nat → kt_M → Prop) (a0 : Nat) (r1 : Option Nat) (M : kt_M) : Prop :=
  ∃ p1, kt_gf M a0 95 = some (va_rf p1) ∧ kt_fits w M 3 ∧ ∃ t2, ∀ M3, M3 = kt_new M 3 (t2 + 2, .inr (15, [va_rf none, va_rf none, va_rf none])) → 
  kt_Ca w gr d yJ29_init kc_J29_init [va_rf (some M.1), va_rf p1, va_rf r1, va_rf none] M3 (kt_pV fun M4 => kt_hf gr M4 a0 95 ∧ ∀ M5, M5 = kt_pf M4 a0 95 (va_rf (some M.1)) → 
    ((p1 = none → kt_hf gr M5 a0 94 ∧ ∀ M7, M7 = kt_pf M5 a0 94 (va_rf (some M.1)) → vc_J5_linkLast_38 w gr d P X  a0 M7) ∧
    (∀ b6, p1 = some b6 → kt_hf gr M5 b6 97 ∧ ∀ M8, M8 = kt_pf M5 b6 97 (va_rf (some M.1)) → vc_J5_linkLast_38 w gr d P X  a0 M8))) X
theorem ce_J5_linkLast {w : kt_W} {g : kt_g} {d : Nat} {P : Option Value → kt_M → Prop} {X : String → Nat → kt_M → Prop} {a0 : Nat} {r1 : Option Nat} {M : kt_M} (h : vc_J5_linkLast w (g, M) d P X a0 r1 M) : kt_Sp w g (d + 1) yJ5_linkLast kc_J5_linkLast [va_rf (some a0), va_rf r1] M P X := by
  refine kt_of (L0 := [(0, va_rf (some a0)), (1, va_rf r1)]) (by decide +kernel) (by simp only [kt_lgR, kt_lgI, kt_lgN] <;> exact Nat.le_of_ble_eq_true rfl) (by simp only [kt_lvR, kt_lvI, kt_lvN] <;> rfl) fun x O => ?_
  replace O : kt_O w x (g, M) (d + 1) cJ5_linkLast "java/util/LinkedList" 4 ("linkLast", "(Ljava/lang/Object;)V") (Option.none : Option Jvm.ClassFile.FieldType) [] := O
  unfold vc_J5_linkLast at h
  refine kr_aload_n O dJ5_linkLast_0 rfl 0 rfl ?_
  obtain ⟨p1, ep1, h⟩ := h
  refine kr_getf O dJ5_linkLast_1 fs_J5_27 ep1 ?_
  refine kr_astore_n O dJ5_linkLast_4 rfl (Nat.le_of_ble_eq_true rfl) (by simp [kt_nw, kt_nrf, kt_cI, kt_cJ, kt_cF, kt_cD, kt_cR, kt_cU]) rfl ?_
  obtain ⟨hf, t2, h⟩ := h
  refine kr_new (c := 15) (r := (RJ29, TJ29, 3)) (fs := [va_rf none, va_rf none, va_rf none]) t2 O dJ5_linkLast_5 rfl q1325 q1326 q153 rfl hf (kr_nmM fun M3 hM3 => ?_)
  replace h := h M3 hM3
  refine kr_dup O dJ5_linkLast_8 (kt_nrf _) ?_
  refine kr_aload_n O dJ5_linkLast_9 rfl 0 rfl ?_
  refine kr_aload_n O dJ5_linkLast_10 rfl 2 rfl ?_
  refine kr_null O dJ5_linkLast_11 ?_
  refine kr_caV (rest := [va_rf (some M.1)]) O cd_J29_init h (Nat.le_of_ble_eq_true rfl) (fun ls _ => kt_ivI O dJ5_linkLast_12 cd_J29_init in_J29_init (Or.inl q1327) q1328 hi_J29_init) (fun M4 hq => ?_) (fun E q M9 hx => kr_out O hx)
  replace h := hq
  clear hq
  refine kr_astore_n O dJ5_linkLast_15 rfl (Nat.le_of_ble_eq_true rfl) (by simp [kt_nw, kt_nrf, kt_cI, kt_cJ, kt_cF, kt_cD, kt_cR, kt_cU]) rfl ?_
  refine kr_aload_n O dJ5_linkLast_16 rfl 2 rfl ?_
  refine kr_aload_n O dJ5_linkLast_17 rfl 0 rfl ?_
  obtain ⟨hw, h⟩ := h
  refine kr_putf O dJ5_linkLast_18 fs_J5_27 (Or.inl rfl) (kt_ok_rf _ rfl) hw (kr_nmM fun M5 hM5 => ?_)
  replace h := h M5 hM5
  refine kr_aload_n O dJ5_linkLast_21 rfl 1 rfl ?_
  refine kr_ifnonnull (tgt := 33) O dJ5_linkLast_22 rfl (fun b6 hb => ?_) (fun hc => ?_)
  · subst hb
    replace h := h.2 b6 rfl
    refine kr_aload_n O dJ5_linkLast_33 rfl 1 rfl ?_
    refine kr_aload_n O dJ5_linkLast_34 rfl 0 rfl ?_
    obtain ⟨hw, h⟩ := h
    refine kr_putf O dJ5_linkLast_35 fs_J5_36 (Or.inl rfl) (kt_ok_rf _ rfl) hw (kr_nmM fun M8 hM8 => ?_)
    replace h := h M8 hM8
    refine kr_sub [2] rfl ?_
    exact cj_J5_linkLast_38 O  h
  · subst hc
    replace h := h.1 rfl
    refine kr_aload_n O dJ5_linkLast_25 rfl 2 rfl ?_
    refine kr_aload_n O dJ5_linkLast_26 rfl 0 rfl ?_
    obtain ⟨hw, h⟩ := h
    refine kr_putf O dJ5_linkLast_27 fs_J5_18 (Or.inl rfl) (kt_ok_rf _ rfl) hw (kr_nmM fun M7 hM7 => ?_)
    replace h := h M7 hM7
    refine kr_goto (tgt := 38) O dJ5_linkLast_30 rfl ?_
    refine kr_sub [2] rfl ?_
    exact cj_J5_linkLast_38 O  h
def vc_J5_removeFirst (w : kt_W) (gr : kt_g × kt_M) (d : Nat) (P : Option Value → kt_M → Prop) (X : String → Nat → kt_M → Prop) (a0 : Nat) (M : kt_M) : Prop :=
  ∃ p1, kt_gf M a0 94 = some (va_rf p1) ∧ 
    ((p1 = none → False) ∧
    (∀ b2, p1 = some b2 → (kt_co M a0 = some 14) ∧ 
    kt_Ca w gr d yJ5_unlinkFirst kc_J5_unlinkFirst [va_rf (some a0), va_rf (some b2)] M (kt_pR fun p3 M4 => P (some (va_rf p3)) M4) X))
theorem ce_J5_removeFirst {w : kt_W} {g : kt_g} {d : Nat} {P : Option Value → kt_M → Prop} {X : String → Nat → kt_M → Prop} {a0 : Nat} {M : kt_M} (h : vc_J5_removeFirst w (g, M) d P X a0 M) : kt_Sp w g (d + 1) yJ5_removeFirst kc_J5_removeFirst [va_rf (some a0)] M P X := by
  refine kt_of (L0 := [(0, va_rf (some a0))]) (by decide +kernel) (Nat.le_of_ble_eq_true rfl) rfl fun x O => ?_
  replace O : kt_O w x (g, M) (d + 1) cJ5_removeFirst "java/util/LinkedList" 2 ("removeFirst", "()Ljava/lang/Object;") (Option.some (Jvm.ClassFile.FieldType.object "java/lang/Object")) [] := O
  unfold vc_J5_removeFirst at h
  refine kr_aload_n O dJ5_removeFirst_0 rfl 0 rfl ?_
  obtain ⟨p1, ep1, h⟩ := h
  refine kr_getf O dJ5_removeFirst_1 fs_J5_18 ep1 ?_
  refine kr_astore_n O dJ5_removeFirst_4 rfl (Nat.le_of_ble_eq_true rfl) rfl rfl ?_
  refine kr_aload_n O dJ5_removeFirst_5 rfl 0 rfl ?_
  refine kr_ifnonnull (tgt := 17) O dJ5_removeFirst_6 rfl (fun b2 hb => ?_) (fun hc => ?_)
  · subst hb
    replace h := h.2 b2 rfl
    refine kr_aload_n O dJ5_removeFirst_17 rfl 1 rfl ?_
    refine kr_aload_n O dJ5_removeFirst_18 rfl 0 rfl ?_
    obtain ⟨hco, h⟩ := h
    refine kr_caR (rest := []) O cd_J5_unlinkFirst h (Nat.le_of_ble_eq_true rfl) (fun ls _ => kt_ivV (ci := 14) O dJ5_removeFirst_19 cd_J5_unlinkFirst in_J5_unlinkFirst (Or.inl q2083) q2085 qs31 hco (by decide) hy_J5_unlinkFirst) (fun p3 M4 hq => ?_) (fun E q M9 hx => kr_out O hx)
    replace h := hq
    clear hq
    exact kr_aret O dJ5_removeFirst_22 (by first | exact Or.inl ⟨_, rfl⟩ | exact Or.inr ⟨_, rfl⟩) h
  · subst hc
    replace h := h.1 rfl
    exact h.elim
def vc_J5_unlinkFirst_42 (w : kt_W) (gr : kt_g × kt_M) (d : Nat) (P : Option Value → kt_M → Prop) (X : String → Nat → kt_M → Prop)  (a0 : Nat) (r2 : Option Nat) (M : kt_M) : Prop :=
  ∃ u1, kt_gf M a0 93 = some (.int u1) ∧ kt_hf gr M a0 93 ∧ ∀ M2, M2 = kt_pf M a0 93 (.int (u1 - (1 : Int32))) → ∃ u3, kt_gf M2 a0 90 = some (.int u3) ∧ kt_hf gr M2 a0 90 ∧ ∀ M4, M4 = kt_pf M2 a0 90 (.int (u3 + (1 : Int32))) → P (some (va_rf r2)) M4
theorem cj_J5_unlinkFirst_42 {w : kt_W} {x : kt_X} {gr : kt_g × kt_M} {d : Nat} {P : Option Value → kt_M → Prop} {X : String → Nat → kt_M → Prop}  {a0 : Nat} {r2 : Option Nat} {M : kt_M} (O : kt_O w x gr (d + 1) cJ5_unlinkFirst "java/util/LinkedList" 4 ("unlinkFirst", "(Ljava/util/LinkedList$Node;)Ljava/lang/Object;") (Option.some (Jvm.ClassFile.FieldType.object "java/lang/Object")) [])  (h : vc_J5_unlinkFirst_42 w gr d P X  a0 r2 M) : kt_S w x 4 (kt_E w x P X) M 42 [(0, va_rf (some a0)), (2, va_rf r2)] [] := by
  unfold vc_J5_unlinkFirst_42 at h
  refine kr_aload_n O dJ5_unlinkFirst_42 rfl 0 rfl ?_
  refine kr_dup O dJ5_unlinkFirst_43 (kt_nrf _) ?_
  obtain ⟨u1, eu1, h⟩ := h
  refine kr_getf O dJ5_unlinkFirst_44 fs_J5_7 eu1 ?_
  refine kr_iconst O dJ5_unlinkFirst_47 (v := (1 : Int32)) (by decide) ?_
  refine kr_isub O dJ5_unlinkFirst_48 ?_
  obtain ⟨hw, h⟩ := h
  refine kr_putf O dJ5_unlinkFirst_49 fs_J5_7 (Or.inl rfl) ⟨rfl, rfl⟩ hw (kr_nmM fun M2 hM2 => ?_)
  replace h := h M2 hM2
  refine kr_aload_n O dJ5_unlinkFirst_52 rfl 0 rfl ?_
  refine kr_dup O dJ5_unlinkFirst_53 (kt_nrf _) ?_
  obtain ⟨u3, eu3, h⟩ := h
  refine kr_getf O dJ5_unlinkFirst_54 fs_J5_33 eu3 ?_
  refine kr_iconst O dJ5_unlinkFirst_57 (v := (1 : Int32)) (by decide) ?_
  refine kr_iadd O dJ5_unlinkFirst_58 ?_
  obtain ⟨hw, h⟩ := h
  refine kr_putf O dJ5_unlinkFirst_59 fs_J5_33 (Or.inl rfl) ⟨rfl, rfl⟩ hw (kr_nmM fun M4 hM4 => ?_)
  replace h := h M4 hM4
  refine kr_aload_n O dJ5_unlinkFirst_62 rfl 1 rfl ?_
  exact kr_aret O dJ5_unlinkFirst_63 (by first | exact Or.inl ⟨_, rfl⟩ | exact Or.inr ⟨_, rfl⟩) h
def vc_J5_unlinkFirst (w : kt_W) (gr : kt_g × kt_M) (d : Nat) (P : Option Value → kt_M → Prop) (X : String → Nat → kt_M → Prop) (a0 : Nat) (r1 : Option Nat) (M : kt_M) : Prop :=
  ∃ b1, r1 = some b1 ∧ ∃ p2, kt_gf M b1 96 = some (va_rf p2) ∧ ∃ p3, kt_gf M b1 97 = some (va_rf p3) ∧ kt_hf gr M b1 96 ∧ ∀ M4, M4 = kt_pf M b1 96 (va_rf none) → kt_hf gr M4 b1 97 ∧ ∀ M5, M5 = kt_pf M4 b1 97 (va_rf none) → kt_hf gr M5 a0 94 ∧ ∀ M6, M6 = kt_pf M5 a0 94 (va_rf p3) → 
    ((p3 = none → kt_hf gr M6 a0 95 ∧ ∀ M8, M8 = kt_pf M6 a0 95 (va_rf none) → vc_J5_unlinkFirst_42 w gr d P X  a0 p2 M8) ∧
    (∀ b7, p3 = some b7 → kt_hf gr M6 b7 98 ∧ ∀ M9, M9 = kt_pf M6 b7 98 (va_rf none) → vc_J5_unlinkFirst_42 w gr d P X  a0 p2 M9))
theorem ce_J5_unlinkFirst {w : kt_W} {g : kt_g} {d : Nat} {P : Option Value → kt_M → Prop} {X : String → Nat → kt_M → Prop} {a0 : Nat} {r1 : Option Nat} {M : kt_M} (h : vc_J5_unlinkFirst w (g, M) d P X a0 r1 M) : kt_Sp w g (d + 1) yJ5_unlinkFirst kc_J5_unlinkFirst [va_rf (some a0), va_rf r1] M P X := by
  refine kt_of (L0 := [(0, va_rf (some a0)), (1, va_rf r1)]) (by decide +kernel) (by simp only [kt_lgR, kt_lgI, kt_lgN] <;> exact Nat.le_of_ble_eq_true rfl) (by simp only [kt_lvR, kt_lvI, kt_lvN] <;> rfl) fun x O => ?_
  replace O : kt_O w x (g, M) (d + 1) cJ5_unlinkFirst "java/util/LinkedList" 4 ("unlinkFirst", "(Ljava/util/LinkedList$Node;)Ljava/lang/Object;") (Option.some (Jvm.ClassFile.FieldType.object "java/lang/Object")) [] := O
  unfold vc_J5_unlinkFirst at h
  refine kr_aload_n O dJ5_unlinkFirst_0 rfl 1 rfl ?_
  obtain ⟨b1, rfl, h⟩ := h
  obtain ⟨p2, ep2, h⟩ := h
  refine kr_getf O dJ5_unlinkFirst_1 fs_J5_39 ep2 ?_
  refine kr_astore_n O dJ5_unlinkFirst_4 rfl (Nat.le_of_ble_eq_true rfl) rfl rfl ?_
  refine kr_aload_n O dJ5_unlinkFirst_5 rfl 2 rfl ?_
  obtain ⟨p3, ep3, h⟩ := h
  refine kr_getf O dJ5_unlinkFirst_6 fs_J5_36 ep3 ?_
  refine kr_astore_n O dJ5_unlinkFirst_9 rfl (Nat.le_of_ble_eq_true rfl) (by simp [kt_nw, kt_nrf, kt_cI, kt_cJ, kt_cF, kt_cD, kt_cR, kt_cU]) rfl ?_
  refine kr_aload_n O dJ5_unlinkFirst_10 rfl 3 rfl ?_
  refine kr_null O dJ5_unlinkFirst_11 ?_
  obtain ⟨hw, h⟩ := h
  refine kr_putf O dJ5_unlinkFirst_12 fs_J5_39 (Or.inl rfl) (kt_ok_rf _ rfl) hw (kr_nmM fun M4 hM4 => ?_)
  replace h := h M4 hM4
  refine kr_aload_n O dJ5_unlinkFirst_15 rfl 3 rfl ?_
  refine kr_null O dJ5_unlinkFirst_16 ?_
  obtain ⟨hw, h⟩ := h
  refine kr_putf O dJ5_unlinkFirst_17 fs_J5_36 (Or.inl rfl) (kt_ok_rf _ rfl) hw (kr_nmM fun M5 hM5 => ?_)
  replace h := h M5 hM5
  refine kr_aload_n O dJ5_unlinkFirst_20 rfl 2 rfl ?_
  refine kr_aload_n O dJ5_unlinkFirst_21 rfl 0 rfl ?_
  obtain ⟨hw, h⟩ := h
  refine kr_putf O dJ5_unlinkFirst_22 fs_J5_18 (Or.inl rfl) (kt_ok_rf _ rfl) hw (kr_nmM fun M6 hM6 => ?_)
  replace h := h M6 hM6
  refine kr_aload_n O dJ5_unlinkFirst_25 rfl 0 rfl ?_
  refine kr_ifnonnull (tgt := 37) O dJ5_unlinkFirst_26 rfl (fun b7 hb => ?_) (fun hc => ?_)
  · subst hb
    replace h := h.2 b7 rfl
    refine kr_aload_n O dJ5_unlinkFirst_37 rfl 0 rfl ?_
    refine kr_null O dJ5_unlinkFirst_38 ?_
    obtain ⟨hw, h⟩ := h
    refine kr_putf O dJ5_unlinkFirst_39 fs_J5_30 (Or.inl rfl) (kt_ok_rf _ rfl) hw (kr_nmM fun M9 hM9 => ?_)
    replace h := h M9 hM9
    refine kr_sub [2, 1] rfl ?_
    exact cj_J5_unlinkFirst_42 O  h
  · subst hc
    replace h := h.1 rfl
    refine kr_aload_n O dJ5_unlinkFirst_29 rfl 2 rfl ?_
    refine kr_null O dJ5_unlinkFirst_30 ?_
    obtain ⟨hw, h⟩ := h
    refine kr_putf O dJ5_unlinkFirst_31 fs_J5_27 (Or.inl rfl) (kt_ok_rf _ rfl) hw (kr_nmM fun M8 hM8 => ?_)
    replace h := h M8 hM8
    refine kr_goto (tgt := 42) O dJ5_unlinkFirst_34 rfl ?_
    refine kr_sub [2, 1] rfl ?_
    exact cj_J5_unlinkFirst_42 O  h
def vc_X3_init (w : kt_W) (gr : kt_g × kt_M) (d : Nat) (P : Option Value → kt_M → Prop) (X : String → Nat → kt_M → Prop) (a0 : Nat) (v1 : Int32) (v2 : Int32) (v3 : Int32) (M : kt_M) : Prop :=
  kt_hf gr M a0 21 ∧ ∀ M1, M1 = kt_pf M a0 21 (.int v1) → kt_hf gr M1 a0 22 ∧ ∀ M2, M2 = kt_pf M1 a0 22 (.int v2) → kt_hf gr M2 a0 23 ∧ ∀ M3, M3 = kt_pf M2 a0 23 (.int v3) → P none M3
theorem ce_X3_init {w : kt_W} {g : kt_g} {d : Nat} {P : Option Value → kt_M → Prop} {X : String → Nat → kt_M → Prop} {a0 : Nat} {v1 : Int32} {v2 : Int32} {v3 : Int32} {M : kt_M} (h : vc_X3_init w (g, M) d P X a0 v1 v2 v3 M) : kt_Sp w g (d + 1) yX3_init kc_X3_init [va_rf (some a0), .int v1, .int v2, .int v3] M P X := by
  refine kt_of (L0 := [(0, va_rf (some a0)), (1, .int v1), (2, .int v2), (3, .int v3)]) (by decide +kernel) (Nat.le_of_ble_eq_true rfl) rfl fun x O => ?_
  replace O : kt_O w x (g, M) (d + 1) cX3_init "KeyTurns$Version" 4 ("<init>", "(III)V") (Option.none : Option Jvm.ClassFile.FieldType) [] := O
  unfold vc_X3_init at h
  refine kr_aload_n O dX3_init_0 rfl 0 rfl ?_
  refine kr_objinit O dX3_init_1 q321 q173 q174 (Nat.le_of_ble_eq_true rfl) ?_
  refine kr_aload_n O dX3_init_4 rfl 0 rfl ?_
  refine kr_iload_n O dX3_init_5 rfl 1 rfl ?_
  obtain ⟨hw, h⟩ := h
  refine kr_putf O dX3_init_6 fs_X3_7 (Or.inr ⟨rfl, rfl⟩) ⟨rfl, rfl⟩ hw (kr_nmM fun M1 hM1 => ?_)
  replace h := h M1 hM1
  refine kr_aload_n O dX3_init_9 rfl 0 rfl ?_
  refine kr_iload_n O dX3_init_10 rfl 2 rfl ?_
  obtain ⟨hw, h⟩ := h
  refine kr_putf O dX3_init_11 fs_X3_13 (Or.inr ⟨rfl, rfl⟩) ⟨rfl, rfl⟩ hw (kr_nmM fun M2 hM2 => ?_)
  replace h := h M2 hM2
  refine kr_aload_n O dX3_init_14 rfl 0 rfl ?_
  refine kr_iload_n O dX3_init_15 rfl 3 rfl ?_
  obtain ⟨hw, h⟩ := h
  refine kr_putf O dX3_init_16 fs_X3_16 (Or.inr ⟨rfl, rfl⟩) ⟨rfl, rfl⟩ hw (kr_nmM fun M3 hM3 => ?_)
  replace h := h M3 hM3
  exact kr_vret O dX3_init_19 h
def vc_X3_isInForce (w : kt_W) (gr : kt_g × kt_M) (d : Nat) (P : Option Value → kt_M → Prop) (X : String → Nat → kt_M → Prop) (a0 : Nat) (v1 : Int32) (M : kt_M) : Prop :=
  ∃ z1, kt_io M a0 "KeyTurns$Issued" z1 ∧ 
    ((z1 = 0 → P (some (.int (0 : Int32))) M) ∧
    (¬ z1 = 0 → (kt_co M a0 = some 2 ∨ kt_co M a0 = some 3) ∧ 
    kt_Ca w gr d yX3_spans kc_X3_spans [va_rf (some a0), .int v1] M (kt_pI fun u2 M3 => 
      ((u2 = 0 → P (some (.int (0 : Int32))) M3) ∧
      (¬ u2 = 0 → P (some (.int (1 : Int32))) M3))) X))
theorem ce_X3_isInForce {w : kt_W} {g : kt_g} {d : Nat} {P : Option Value → kt_M → Prop} {X : String → Nat → kt_M → Prop} {a0 : Nat} {v1 : Int32} {M : kt_M} (h : vc_X3_isInForce w (g, M) d P X a0 v1 M) : kt_Sp w g (d + 1) yX3_isInForce kc_X3_isInForce [va_rf (some a0), .int v1] M P X := by
  refine kt_of (L0 := [(0, va_rf (some a0)), (1, .int v1)]) (by decide +kernel) (Nat.le_of_ble_eq_true rfl) rfl fun x O => ?_
  replace O : kt_O w x (g, M) (d + 1) cX3_isInForce "KeyTurns$Version" 2 ("isInForce", "(I)Z") (Option.some Jvm.ClassFile.FieldType.boolean) [] := O
  unfold vc_X3_isInForce at h
  refine kr_aload_n O dX3_isInForce_0 rfl 0 rfl ?_
  obtain ⟨z1, hz1, h⟩ := h
  refine kr_inst O dX3_isInForce_1 q502 hz1 ?_
  refine kr_if_eq (tgt := 19) O dX3_isInForce_4 rfl (fun hc => ?_) (fun hc => ?_)
  · replace h := h.1 hc
    refine kr_iconst O dX3_isInForce_19 (v := (0 : Int32)) (by decide) ?_
    exact kr_iret O dX3_isInForce_20 (by decide) h
  · replace h := h.2 hc
    refine kr_aload_n O dX3_isInForce_7 rfl 0 rfl ?_
    refine kr_iload_n O dX3_isInForce_8 rfl 1 rfl ?_
    obtain ⟨hco, h⟩ := h
    refine kr_caI (rest := []) O cd_X3_spans h (Nat.le_of_ble_eq_true rfl) (fun ls _ => by rcases hco with hco | hco <;> first | exact kt_ivV (ci := 2) O dX3_isInForce_9 cd_X3_spans in_X3_spans (Or.inl q503) q504 q506 hco (by decide) hy_X3_spans | exact kt_ivV (ci := 3) O dX3_isInForce_9 cd_X3_spans in_X3_spans (Or.inl q503) q504 q507 hco (by decide) hy_X3_spans) (fun u2 M3 hq => ?_) (fun E q M9 hx => kr_out O hx)
    replace h := hq
    clear hq
    refine kr_if_eq (tgt := 19) O dX3_isInForce_12 rfl (fun hc => ?_) (fun hc => ?_)
    · replace h := h.1 hc
      refine kr_iconst O dX3_isInForce_19 (v := (0 : Int32)) (by decide) ?_
      exact kr_iret O dX3_isInForce_20 (by decide) h
    · replace h := h.2 hc
      refine kr_iconst O dX3_isInForce_15 (v := (1 : Int32)) (by decide) ?_
      refine kr_goto (tgt := 20) O dX3_isInForce_16 rfl ?_
      exact kr_iret O dX3_isInForce_20 (by decide) h
def vc_X3_spans (w : kt_W) (gr : kt_g × kt_M) (d : Nat) (P : Option Value → kt_M → Prop) (X : String → Nat → kt_M → Prop) (a0 : Nat) (v1 : Int32) (M : kt_M) : Prop :=
  ∃ u1, kt_gf M a0 22 = some (.int u1) ∧ ∃ u2, kt_gf M a0 23 = some (.int u2) ∧ 
  kt_Ca w gr d yX1_isIn kc_X1_isIn [.long v1.toInt64, .long u1.toInt64, .long u2.toInt64] M (kt_pI fun u3 M4 => narrow .boolean (.int u3) = .int u3 ∧ P (some (.int u3)) M4) X
theorem ce_X3_spans {w : kt_W} {g : kt_g} {d : Nat} {P : Option Value → kt_M → Prop} {X : String → Nat → kt_M → Prop} {a0 : Nat} {v1 : Int32} {M : kt_M} (h : vc_X3_spans w (g, M) d P X a0 v1 M) : kt_Sp w g (d + 1) yX3_spans kc_X3_spans [va_rf (some a0), .int v1] M P X := by
  refine kt_of (L0 := [(0, va_rf (some a0)), (1, .int v1)]) (by decide +kernel) (Nat.le_of_ble_eq_true rfl) rfl fun x O => ?_
  replace O : kt_O w x (g, M) (d + 1) cX3_spans "KeyTurns$Version" 2 ("spans", "(I)Z") (Option.some Jvm.ClassFile.FieldType.boolean) [] := O
  unfold vc_X3_spans at h
  refine kr_iload_n O dX3_spans_0 rfl 1 rfl ?_
  refine kr_i2l O dX3_spans_1 ?_
  refine kr_aload_n O dX3_spans_2 rfl 0 rfl ?_
  obtain ⟨u1, eu1, h⟩ := h
  refine kr_getf O dX3_spans_3 fs_X3_13 eu1 ?_
  refine kr_i2l O dX3_spans_6 ?_
  refine kr_aload_n O dX3_spans_7 rfl 0 rfl ?_
  obtain ⟨u2, eu2, h⟩ := h
  refine kr_getf O dX3_spans_8 fs_X3_16 eu2 ?_
  refine kr_i2l O dX3_spans_11 ?_
  refine kr_caI (rest := []) O cd_X1_isIn h (Nat.le_of_ble_eq_true rfl) (fun ls _ => kt_ivSN O dX3_spans_12 cd_X1_isIn in_X1_isIn q509 q510 hy_X1_isIn) (fun u3 M4 hq => ?_) (fun E q M9 hx => kr_out O hx)
  replace h := hq
  clear hq
  exact kr_iret O dX3_spans_15 h.1 h.2
def vc_X3_hasEnded (w : kt_W) (gr : kt_g × kt_M) (d : Nat) (P : Option Value → kt_M → Prop) (X : String → Nat → kt_M → Prop) (a0 : Nat) (v1 : Int32) (M : kt_M) : Prop :=
  ∃ u1, kt_gf M a0 23 = some (.int u1) ∧ 
    ((v1 ≤ u1 → P (some (.int (0 : Int32))) M) ∧
    (¬ v1 ≤ u1 → P (some (.int (1 : Int32))) M))
theorem ce_X3_hasEnded {w : kt_W} {g : kt_g} {d : Nat} {P : Option Value → kt_M → Prop} {X : String → Nat → kt_M → Prop} {a0 : Nat} {v1 : Int32} {M : kt_M} (h : vc_X3_hasEnded w (g, M) d P X a0 v1 M) : kt_Sp w g (d + 1) yX3_hasEnded kc_X3_hasEnded [va_rf (some a0), .int v1] M P X := by
  refine kt_of (L0 := [(0, va_rf (some a0)), (1, .int v1)]) (by decide +kernel) (Nat.le_of_ble_eq_true rfl) rfl fun x O => ?_
  replace O : kt_O w x (g, M) (d + 1) cX3_hasEnded "KeyTurns$Version" 2 ("hasEnded", "(I)Z") (Option.some Jvm.ClassFile.FieldType.boolean) [] := O
  unfold vc_X3_hasEnded at h
  refine kr_aload_n O dX3_hasEnded_0 rfl 0 rfl ?_
  obtain ⟨u1, eu1, h⟩ := h
  refine kr_getf O dX3_hasEnded_1 fs_X3_16 eu1 ?_
  refine kr_iload_n O dX3_hasEnded_4 rfl 1 rfl ?_
  refine kr_icmp_ge (tgt := 12) O dX3_hasEnded_5 rfl (fun hc => ?_) (fun hc => ?_)
  · replace h := h.1 hc
    refine kr_iconst O dX3_hasEnded_12 (v := (0 : Int32)) (by decide) ?_
    exact kr_iret O dX3_hasEnded_13 (by decide) h
  · replace h := h.2 hc
    refine kr_iconst O dX3_hasEnded_8 (v := (1 : Int32)) (by decide) ?_
    refine kr_goto (tgt := 13) O dX3_hasEnded_9 rfl ?_
    exact kr_iret O dX3_hasEnded_13 (by decide) h
def vc_X4_init (w : kt_W) (gr : kt_g × kt_M) (d : Nat) (P : Option Value → kt_M → Prop) (X : String → Nat → kt_M → Prop) (a0 : Nat) (v1 : Int32) (v2 : Int32) (v3 : Int32) (M : kt_M) : Prop :=
  
  kt_Ca w gr d yX3_init kc_X3_init [va_rf (some a0), .int v1, .int v2, .int v3] M (kt_pV fun M1 => P none M1) X
theorem ce_X4_init {w : kt_W} {g : kt_g} {d : Nat} {P : Option Value → kt_M → Prop} {X : String → Nat → kt_M → Prop} {a0 : Nat} {v1 : Int32} {v2 : Int32} {v3 : Int32} {M : kt_M} (h : vc_X4_init w (g, M) d P X a0 v1 v2 v3 M) : kt_Sp w g (d + 1) yX4_init kc_X4_init [va_rf (some a0), .int v1, .int v2, .int v3] M P X := by
  refine kt_of (L0 := [(0, va_rf (some a0)), (1, .int v1), (2, .int v2), (3, .int v3)]) (by decide +kernel) (Nat.le_of_ble_eq_true rfl) rfl fun x O => ?_
  replace O : kt_O w x (g, M) (d + 1) cX4_init "KeyTurns$Issued" 4 ("<init>", "(III)V") (Option.none : Option Jvm.ClassFile.FieldType) [] := O
  unfold vc_X4_init at h
  refine kr_aload_n O dX4_init_0 rfl 0 rfl ?_
  refine kr_iload_n O dX4_init_1 rfl 1 rfl ?_
  refine kr_iload_n O dX4_init_2 rfl 2 rfl ?_
  refine kr_iload_n O dX4_init_3 rfl 3 rfl ?_
  refine kr_caV (rest := []) O cd_X3_init h (Nat.le_of_ble_eq_true rfl) (fun ls _ => kt_ivI O dX4_init_4 cd_X3_init in_X3_init (Or.inl q318) q319 hi_X3_init) (fun M1 hq => ?_) (fun E q M9 hx => kr_out O hx)
  replace h := hq
  clear hq
  exact kr_vret O dX4_init_7 h
def vc_X4_endingAt (w : kt_W) (gr : kt_g × kt_M) (d : Nat) (P : Option Value → kt_M → Prop) (X : String → Nat → kt_M → Prop) (a0 : Nat) (v1 : Int32) (M : kt_M) : Prop :=
  kt_fits w M 3 ∧ ∃ t1, ∀ M2, M2 = kt_new M 3 (t1 + 2, .inr (2, [.int 0, .int 0, .int 0])) → ∃ u3, kt_gf M2 a0 21 = some (.int u3) ∧ ∃ u4, kt_gf M2 a0 22 = some (.int u4) ∧ 
  kt_Ca w gr d yX4_init kc_X4_init [va_rf (some M.1), .int u3, .int u4, .int v1] M2 (kt_pV fun M5 => P (some (va_rf (some M.1))) M5) X
theorem ce_X4_endingAt {w : kt_W} {g : kt_g} {d : Nat} {P : Option Value → kt_M → Prop} {X : String → Nat → kt_M → Prop} {a0 : Nat} {v1 : Int32} {M : kt_M} (h : vc_X4_endingAt w (g, M) d P X a0 v1 M) : kt_Sp w g (d + 1) yX4_endingAt kc_X4_endingAt [va_rf (some a0), .int v1] M P X := by
  refine kt_of (L0 := [(0, va_rf (some a0)), (1, .int v1)]) (by decide +kernel) (Nat.le_of_ble_eq_true rfl) rfl fun x O => ?_
  replace O : kt_O w x (g, M) (d + 1) cX4_endingAt "KeyTurns$Issued" 2 ("endingAt", "(I)LKeyTurns$Issued;") (Option.some (Jvm.ClassFile.FieldType.object "KeyTurns$Issued")) [] := O
  unfold vc_X4_endingAt at h
  obtain ⟨hf, t1, h⟩ := h
  refine kr_new (c := 2) (r := (RX4, TX4, 3)) (fs := [.int 0, .int 0, .int 0]) t1 O dX4_endingAt_0 rfl q1355 q314 q118 rfl hf (kr_nmM fun M2 hM2 => ?_)
  replace h := h M2 hM2
  refine kr_dup O dX4_endingAt_3 (kt_nrf _) ?_
  refine kr_aload_n O dX4_endingAt_4 rfl 0 rfl ?_
  obtain ⟨u3, eu3, h⟩ := h
  refine kr_getf O dX4_endingAt_5 fs_X4_9 eu3 ?_
  refine kr_aload_n O dX4_endingAt_8 rfl 0 rfl ?_
  obtain ⟨u4, eu4, h⟩ := h
  refine kr_getf O dX4_endingAt_9 fs_X4_13 eu4 ?_
  refine kr_iload_n O dX4_endingAt_12 rfl 1 rfl ?_
  refine kr_caV (rest := [va_rf (some M.1)]) O cd_X4_init h (Nat.le_of_ble_eq_true rfl) (fun ls _ => kt_ivI O dX4_endingAt_13 cd_X4_init in_X4_init (Or.inl q1356) q316 hi_X4_init) (fun M5 hq => ?_) (fun E q M9 hx => kr_out O hx)
  replace h := hq
  clear hq
  exact kr_aret O dX4_endingAt_16 (by first | exact Or.inl ⟨_, rfl⟩ | exact Or.inr ⟨_, rfl⟩) h
def vc_J6_newLength_21 (w : kt_W) (gr : kt_g × kt_M) (d : Nat) (P : Option Value → kt_M → Prop) (X : String → Nat → kt_M → Prop)  (v0 : Int32) (v1 : Int32) (M : kt_M) : Prop :=
  
  kt_Ca w gr d yJ6_hugeLength kc_J6_hugeLength [.int v0, .int v1] M (kt_pI fun u1 M2 => P (some (.int u1)) M2) X
theorem cj_J6_newLength_21 {w : kt_W} {x : kt_X} {gr : kt_g × kt_M} {d : Nat} {P : Option Value → kt_M → Prop} {X : String → Nat → kt_M → Prop}  {v0 : Int32} {v1 : Int32} {M : kt_M} (O : kt_O w x gr (d + 1) cJ6_newLength "jdk/internal/util/ArraysSupport" 4 ("newLength", "(III)I") (Option.some Jvm.ClassFile.FieldType.int) [])  (h : vc_J6_newLength_21 w gr d P X  v0 v1 M) : kt_S w x 4 (kt_E w x P X) M 21 [(0, .int v0), (1, .int v1)] [] := by
  unfold vc_J6_newLength_21 at h
  refine kr_iload_n O dJ6_newLength_21 rfl 0 rfl ?_
  refine kr_iload_n O dJ6_newLength_22 rfl 1 rfl ?_
  refine kr_caI (rest := []) O cd_J6_hugeLength h (Nat.le_of_ble_eq_true rfl) (fun ls _ => kt_ivS O dJ6_newLength_23 cd_J6_hugeLength in_J6_hugeLength q370 q371 hy_J6_hugeLength) (fun u1 M2 hq => ?_) (fun E q M9 hx => kr_out O hx)
  replace h := hq
  clear hq
  exact kr_iret O dJ6_newLength_26 rfl h
def vc_J6_newLength (w : kt_W) (gr : kt_g × kt_M) (d : Nat) (P : Option Value → kt_M → Prop) (X : String → Nat → kt_M → Prop) (v0 : Int32) (v1 : Int32) (v2 : Int32) (M : kt_M) : Prop :=
  
  kt_Ca w gr d yJ7_max kc_J7_max [.int v1, .int v2] M (kt_pI fun u1 M2 => 
    (((v0 + u1) ≤ (0 : Int32) → vc_J6_newLength_21 w gr d P X  v0 v1 M2) ∧
    (¬ (v0 + u1) ≤ (0 : Int32) → 
      (((2147483639 : Int32) < (v0 + u1) → vc_J6_newLength_21 w gr d P X  v0 v1 M2) ∧
      (¬ (2147483639 : Int32) < (v0 + u1) → P (some (.int (v0 + u1))) M2))))) X
theorem ce_J6_newLength {w : kt_W} {g : kt_g} {d : Nat} {P : Option Value → kt_M → Prop} {X : String → Nat → kt_M → Prop} {v0 : Int32} {v1 : Int32} {v2 : Int32} {M : kt_M} (h : vc_J6_newLength w (g, M) d P X v0 v1 v2 M) : kt_Sp w g (d + 1) yJ6_newLength kc_J6_newLength [.int v0, .int v1, .int v2] M P X := by
  refine kt_of (L0 := [(0, .int v0), (1, .int v1), (2, .int v2)]) (by decide +kernel) (Nat.le_of_ble_eq_true rfl) rfl fun x O => ?_
  replace O : kt_O w x (g, M) (d + 1) cJ6_newLength "jdk/internal/util/ArraysSupport" 4 ("newLength", "(III)I") (Option.some Jvm.ClassFile.FieldType.int) [] := O
  unfold vc_J6_newLength at h
  refine kr_iload_n O dJ6_newLength_0 rfl 0 rfl ?_
  refine kr_iload_n O dJ6_newLength_1 rfl 1 rfl ?_
  refine kr_iload_n O dJ6_newLength_2 rfl 2 rfl ?_
  refine kr_caI (rest := [.int v0]) O cd_J7_max h (Nat.le_of_ble_eq_true rfl) (fun ls _ => kt_ivS O dJ6_newLength_3 cd_J7_max in_J7_max q366 q367 hy_J7_max) (fun u1 M2 hq => ?_) (fun E q M9 hx => kr_out O hx)
  replace h := hq
  clear hq
  refine kr_iadd O dJ6_newLength_6 ?_
  refine kr_istore_n O dJ6_newLength_7 rfl (Nat.le_of_ble_eq_true rfl) rfl rfl ?_
  refine kr_iconst O dJ6_newLength_8 (v := (0 : Int32)) (by decide) ?_
  refine kr_iload_n O dJ6_newLength_9 rfl 0 rfl ?_
  refine kr_icmp_ge (tgt := 21) O dJ6_newLength_10 rfl (fun hc => ?_) (fun hc => ?_)
  · replace h := h.1 hc
    refine kr_sub [1, 2] rfl ?_
    exact cj_J6_newLength_21 O  h
  · replace h := h.2 hc
    refine kr_iload_n O dJ6_newLength_13 rfl 0 rfl ?_
    refine kr_ldc O dJ6_newLength_14 q369 ?_
    refine kr_icmp_gt (tgt := 21) O dJ6_newLength_16 rfl (fun hc => ?_) (fun hc => ?_)
    · replace h := h.1 hc
      refine kr_sub [1, 2] rfl ?_
      exact cj_J6_newLength_21 O  h
    · replace h := h.2 hc
      refine kr_iload_n O dJ6_newLength_19 rfl 0 rfl ?_
      exact kr_iret O dJ6_newLength_20 rfl h
def vc_J6_hugeLength (w : kt_W) (gr : kt_g × kt_M) (d : Nat) (P : Option Value → kt_M → Prop) (X : String → Nat → kt_M → Prop) (v0 : Int32) (v1 : Int32) (M : kt_M) : Prop :=
  
    ((0 ≤ (v0 + v1) → 
      (((2147483639 : Int32) < (v0 + v1) → P (some (.int (v0 + v1))) M) ∧
      (¬ (2147483639 : Int32) < (v0 + v1) → P (some (.int (2147483639 : Int32))) M))) ∧
    (¬ 0 ≤ (v0 + v1) → False))
theorem ce_J6_hugeLength {w : kt_W} {g : kt_g} {d : Nat} {P : Option Value → kt_M → Prop} {X : String → Nat → kt_M → Prop} {v0 : Int32} {v1 : Int32} {M : kt_M} (h : vc_J6_hugeLength w (g, M) d P X v0 v1 M) : kt_Sp w g (d + 1) yJ6_hugeLength kc_J6_hugeLength [.int v0, .int v1] M P X := by
  refine kt_of (L0 := [(0, .int v0), (1, .int v1)]) (by decide +kernel) (Nat.le_of_ble_eq_true rfl) rfl fun x O => ?_
  replace O : kt_O w x (g, M) (d + 1) cJ6_hugeLength "jdk/internal/util/ArraysSupport" 3 ("hugeLength", "(II)I") (Option.some Jvm.ClassFile.FieldType.int) [] := O
  unfold vc_J6_hugeLength at h
  refine kr_iload_n O dJ6_hugeLength_0 rfl 0 rfl ?_
  refine kr_iload_n O dJ6_hugeLength_1 rfl 1 rfl ?_
  refine kr_iadd O dJ6_hugeLength_2 ?_
  refine kr_istore_n O dJ6_hugeLength_3 rfl (Nat.le_of_ble_eq_true rfl) rfl rfl ?_
  refine kr_iload_n O dJ6_hugeLength_4 rfl 0 rfl ?_
  refine kr_if_ge (tgt := 49) O dJ6_hugeLength_5 rfl (fun hc => ?_) (fun hc => ?_)
  · replace h := h.1 hc
    refine kr_iload_n O dJ6_hugeLength_49 rfl 0 rfl ?_
    refine kr_ldc O dJ6_hugeLength_50 q369 ?_
    refine kr_icmp_gt (tgt := 58) O dJ6_hugeLength_52 rfl (fun hc => ?_) (fun hc => ?_)
    · replace h := h.1 hc
      refine kr_iload_n O dJ6_hugeLength_58 rfl 0 rfl ?_
      exact kr_iret O dJ6_hugeLength_59 rfl h
    · replace h := h.2 hc
      refine kr_ldc O dJ6_hugeLength_55 q369 ?_
      exact kr_iret O dJ6_hugeLength_57 rfl h
  · replace h := h.2 hc
    exact h.elim
def vc_J7_max (w : kt_W) (gr : kt_g × kt_M) (d : Nat) (P : Option Value → kt_M → Prop) (X : String → Nat → kt_M → Prop) (v0 : Int32) (v1 : Int32) (M : kt_M) : Prop :=
  
    ((v0 < v1 → P (some (.int v1)) M) ∧
    (¬ v0 < v1 → P (some (.int v0)) M))
theorem ce_J7_max {w : kt_W} {g : kt_g} {d : Nat} {P : Option Value → kt_M → Prop} {X : String → Nat → kt_M → Prop} {v0 : Int32} {v1 : Int32} {M : kt_M} (h : vc_J7_max w (g, M) d P X v0 v1 M) : kt_Sp w g (d + 1) yJ7_max kc_J7_max [.int v0, .int v1] M P X := by
  refine kt_of (L0 := [(0, .int v0), (1, .int v1)]) (by decide +kernel) (Nat.le_of_ble_eq_true rfl) rfl fun x O => ?_
  replace O : kt_O w x (g, M) (d + 1) cJ7_max "java/lang/Math" 2 ("max", "(II)I") (Option.some Jvm.ClassFile.FieldType.int) [] := O
  unfold vc_J7_max at h
  refine kr_iload_n O dJ7_max_0 rfl 0 rfl ?_
  refine kr_iload_n O dJ7_max_1 rfl 1 rfl ?_
  refine kr_icmp_lt (tgt := 9) O dJ7_max_2 rfl (fun hc => ?_) (fun hc => ?_)
  · replace h := h.1 hc
    refine kr_iload_n O dJ7_max_9 rfl 1 rfl ?_
    exact kr_iret O dJ7_max_10 rfl h
  · replace h := h.2 hc
    refine kr_iload_n O dJ7_max_5 rfl 0 rfl ?_
    refine kr_goto (tgt := 10) O dJ7_max_6 rfl ?_
    exact kr_iret O dJ7_max_10 rfl h
def vc_J7_min (w : kt_W) (gr : kt_g × kt_M) (d : Nat) (P : Option Value → kt_M → Prop) (X : String → Nat → kt_M → Prop) (v0 : Int32) (v1 : Int32) (M : kt_M) : Prop :=
  
    ((v1 < v0 → P (some (.int v1)) M) ∧
    (¬ v1 < v0 → P (some (.int v0)) M))
theorem ce_J7_min {w : kt_W} {g : kt_g} {d : Nat} {P : Option Value → kt_M → Prop} {X : String → Nat → kt_M → Prop} {v0 : Int32} {v1 : Int32} {M : kt_M} (h : vc_J7_min w (g, M) d P X v0 v1 M) : kt_Sp w g (d + 1) yJ7_min kc_J7_min [.int v0, .int v1] M P X := by
  refine kt_of (L0 := [(0, .int v0), (1, .int v1)]) (by decide +kernel) (Nat.le_of_ble_eq_true rfl) rfl fun x O => ?_
  replace O : kt_O w x (g, M) (d + 1) cJ7_min "java/lang/Math" 2 ("min", "(II)I") (Option.some Jvm.ClassFile.FieldType.int) [] := O
  unfold vc_J7_min at h
  refine kr_iload_n O dJ7_min_0 rfl 0 rfl ?_
  refine kr_iload_n O dJ7_min_1 rfl 1 rfl ?_
  refine kr_icmp_gt (tgt := 9) O dJ7_min_2 rfl (fun hc => ?_) (fun hc => ?_)
  · replace h := h.1 hc
    refine kr_iload_n O dJ7_min_9 rfl 1 rfl ?_
    exact kr_iret O dJ7_min_10 rfl h
  · replace h := h.2 hc
    refine kr_iload_n O dJ7_min_5 rfl 0 rfl ?_
    refine kr_goto (tgt := 10) O dJ7_min_6 rfl ?_
    exact kr_iret O dJ7_min_10 rfl h
def vc_J7_min_2 (w : kt_W) (gr : kt_g × kt_M) (d : Nat) (P : Option Value → kt_M → Prop) (X : String → Nat → kt_M → Prop) (v0 : Int64) (v2 : Int64) (M : kt_M) : Prop :=
  
    ((0 < (lg_cmp v0 v2) → P (some (.long v2)) M) ∧
    (¬ 0 < (lg_cmp v0 v2) → P (some (.long v0)) M))
theorem ce_J7_min_2 {w : kt_W} {g : kt_g} {d : Nat} {P : Option Value → kt_M → Prop} {X : String → Nat → kt_M → Prop} {v0 : Int64} {v2 : Int64} {M : kt_M} (h : vc_J7_min_2 w (g, M) d P X v0 v2 M) : kt_Sp w g (d + 1) yJ7_min_2 kc_J7_min_2 [.long v0, .long v2] M P X := by
  refine kt_of (L0 := [(0, .long v0), (2, .long v2)]) (by decide +kernel) (Nat.le_of_ble_eq_true rfl) rfl fun x O => ?_
  replace O : kt_O w x (g, M) (d + 1) cJ7_min_2 "java/lang/Math" 4 ("min", "(JJ)J") (Option.some Jvm.ClassFile.FieldType.long) [] := O
  unfold vc_J7_min_2 at h
  refine kr_lload_n O dJ7_min_2_0 rfl 0 rfl ?_
  refine kr_lload_n O dJ7_min_2_1 rfl 1 rfl ?_
  refine kr_lcmp O dJ7_min_2_2 ?_
  refine kr_if_gt (tgt := 10) O dJ7_min_2_3 rfl (fun hc => ?_) (fun hc => ?_)
  · replace h := h.1 hc
    refine kr_lload_n O dJ7_min_2_10 rfl 1 rfl ?_
    exact kr_lret O dJ7_min_2_11 h
  · replace h := h.2 hc
    refine kr_lload_n O dJ7_min_2_6 rfl 0 rfl ?_
    refine kr_goto (tgt := 11) O dJ7_min_2_7 rfl ?_
    exact kr_lret O dJ7_min_2_11 h
def vc_J8_copyOf (w : kt_W) (gr : kt_g × kt_M) (d : Nat) (P : Option Value → kt_M → Prop) (X : String → Nat → kt_M → Prop) (r0 : Option Nat) (v1 : Int32) (M : kt_M) : Prop :=
  ∃ b1, r0 = some b1 ∧ (∃ t y, M.2.2 b1 = (t + 2, .inl (3, y))) ∧ 
  kt_Ca w gr d yJ8_copyOf_2 kc_J8_copyOf_2 [va_rf (some b1), .int v1, va_rf (some (kt_cA w 90))] M (kt_pR fun p2 M3 => P (some (va_rf p2)) M3) X
theorem ce_J8_copyOf {w : kt_W} {g : kt_g} {d : Nat} {P : Option Value → kt_M → Prop} {X : String → Nat → kt_M → Prop} {r0 : Option Nat} {v1 : Int32} {M : kt_M} (h : vc_J8_copyOf w (g, M) d P X r0 v1 M) : kt_Sp w g (d + 1) yJ8_copyOf kc_J8_copyOf [va_rf r0, .int v1] M P X := by
  refine kt_of (L0 := [(0, va_rf r0), (1, .int v1)]) (by decide +kernel) (by simp only [kt_lgR, kt_lgI, kt_lgN] <;> exact Nat.le_of_ble_eq_true rfl) (by simp only [kt_lvR, kt_lvI, kt_lvN] <;> rfl) fun x O => ?_
  replace O : kt_O w x (g, M) (d + 1) cJ8_copyOf "java/util/Arrays" 2 ("copyOf", "([Ljava/lang/Object;I)[Ljava/lang/Object;") (Option.some (Jvm.ClassFile.FieldType.array (Jvm.ClassFile.FieldType.object "java/lang/Object"))) [] := O
  unfold vc_J8_copyOf at h
  refine kr_aload_n O dJ8_copyOf_0 rfl 0 rfl ?_
  refine kr_iload_n O dJ8_copyOf_1 rfl 1 rfl ?_
  refine kr_aload_n O dJ8_copyOf_2 rfl 0 rfl ?_
  obtain ⟨b1, rfl, h⟩ := h
  obtain ⟨⟨tc, yc, hc⟩, h⟩ := h
  refine kr_getClass O dJ8_copyOf_3 q376 hc (Nat.le_of_ble_eq_true rfl) ?_
  refine kr_caR (rest := []) O cd_J8_copyOf_2 h (Nat.le_of_ble_eq_true rfl) (fun ls _ => kt_ivS O dJ8_copyOf_6 cd_J8_copyOf_2 in_J8_copyOf_2 q413 q414 hy_J8_copyOf_2) (fun p2 M3 hq => ?_) (fun E q M9 hx => kr_out O hx)
  replace h := hq
  clear hq
  exact kr_aret O dJ8_copyOf_9 (by first | exact Or.inl ⟨_, rfl⟩ | exact Or.inr ⟨_, rfl⟩) h
def vc_J8_copyOf_2 (w : kt_W) (gr : kt_g × kt_M) (d : Nat) (P : Option Value → kt_M → Prop) (X : String → Nat → kt_M → Prop) (r0 : Option Nat) (v1 : Int32) (r2 : Option Nat) (M : kt_M) : Prop :=
  
    ((¬ r2 = (some (kt_cA w 90)) → False) ∧
    (r2 = (some (kt_cA w 90)) → ∃ n1, v1 = nI n1 ∧ n1 < 2 ^ 31 ∧ kt_fits w M n1 ∧ ∃ t2, ∀ M3, M3 = kt_new M n1 (t2 + 2, .inl (3, kt_z 3 n1)) → ∃ b4, r0 = some b4 ∧ ∃ n5, kt_len M3 b4 = some n5 ∧ 
    kt_Ca w gr d yJ7_min kc_J7_min [.int (nI n5), .int v1] M3 (kt_pI fun u6 M7 => kt_ac gr M7 b4 (0 : Int32) M.1 (0 : Int32) u6 ∧ ∀ M8, M8 = kt_acp M7 b4 (0 : Int32) M.1 (0 : Int32) u6 → P (some (va_rf (some M.1))) M8) X))
theorem ce_J8_copyOf_2 {w : kt_W} {g : kt_g} {d : Nat} {P : Option Value → kt_M → Prop} {X : String → Nat → kt_M → Prop} {r0 : Option Nat} {v1 : Int32} {r2 : Option Nat} {M : kt_M} (h : vc_J8_copyOf_2 w (g, M) d P X r0 v1 r2 M) : kt_Sp w g (d + 1) yJ8_copyOf_2 kc_J8_copyOf_2 [va_rf r0, .int v1, va_rf r2] M P X := by
  refine kt_of (L0 := [(0, va_rf r0), (1, .int v1), (2, va_rf r2)]) (by decide +kernel) (by simp only [kt_lgR, kt_lgI, kt_lgN] <;> exact Nat.le_of_ble_eq_true rfl) (by simp only [kt_lvR, kt_lvI, kt_lvN] <;> rfl) fun x O => ?_
  replace O : kt_O w x (g, M) (d + 1) cJ8_copyOf_2 "java/util/Arrays" 4 ("copyOf", "([Ljava/lang/Object;ILjava/lang/Class;)[Ljava/lang/Object;") (Option.some (Jvm.ClassFile.FieldType.array (Jvm.ClassFile.FieldType.object "java/lang/Object"))) [] := O
  unfold vc_J8_copyOf_2 at h
  refine kr_aload_n O dJ8_copyOf_2_0 rfl 2 rfl ?_
  refine kr_ldcM O dJ8_copyOf_2_1 q416 ?_
  refine kr_acmp_ne (tgt := 13) O dJ8_copyOf_2_3 rfl (fun hc => ?_) (fun hc => ?_)
  · replace h := h.1 hc
    refine kr_aload_n O dJ8_copyOf_2_13 rfl 2 rfl ?_
    exact h.elim
  · replace h := h.2 hc
    refine kr_iload_n O dJ8_copyOf_2_6 rfl 1 rfl ?_
    obtain ⟨n1, hn, hl, hf, t2, h⟩ := h
    refine kr_anew t2 3 O dJ8_copyOf_2_7 (by decide) (by decide) rfl q417 q185 hn hl hf (kr_nmM fun M3 hM3 => ?_)
    replace h := h M3 hM3
    refine kr_goto (tgt := 24) O dJ8_copyOf_2_10 rfl ?_
    refine kr_astore_n O dJ8_copyOf_2_24 rfl (Nat.le_of_ble_eq_true rfl) (by simp [kt_nw, kt_nrf, kt_cI, kt_cJ, kt_cF, kt_cD, kt_cR, kt_cU]) rfl ?_
    refine kr_aload_n O dJ8_copyOf_2_25 rfl 1 rfl ?_
    refine kr_iconst O dJ8_copyOf_2_26 (v := (0 : Int32)) (by decide) ?_
    refine kr_aload_n O dJ8_copyOf_2_27 rfl 0 rfl ?_
    refine kr_iconst O dJ8_copyOf_2_28 (v := (0 : Int32)) (by decide) ?_
    refine kr_aload_n O dJ8_copyOf_2_29 rfl 1 rfl ?_
    obtain ⟨b4, rfl, h⟩ := h
    obtain ⟨n5, en5, h⟩ := h
    refine kr_alen O dJ8_copyOf_2_30 en5 ?_
    refine kr_iload_n O dJ8_copyOf_2_31 rfl 2 rfl ?_
    refine kr_caI (rest := [.int (0 : Int32), va_rf (some M.1), .int (0 : Int32), va_rf (some b4)]) O cd_J7_min h (Nat.le_of_ble_eq_true rfl) (fun ls _ => kt_ivS O dJ8_copyOf_2_32 cd_J7_min in_J7_min q418 q419 hy_J7_min) (fun u6 M7 hq => ?_) (fun E q M9 hx => kr_out O hx)
    replace h := hq
    clear hq
    obtain ⟨hw, h⟩ := h
    refine kr_arraycopy O dJ8_copyOf_2_35 q421 hw (Nat.le_of_ble_eq_true rfl) (kr_nmM fun M8 hM8 => ?_)
    replace h := h M8 hM8
    refine kr_aload_n O dJ8_copyOf_2_38 rfl 0 rfl ?_
    exact kr_aret O dJ8_copyOf_2_39 (by first | exact Or.inl ⟨_, rfl⟩ | exact Or.inr ⟨_, rfl⟩) h
def vc_J8_copyOf_3 (w : kt_W) (gr : kt_g × kt_M) (d : Nat) (P : Option Value → kt_M → Prop) (X : String → Nat → kt_M → Prop) (r0 : Option Nat) (v1 : Int32) (M : kt_M) : Prop :=
  ∃ b1, r0 = some b1 ∧ ∃ n2, kt_len M b1 = some n2 ∧ 
    ((¬ v1 = (nI n2) → ∃ n3, v1 = nI n3 ∧ n3 < 2 ^ 31 ∧ kt_fits w M n3 ∧ ∃ t4, ∀ M5, M5 = kt_new M n3 (t4 + 2, .inl (1, kt_z 1 n3)) → ∃ n6, kt_len M5 b1 = some n6 ∧ 
    kt_Ca w gr d yJ7_min kc_J7_min [.int (nI n6), .int v1] M5 (kt_pI fun u7 M8 => kt_ac gr M8 b1 (0 : Int32) M.1 (0 : Int32) u7 ∧ ∀ M9, M9 = kt_acp M8 b1 (0 : Int32) M.1 (0 : Int32) u7 → P (some (va_rf (some M.1))) M9) X) ∧
    (v1 = (nI n2) → ∃ n11, kt_cln w 1 M b1 n11 ∧ kt_fits w M n11 ∧ ∃ t10, ∀ M12, M12 = kt_new M n11 (t10 + 2, (M.2.2 b1).2) → (∃ t y, M12.2.2 M.1 = (t + 2, .inl (1, y))) ∧ P (some (va_rf (some M.1))) M12))
theorem ce_J8_copyOf_3 {w : kt_W} {g : kt_g} {d : Nat} {P : Option Value → kt_M → Prop} {X : String → Nat → kt_M → Prop} {r0 : Option Nat} {v1 : Int32} {M : kt_M} (h : vc_J8_copyOf_3 w (g, M) d P X r0 v1 M) : kt_Sp w g (d + 1) yJ8_copyOf_3 kc_J8_copyOf_3 [va_rf r0, .int v1] M P X := by
  refine kt_of (L0 := [(0, va_rf r0), (1, .int v1)]) (by decide +kernel) (by simp only [kt_lgR, kt_lgI, kt_lgN] <;> exact Nat.le_of_ble_eq_true rfl) (by simp only [kt_lvR, kt_lvI, kt_lvN] <;> rfl) fun x O => ?_
  replace O : kt_O w x (g, M) (d + 1) cJ8_copyOf_3 "java/util/Arrays" 3 ("copyOf", "([JI)[J") (Option.some (Jvm.ClassFile.FieldType.array Jvm.ClassFile.FieldType.long)) [] := O
  unfold vc_J8_copyOf_3 at h
  refine kr_iload_n O dJ8_copyOf_3_0 rfl 1 rfl ?_
  refine kr_aload_n O dJ8_copyOf_3_1 rfl 0 rfl ?_
  obtain ⟨b1, rfl, h⟩ := h
  obtain ⟨n2, en2, h⟩ := h
  refine kr_alen O dJ8_copyOf_3_2 en2 ?_
  refine kr_icmp_ne (tgt := 14) O dJ8_copyOf_3_3 rfl (fun hc => ?_) (fun hc => ?_)
  · replace h := h.1 hc
    refine kr_iload_n O dJ8_copyOf_3_14 rfl 1 rfl ?_
    obtain ⟨n3, hn, hl, hf, t4, h⟩ := h
    refine kr_newarr t4 1 O dJ8_copyOf_3_15 (by decide) rfl q767 hn hl hf (kr_nmM fun M5 hM5 => ?_)
    replace h := h M5 hM5
    refine kr_astore_n O dJ8_copyOf_3_17 rfl (Nat.le_of_ble_eq_true rfl) rfl rfl ?_
    refine kr_aload_n O dJ8_copyOf_3_18 rfl 1 rfl ?_
    refine kr_iconst O dJ8_copyOf_3_19 (v := (0 : Int32)) (by decide) ?_
    refine kr_aload_n O dJ8_copyOf_3_20 rfl 0 rfl ?_
    refine kr_iconst O dJ8_copyOf_3_21 (v := (0 : Int32)) (by decide) ?_
    refine kr_aload_n O dJ8_copyOf_3_22 rfl 1 rfl ?_
    obtain ⟨n6, en6, h⟩ := h
    refine kr_alen O dJ8_copyOf_3_23 en6 ?_
    refine kr_iload_n O dJ8_copyOf_3_24 rfl 2 rfl ?_
    refine kr_caI (rest := [.int (0 : Int32), va_rf (some M.1), .int (0 : Int32), va_rf (some b1)]) O cd_J7_min h (Nat.le_of_ble_eq_true rfl) (fun ls _ => kt_ivS O dJ8_copyOf_3_25 cd_J7_min in_J7_min q418 q419 hy_J7_min) (fun u7 M8 hq => ?_) (fun E q M9 hx => kr_out O hx)
    replace h := hq
    clear hq
    obtain ⟨hw, h⟩ := h
    refine kr_arraycopy O dJ8_copyOf_3_28 q421 hw (Nat.le_of_ble_eq_true rfl) (kr_nmM fun M9 hM9 => ?_)
    replace h := h M9 hM9
    refine kr_aload_n O dJ8_copyOf_3_31 rfl 0 rfl ?_
    exact kr_aret O dJ8_copyOf_3_32 (by first | exact Or.inl ⟨_, rfl⟩ | exact Or.inr ⟨_, rfl⟩) h
  · replace h := h.2 hc
    refine kr_aload_n O dJ8_copyOf_3_6 rfl 0 rfl ?_
    obtain ⟨n11, hcl, hf, t10, h⟩ := h
    refine kr_clone 1 t10 O dJ8_copyOf_3_7 (by decide) q801 q802 q805 q806 hcl hf (Nat.le_of_ble_eq_true rfl) (kr_nmM fun M12 hM12 => ?_)
    replace h := h M12 hM12
    obtain ⟨⟨tc, yc, hc⟩, h⟩ := h
    refine kr_castA O dJ8_copyOf_3_10 q807 (by decide) hc ?_
    exact kr_aret O dJ8_copyOf_3_13 (by first | exact Or.inl ⟨_, rfl⟩ | exact Or.inr ⟨_, rfl⟩) h
def vc_J8_copyOf_4 (w : kt_W) (gr : kt_g × kt_M) (d : Nat) (P : Option Value → kt_M → Prop) (X : String → Nat → kt_M → Prop) (r0 : Option Nat) (v1 : Int32) (M : kt_M) : Prop :=
  ∃ b1, r0 = some b1 ∧ ∃ n2, kt_len M b1 = some n2 ∧ 
    ((¬ v1 = (nI n2) → ∃ n3, v1 = nI n3 ∧ n3 < 2 ^ 31 ∧ kt_fits w M n3 ∧ ∃ t4, ∀ M5, M5 = kt_new M n3 (t4 + 2, .inl (2, kt_z 2 n3)) → ∃ n6, kt_len M5 b1 = some n6 ∧ 
    kt_Ca w gr d yJ7_min kc_J7_min [.int (nI n6), .int v1] M5 (kt_pI fun u7 M8 => kt_ac gr M8 b1 (0 : Int32) M.1 (0 : Int32) u7 ∧ ∀ M9, M9 = kt_acp M8 b1 (0 : Int32) M.1 (0 : Int32) u7 → P (some (va_rf (some M.1))) M9) X) ∧
    (v1 = (nI n2) → ∃ n11, kt_cln w 2 M b1 n11 ∧ kt_fits w M n11 ∧ ∃ t10, ∀ M12, M12 = kt_new M n11 (t10 + 2, (M.2.2 b1).2) → (∃ t y, M12.2.2 M.1 = (t + 2, .inl (2, y))) ∧ P (some (va_rf (some M.1))) M12))
theorem ce_J8_copyOf_4 {w : kt_W} {g : kt_g} {d : Nat} {P : Option Value → kt_M → Prop} {X : String → Nat → kt_M → Prop} {r0 : Option Nat} {v1 : Int32} {M : kt_M} (h : vc_J8_copyOf_4 w (g, M) d P X r0 v1 M) : kt_Sp w g (d + 1) yJ8_copyOf_4 kc_J8_copyOf_4 [va_rf r0, .int v1] M P X := by
  refine kt_of (L0 := [(0, va_rf r0), (1, .int v1)]) (by decide +kernel) (by simp only [kt_lgR, kt_lgI, kt_lgN] <;> exact Nat.le_of_ble_eq_true rfl) (by simp only [kt_lvR, kt_lvI, kt_lvN] <;> rfl) fun x O => ?_
  replace O : kt_O w x (g, M) (d + 1) cJ8_copyOf_4 "java/util/Arrays" 3 ("copyOf", "([BI)[B") (Option.some (Jvm.ClassFile.FieldType.array Jvm.ClassFile.FieldType.byte)) [] := O
  unfold vc_J8_copyOf_4 at h
  refine kr_iload_n O dJ8_copyOf_4_0 rfl 1 rfl ?_
  refine kr_aload_n O dJ8_copyOf_4_1 rfl 0 rfl ?_
  obtain ⟨b1, rfl, h⟩ := h
  obtain ⟨n2, en2, h⟩ := h
  refine kr_alen O dJ8_copyOf_4_2 en2 ?_
  refine kr_icmp_ne (tgt := 14) O dJ8_copyOf_4_3 rfl (fun hc => ?_) (fun hc => ?_)
  · replace h := h.1 hc
    refine kr_iload_n O dJ8_copyOf_4_14 rfl 1 rfl ?_
    obtain ⟨n3, hn, hl, hf, t4, h⟩ := h
    refine kr_newarr t4 2 O dJ8_copyOf_4_15 (by decide) rfl q236 hn hl hf (kr_nmM fun M5 hM5 => ?_)
    replace h := h M5 hM5
    refine kr_astore_n O dJ8_copyOf_4_17 rfl (Nat.le_of_ble_eq_true rfl) rfl rfl ?_
    refine kr_aload_n O dJ8_copyOf_4_18 rfl 1 rfl ?_
    refine kr_iconst O dJ8_copyOf_4_19 (v := (0 : Int32)) (by decide) ?_
    refine kr_aload_n O dJ8_copyOf_4_20 rfl 0 rfl ?_
    refine kr_iconst O dJ8_copyOf_4_21 (v := (0 : Int32)) (by decide) ?_
    refine kr_aload_n O dJ8_copyOf_4_22 rfl 1 rfl ?_
    obtain ⟨n6, en6, h⟩ := h
    refine kr_alen O dJ8_copyOf_4_23 en6 ?_
    refine kr_iload_n O dJ8_copyOf_4_24 rfl 2 rfl ?_
    refine kr_caI (rest := [.int (0 : Int32), va_rf (some M.1), .int (0 : Int32), va_rf (some b1)]) O cd_J7_min h (Nat.le_of_ble_eq_true rfl) (fun ls _ => kt_ivS O dJ8_copyOf_4_25 cd_J7_min in_J7_min q418 q419 hy_J7_min) (fun u7 M8 hq => ?_) (fun E q M9 hx => kr_out O hx)
    replace h := hq
    clear hq
    obtain ⟨hw, h⟩ := h
    refine kr_arraycopy O dJ8_copyOf_4_28 q421 hw (Nat.le_of_ble_eq_true rfl) (kr_nmM fun M9 hM9 => ?_)
    replace h := h M9 hM9
    refine kr_aload_n O dJ8_copyOf_4_31 rfl 0 rfl ?_
    exact kr_aret O dJ8_copyOf_4_32 (by first | exact Or.inl ⟨_, rfl⟩ | exact Or.inr ⟨_, rfl⟩) h
  · replace h := h.2 hc
    refine kr_aload_n O dJ8_copyOf_4_6 rfl 0 rfl ?_
    obtain ⟨n11, hcl, hf, t10, h⟩ := h
    refine kr_clone 2 t10 O dJ8_copyOf_4_7 (by decide) q1097 q1098 q1099 q1100 hcl hf (Nat.le_of_ble_eq_true rfl) (kr_nmM fun M12 hM12 => ?_)
    replace h := h M12 hM12
    obtain ⟨⟨tc, yc, hc⟩, h⟩ := h
    refine kr_castA O dJ8_copyOf_4_10 q1101 (by decide) hc ?_
    exact kr_aret O dJ8_copyOf_4_13 (by first | exact Or.inl ⟨_, rfl⟩ | exact Or.inr ⟨_, rfl⟩) h
def vc_J8_copyOfRange_10 (w : kt_W) (gr : kt_g × kt_M) (d : Nat) (P : Option Value → kt_M → Prop) (X : String → Nat → kt_M → Prop)  (r0 : Option Nat) (v1 : Int32) (v2 : Int32) (M : kt_M) : Prop :=
  
  kt_Ca w gr d yJ8_copyOfRangeByte kc_J8_copyOfRangeByte [va_rf r0, .int v1, .int v2] M (kt_pR fun p1 M2 => P (some (va_rf p1)) M2) X
theorem cj_J8_copyOfRange_10 {w : kt_W} {x : kt_X} {gr : kt_g × kt_M} {d : Nat} {P : Option Value → kt_M → Prop} {X : String → Nat → kt_M → Prop}  {r0 : Option Nat} {v1 : Int32} {v2 : Int32} {M : kt_M} (O : kt_O w x gr (d + 1) cJ8_copyOfRange "java/util/Arrays" 3 ("copyOfRange", "([BII)[B") (Option.some (Jvm.ClassFile.FieldType.array Jvm.ClassFile.FieldType.byte)) [])  (h : vc_J8_copyOfRange_10 w gr d P X  r0 v1 v2 M) : kt_S w x 3 (kt_E w x P X) M 10 [(0, va_rf r0), (1, .int v1), (2, .int v2)] [] := by
  unfold vc_J8_copyOfRange_10 at h
  refine kr_aload_n O dJ8_copyOfRange_10 rfl 0 rfl ?_
  refine kr_iload_n O dJ8_copyOfRange_11 rfl 1 rfl ?_
  refine kr_iload_n O dJ8_copyOfRange_12 rfl 2 rfl ?_
  refine kr_caR (rest := []) O cd_J8_copyOfRangeByte h (Nat.le_of_ble_eq_true rfl) (fun ls _ => kt_ivS O dJ8_copyOfRange_13 cd_J8_copyOfRangeByte in_J8_copyOfRangeByte q1207 q1208 hy_J8_copyOfRangeByte) (fun p1 M2 hq => ?_) (fun E q M9 hx => kr_out O hx)
  replace h := hq
  clear hq
  exact kr_aret O dJ8_copyOfRange_16 (by first | exact Or.inl ⟨_, rfl⟩ | exact Or.inr ⟨_, rfl⟩) h
def vc_J8_copyOfRange (w : kt_W) (gr : kt_g × kt_M) (d : Nat) (P : Option Value → kt_M → Prop) (X : String → Nat → kt_M → Prop) (r0 : Option Nat) (v1 : Int32) (v2 : Int32) (M : kt_M) : Prop :=
  
    ((¬ v1 = 0 → vc_J8_copyOfRange_10 w gr d P X  r0 v1 v2 M) ∧
    (v1 = 0 → ∃ b1, r0 = some b1 ∧ ∃ n2, kt_len M b1 = some n2 ∧ 
      ((v2 = (nI n2) → ∃ n4, kt_cln w 2 M b1 n4 ∧ kt_fits w M n4 ∧ ∃ t3, ∀ M5, M5 = kt_new M n4 (t3 + 2, (M.2.2 b1).2) → (∃ t y, M5.2.2 M.1 = (t + 2, .inl (2, y))) ∧ P (some (va_rf (some M.1))) M5) ∧
      (¬ v2 = (nI n2) → vc_J8_copyOfRange_10 w gr d P X  (some b1) v1 v2 M))))
theorem ce_J8_copyOfRange {w : kt_W} {g : kt_g} {d : Nat} {P : Option Value → kt_M → Prop} {X : String → Nat → kt_M → Prop} {r0 : Option Nat} {v1 : Int32} {v2 : Int32} {M : kt_M} (h : vc_J8_copyOfRange w (g, M) d P X r0 v1 v2 M) : kt_Sp w g (d + 1) yJ8_copyOfRange kc_J8_copyOfRange [va_rf r0, .int v1, .int v2] M P X := by
  refine kt_of (L0 := [(0, va_rf r0), (1, .int v1), (2, .int v2)]) (by decide +kernel) (by simp only [kt_lgR, kt_lgI, kt_lgN] <;> exact Nat.le_of_ble_eq_true rfl) (by simp only [kt_lvR, kt_lvI, kt_lvN] <;> rfl) fun x O => ?_
  replace O : kt_O w x (g, M) (d + 1) cJ8_copyOfRange "java/util/Arrays" 3 ("copyOfRange", "([BII)[B") (Option.some (Jvm.ClassFile.FieldType.array Jvm.ClassFile.FieldType.byte)) [] := O
  unfold vc_J8_copyOfRange at h
  refine kr_iload_n O dJ8_copyOfRange_0 rfl 1 rfl ?_
  refine kr_if_ne (tgt := 10) O dJ8_copyOfRange_1 rfl (fun hc => ?_) (fun hc => ?_)
  · replace h := h.1 hc
    exact cj_J8_copyOfRange_10 O  h
  · replace h := h.2 hc
    refine kr_iload_n O dJ8_copyOfRange_4 rfl 2 rfl ?_
    refine kr_aload_n O dJ8_copyOfRange_5 rfl 0 rfl ?_
    obtain ⟨b1, rfl, h⟩ := h
    obtain ⟨n2, en2, h⟩ := h
    refine kr_alen O dJ8_copyOfRange_6 en2 ?_
    refine kr_icmp_eq (tgt := 17) O dJ8_copyOfRange_7 rfl (fun hc => ?_) (fun hc => ?_)
    · replace h := h.1 hc
      refine kr_aload_n O dJ8_copyOfRange_17 rfl 0 rfl ?_
      obtain ⟨n4, hcl, hf, t3, h⟩ := h
      refine kr_clone 2 t3 O dJ8_copyOfRange_18 (by decide) q1097 q1098 q1099 q1100 hcl hf (Nat.le_of_ble_eq_true rfl) (kr_nmM fun M5 hM5 => ?_)
      replace h := h M5 hM5
      obtain ⟨⟨tc, yc, hc⟩, h⟩ := h
      refine kr_castA O dJ8_copyOfRange_21 q1101 (by decide) hc ?_
      exact kr_aret O dJ8_copyOfRange_24 (by first | exact Or.inl ⟨_, rfl⟩ | exact Or.inr ⟨_, rfl⟩) h
    · replace h := h.2 hc
      exact cj_J8_copyOfRange_10 O  h
def vc_J8_copyOfRangeByte (w : kt_W) (gr : kt_g × kt_M) (d : Nat) (P : Option Value → kt_M → Prop) (X : String → Nat → kt_M → Prop) (r0 : Option Nat) (v1 : Int32) (v2 : Int32) (M : kt_M) : Prop :=
  
  kt_Ca w gr d yJ8_checkLength kc_J8_checkLength [.int v1, .int v2] M (kt_pV fun M1 => ∃ n2, v2 - v1 = nI n2 ∧ n2 < 2 ^ 31 ∧ kt_fits w M1 n2 ∧ ∃ t3, ∀ M4, M4 = kt_new M1 n2 (t3 + 2, .inl (2, kt_z 2 n2)) → ∃ b5, r0 = some b5 ∧ ∃ n6, kt_len M4 b5 = some n6 ∧ 
  kt_Ca w gr d yJ7_min kc_J7_min [.int ((nI n6) - v1), .int (v2 - v1)] M4 (kt_pI fun u7 M8 => kt_ac gr M8 b5 v1 M1.1 (0 : Int32) u7 ∧ ∀ M9, M9 = kt_acp M8 b5 v1 M1.1 (0 : Int32) u7 → P (some (va_rf (some M1.1))) M9) X) X
theorem ce_J8_copyOfRangeByte {w : kt_W} {g : kt_g} {d : Nat} {P : Option Value → kt_M → Prop} {X : String → Nat → kt_M → Prop} {r0 : Option Nat} {v1 : Int32} {v2 : Int32} {M : kt_M} (h : vc_J8_copyOfRangeByte w (g, M) d P X r0 v1 v2 M) : kt_Sp w g (d + 1) yJ8_copyOfRangeByte kc_J8_copyOfRangeByte [va_rf r0, .int v1, .int v2] M P X := by
  refine kt_of (L0 := [(0, va_rf r0), (1, .int v1), (2, .int v2)]) (by decide +kernel) (by simp only [kt_lgR, kt_lgI, kt_lgN] <;> exact Nat.le_of_ble_eq_true rfl) (by simp only [kt_lvR, kt_lvI, kt_lvN] <;> rfl) fun x O => ?_
  replace O : kt_O w x (g, M) (d + 1) cJ8_copyOfRangeByte "java/util/Arrays" 5 ("copyOfRangeByte", "([BII)[B") (Option.some (Jvm.ClassFile.FieldType.array Jvm.ClassFile.FieldType.byte)) [] := O
  unfold vc_J8_copyOfRangeByte at h
  refine kr_iload_n O dJ8_copyOfRangeByte_0 rfl 1 rfl ?_
  refine kr_iload_n O dJ8_copyOfRangeByte_1 rfl 2 rfl ?_
  refine kr_caV (rest := []) O cd_J8_checkLength h (Nat.le_of_ble_eq_true rfl) (fun ls _ => kt_ivS O dJ8_copyOfRangeByte_2 cd_J8_checkLength in_J8_checkLength q1210 q1211 hy_J8_checkLength) (fun M1 hq => ?_) (fun E q M9 hx => kr_out O hx)
  replace h := hq
  clear hq
  refine kr_iload_n O dJ8_copyOfRangeByte_5 rfl 2 rfl ?_
  refine kr_iload_n O dJ8_copyOfRangeByte_6 rfl 1 rfl ?_
  refine kr_isub O dJ8_copyOfRangeByte_7 ?_
  refine kr_istore_n O dJ8_copyOfRangeByte_8 rfl (Nat.le_of_ble_eq_true rfl) rfl rfl ?_
  refine kr_iload_n O dJ8_copyOfRangeByte_9 rfl 0 rfl ?_
  obtain ⟨n2, hn, hl, hf, t3, h⟩ := h
  refine kr_newarr t3 2 O dJ8_copyOfRangeByte_10 (by decide) rfl q236 hn hl hf (kr_nmM fun M4 hM4 => ?_)
  replace h := h M4 hM4
  refine kr_astore O dJ8_copyOfRangeByte_12 (Nat.le_of_ble_eq_true rfl) rfl rfl ?_
  refine kr_aload_n O dJ8_copyOfRangeByte_14 rfl 2 rfl ?_
  refine kr_iload_n O dJ8_copyOfRangeByte_15 rfl 3 rfl ?_
  refine kr_aload O dJ8_copyOfRangeByte_16 0 rfl ?_
  refine kr_iconst O dJ8_copyOfRangeByte_18 (v := (0 : Int32)) (by decide) ?_
  refine kr_aload_n O dJ8_copyOfRangeByte_19 rfl 2 rfl ?_
  obtain ⟨b5, rfl, h⟩ := h
  obtain ⟨n6, en6, h⟩ := h
  refine kr_alen O dJ8_copyOfRangeByte_20 en6 ?_
  refine kr_iload_n O dJ8_copyOfRangeByte_21 rfl 3 rfl ?_
  refine kr_isub O dJ8_copyOfRangeByte_22 ?_
  refine kr_iload_n O dJ8_copyOfRangeByte_23 rfl 1 rfl ?_
  refine kr_caI (rest := [.int (0 : Int32), va_rf (some M1.1), .int v1, va_rf (some b5)]) O cd_J7_min h (Nat.le_of_ble_eq_true rfl) (fun ls _ => kt_ivS O dJ8_copyOfRangeByte_24 cd_J7_min in_J7_min q418 q419 hy_J7_min) (fun u7 M8 hq => ?_) (fun E q M9 hx => kr_out O hx)
  replace h := hq
  clear hq
  obtain ⟨hw, h⟩ := h
  refine kr_arraycopy O dJ8_copyOfRangeByte_27 q421 hw (Nat.le_of_ble_eq_true rfl) (kr_nmM fun M9 hM9 => ?_)
  replace h := h M9 hM9
  refine kr_aload O dJ8_copyOfRangeByte_30 0 rfl ?_
  exact kr_aret O dJ8_copyOfRangeByte_32 (by first | exact Or.inl ⟨_, rfl⟩ | exact Or.inr ⟨_, rfl⟩) h
def vc_J8_checkLength (w : kt_W) (gr : kt_g × kt_M) (d : Nat) (P : Option Value → kt_M → Prop) (X : String → Nat → kt_M → Prop) (v0 : Int32) (v1 : Int32) (M : kt_M) : Prop :=
  
    ((v0 ≤ v1 → P none M) ∧
    (¬ v0 ≤ v1 → False))
theorem ce_J8_checkLength {w : kt_W} {g : kt_g} {d : Nat} {P : Option Value → kt_M → Prop} {X : String → Nat → kt_M → Prop} {v0 : Int32} {v1 : Int32} {M : kt_M} (h : vc_J8_checkLength w (g, M) d P X v0 v1 M) : kt_Sp w g (d + 1) yJ8_checkLength kc_J8_checkLength [.int v0, .int v1] M P X := by
  refine kt_of (L0 := [(0, .int v0), (1, .int v1)]) (by decide +kernel) (Nat.le_of_ble_eq_true rfl) rfl fun x O => ?_
  replace O : kt_O w x (g, M) (d + 1) cJ8_checkLength "java/util/Arrays" 2 ("checkLength", "(II)V") (Option.none : Option Jvm.ClassFile.FieldType) [] := O
  unfold vc_J8_checkLength at h
  refine kr_iload_n O dJ8_checkLength_0 rfl 1 rfl ?_
  refine kr_iload_n O dJ8_checkLength_1 rfl 0 rfl ?_
  refine kr_icmp_ge (tgt := 37) O dJ8_checkLength_2 rfl (fun hc => ?_) (fun hc => ?_)
  · replace h := h.1 hc
    exact kr_vret O dJ8_checkLength_37 h
  · replace h := h.2 hc
    exact h.elim
def vc_J8_fill_10 (w : kt_W) (gr : kt_g × kt_M) (d : Nat) (P : Option Value → kt_M → Prop) (X : String → Nat → kt_M → Prop) (nx10 : Int32 → kt_M → Prop) (a0 : Nat) (v2 : Int32) (v3 : Int32) (v4 : Int32) (M : kt_M) : Prop :=
  
    ((v2 ≤ v4 → P none M) ∧
    (¬ v2 ≤ v4 → kt_hii gr 2 M a0 v4 ∧ ∀ M1, M1 = kt_si M a0 v4 v3.toInt8.toInt32 → nx10 (v4 + (1 : Int32)) M1))
theorem cj_J8_fill_10 {w : kt_W} {x : kt_X} {gr : kt_g × kt_M} {d : Nat} {P : Option Value → kt_M → Prop} {X : String → Nat → kt_M → Prop} {nx10 : Int32 → kt_M → Prop} {a0 : Nat} {v2 : Int32} {v3 : Int32} {v4 : Int32} {M : kt_M} (O : kt_O w x gr (d + 1) cJ8_fill "java/util/Arrays" 5 ("fill", "([BIIB)V") (Option.none : Option Jvm.ClassFile.FieldType) []) (hn10 : ∀ v4 M, nx10 v4 M → kt_S w x 5 (kt_E w x P X) M 10 [(0, va_rf (some a0)), (2, .int v2), (3, .int v3), (4, .int v4)] []) (h : vc_J8_fill_10 w gr d P X nx10 a0 v2 v3 v4 M) : kt_S w x 5 (kt_E w x P X) M 10 [(0, va_rf (some a0)), (2, .int v2), (3, .int v3), (4, .int v4)] [] := by
  unfold vc_J8_fill_10 at h
  refine kr_iload O dJ8_fill_10 3 rfl ?_
  refine kr_iload_n O dJ8_fill_12 rfl 1 rfl ?_
  refine kr_icmp_ge (tgt := 27) O dJ8_fill_13 rfl (fun hc => ?_) (fun hc => ?_)
  · replace h := h.1 hc
    exact kr_vret O dJ8_fill_27 h
  · replace h := h.2 hc
    refine kr_aload_n O dJ8_fill_16 rfl 0 rfl ?_
    refine kr_iload O dJ8_fill_17 3 rfl ?_
    refine kr_iload_n O dJ8_fill_19 rfl 2 rfl ?_
    obtain ⟨hw, h⟩ := h
    refine kr_bastore O dJ8_fill_20 hw (kr_nmM fun M1 hM1 => ?_)
    replace h := h M1 hM1
    refine kr_iinc O dJ8_fill_21 3 rfl (v := v4 + (1 : Int32)) rfl (Nat.le_of_ble_eq_true rfl) rfl rfl ?_
    refine kr_goto (tgt := 10) O dJ8_fill_24 rfl ?_
    refine kr_sub [1, 2, 3, 0] rfl ?_
    exact hn10 _ _ h
def vl_J8_fill_10 (w : kt_W) (gr : kt_g × kt_M) (d : Nat) (P : Option Value → kt_M → Prop) (X : String → Nat → kt_M → Prop)  (a0 : Nat) (v2 : Int32) (v3 : Int32) (v4 : Int32) (M : kt_M) : Prop :=
  ∃ Inv : Nat → Int32 → kt_M → Prop, (∃ k, Inv k v4 M) ∧ ∀ k v4 M, kt_le gr.1 gr.2 M → Inv k v4 M → vc_J8_fill_10 w gr d P X (fun v4' M' => ∃ k', k' < k ∧ Inv k' v4' M') a0 v2 v3 v4 M
theorem cl_J8_fill_10 {w : kt_W} {x : kt_X} {gr : kt_g × kt_M} {d : Nat} {P : Option Value → kt_M → Prop} {X : String → Nat → kt_M → Prop}  {a0 : Nat} {v2 : Int32} {v3 : Int32} {v4 : Int32} {M : kt_M} (O : kt_O w x gr (d + 1) cJ8_fill "java/util/Arrays" 5 ("fill", "([BIIB)V") (Option.none : Option Jvm.ClassFile.FieldType) [])  (h : vl_J8_fill_10 w gr d P X  a0 v2 v3 v4 M) : kt_S w x 5 (kt_E w x P X) M 10 [(0, va_rf (some a0)), (2, .int v2), (3, .int v3), (4, .int v4)] [] := by
  obtain ⟨Inv, ⟨k, hk⟩, hb⟩ := h
  induction k using Nat.strongRecOn generalizing v4 M with
  | ind k ih =>
    exact kr_le O fun hle => cj_J8_fill_10 O (fun v4' M' hi => let ⟨k', h1, h2⟩ := hi; ih k' h1 h2) (hb k _ _ hle hk)
def vc_J8_fill (w : kt_W) (gr : kt_g × kt_M) (d : Nat) (P : Option Value → kt_M → Prop) (X : String → Nat → kt_M → Prop) (r0 : Option Nat) (v1 : Int32) (v2 : Int32) (v3 : Int32) (M : kt_M) : Prop :=
  ∃ b1, r0 = some b1 ∧ ∃ n2, kt_len M b1 = some n2 ∧ 
  kt_Ca w gr d yJ8_rangeCheck kc_J8_rangeCheck [.int (nI n2), .int v1, .int v2] M (kt_pV fun M3 => vl_J8_fill_10 w gr d P X  b1 v2 v3 v1 M3) X
theorem ce_J8_fill {w : kt_W} {g : kt_g} {d : Nat} {P : Option Value → kt_M → Prop} {X : String → Nat → kt_M → Prop} {r0 : Option Nat} {v1 : Int32} {v2 : Int32} {v3 : Int32} {M : kt_M} (h : vc_J8_fill w (g, M) d P X r0 v1 v2 v3 M) : kt_Sp w g (d + 1) yJ8_fill kc_J8_fill [va_rf r0, .int v1, .int v2, .int v3] M P X := by
  refine kt_of (L0 := [(0, va_rf r0), (1, .int v1), (2, .int v2), (3, .int v3)]) (by decide +kernel) (by simp only [kt_lgR, kt_lgI, kt_lgN] <;> exact Nat.le_of_ble_eq_true rfl) (by simp only [kt_lvR, kt_lvI, kt_lvN] <;> rfl) fun x O => ?_
  replace O : kt_O w x (g, M) (d + 1) cJ8_fill "java/util/Arrays" 5 ("fill", "([BIIB)V") (Option.none : Option Jvm.ClassFile.FieldType) [] := O
  unfold vc_J8_fill at h
  refine kr_aload_n O dJ8_fill_0 rfl 0 rfl ?_
  obtain ⟨b1, rfl, h⟩ := h
  obtain ⟨n2, en2, h⟩ := h
  refine kr_alen O dJ8_fill_1 en2 ?_
  refine kr_iload_n O dJ8_fill_2 rfl 1 rfl ?_
  refine kr_iload_n O dJ8_fill_3 rfl 2 rfl ?_
  refine kr_caV (rest := []) O cd_J8_rangeCheck h (Nat.le_of_ble_eq_true rfl) (fun ls _ => kt_ivS O dJ8_fill_4 cd_J8_rangeCheck in_J8_rangeCheck q1538 q1539 hy_J8_rangeCheck) (fun M3 hq => ?_) (fun E q M9 hx => kr_out O hx)
  replace h := hq
  clear hq
  refine kr_iload_n O dJ8_fill_7 rfl 1 rfl ?_
  refine kr_istore O dJ8_fill_8 (Nat.le_of_ble_eq_true rfl) rfl rfl ?_
  refine kr_sub [1, 3, 4, 0] rfl ?_
  exact cl_J8_fill_10 O  h
def vc_J8_rangeCheck (w : kt_W) (gr : kt_g × kt_M) (d : Nat) (P : Option Value → kt_M → Prop) (X : String → Nat → kt_M → Prop) (v0 : Int32) (v1 : Int32) (v2 : Int32) (M : kt_M) : Prop :=
  
    ((v1 ≤ v2 → 
      ((0 ≤ v1 → 
        ((v2 ≤ v0 → P none M) ∧
        (¬ v2 ≤ v0 → False))) ∧
      (¬ 0 ≤ v1 → False))) ∧
    (¬ v1 ≤ v2 → False))
theorem ce_J8_rangeCheck {w : kt_W} {g : kt_g} {d : Nat} {P : Option Value → kt_M → Prop} {X : String → Nat → kt_M → Prop} {v0 : Int32} {v1 : Int32} {v2 : Int32} {M : kt_M} (h : vc_J8_rangeCheck w (g, M) d P X v0 v1 v2 M) : kt_Sp w g (d + 1) yJ8_rangeCheck kc_J8_rangeCheck [.int v0, .int v1, .int v2] M P X := by
  refine kt_of (L0 := [(0, .int v0), (1, .int v1), (2, .int v2)]) (by decide +kernel) (Nat.le_of_ble_eq_true rfl) rfl fun x O => ?_
  replace O : kt_O w x (g, M) (d + 1) cJ8_rangeCheck "java/util/Arrays" 3 ("rangeCheck", "(III)V") (Option.none : Option Jvm.ClassFile.FieldType) [] := O
  unfold vc_J8_rangeCheck at h
  refine kr_iload_n O dJ8_rangeCheck_0 rfl 1 rfl ?_
  refine kr_iload_n O dJ8_rangeCheck_1 rfl 2 rfl ?_
  refine kr_icmp_le (tgt := 46) O dJ8_rangeCheck_2 rfl (fun hc => ?_) (fun hc => ?_)
  · replace h := h.1 hc
    refine kr_iload_n O dJ8_rangeCheck_46 rfl 1 rfl ?_
    refine kr_if_ge (tgt := 59) O dJ8_rangeCheck_47 rfl (fun hc => ?_) (fun hc => ?_)
    · replace h := h.1 hc
      refine kr_iload_n O dJ8_rangeCheck_59 rfl 2 rfl ?_
      refine kr_iload_n O dJ8_rangeCheck_60 rfl 0 rfl ?_
      refine kr_icmp_le (tgt := 73) O dJ8_rangeCheck_61 rfl (fun hc => ?_) (fun hc => ?_)
      · replace h := h.1 hc
        exact kr_vret O dJ8_rangeCheck_73 h
      · replace h := h.2 hc
        exact h.elim
    · replace h := h.2 hc
      exact h.elim
  · replace h := h.2 hc
    exact h.elim
def vc_J9_init_4 (w : kt_W) (gr : kt_g × kt_M) (d : Nat) (P : Option Value → kt_M → Prop) (X : String → Nat → kt_M → Prop) (a0 : Nat) (r1 : Option Nat) (r2 : Option Nat) (v3 : Int32) (v4 : Int32) (M : kt_M) : Prop :=
  kt_hf gr M a0 37 ∧ ∀ M1, M1 = kt_pf M a0 37 (va_rf (some a0)) → False
theorem ce_J9_init_4 {w : kt_W} {g : kt_g} {d : Nat} {P : Option Value → kt_M → Prop} {X : String → Nat → kt_M → Prop} {a0 : Nat} {r1 : Option Nat} {r2 : Option Nat} {v3 : Int32} {v4 : Int32} {M : kt_M} (h : vc_J9_init_4 w (g, M) d P X a0 r1 r2 v3 v4 M) : kt_Sp w g (d + 1) yJ9_init_4 kc_J9_init_4 [va_rf (some a0), va_rf r1, va_rf r2, .int v3, .int v4] M P X := by
  refine kt_of (L0 := [(0, va_rf (some a0)), (1, va_rf r1), (2, va_rf r2), (3, .int v3), (4, .int v4)]) (by decide +kernel) (by simp only [kt_lgR, kt_lgI, kt_lgN] <;> exact Nat.le_of_ble_eq_true rfl) (by simp only [kt_lvR, kt_lvI, kt_lvN] <;> rfl) fun x O => ?_
  replace O : kt_O w x (g, M) (d + 1) cJ9_init_4 "java/lang/Throwable" 5 ("<init>", "(Ljava/lang/String;Ljava/lang/Throwable;ZZ)V") (Option.none : Option Jvm.ClassFile.FieldType) [] := O
  unfold vc_J9_init_4 at h
  refine kr_aload_n O dJ9_init_4_0 rfl 0 rfl ?_
  refine kr_objinit O dJ9_init_4_1 q676 q173 q174 (Nat.le_of_ble_eq_true rfl) ?_
  refine kr_aload_n O dJ9_init_4_4 rfl 0 rfl ?_
  refine kr_aload_n O dJ9_init_4_5 rfl 0 rfl ?_
  obtain ⟨hw, h⟩ := h
  refine kr_putf O dJ9_init_4_6 fs_J9_7 (Or.inl rfl) (kt_ok_rf _ rfl) hw (kr_nmM fun M1 hM1 => ?_)
  replace h := h M1 hM1
  refine kr_aload_n O dJ9_init_4_9 rfl 0 rfl ?_
  exact h.elim
def vc_J10_init_4 (w : kt_W) (gr : kt_g × kt_M) (d : Nat) (P : Option Value → kt_M → Prop) (X : String → Nat → kt_M → Prop) (a0 : Nat) (r1 : Option Nat) (r2 : Option Nat) (v3 : Int32) (v4 : Int32) (M : kt_M) : Prop :=
  
  kt_Ca w gr d yJ9_init_4 kc_J9_init_4 [va_rf (some a0), va_rf r1, va_rf r2, .int v3, .int v4] M (kt_pV fun M1 => P none M1) X
theorem ce_J10_init_4 {w : kt_W} {g : kt_g} {d : Nat} {P : Option Value → kt_M → Prop} {X : String → Nat → kt_M → Prop} {a0 : Nat} {r1 : Option Nat} {r2 : Option Nat} {v3 : Int32} {v4 : Int32} {M : kt_M} (h : vc_J10_init_4 w (g, M) d P X a0 r1 r2 v3 v4 M) : kt_Sp w g (d + 1) yJ10_init_4 kc_J10_init_4 [va_rf (some a0), va_rf r1, va_rf r2, .int v3, .int v4] M P X := by
  refine kt_of (L0 := [(0, va_rf (some a0)), (1, va_rf r1), (2, va_rf r2), (3, .int v3), (4, .int v4)]) (by decide +kernel) (by simp only [kt_lgR, kt_lgI, kt_lgN] <;> exact Nat.le_of_ble_eq_true rfl) (by simp only [kt_lvR, kt_lvI, kt_lvN] <;> rfl) fun x O => ?_
  replace O : kt_O w x (g, M) (d + 1) cJ10_init_4 "java/lang/Exception" 5 ("<init>", "(Ljava/lang/String;Ljava/lang/Throwable;ZZ)V") (Option.none : Option Jvm.ClassFile.FieldType) [] := O
  unfold vc_J10_init_4 at h
  refine kr_aload_n O dJ10_init_4_0 rfl 0 rfl ?_
  refine kr_aload_n O dJ10_init_4_1 rfl 1 rfl ?_
  refine kr_aload_n O dJ10_init_4_2 rfl 2 rfl ?_
  refine kr_iload_n O dJ10_init_4_3 rfl 3 rfl ?_
  refine kr_iload O dJ10_init_4_4 4 rfl ?_
  refine kr_caV (rest := []) O cd_J9_init_4 h (Nat.le_of_ble_eq_true rfl) (fun ls _ => kt_ivI O dJ10_init_4_6 cd_J9_init_4 in_J9_init_4 (Or.inl q1663) q1664 hi_J9_init_4) (fun M1 hq => ?_) (fun E q M9 hx => kr_out O hx)
  replace h := hq
  clear hq
  exact kr_vret O dJ10_init_4_9 h
def vc_X6_init (w : kt_W) (gr : kt_g × kt_M) (d : Nat) (P : Option Value → kt_M → Prop) (X : String → Nat → kt_M → Prop) (a0 : Nat) (r1 : Option Nat) (v2 : Int32) (M : kt_M) : Prop :=
  kt_hf gr M a0 52 ∧ ∀ M1, M1 = kt_pf M a0 52 (va_rf r1) → kt_fits w M1 4 ∧ ∃ t2, ∀ M3, M3 = kt_new M1 4 (t2 + 2, .inr (19, [va_rf none, .int 0, .int 0, .int 0])) → 
  kt_Ca w gr d yJ14_init kc_J14_init [va_rf (some M1.1)] M3 (kt_pV fun M4 => kt_hf gr M4 a0 45 ∧ ∀ M5, M5 = kt_pf M4 a0 45 (va_rf (some M1.1)) → kt_hf gr M5 a0 46 ∧ ∀ M6, M6 = kt_pf M5 a0 46 (.int v2) → (kt_co M6 a0 = some 7 ∨ kt_co M6 a0 = some 8) ∧ 
  kt_Ca w gr d yX6_next kc_X6_next [va_rf (some a0)] M6 (kt_pV fun M7 => P none M7) X) X
theorem ce_X6_init {w : kt_W} {g : kt_g} {d : Nat} {P : Option Value → kt_M → Prop} {X : String → Nat → kt_M → Prop} {a0 : Nat} {r1 : Option Nat} {v2 : Int32} {M : kt_M} (h : vc_X6_init w (g, M) d P X a0 r1 v2 M) : kt_Sp w g (d + 1) yX6_init kc_X6_init [va_rf (some a0), va_rf r1, .int v2] M P X := by
  refine kt_of (L0 := [(0, va_rf (some a0)), (1, va_rf r1), (2, .int v2)]) (by decide +kernel) (by simp only [kt_lgR, kt_lgI, kt_lgN] <;> exact Nat.le_of_ble_eq_true rfl) (by simp only [kt_lvR, kt_lvI, kt_lvN] <;> rfl) fun x O => ?_
  replace O : kt_O w x (g, M) (d + 1) cX6_init "KeyTurns$Scanner" 3 ("<init>", "(LKeyTurns;I)V") (Option.none : Option Jvm.ClassFile.FieldType) [] := O
  unfold vc_X6_init at h
  refine kr_aload_n O dX6_init_0 rfl 0 rfl ?_
  refine kr_aload_n O dX6_init_1 rfl 1 rfl ?_
  obtain ⟨hw, h⟩ := h
  refine kr_putf O dX6_init_2 fs_X6_3 (Or.inr ⟨rfl, rfl⟩) (kt_ok_rf _ rfl) hw (kr_nmM fun M1 hM1 => ?_)
  replace h := h M1 hM1
  refine kr_aload_n O dX6_init_5 rfl 0 rfl ?_
  refine kr_objinit O dX6_init_6 q1512 q173 q174 (Nat.le_of_ble_eq_true rfl) ?_
  refine kr_aload_n O dX6_init_9 rfl 0 rfl ?_
  obtain ⟨hf, t2, h⟩ := h
  refine kr_new (c := 19) (r := (RJ14, TJ14, 4)) (fs := [va_rf none, .int 0, .int 0, .int 0]) t2 O dX6_init_10 rfl q1513 q1042 q131 rfl hf (kr_nmM fun M3 hM3 => ?_)
  replace h := h M3 hM3
  refine kr_dup O dX6_init_13 (kt_nrf _) ?_
  refine kr_caV (rest := [va_rf (some M1.1), va_rf (some a0)]) O cd_J14_init h (Nat.le_of_ble_eq_true rfl) (fun ls _ => kt_ivI O dX6_init_14 cd_J14_init in_J14_init (Or.inl q1514) q1044 hi_J14_init) (fun M4 hq => ?_) (fun E q M9 hx => kr_out O hx)
  replace h := hq
  clear hq
  obtain ⟨hw, h⟩ := h
  refine kr_putf O dX6_init_17 fs_X6_18 (Or.inr ⟨rfl, rfl⟩) (kt_ok_rf _ rfl) hw (kr_nmM fun M5 hM5 => ?_)
  replace h := h M5 hM5
  refine kr_aload_n O dX6_init_20 rfl 0 rfl ?_
  refine kr_iload_n O dX6_init_21 rfl 2 rfl ?_
  obtain ⟨hw, h⟩ := h
  refine kr_putf O dX6_init_22 fs_X6_22 (Or.inr ⟨rfl, rfl⟩) ⟨rfl, rfl⟩ hw (kr_nmM fun M6 hM6 => ?_)
  replace h := h M6 hM6
  refine kr_aload_n O dX6_init_25 rfl 0 rfl ?_
  obtain ⟨hco, h⟩ := h
  refine kr_caV (rest := []) O cd_X6_next h (Nat.le_of_ble_eq_true rfl) (fun ls _ => by rcases hco with hco | hco <;> first | exact kt_ivV (ci := 7) O dX6_init_26 cd_X6_next in_X6_next (Or.inl q1515) q1516 q1518 hco (by decide) hy_X6_next | exact kt_ivV (ci := 8) O dX6_init_26 cd_X6_next in_X6_next (Or.inl q1515) q1516 q1519 hco (by decide) hy_X6_next) (fun M7 hq => ?_) (fun E q M9 hx => kr_out O hx)
  replace h := hq
  clear hq
  exact kr_vret O dX6_init_29 h
def vc_X6_next_169 (w : kt_W) (gr : kt_g × kt_M) (d : Nat) (P : Option Value → kt_M → Prop) (X : String → Nat → kt_M → Prop) (nx169 : kt_M → Prop) (a0 : Nat) (M : kt_M) : Prop :=
  ∃ u1, kt_gf M a0 47 = some (.int u1) ∧ (kt_co M a0 = some 7 ∨ kt_co M a0 = some 8) ∧ 
  kt_Ca w gr d yX6_byteAt kc_X6_byteAt [va_rf (some a0), .int u1] M (kt_pI fun u2 M3 => 
  kt_Ca w gr d yX6_isDigit kc_X6_isDigit [.int u2] M3 (kt_pI fun u4 M5 => 
    ((u4 = 0 → kt_hf gr M5 a0 51 ∧ ∀ M6, M6 = kt_pf M5 a0 51 (va_rf (some (kt_cA w 1))) → P none M6) ∧
    (¬ u4 = 0 → ∃ u7, kt_gf M5 a0 49 = some (.int u7) ∧ ∃ u8, kt_gf M5 a0 47 = some (.int u8) ∧ (kt_co M5 a0 = some 7 ∨ kt_co M5 a0 = some 8) ∧ 
    kt_Ca w gr d yX6_byteAt kc_X6_byteAt [va_rf (some a0), .int u8] M5 (kt_pI fun u9 M10 => 
    kt_Ca w gr d yJ7_min kc_J7_min [.int (100000000 : Int32), .int ((((10 : Int32) * u7) + u9) - (48 : Int32))] M10 (kt_pI fun u11 M12 => kt_hf gr M12 a0 49 ∧ ∀ M13, M13 = kt_pf M12 a0 49 (.int u11) → ∃ u14, kt_gf M13 a0 47 = some (.int u14) ∧ kt_hf gr M13 a0 47 ∧ ∀ M15, M15 = kt_pf M13 a0 47 (.int (u14 + (1 : Int32))) → nx169  M15) X) X))) X) X
theorem cj_X6_next_169 {w : kt_W} {x : kt_X} {gr : kt_g × kt_M} {d : Nat} {P : Option Value → kt_M → Prop} {X : String → Nat → kt_M → Prop} {nx169 : kt_M → Prop} {a0 : Nat} {M : kt_M} (O : kt_O w x gr (d + 1) cX6_next "KeyTurns$Scanner" 2 ("next", "()V") (Option.none : Option Jvm.ClassFile.FieldType) []) (hn169 : ∀ M, nx169  M → kt_S w x 2 (kt_E w x P X) M 169 [(0, va_rf (some a0))] []) (h : vc_X6_next_169 w gr d P X nx169 a0 M) : kt_S w x 2 (kt_E w x P X) M 169 [(0, va_rf (some a0))] [] := by
  unfold vc_X6_next_169 at h
  refine kr_aload_n O dX6_next_169 rfl 0 rfl ?_
  refine kr_aload_n O dX6_next_170 rfl 0 rfl ?_
  obtain ⟨u1, eu1, h⟩ := h
  refine kr_getf O dX6_next_171 fs_X6_33 eu1 ?_
  obtain ⟨hco, h⟩ := h
  refine kr_caI (rest := []) O cd_X6_byteAt h (Nat.le_of_ble_eq_true rfl) (fun ls _ => by rcases hco with hco | hco <;> first | exact kt_ivP (ci := 7) O dX6_next_174 cd_X6_byteAt in_X6_byteAt (Or.inl q1521) q1523 q1522 q3016 hco (by decide) hy_X6_byteAt | exact kt_ivP (ci := 8) O dX6_next_174 cd_X6_byteAt in_X6_byteAt (Or.inl q1521) q1523 q1522 q3016 hco (by decide) hy_X6_byteAt) (fun u2 M3 hq => ?_) (fun E q M9 hx => kr_out O hx)
  replace h := hq
  clear hq
  refine kr_caI (rest := []) O cd_X6_isDigit h (Nat.le_of_ble_eq_true rfl) (fun ls _ => kt_ivS O dX6_next_177 cd_X6_isDigit in_X6_isDigit q1568 q1569 hy_X6_isDigit) (fun u4 M5 hq => ?_) (fun E q M9 hx => kr_out O hx)
  replace h := hq
  clear hq
  refine kr_if_eq (tgt := 224) O dX6_next_180 rfl (fun hc => ?_) (fun hc => ?_)
  · replace h := h.1 hc
    refine kr_aload_n O dX6_next_224 rfl 0 rfl ?_
    refine kr_gets O dX6_next_225 q1573 (kt_inT 1 rfl) ?_
    obtain ⟨hw, h⟩ := h
    refine kr_putf O dX6_next_228 fs_X6_53 (Or.inl rfl) (kt_ok_rf _ rfl) hw (kr_nmM fun M6 hM6 => ?_)
    replace h := h M6 hM6
    refine kr_goto (tgt := 256) O dX6_next_231 rfl ?_
    exact kr_vret O dX6_next_256 h
  · replace h := h.2 hc
    refine kr_aload_n O dX6_next_183 rfl 0 rfl ?_
    refine kr_ldc O dX6_next_184 q1571 ?_
    refine kr_bipush O dX6_next_186 (v := (10 : Int32)) (by decide) ?_
    refine kr_aload_n O dX6_next_188 rfl 0 rfl ?_
    obtain ⟨u7, eu7, h⟩ := h
    refine kr_getf O dX6_next_189 fs_X6_70 eu7 ?_
    refine kr_imul O dX6_next_192 ?_
    refine kr_aload_n O dX6_next_193 rfl 0 rfl ?_
    refine kr_aload_n O dX6_next_194 rfl 0 rfl ?_
    obtain ⟨u8, eu8, h⟩ := h
    refine kr_getf O dX6_next_195 fs_X6_33 eu8 ?_
    obtain ⟨hco, h⟩ := h
    refine kr_caI (rest := [.int ((10 : Int32) * u7), .int (100000000 : Int32), va_rf (some a0)]) O cd_X6_byteAt h (Nat.le_of_ble_eq_true rfl) (fun ls _ => by rcases hco with hco | hco <;> first | exact kt_ivP (ci := 7) O dX6_next_198 cd_X6_byteAt in_X6_byteAt (Or.inl q1521) q1523 q1522 q3016 hco (by decide) hy_X6_byteAt | exact kt_ivP (ci := 8) O dX6_next_198 cd_X6_byteAt in_X6_byteAt (Or.inl q1521) q1523 q1522 q3016 hco (by decide) hy_X6_byteAt) (fun u9 M10 hq => ?_) (fun E q M9 hx => kr_out O hx)
    replace h := hq
    clear hq
    refine kr_iadd O dX6_next_201 ?_
    refine kr_bipush O dX6_next_202 (v := (48 : Int32)) (by decide) ?_
    refine kr_isub O dX6_next_204 ?_
    refine kr_caI (rest := [va_rf (some a0)]) O cd_J7_min h (Nat.le_of_ble_eq_true rfl) (fun ls _ => kt_ivS O dX6_next_205 cd_J7_min in_J7_min q1572 q419 hy_J7_min) (fun u11 M12 hq => ?_) (fun E q M9 hx => kr_out O hx)
    replace h := hq
    clear hq
    obtain ⟨hw, h⟩ := h
    refine kr_putf O dX6_next_208 fs_X6_70 (Or.inl rfl) ⟨rfl, rfl⟩ hw (kr_nmM fun M13 hM13 => ?_)
    replace h := h M13 hM13
    refine kr_aload_n O dX6_next_211 rfl 0 rfl ?_
    refine kr_dup O dX6_next_212 (kt_nrf _) ?_
    obtain ⟨u14, eu14, h⟩ := h
    refine kr_getf O dX6_next_213 fs_X6_33 eu14 ?_
    refine kr_iconst O dX6_next_216 (v := (1 : Int32)) (by decide) ?_
    refine kr_iadd O dX6_next_217 ?_
    obtain ⟨hw, h⟩ := h
    refine kr_putf O dX6_next_218 fs_X6_33 (Or.inl rfl) ⟨rfl, rfl⟩ hw (kr_nmM fun M15 hM15 => ?_)
    replace h := h M15 hM15
    refine kr_goto (tgt := 169) O dX6_next_221 rfl ?_
    exact hn169  _ h
def vl_X6_next_169 (w : kt_W) (gr : kt_g × kt_M) (d : Nat) (P : Option Value → kt_M → Prop) (X : String → Nat → kt_M → Prop)  (a0 : Nat) (M : kt_M) : Prop :=
  ∃ Inv : Nat → kt_M → Prop, (∃ k, Inv k  M) ∧ ∀ k  M, kt_le gr.1 gr.2 M → Inv k  M → vc_X6_next_169 w gr d P X (fun M' => ∃ k', k' < k ∧ Inv k'  M') a0 M
theorem cl_X6_next_169 {w : kt_W} {x : kt_X} {gr : kt_g × kt_M} {d : Nat} {P : Option Value → kt_M → Prop} {X : String → Nat → kt_M → Prop}  {a0 : Nat} {M : kt_M} (O : kt_O w x gr (d + 1) cX6_next "KeyTurns$Scanner" 2 ("next", "()V") (Option.none : Option Jvm.ClassFile.FieldType) [])  (h : vl_X6_next_169 w gr d P X  a0 M) : kt_S w x 2 (kt_E w x P X) M 169 [(0, va_rf (some a0))] [] := by
  obtain ⟨Inv, ⟨k, hk⟩, hb⟩ := h
  induction k using Nat.strongRecOn generalizing  M with
  | ind k ih =>
    exact kr_le O fun hle => cj_X6_next_169 O (fun  M' hi => let ⟨k', h1, h2⟩ := hi; ih k' h1 h2) (hb k  _ hle hk)
def vc_X6_next_103 (w : kt_W) (gr : kt_g × kt_M) (d : Nat) (P : Option Value → kt_M → Prop) (X : String → Nat → kt_M → Prop) (nx103 : kt_M → Prop) (a0 : Nat) (M : kt_M) : Prop :=
  ∃ u1, kt_gf M a0 47 = some (.int u1) ∧ (kt_co M a0 = some 7 ∨ kt_co M a0 = some 8) ∧ 
  kt_Ca w gr d yX6_byteAt kc_X6_byteAt [va_rf (some a0), .int u1] M (kt_pI fun u2 M3 => 
  kt_Ca w gr d yX6_isLetter kc_X6_isLetter [.int u2] M3 (kt_pI fun u4 M5 => 
    ((u4 = 0 → kt_hf gr M5 a0 51 ∧ ∀ M6, M6 = kt_pf M5 a0 51 (va_rf (some (kt_cA w 0))) → P none M6) ∧
    (¬ u4 = 0 → ∃ p7, kt_gf M5 a0 45 = some (va_rf p7) ∧ ∃ u8, kt_gf M5 a0 47 = some (.int u8) ∧ (kt_co M5 a0 = some 7 ∨ kt_co M5 a0 = some 8) ∧ 
    kt_Ca w gr d yX6_byteAt kc_X6_byteAt [va_rf (some a0), .int u8] M5 (kt_pI fun u9 M10 => ∃ b11, p7 = some b11 ∧ (kt_co M10 b11 = some 19) ∧ 
    kt_Ca w gr d yJ14_append_3 kc_J14_append_3 [va_rf (some b11), .int ((u9.toUInt32 % 65536).toInt32)] M10 (kt_pR fun p12 M13 => ∃ u14, kt_gf M13 a0 47 = some (.int u14) ∧ kt_hf gr M13 a0 47 ∧ ∀ M15, M15 = kt_pf M13 a0 47 (.int (u14 + (1 : Int32))) → nx103  M15) X) X))) X) X
theorem cj_X6_next_103 {w : kt_W} {x : kt_X} {gr : kt_g × kt_M} {d : Nat} {P : Option Value → kt_M → Prop} {X : String → Nat → kt_M → Prop} {nx103 : kt_M → Prop} {a0 : Nat} {M : kt_M} (O : kt_O w x gr (d + 1) cX6_next "KeyTurns$Scanner" 2 ("next", "()V") (Option.none : Option Jvm.ClassFile.FieldType) []) (hn103 : ∀ M, nx103  M → kt_S w x 2 (kt_E w x P X) M 103 [(0, va_rf (some a0))] []) (h : vc_X6_next_103 w gr d P X nx103 a0 M) : kt_S w x 2 (kt_E w x P X) M 103 [(0, va_rf (some a0))] [] := by
  unfold vc_X6_next_103 at h
  refine kr_aload_n O dX6_next_103 rfl 0 rfl ?_
  refine kr_aload_n O dX6_next_104 rfl 0 rfl ?_
  obtain ⟨u1, eu1, h⟩ := h
  refine kr_getf O dX6_next_105 fs_X6_33 eu1 ?_
  obtain ⟨hco, h⟩ := h
  refine kr_caI (rest := []) O cd_X6_byteAt h (Nat.le_of_ble_eq_true rfl) (fun ls _ => by rcases hco with hco | hco <;> first | exact kt_ivP (ci := 7) O dX6_next_108 cd_X6_byteAt in_X6_byteAt (Or.inl q1521) q1523 q1522 q3016 hco (by decide) hy_X6_byteAt | exact kt_ivP (ci := 8) O dX6_next_108 cd_X6_byteAt in_X6_byteAt (Or.inl q1521) q1523 q1522 q3016 hco (by decide) hy_X6_byteAt) (fun u2 M3 hq => ?_) (fun E q M9 hx => kr_out O hx)
  replace h := hq
  clear hq
  refine kr_caI (rest := []) O cd_X6_isLetter h (Nat.le_of_ble_eq_true rfl) (fun ls _ => kt_ivS O dX6_next_111 cd_X6_isLetter in_X6_isLetter q1550 q1551 hy_X6_isLetter) (fun u4 M5 hq => ?_) (fun E q M9 hx => kr_out O hx)
  replace h := hq
  clear hq
  refine kr_if_eq (tgt := 147) O dX6_next_114 rfl (fun hc => ?_) (fun hc => ?_)
  · replace h := h.1 hc
    refine kr_aload_n O dX6_next_147 rfl 0 rfl ?_
    refine kr_gets O dX6_next_148 q1566 (kt_inT 0 rfl) ?_
    obtain ⟨hw, h⟩ := h
    refine kr_putf O dX6_next_151 fs_X6_53 (Or.inl rfl) (kt_ok_rf _ rfl) hw (kr_nmM fun M6 hM6 => ?_)
    replace h := h M6 hM6
    refine kr_goto (tgt := 256) O dX6_next_154 rfl ?_
    exact kr_vret O dX6_next_256 h
  · replace h := h.2 hc
    refine kr_aload_n O dX6_next_117 rfl 0 rfl ?_
    obtain ⟨p7, ep7, h⟩ := h
    refine kr_getf O dX6_next_118 fs_X6_18 ep7 ?_
    refine kr_aload_n O dX6_next_121 rfl 0 rfl ?_
    refine kr_aload_n O dX6_next_122 rfl 0 rfl ?_
    obtain ⟨u8, eu8, h⟩ := h
    refine kr_getf O dX6_next_123 fs_X6_33 eu8 ?_
    obtain ⟨hco, h⟩ := h
    refine kr_caI (rest := [va_rf p7]) O cd_X6_byteAt h (Nat.le_of_ble_eq_true rfl) (fun ls _ => by rcases hco with hco | hco <;> first | exact kt_ivP (ci := 7) O dX6_next_126 cd_X6_byteAt in_X6_byteAt (Or.inl q1521) q1523 q1522 q3016 hco (by decide) hy_X6_byteAt | exact kt_ivP (ci := 8) O dX6_next_126 cd_X6_byteAt in_X6_byteAt (Or.inl q1521) q1523 q1522 q3016 hco (by decide) hy_X6_byteAt) (fun u9 M10 hq => ?_) (fun E q M9 hx => kr_out O hx)
    replace h := hq
    clear hq
    refine kr_i2c O dX6_next_129 ?_
    obtain ⟨b11, rfl, h⟩ := h
    obtain ⟨hco, h⟩ := h
    refine kr_caR (rest := []) O cd_J14_append_3 h (Nat.le_of_ble_eq_true rfl) (fun ls _ => kt_ivV (ci := 19) O dX6_next_130 cd_J14_append_3 in_J14_append_3 (Or.inl q1553) q1554 q1555 hco (by decide) hy_J14_append_3) (fun p12 M13 hq => ?_) (fun E q M9 hx => kr_out O hx)
    replace h := hq
    clear hq
    refine kr_pop O dX6_next_133 (kt_nrf _) ?_
    refine kr_aload_n O dX6_next_134 rfl 0 rfl ?_
    refine kr_dup O dX6_next_135 (kt_nrf _) ?_
    obtain ⟨u14, eu14, h⟩ := h
    refine kr_getf O dX6_next_136 fs_X6_33 eu14 ?_
    refine kr_iconst O dX6_next_139 (v := (1 : Int32)) (by decide) ?_
    refine kr_iadd O dX6_next_140 ?_
    obtain ⟨hw, h⟩ := h
    refine kr_putf O dX6_next_141 fs_X6_33 (Or.inl rfl) ⟨rfl, rfl⟩ hw (kr_nmM fun M15 hM15 => ?_)
    replace h := h M15 hM15
    refine kr_goto (tgt := 103) O dX6_next_144 rfl ?_
    exact hn103  _ h
def vl_X6_next_103 (w : kt_W) (gr : kt_g × kt_M) (d : Nat) (P : Option Value → kt_M → Prop) (X : String → Nat → kt_M → Prop)  (a0 : Nat) (M : kt_M) : Prop :=
  ∃ Inv : Nat → kt_M → Prop, (∃ k, Inv k  M) ∧ ∀ k  M, kt_le gr.1 gr.2 M → Inv k  M → vc_X6_next_103 w gr d P X (fun M' => ∃ k', k' < k ∧ Inv k'  M') a0 M
theorem cl_X6_next_103 {w : kt_W} {x : kt_X} {gr : kt_g × kt_M} {d : Nat} {P : Option Value → kt_M → Prop} {X : String → Nat → kt_M → Prop}  {a0 : Nat} {M : kt_M} (O : kt_O w x gr (d + 1) cX6_next "KeyTurns$Scanner" 2 ("next", "()V") (Option.none : Option Jvm.ClassFile.FieldType) [])  (h : vl_X6_next_103 w gr d P X  a0 M) : kt_S w x 2 (kt_E w x P X) M 103 [(0, va_rf (some a0))] [] := by
  obtain ⟨Inv, ⟨k, hk⟩, hb⟩ := h
  induction k using Nat.strongRecOn generalizing  M with
  | ind k ih =>
    exact kr_le O fun hle => cj_X6_next_103 O (fun  M' hi => let ⟨k', h1, h2⟩ := hi; ih k' h1 h2) (hb k  _ hle hk)
def vc_X6_next_50 (w : kt_W) (gr : kt_g × kt_M) (d : Nat) (P : Option Value → kt_M → Prop) (X : String → Nat → kt_M → Prop)  (a0 : Nat) (M : kt_M) : Prop :=
  ∃ u1, kt_gf M a0 47 = some (.int u1) ∧ kt_hf gr M a0 48 ∧ ∀ M2, M2 = kt_pf M a0 48 (.int u1) → ∃ p3, kt_gf M2 a0 45 = some (va_rf p3) ∧ ∃ b4, p3 = some b4 ∧ (kt_co M2 b4 = some 19) ∧ 
  kt_Ca w gr d yJ14_setLength kc_J14_setLength [va_rf (some b4), .int (0 : Int32)] M2 (kt_pV fun M5 => ∃ u6, kt_gf M5 a0 47 = some (.int u6) ∧ (kt_co M5 a0 = some 7 ∨ kt_co M5 a0 = some 8) ∧ 
  kt_Ca w gr d yX6_byteAt kc_X6_byteAt [va_rf (some a0), .int u6] M5 (kt_pI fun u7 M8 => ∃ u9, kt_gf M8 a0 47 = some (.int u9) ∧ ∃ u10, kt_gf M8 a0 46 = some (.int u10) ∧ 
    ((u9 < u10 → 
    kt_Ca w gr d yX6_isLetter kc_X6_isLetter [.int u7] M8 (kt_pI fun u11 M12 => 
      ((u11 = 0 → 
      kt_Ca w gr d yX6_isDigit kc_X6_isDigit [.int u7] M12 (kt_pI fun u13 M14 => 
        ((u13 = 0 → kt_hf gr M14 a0 50 ∧ ∀ M15, M15 = kt_pf M14 a0 50 (.int u7) → kt_hf gr M15 a0 51 ∧ ∀ M16, M16 = kt_pf M15 a0 51 (va_rf (some (kt_cA w 2))) → ∃ u17, kt_gf M16 a0 47 = some (.int u17) ∧ kt_hf gr M16 a0 47 ∧ ∀ M18, M18 = kt_pf M16 a0 47 (.int (u17 + (1 : Int32))) → P none M18) ∧
        (¬ u13 = 0 → kt_hf gr M14 a0 49 ∧ ∀ M19, M19 = kt_pf M14 a0 49 (.int (0 : Int32)) → vl_X6_next_169 w gr d P X  a0 M19))) X) ∧
      (¬ u11 = 0 → vl_X6_next_103 w gr d P X  a0 M12))) X) ∧
    (¬ u9 < u10 → kt_hf gr M8 a0 51 ∧ ∀ M20, M20 = kt_pf M8 a0 51 (va_rf (some (kt_cA w 3))) → P none M20))) X) X
theorem cj_X6_next_50 {w : kt_W} {x : kt_X} {gr : kt_g × kt_M} {d : Nat} {P : Option Value → kt_M → Prop} {X : String → Nat → kt_M → Prop}  {a0 : Nat} {M : kt_M} (O : kt_O w x gr (d + 1) cX6_next "KeyTurns$Scanner" 2 ("next", "()V") (Option.none : Option Jvm.ClassFile.FieldType) [])  (h : vc_X6_next_50 w gr d P X  a0 M) : kt_S w x 2 (kt_E w x P X) M 50 [(0, va_rf (some a0))] [] := by
  unfold vc_X6_next_50 at h
  refine kr_aload_n O dX6_next_50 rfl 0 rfl ?_
  refine kr_aload_n O dX6_next_51 rfl 0 rfl ?_
  obtain ⟨u1, eu1, h⟩ := h
  refine kr_getf O dX6_next_52 fs_X6_33 eu1 ?_
  obtain ⟨hw, h⟩ := h
  refine kr_putf O dX6_next_55 fs_X6_40 (Or.inl rfl) ⟨rfl, rfl⟩ hw (kr_nmM fun M2 hM2 => ?_)
  replace h := h M2 hM2
  refine kr_aload_n O dX6_next_58 rfl 0 rfl ?_
  obtain ⟨p3, ep3, h⟩ := h
  refine kr_getf O dX6_next_59 fs_X6_18 ep3 ?_
  refine kr_iconst O dX6_next_62 (v := (0 : Int32)) (by decide) ?_
  obtain ⟨b4, rfl, h⟩ := h
  obtain ⟨hco, h⟩ := h
  refine kr_caV (rest := []) O cd_J14_setLength h (Nat.le_of_ble_eq_true rfl) (fun ls _ => kt_ivV (ci := 19) O dX6_next_63 cd_J14_setLength in_J14_setLength (Or.inl q1525) q1526 q1527 hco (by decide) hy_J14_setLength) (fun M5 hq => ?_) (fun E q M9 hx => kr_out O hx)
  replace h := hq
  clear hq
  refine kr_aload_n O dX6_next_66 rfl 0 rfl ?_
  refine kr_aload_n O dX6_next_67 rfl 0 rfl ?_
  obtain ⟨u6, eu6, h⟩ := h
  refine kr_getf O dX6_next_68 fs_X6_33 eu6 ?_
  obtain ⟨hco, h⟩ := h
  refine kr_caI (rest := []) O cd_X6_byteAt h (Nat.le_of_ble_eq_true rfl) (fun ls _ => by rcases hco with hco | hco <;> first | exact kt_ivP (ci := 7) O dX6_next_71 cd_X6_byteAt in_X6_byteAt (Or.inl q1521) q1523 q1522 q3016 hco (by decide) hy_X6_byteAt | exact kt_ivP (ci := 8) O dX6_next_71 cd_X6_byteAt in_X6_byteAt (Or.inl q1521) q1523 q1522 q3016 hco (by decide) hy_X6_byteAt) (fun u7 M8 hq => ?_) (fun E q M9 hx => kr_out O hx)
  replace h := hq
  clear hq
  refine kr_istore_n O dX6_next_74 rfl (Nat.le_of_ble_eq_true rfl) rfl rfl ?_
  refine kr_aload_n O dX6_next_75 rfl 1 rfl ?_
  obtain ⟨u9, eu9, h⟩ := h
  refine kr_getf O dX6_next_76 fs_X6_33 eu9 ?_
  refine kr_aload_n O dX6_next_79 rfl 1 rfl ?_
  obtain ⟨u10, eu10, h⟩ := h
  refine kr_getf O dX6_next_80 fs_X6_22 eu10 ?_
  refine kr_icmp_lt (tgt := 96) O dX6_next_83 rfl (fun hc => ?_) (fun hc => ?_)
  · replace h := h.1 hc
    refine kr_iload_n O dX6_next_96 rfl 0 rfl ?_
    refine kr_caI (rest := []) O cd_X6_isLetter h (Nat.le_of_ble_eq_true rfl) (fun ls _ => kt_ivS O dX6_next_97 cd_X6_isLetter in_X6_isLetter q1550 q1551 hy_X6_isLetter) (fun u11 M12 hq => ?_) (fun E q M9 hx => kr_out O hx)
    replace h := hq
    clear hq
    refine kr_if_eq (tgt := 157) O dX6_next_100 rfl (fun hc => ?_) (fun hc => ?_)
    · replace h := h.1 hc
      refine kr_iload_n O dX6_next_157 rfl 0 rfl ?_
      refine kr_caI (rest := []) O cd_X6_isDigit h (Nat.le_of_ble_eq_true rfl) (fun ls _ => kt_ivS O dX6_next_158 cd_X6_isDigit in_X6_isDigit q1568 q1569 hy_X6_isDigit) (fun u13 M14 hq => ?_) (fun E q M9 hx => kr_out O hx)
      replace h := hq
      clear hq
      refine kr_if_eq (tgt := 234) O dX6_next_161 rfl (fun hc => ?_) (fun hc => ?_)
      · replace h := h.1 hc
        refine kr_aload_n O dX6_next_234 rfl 1 rfl ?_
        refine kr_iload_n O dX6_next_235 rfl 0 rfl ?_
        obtain ⟨hw, h⟩ := h
        refine kr_putf O dX6_next_236 fs_X6_83 (Or.inl rfl) ⟨rfl, rfl⟩ hw (kr_nmM fun M15 hM15 => ?_)
        replace h := h M15 hM15
        refine kr_aload_n O dX6_next_239 rfl 1 rfl ?_
        refine kr_gets O dX6_next_240 q1575 (kt_inT 2 rfl) ?_
        obtain ⟨hw, h⟩ := h
        refine kr_putf O dX6_next_243 fs_X6_53 (Or.inl rfl) (kt_ok_rf _ rfl) hw (kr_nmM fun M16 hM16 => ?_)
        replace h := h M16 hM16
        refine kr_aload_n O dX6_next_246 rfl 1 rfl ?_
        refine kr_dup O dX6_next_247 (kt_nrf _) ?_
        obtain ⟨u17, eu17, h⟩ := h
        refine kr_getf O dX6_next_248 fs_X6_33 eu17 ?_
        refine kr_iconst O dX6_next_251 (v := (1 : Int32)) (by decide) ?_
        refine kr_iadd O dX6_next_252 ?_
        obtain ⟨hw, h⟩ := h
        refine kr_putf O dX6_next_253 fs_X6_33 (Or.inl rfl) ⟨rfl, rfl⟩ hw (kr_nmM fun M18 hM18 => ?_)
        replace h := h M18 hM18
        exact kr_vret O dX6_next_256 h
      · replace h := h.2 hc
        refine kr_aload_n O dX6_next_164 rfl 1 rfl ?_
        refine kr_iconst O dX6_next_165 (v := (0 : Int32)) (by decide) ?_
        obtain ⟨hw, h⟩ := h
        refine kr_putf O dX6_next_166 fs_X6_70 (Or.inl rfl) ⟨rfl, rfl⟩ hw (kr_nmM fun M19 hM19 => ?_)
        replace h := h M19 hM19
        refine kr_sub [1] rfl ?_
        exact cl_X6_next_169 O  h
    · replace h := h.2 hc
      refine kr_sub [1] rfl ?_
      exact cl_X6_next_103 O  h
  · replace h := h.2 hc
    refine kr_aload_n O dX6_next_86 rfl 1 rfl ?_
    refine kr_gets O dX6_next_87 q1548 (kt_inT 3 rfl) ?_
    obtain ⟨hw, h⟩ := h
    refine kr_putf O dX6_next_90 fs_X6_53 (Or.inl rfl) (kt_ok_rf _ rfl) hw (kr_nmM fun M20 hM20 => ?_)
    replace h := h M20 hM20
    refine kr_goto (tgt := 256) O dX6_next_93 rfl ?_
    exact kr_vret O dX6_next_256 h
def vc_X6_next_37 (w : kt_W) (gr : kt_g × kt_M) (d : Nat) (P : Option Value → kt_M → Prop) (X : String → Nat → kt_M → Prop) (nx0 : kt_M → Prop) (a0 : Nat) (M : kt_M) : Prop :=
  ∃ u1, kt_gf M a0 47 = some (.int u1) ∧ kt_hf gr M a0 47 ∧ ∀ M2, M2 = kt_pf M a0 47 (.int (u1 + (1 : Int32))) → nx0  M2
theorem cj_X6_next_37 {w : kt_W} {x : kt_X} {gr : kt_g × kt_M} {d : Nat} {P : Option Value → kt_M → Prop} {X : String → Nat → kt_M → Prop} {nx0 : kt_M → Prop} {a0 : Nat} {M : kt_M} (O : kt_O w x gr (d + 1) cX6_next "KeyTurns$Scanner" 2 ("next", "()V") (Option.none : Option Jvm.ClassFile.FieldType) []) (hn0 : ∀ M, nx0  M → kt_S w x 2 (kt_E w x P X) M 0 [(0, va_rf (some a0))] []) (h : vc_X6_next_37 w gr d P X nx0 a0 M) : kt_S w x 2 (kt_E w x P X) M 37 [(0, va_rf (some a0))] [] := by
  unfold vc_X6_next_37 at h
  refine kr_aload_n O dX6_next_37 rfl 0 rfl ?_
  refine kr_dup O dX6_next_38 (kt_nrf _) ?_
  obtain ⟨u1, eu1, h⟩ := h
  refine kr_getf O dX6_next_39 fs_X6_33 eu1 ?_
  refine kr_iconst O dX6_next_42 (v := (1 : Int32)) (by decide) ?_
  refine kr_iadd O dX6_next_43 ?_
  obtain ⟨hw, h⟩ := h
  refine kr_putf O dX6_next_44 fs_X6_33 (Or.inl rfl) ⟨rfl, rfl⟩ hw (kr_nmM fun M2 hM2 => ?_)
  replace h := h M2 hM2
  refine kr_goto (tgt := 0) O dX6_next_47 rfl ?_
  exact hn0  _ h
def vc_X6_next_0 (w : kt_W) (gr : kt_g × kt_M) (d : Nat) (P : Option Value → kt_M → Prop) (X : String → Nat → kt_M → Prop) (nx0 : kt_M → Prop) (a0 : Nat) (M : kt_M) : Prop :=
  ∃ u1, kt_gf M a0 47 = some (.int u1) ∧ ∃ u2, kt_gf M a0 46 = some (.int u2) ∧ 
    ((u2 ≤ u1 → vc_X6_next_50 w gr d P X  a0 M) ∧
    (¬ u2 ≤ u1 → ∃ u3, kt_gf M a0 47 = some (.int u3) ∧ (kt_co M a0 = some 7 ∨ kt_co M a0 = some 8) ∧ 
    kt_Ca w gr d yX6_byteAt kc_X6_byteAt [va_rf (some a0), .int u3] M (kt_pI fun u4 M5 => 
      ((u4 = (32 : Int32) → vc_X6_next_37 w gr d P X nx0 a0 M5) ∧
      (¬ u4 = (32 : Int32) → ∃ u6, kt_gf M5 a0 47 = some (.int u6) ∧ (kt_co M5 a0 = some 7 ∨ kt_co M5 a0 = some 8) ∧ 
      kt_Ca w gr d yX6_byteAt kc_X6_byteAt [va_rf (some a0), .int u6] M5 (kt_pI fun u7 M8 => 
        ((¬ u7 = (10 : Int32) → vc_X6_next_50 w gr d P X  a0 M8) ∧
        (u7 = (10 : Int32) → vc_X6_next_37 w gr d P X nx0 a0 M8))) X))) X))
theorem cj_X6_next_0 {w : kt_W} {x : kt_X} {gr : kt_g × kt_M} {d : Nat} {P : Option Value → kt_M → Prop} {X : String → Nat → kt_M → Prop} {nx0 : kt_M → Prop} {a0 : Nat} {M : kt_M} (O : kt_O w x gr (d + 1) cX6_next "KeyTurns$Scanner" 2 ("next", "()V") (Option.none : Option Jvm.ClassFile.FieldType) []) (hn0 : ∀ M, nx0  M → kt_S w x 2 (kt_E w x P X) M 0 [(0, va_rf (some a0))] []) (h : vc_X6_next_0 w gr d P X nx0 a0 M) : kt_S w x 2 (kt_E w x P X) M 0 [(0, va_rf (some a0))] [] := by
  unfold vc_X6_next_0 at h
  refine kr_aload_n O dX6_next_0 rfl 0 rfl ?_
  obtain ⟨u1, eu1, h⟩ := h
  refine kr_getf O dX6_next_1 fs_X6_33 eu1 ?_
  refine kr_aload_n O dX6_next_4 rfl 0 rfl ?_
  obtain ⟨u2, eu2, h⟩ := h
  refine kr_getf O dX6_next_5 fs_X6_22 eu2 ?_
  refine kr_icmp_ge (tgt := 50) O dX6_next_8 rfl (fun hc => ?_) (fun hc => ?_)
  · replace h := h.1 hc
    exact cj_X6_next_50 O  h
  · replace h := h.2 hc
    refine kr_aload_n O dX6_next_11 rfl 0 rfl ?_
    refine kr_aload_n O dX6_next_12 rfl 0 rfl ?_
    obtain ⟨u3, eu3, h⟩ := h
    refine kr_getf O dX6_next_13 fs_X6_33 eu3 ?_
    obtain ⟨hco, h⟩ := h
    refine kr_caI (rest := []) O cd_X6_byteAt h (Nat.le_of_ble_eq_true rfl) (fun ls _ => by rcases hco with hco | hco <;> first | exact kt_ivP (ci := 7) O dX6_next_16 cd_X6_byteAt in_X6_byteAt (Or.inl q1521) q1523 q1522 q3016 hco (by decide) hy_X6_byteAt | exact kt_ivP (ci := 8) O dX6_next_16 cd_X6_byteAt in_X6_byteAt (Or.inl q1521) q1523 q1522 q3016 hco (by decide) hy_X6_byteAt) (fun u4 M5 hq => ?_) (fun E q M9 hx => kr_out O hx)
    replace h := hq
    clear hq
    refine kr_bipush O dX6_next_19 (v := (32 : Int32)) (by decide) ?_
    refine kr_icmp_eq (tgt := 37) O dX6_next_21 rfl (fun hc => ?_) (fun hc => ?_)
    · replace h := h.1 hc
      exact cj_X6_next_37 O hn0 h
    · replace h := h.2 hc
      refine kr_aload_n O dX6_next_24 rfl 0 rfl ?_
      refine kr_aload_n O dX6_next_25 rfl 0 rfl ?_
      obtain ⟨u6, eu6, h⟩ := h
      refine kr_getf O dX6_next_26 fs_X6_33 eu6 ?_
      obtain ⟨hco, h⟩ := h
      refine kr_caI (rest := []) O cd_X6_byteAt h (Nat.le_of_ble_eq_true rfl) (fun ls _ => by rcases hco with hco | hco <;> first | exact kt_ivP (ci := 7) O dX6_next_29 cd_X6_byteAt in_X6_byteAt (Or.inl q1521) q1523 q1522 q3016 hco (by decide) hy_X6_byteAt | exact kt_ivP (ci := 8) O dX6_next_29 cd_X6_byteAt in_X6_byteAt (Or.inl q1521) q1523 q1522 q3016 hco (by decide) hy_X6_byteAt) (fun u7 M8 hq => ?_) (fun E q M9 hx => kr_out O hx)
      replace h := hq
      clear hq
      refine kr_bipush O dX6_next_32 (v := (10 : Int32)) (by decide) ?_
      refine kr_icmp_ne (tgt := 50) O dX6_next_34 rfl (fun hc => ?_) (fun hc => ?_)
      · replace h := h.1 hc
        exact cj_X6_next_50 O  h
      · replace h := h.2 hc
        exact cj_X6_next_37 O hn0 h
def vl_X6_next_0 (w : kt_W) (gr : kt_g × kt_M) (d : Nat) (P : Option Value → kt_M → Prop) (X : String → Nat → kt_M → Prop)  (a0 : Nat) (M : kt_M) : Prop :=
  ∃ Inv : Nat → kt_M → Prop, (∃ k, Inv k  M) ∧ ∀ k  M, kt_le gr.1 gr.2 M → Inv k  M → vc_X6_next_0 w gr d P X (fun M' => ∃ k', k' < k ∧ Inv k'  M') a0 M
theorem cl_X6_next_0 {w : kt_W} {x : kt_X} {gr : kt_g × kt_M} {d : Nat} {P : Option Value → kt_M → Prop} {X : String → Nat → kt_M → Prop}  {a0 : Nat} {M : kt_M} (O : kt_O w x gr (d + 1) cX6_next "KeyTurns$Scanner" 2 ("next", "()V") (Option.none : Option Jvm.ClassFile.FieldType) [])  (h : vl_X6_next_0 w gr d P X  a0 M) : kt_S w x 2 (kt_E w x P X) M 0 [(0, va_rf (some a0))] [] := by
  obtain ⟨Inv, ⟨k, hk⟩, hb⟩ := h
  induction k using Nat.strongRecOn generalizing  M with
  | ind k ih =>
    exact kr_le O fun hle => cj_X6_next_0 O (fun  M' hi => let ⟨k', h1, h2⟩ := hi; ih k' h1 h2) (hb k  _ hle hk)
def vc_X6_next (w : kt_W) (gr : kt_g × kt_M) (d : Nat) (P : Option Value → kt_M → Prop) (X : String → Nat → kt_M → Prop) (a0 : Nat) (M : kt_M) : Prop :=
  vl_X6_next_0 w gr d P X  a0 M
theorem ce_X6_next {w : kt_W} {g : kt_g} {d : Nat} {P : Option Value → kt_M → Prop} {X : String → Nat → kt_M → Prop} {a0 : Nat} {M : kt_M} (h : vc_X6_next w (g, M) d P X a0 M) : kt_Sp w g (d + 1) yX6_next kc_X6_next [va_rf (some a0)] M P X := by
  refine kt_of (L0 := [(0, va_rf (some a0))]) (by decide +kernel) (Nat.le_of_ble_eq_true rfl) rfl fun x O => ?_
  replace O : kt_O w x (g, M) (d + 1) cX6_next "KeyTurns$Scanner" 2 ("next", "()V") (Option.none : Option Jvm.ClassFile.FieldType) [] := O
  unfold vc_X6_next at h
  exact cl_X6_next_0 O  h
def vc_X6_byteAt (w : kt_W) (gr : kt_g × kt_M) (d : Nat) (P : Option Value → kt_M → Prop) (X : String → Nat → kt_M → Prop) (a0 : Nat) (v1 : Int32) (M : kt_M) : Prop :=
  ∃ u1, kt_gf M a0 46 = some (.int u1) ∧ 
    ((u1 ≤ v1 → P (some (.int (0 : Int32))) M) ∧
    (¬ u1 ≤ v1 → ∃ p2, kt_gf M a0 52 = some (va_rf p2) ∧ ∃ b3, p2 = some b3 ∧ ∃ p4, kt_gf M b3 3 = some (va_rf p4) ∧ ∃ b5, p4 = some b5 ∧ ∃ u6, kt_el 2 M b5 v1 = some (.int u6) ∧ P (some (.int (u6 &&& (255 : Int32)))) M))
theorem ce_X6_byteAt {w : kt_W} {g : kt_g} {d : Nat} {P : Option Value → kt_M → Prop} {X : String → Nat → kt_M → Prop} {a0 : Nat} {v1 : Int32} {M : kt_M} (h : vc_X6_byteAt w (g, M) d P X a0 v1 M) : kt_Sp w g (d + 1) yX6_byteAt kc_X6_byteAt [va_rf (some a0), .int v1] M P X := by
  refine kt_of (L0 := [(0, va_rf (some a0)), (1, .int v1)]) (by decide +kernel) (Nat.le_of_ble_eq_true rfl) rfl fun x O => ?_
  replace O : kt_O w x (g, M) (d + 1) cX6_byteAt "KeyTurns$Scanner" 2 ("byteAt", "(I)I") (Option.some Jvm.ClassFile.FieldType.int) [] := O
  unfold vc_X6_byteAt at h
  refine kr_iload_n O dX6_byteAt_0 rfl 1 rfl ?_
  refine kr_aload_n O dX6_byteAt_1 rfl 0 rfl ?_
  obtain ⟨u1, eu1, h⟩ := h
  refine kr_getf O dX6_byteAt_2 fs_X6_22 eu1 ?_
  refine kr_icmp_ge (tgt := 24) O dX6_byteAt_5 rfl (fun hc => ?_) (fun hc => ?_)
  · replace h := h.1 hc
    refine kr_iconst O dX6_byteAt_24 (v := (0 : Int32)) (by decide) ?_
    exact kr_iret O dX6_byteAt_25 rfl h
  · replace h := h.2 hc
    refine kr_aload_n O dX6_byteAt_8 rfl 0 rfl ?_
    obtain ⟨p2, ep2, h⟩ := h
    refine kr_getf O dX6_byteAt_9 fs_X6_3 ep2 ?_
    obtain ⟨b3, rfl, h⟩ := h
    obtain ⟨p4, ep4, h⟩ := h
    refine kr_getf O dX6_byteAt_12 fs_X6_29 ep4 ?_
    refine kr_iload_n O dX6_byteAt_15 rfl 1 rfl ?_
    obtain ⟨b5, rfl, h⟩ := h
    obtain ⟨u6, eu6, h⟩ := h
    refine kr_baload O dX6_byteAt_16 eu6 ?_
    refine kr_sipush O dX6_byteAt_17 (v := (255 : Int32)) (by decide) ?_
    refine kr_iand O dX6_byteAt_20 ?_
    refine kr_goto (tgt := 25) O dX6_byteAt_21 rfl ?_
    exact kr_iret O dX6_byteAt_25 rfl h
def vc_X6_isLetter (w : kt_W) (gr : kt_g × kt_M) (d : Nat) (P : Option Value → kt_M → Prop) (X : String → Nat → kt_M → Prop) (v0 : Int32) (M : kt_M) : Prop :=
  
    ((v0 < (97 : Int32) → P (some (.int (0 : Int32))) M) ∧
    (¬ v0 < (97 : Int32) → 
      (((122 : Int32) < v0 → P (some (.int (0 : Int32))) M) ∧
      (¬ (122 : Int32) < v0 → P (some (.int (1 : Int32))) M))))
theorem ce_X6_isLetter {w : kt_W} {g : kt_g} {d : Nat} {P : Option Value → kt_M → Prop} {X : String → Nat → kt_M → Prop} {v0 : Int32} {M : kt_M} (h : vc_X6_isLetter w (g, M) d P X v0 M) : kt_Sp w g (d + 1) yX6_isLetter kc_X6_isLetter [.int v0] M P X := by
  refine kt_of (L0 := [(0, .int v0)]) (by decide +kernel) (Nat.le_of_ble_eq_true rfl) rfl fun x O => ?_
  replace O : kt_O w x (g, M) (d + 1) cX6_isLetter "KeyTurns$Scanner" 1 ("isLetter", "(I)Z") (Option.some Jvm.ClassFile.FieldType.boolean) [] := O
  unfold vc_X6_isLetter at h
  refine kr_iload_n O dX6_isLetter_0 rfl 0 rfl ?_
  refine kr_bipush O dX6_isLetter_1 (v := (97 : Int32)) (by decide) ?_
  refine kr_icmp_lt (tgt := 16) O dX6_isLetter_3 rfl (fun hc => ?_) (fun hc => ?_)
  · replace h := h.1 hc
    refine kr_iconst O dX6_isLetter_16 (v := (0 : Int32)) (by decide) ?_
    exact kr_iret O dX6_isLetter_17 (by decide) h
  · replace h := h.2 hc
    refine kr_iload_n O dX6_isLetter_6 rfl 0 rfl ?_
    refine kr_bipush O dX6_isLetter_7 (v := (122 : Int32)) (by decide) ?_
    refine kr_icmp_gt (tgt := 16) O dX6_isLetter_9 rfl (fun hc => ?_) (fun hc => ?_)
    · replace h := h.1 hc
      refine kr_iconst O dX6_isLetter_16 (v := (0 : Int32)) (by decide) ?_
      exact kr_iret O dX6_isLetter_17 (by decide) h
    · replace h := h.2 hc
      refine kr_iconst O dX6_isLetter_12 (v := (1 : Int32)) (by decide) ?_
      refine kr_goto (tgt := 17) O dX6_isLetter_13 rfl ?_
      exact kr_iret O dX6_isLetter_17 (by decide) h
def vc_X6_isDigit (w : kt_W) (gr : kt_g × kt_M) (d : Nat) (P : Option Value → kt_M → Prop) (X : String → Nat → kt_M → Prop) (v0 : Int32) (M : kt_M) : Prop :=
  
    ((v0 < (48 : Int32) → P (some (.int (0 : Int32))) M) ∧
    (¬ v0 < (48 : Int32) → 
      (((57 : Int32) < v0 → P (some (.int (0 : Int32))) M) ∧
      (¬ (57 : Int32) < v0 → P (some (.int (1 : Int32))) M))))
theorem ce_X6_isDigit {w : kt_W} {g : kt_g} {d : Nat} {P : Option Value → kt_M → Prop} {X : String → Nat → kt_M → Prop} {v0 : Int32} {M : kt_M} (h : vc_X6_isDigit w (g, M) d P X v0 M) : kt_Sp w g (d + 1) yX6_isDigit kc_X6_isDigit [.int v0] M P X := by
  refine kt_of (L0 := [(0, .int v0)]) (by decide +kernel) (Nat.le_of_ble_eq_true rfl) rfl fun x O => ?_
  replace O : kt_O w x (g, M) (d + 1) cX6_isDigit "KeyTurns$Scanner" 1 ("isDigit", "(I)Z") (Option.some Jvm.ClassFile.FieldType.boolean) [] := O
  unfold vc_X6_isDigit at h
  refine kr_iload_n O dX6_isDigit_0 rfl 0 rfl ?_
  refine kr_bipush O dX6_isDigit_1 (v := (48 : Int32)) (by decide) ?_
  refine kr_icmp_lt (tgt := 16) O dX6_isDigit_3 rfl (fun hc => ?_) (fun hc => ?_)
  · replace h := h.1 hc
    refine kr_iconst O dX6_isDigit_16 (v := (0 : Int32)) (by decide) ?_
    exact kr_iret O dX6_isDigit_17 (by decide) h
  · replace h := h.2 hc
    refine kr_iload_n O dX6_isDigit_6 rfl 0 rfl ?_
    refine kr_bipush O dX6_isDigit_7 (v := (57 : Int32)) (by decide) ?_
    refine kr_icmp_gt (tgt := 16) O dX6_isDigit_9 rfl (fun hc => ?_) (fun hc => ?_)
    · replace h := h.1 hc
      refine kr_iconst O dX6_isDigit_16 (v := (0 : Int32)) (by decide) ?_
      exact kr_iret O dX6_isDigit_17 (by decide) h
    · replace h := h.2 hc
      refine kr_iconst O dX6_isDigit_12 (v := (1 : Int32)) (by decide) ?_
      refine kr_goto (tgt := 17) O dX6_isDigit_13 rfl ?_
      exact kr_iret O dX6_isDigit_17 (by decide) h
def vc_X6_accept (w : kt_W) (gr : kt_g × kt_M) (d : Nat) (P : Option Value → kt_M → Prop) (X : String → Nat → kt_M → Prop) (a0 : Nat) (r1 : Option Nat) (M : kt_M) : Prop :=
  (kt_co M a0 = some 7 ∨ kt_co M a0 = some 8) ∧ 
  kt_Ca w gr d yX6_keyword kc_X6_keyword [va_rf (some a0)] M (kt_pR fun p1 M2 => ∃ b3, p1 = some b3 ∧ (kt_co M2 b3 = some 20) ∧ 
  kt_Ca w gr d yJ15_equals kc_J15_equals [va_rf (some b3), va_rf r1] M2 (kt_pI fun u4 M5 => 
    ((u4 = 0 → narrow .boolean (.int u4) = .int u4 ∧ P (some (.int u4)) M5) ∧
    (¬ u4 = 0 → (kt_co M5 a0 = some 7 ∨ kt_co M5 a0 = some 8) ∧ 
    kt_Ca w gr d yX6_next kc_X6_next [va_rf (some a0)] M5 (kt_pV fun M6 => narrow .boolean (.int u4) = .int u4 ∧ P (some (.int u4)) M6) X))) X) X
theorem ce_X6_accept {w : kt_W} {g : kt_g} {d : Nat} {P : Option Value → kt_M → Prop} {X : String → Nat → kt_M → Prop} {a0 : Nat} {r1 : Option Nat} {M : kt_M} (h : vc_X6_accept w (g, M) d P X a0 r1 M) : kt_Sp w g (d + 1) yX6_accept kc_X6_accept [va_rf (some a0), va_rf r1] M P X := by
  refine kt_of (L0 := [(0, va_rf (some a0)), (1, va_rf r1)]) (by decide +kernel) (by simp only [kt_lgR, kt_lgI, kt_lgN] <;> exact Nat.le_of_ble_eq_true rfl) (by simp only [kt_lvR, kt_lvI, kt_lvN] <;> rfl) fun x O => ?_
  replace O : kt_O w x (g, M) (d + 1) cX6_accept "KeyTurns$Scanner" 3 ("accept", "(Ljava/lang/String;)Z") (Option.some Jvm.ClassFile.FieldType.boolean) [] := O
  unfold vc_X6_accept at h
  refine kr_aload_n O dX6_accept_0 rfl 0 rfl ?_
  obtain ⟨hco, h⟩ := h
  refine kr_caR (rest := []) O cd_X6_keyword h (Nat.le_of_ble_eq_true rfl) (fun ls _ => by rcases hco with hco | hco <;> first | exact kt_ivV (ci := 7) O dX6_accept_1 cd_X6_keyword in_X6_keyword (Or.inl q1626) q1627 q1629 hco (by decide) hy_X6_keyword | exact kt_ivV (ci := 8) O dX6_accept_1 cd_X6_keyword in_X6_keyword (Or.inl q1626) q1627 q1630 hco (by decide) hy_X6_keyword) (fun p1 M2 hq => ?_) (fun E q M9 hx => kr_out O hx)
  replace h := hq
  clear hq
  refine kr_aload_n O dX6_accept_4 rfl 1 rfl ?_
  obtain ⟨b3, rfl, h⟩ := h
  obtain ⟨hco, h⟩ := h
  refine kr_caI (rest := []) O cd_J15_equals h (Nat.le_of_ble_eq_true rfl) (fun ls _ => kt_ivV (ci := 20) O dX6_accept_5 cd_J15_equals in_J15_equals (Or.inl q1634) q1635 q1636 hco (by decide) hy_J15_equals) (fun u4 M5 hq => ?_) (fun E q M9 hx => kr_out O hx)
  replace h := hq
  clear hq
  refine kr_istore_n O dX6_accept_8 rfl (Nat.le_of_ble_eq_true rfl) (by simp [kt_nw, kt_nrf, kt_cI, kt_cJ, kt_cF, kt_cD, kt_cR, kt_cU]) rfl ?_
  refine kr_iload_n O dX6_accept_9 rfl 0 rfl ?_
  refine kr_if_eq (tgt := 17) O dX6_accept_10 rfl (fun hc => ?_) (fun hc => ?_)
  · replace h := h.1 hc
    refine kr_iload_n O dX6_accept_17 rfl 0 rfl ?_
    exact kr_iret O dX6_accept_18 h.1 h.2
  · replace h := h.2 hc
    refine kr_aload_n O dX6_accept_13 rfl 1 rfl ?_
    obtain ⟨hco, h⟩ := h
    refine kr_caV (rest := []) O cd_X6_next h (Nat.le_of_ble_eq_true rfl) (fun ls _ => by rcases hco with hco | hco <;> first | exact kt_ivV (ci := 7) O dX6_accept_14 cd_X6_next in_X6_next (Or.inl q1515) q1516 q1518 hco (by decide) hy_X6_next | exact kt_ivV (ci := 8) O dX6_accept_14 cd_X6_next in_X6_next (Or.inl q1515) q1516 q1519 hco (by decide) hy_X6_next) (fun M6 hq => ?_) (fun E q M9 hx => kr_out O hx)
    replace h := hq
    clear hq
    refine kr_iload_n O dX6_accept_17 rfl 0 rfl ?_
    exact kr_iret O dX6_accept_18 h.1 h.2
def vc_X6_keyword (w : kt_W) (gr : kt_g × kt_M) (d : Nat) (P : Option Value → kt_M → Prop) (X : String → Nat → kt_M → Prop) (a0 : Nat) (M : kt_M) : Prop :=
  ∃ p1, kt_gf M a0 51 = some (va_rf p1) ∧ 
    ((¬ p1 = (some (kt_cA w 0)) → P (some (va_rf (some (kt_cA w 20)))) M) ∧
    (p1 = (some (kt_cA w 0)) → ∃ p2, kt_gf M a0 45 = some (va_rf p2) ∧ ∃ b3, p2 = some b3 ∧ (kt_co M b3 = some 19) ∧ 
    kt_Ca w gr d yJ14_toString kc_J14_toString [va_rf (some b3)] M (kt_pR fun p4 M5 => P (some (va_rf p4)) M5) X))
theorem ce_X6_keyword {w : kt_W} {g : kt_g} {d : Nat} {P : Option Value → kt_M → Prop} {X : String → Nat → kt_M → Prop} {a0 : Nat} {M : kt_M} (h : vc_X6_keyword w (g, M) d P X a0 M) : kt_Sp w g (d + 1) yX6_keyword kc_X6_keyword [va_rf (some a0)] M P X := by
  refine kt_of (L0 := [(0, va_rf (some a0))]) (by decide +kernel) (Nat.le_of_ble_eq_true rfl) rfl fun x O => ?_
  replace O : kt_O w x (g, M) (d + 1) cX6_keyword "KeyTurns$Scanner" 1 ("keyword", "()Ljava/lang/String;") (Option.some (Jvm.ClassFile.FieldType.object "java/lang/String")) [] := O
  unfold vc_X6_keyword at h
  refine kr_aload_n O dX6_keyword_0 rfl 0 rfl ?_
  obtain ⟨p1, ep1, h⟩ := h
  refine kr_getf O dX6_keyword_1 fs_X6_53 ep1 ?_
  refine kr_gets O dX6_keyword_4 q1566 (kt_inT 0 rfl) ?_
  refine kr_acmp_ne (tgt := 20) O dX6_keyword_7 rfl (fun hc => ?_) (fun hc => ?_)
  · replace h := h.1 hc
    refine kr_ldcS O dX6_keyword_20 st_X6_98 ?_
    exact kr_aret O dX6_keyword_22 (by first | exact Or.inl ⟨_, rfl⟩ | exact Or.inr ⟨_, rfl⟩) h
  · replace h := h.2 hc
    refine kr_aload_n O dX6_keyword_10 rfl 0 rfl ?_
    obtain ⟨p2, ep2, h⟩ := h
    refine kr_getf O dX6_keyword_11 fs_X6_18 ep2 ?_
    obtain ⟨b3, rfl, h⟩ := h
    obtain ⟨hco, h⟩ := h
    refine kr_caR (rest := []) O cd_J14_toString h (Nat.le_of_ble_eq_true rfl) (fun ls _ => kt_ivV (ci := 19) O dX6_keyword_14 cd_J14_toString in_J14_toString (Or.inl q1632) q1178 q1179 hco (by decide) hy_J14_toString) (fun p4 M5 hq => ?_) (fun E q M9 hx => kr_out O hx)
    replace h := hq
    clear hq
    refine kr_goto (tgt := 22) O dX6_keyword_17 rfl ?_
    exact kr_aret O dX6_keyword_22 (by first | exact Or.inl ⟨_, rfl⟩ | exact Or.inr ⟨_, rfl⟩) h
def vc_X6_check (w : kt_W) (gr : kt_g × kt_M) (d : Nat) (P : Option Value → kt_M → Prop) (X : String → Nat → kt_M → Prop) (a0 : Nat) (v1 : Int32) (v2 : Int32) (M : kt_M) : Prop :=
  
    ((¬ v1 = 0 → P none M) ∧
    (v1 = 0 → kt_fits w M 8 ∧ ∃ t1, ∀ M2, M2 = kt_new M 8 (t1 + 2, .inr (6, [va_rf none, va_rf none, va_rf none, va_rf none, va_rf none, .int 0, .int 0, .int 0])) → ∃ u3, kt_gf M2 a0 48 = some (.int u3) ∧ 
    kt_Ca w gr d yX8_init kc_X8_init [va_rf (some M.1), .int v2, .int u3, va_rf none] M2 (kt_pV fun M4 => (∃ t fs, M4.2.2 M.1 = (t + 2, .inr (6, fs))) ∧ X "KeyTurns$TextError" M.1 M4) X))
theorem ce_X6_check {w : kt_W} {g : kt_g} {d : Nat} {P : Option Value → kt_M → Prop} {X : String → Nat → kt_M → Prop} {a0 : Nat} {v1 : Int32} {v2 : Int32} {M : kt_M} (h : vc_X6_check w (g, M) d P X a0 v1 v2 M) : kt_Sp w g (d + 1) yX6_check kc_X6_check [va_rf (some a0), .int v1, .int v2] M P X := by
  refine kt_of (L0 := [(0, va_rf (some a0)), (1, .int v1), (2, .int v2)]) (by decide +kernel) (Nat.le_of_ble_eq_true rfl) rfl fun x O => ?_
  replace O : kt_O w x (g, M) (d + 1) cX6_check "KeyTurns$Scanner" 3 ("check", "(ZI)V") (Option.none : Option Jvm.ClassFile.FieldType) [] := O
  unfold vc_X6_check at h
  refine kr_iload_n O dX6_check_0 rfl 1 rfl ?_
  refine kr_if_ne (tgt := 18) O dX6_check_1 rfl (fun hc => ?_) (fun hc => ?_)
  · replace h := h.1 hc
    exact kr_vret O dX6_check_18 h
  · replace h := h.2 hc
    obtain ⟨hf, t1, h⟩ := h
    refine kr_new (c := 6) (r := (RX8, TX8, 8)) (fs := [va_rf none, va_rf none, va_rf none, va_rf none, va_rf none, .int 0, .int 0, .int 0]) t1 O dX6_check_4 rfl q1648 q1649 q140 rfl hf (kr_nmM fun M2 hM2 => ?_)
    replace h := h M2 hM2
    refine kr_dup O dX6_check_7 (kt_nrf _) ?_
    refine kr_iload_n O dX6_check_8 rfl 2 rfl ?_
    refine kr_aload_n O dX6_check_9 rfl 0 rfl ?_
    obtain ⟨u3, eu3, h⟩ := h
    refine kr_getf O dX6_check_10 fs_X6_40 eu3 ?_
    refine kr_null O dX6_check_13 ?_
    refine kr_caV (rest := [va_rf (some M.1)]) O cd_X8_init h (Nat.le_of_ble_eq_true rfl) (fun ls _ => kt_ivI O dX6_check_14 cd_X8_init in_X8_init (Or.inl q1657) q1658 hi_X8_init) (fun M4 hq => ?_) (fun E q M9 hx => kr_out O hx)
    replace h := hq
    clear hq
    obtain ⟨⟨tt, fs, hc⟩, h⟩ := h
    exact kr_athrow O dX6_check_17 hc (by decide) (kr_out O h)
def vc_X6_number (w : kt_W) (gr : kt_g × kt_M) (d : Nat) (P : Option Value → kt_M → Prop) (X : String → Nat → kt_M → Prop) (a0 : Nat) (v1 : Int32) (v2 : Int32) (M : kt_M) : Prop :=
  (kt_co M a0 = some 7 ∨ kt_co M a0 = some 8) ∧ 
  kt_Ca w gr d yX6_peek kc_X6_peek [va_rf (some a0), .int v1, .int v2] M (kt_pI fun u1 M2 => (kt_co M2 a0 = some 7 ∨ kt_co M2 a0 = some 8) ∧ 
  kt_Ca w gr d yX6_next kc_X6_next [va_rf (some a0)] M2 (kt_pV fun M3 => P (some (.int u1)) M3) X) X
theorem ce_X6_number {w : kt_W} {g : kt_g} {d : Nat} {P : Option Value → kt_M → Prop} {X : String → Nat → kt_M → Prop} {a0 : Nat} {v1 : Int32} {v2 : Int32} {M : kt_M} (h : vc_X6_number w (g, M) d P X a0 v1 v2 M) : kt_Sp w g (d + 1) yX6_number kc_X6_number [va_rf (some a0), .int v1, .int v2] M P X := by
  refine kt_of (L0 := [(0, va_rf (some a0)), (1, .int v1), (2, .int v2)]) (by decide +kernel) (Nat.le_of_ble_eq_true rfl) rfl fun x O => ?_
  replace O : kt_O w x (g, M) (d + 1) cX6_number "KeyTurns$Scanner" 4 ("number", "(II)I") (Option.some Jvm.ClassFile.FieldType.int) [] := O
  unfold vc_X6_number at h
  refine kr_aload_n O dX6_number_0 rfl 0 rfl ?_
  refine kr_iload_n O dX6_number_1 rfl 1 rfl ?_
  refine kr_iload_n O dX6_number_2 rfl 2 rfl ?_
  obtain ⟨hco, h⟩ := h
  refine kr_caI (rest := []) O cd_X6_peek h (Nat.le_of_ble_eq_true rfl) (fun ls _ => by rcases hco with hco | hco <;> first | exact kt_ivV (ci := 7) O dX6_number_3 cd_X6_peek in_X6_peek (Or.inl q1682) q1683 q1685 hco (by decide) hy_X6_peek | exact kt_ivV (ci := 8) O dX6_number_3 cd_X6_peek in_X6_peek (Or.inl q1682) q1683 q1686 hco (by decide) hy_X6_peek) (fun u1 M2 hq => ?_) (fun E q M9 hx => kr_out O hx)
  replace h := hq
  clear hq
  refine kr_istore_n O dX6_number_6 rfl (Nat.le_of_ble_eq_true rfl) rfl rfl ?_
  refine kr_aload_n O dX6_number_7 rfl 1 rfl ?_
  obtain ⟨hco, h⟩ := h
  refine kr_caV (rest := []) O cd_X6_next h (Nat.le_of_ble_eq_true rfl) (fun ls _ => by rcases hco with hco | hco <;> first | exact kt_ivV (ci := 7) O dX6_number_8 cd_X6_next in_X6_next (Or.inl q1515) q1516 q1518 hco (by decide) hy_X6_next | exact kt_ivV (ci := 8) O dX6_number_8 cd_X6_next in_X6_next (Or.inl q1515) q1516 q1519 hco (by decide) hy_X6_next) (fun M3 hq => ?_) (fun E q M9 hx => kr_out O hx)
  replace h := hq
  clear hq
  refine kr_iload_n O dX6_number_11 rfl 0 rfl ?_
  exact kr_iret O dX6_number_12 rfl h
def vc_X6_peek_42 (w : kt_W) (gr : kt_g × kt_M) (d : Nat) (P : Option Value → kt_M → Prop) (X : String → Nat → kt_M → Prop)  (a0 : Nat) (s0 : Int32) (sa1 : Nat) (M : kt_M) : Prop :=
  (kt_co M sa1 = some 7 ∨ kt_co M sa1 = some 8) ∧ 
  kt_Ca w gr d yX6_check kc_X6_check [va_rf (some sa1), .int s0, .int (2 : Int32)] M (kt_pV fun M1 => ∃ u2, kt_gf M1 a0 49 = some (.int u2) ∧ P (some (.int u2)) M1) X
theorem cj_X6_peek_42 {w : kt_W} {x : kt_X} {gr : kt_g × kt_M} {d : Nat} {P : Option Value → kt_M → Prop} {X : String → Nat → kt_M → Prop}  {a0 : Nat} {s0 : Int32} {sa1 : Nat} {M : kt_M} (O : kt_O w x gr (d + 1) cX6_peek "KeyTurns$Scanner" 3 ("peek", "(II)I") (Option.some Jvm.ClassFile.FieldType.int) [])  (h : vc_X6_peek_42 w gr d P X  a0 s0 sa1 M) : kt_S w x 3 (kt_E w x P X) M 42 [(0, va_rf (some a0))] [.int s0, va_rf (some sa1)] := by
  unfold vc_X6_peek_42 at h
  refine kr_iconst O dX6_peek_42 (v := (2 : Int32)) (by decide) ?_
  obtain ⟨hco, h⟩ := h
  refine kr_caV (rest := []) O cd_X6_check h (Nat.le_of_ble_eq_true rfl) (fun ls _ => by rcases hco with hco | hco <;> first | exact kt_ivV (ci := 7) O dX6_peek_43 cd_X6_check in_X6_check (Or.inl q1688) q1646 q3020 hco (by decide) hy_X6_check | exact kt_ivV (ci := 8) O dX6_peek_43 cd_X6_check in_X6_check (Or.inl q1688) q1646 q3021 hco (by decide) hy_X6_check) (fun M1 hq => ?_) (fun E q M9 hx => kr_out O hx)
  replace h := hq
  clear hq
  refine kr_aload_n O dX6_peek_46 rfl 0 rfl ?_
  obtain ⟨u2, eu2, h⟩ := h
  refine kr_getf O dX6_peek_47 fs_X6_70 eu2 ?_
  exact kr_iret O dX6_peek_50 rfl h
def vc_X6_peek_41 (w : kt_W) (gr : kt_g × kt_M) (d : Nat) (P : Option Value → kt_M → Prop) (X : String → Nat → kt_M → Prop)  (a0 : Nat) (sa0 : Nat) (M : kt_M) : Prop :=
  vc_X6_peek_42 w gr d P X  a0 (0 : Int32) sa0 M
theorem cj_X6_peek_41 {w : kt_W} {x : kt_X} {gr : kt_g × kt_M} {d : Nat} {P : Option Value → kt_M → Prop} {X : String → Nat → kt_M → Prop}  {a0 : Nat} {sa0 : Nat} {M : kt_M} (O : kt_O w x gr (d + 1) cX6_peek "KeyTurns$Scanner" 3 ("peek", "(II)I") (Option.some Jvm.ClassFile.FieldType.int) [])  (h : vc_X6_peek_41 w gr d P X  a0 sa0 M) : kt_S w x 3 (kt_E w x P X) M 41 [(0, va_rf (some a0))] [va_rf (some sa0)] := by
  unfold vc_X6_peek_41 at h
  refine kr_iconst O dX6_peek_41 (v := (0 : Int32)) (by decide) ?_
  exact cj_X6_peek_42 O  h
def vc_X6_peek_16 (w : kt_W) (gr : kt_g × kt_M) (d : Nat) (P : Option Value → kt_M → Prop) (X : String → Nat → kt_M → Prop)  (a0 : Nat) (v1 : Int32) (v2 : Int32) (s0 : Int32) (sa1 : Nat) (M : kt_M) : Prop :=
  (kt_co M sa1 = some 7 ∨ kt_co M sa1 = some 8) ∧ 
  kt_Ca w gr d yX6_check kc_X6_check [va_rf (some sa1), .int s0, .int (1 : Int32)] M (kt_pV fun M1 => ∃ u2, kt_gf M1 a0 49 = some (.int u2) ∧ 
    ((u2 < v1 → vc_X6_peek_41 w gr d P X  a0 a0 M1) ∧
    (¬ u2 < v1 → ∃ u3, kt_gf M1 a0 49 = some (.int u3) ∧ 
      ((v2 < u3 → vc_X6_peek_41 w gr d P X  a0 a0 M1) ∧
      (¬ v2 < u3 → vc_X6_peek_42 w gr d P X  a0 (1 : Int32) a0 M1))))) X
theorem cj_X6_peek_16 {w : kt_W} {x : kt_X} {gr : kt_g × kt_M} {d : Nat} {P : Option Value → kt_M → Prop} {X : String → Nat → kt_M → Prop}  {a0 : Nat} {v1 : Int32} {v2 : Int32} {s0 : Int32} {sa1 : Nat} {M : kt_M} (O : kt_O w x gr (d + 1) cX6_peek "KeyTurns$Scanner" 3 ("peek", "(II)I") (Option.some Jvm.ClassFile.FieldType.int) [])  (h : vc_X6_peek_16 w gr d P X  a0 v1 v2 s0 sa1 M) : kt_S w x 3 (kt_E w x P X) M 16 [(0, va_rf (some a0)), (1, .int v1), (2, .int v2)] [.int s0, va_rf (some sa1)] := by
  unfold vc_X6_peek_16 at h
  refine kr_iconst O dX6_peek_16 (v := (1 : Int32)) (by decide) ?_
  obtain ⟨hco, h⟩ := h
  refine kr_caV (rest := []) O cd_X6_check h (Nat.le_of_ble_eq_true rfl) (fun ls _ => by rcases hco with hco | hco <;> first | exact kt_ivV (ci := 7) O dX6_peek_17 cd_X6_check in_X6_check (Or.inl q1688) q1646 q3020 hco (by decide) hy_X6_check | exact kt_ivV (ci := 8) O dX6_peek_17 cd_X6_check in_X6_check (Or.inl q1688) q1646 q3021 hco (by decide) hy_X6_check) (fun M1 hq => ?_) (fun E q M9 hx => kr_out O hx)
  replace h := hq
  clear hq
  refine kr_aload_n O dX6_peek_20 rfl 0 rfl ?_
  refine kr_aload_n O dX6_peek_21 rfl 0 rfl ?_
  obtain ⟨u2, eu2, h⟩ := h
  refine kr_getf O dX6_peek_22 fs_X6_70 eu2 ?_
  refine kr_iload_n O dX6_peek_25 rfl 1 rfl ?_
  refine kr_icmp_lt (tgt := 41) O dX6_peek_26 rfl (fun hc => ?_) (fun hc => ?_)
  · replace h := h.1 hc
    refine kr_sub [0] rfl ?_
    exact cj_X6_peek_41 O  h
  · replace h := h.2 hc
    refine kr_aload_n O dX6_peek_29 rfl 0 rfl ?_
    obtain ⟨u3, eu3, h⟩ := h
    refine kr_getf O dX6_peek_30 fs_X6_70 eu3 ?_
    refine kr_iload_n O dX6_peek_33 rfl 2 rfl ?_
    refine kr_icmp_gt (tgt := 41) O dX6_peek_34 rfl (fun hc => ?_) (fun hc => ?_)
    · replace h := h.1 hc
      refine kr_sub [0] rfl ?_
      exact cj_X6_peek_41 O  h
    · replace h := h.2 hc
      refine kr_iconst O dX6_peek_37 (v := (1 : Int32)) (by decide) ?_
      refine kr_goto (tgt := 42) O dX6_peek_38 rfl ?_
      refine kr_sub [0] rfl ?_
      exact cj_X6_peek_42 O  h
def vc_X6_peek (w : kt_W) (gr : kt_g × kt_M) (d : Nat) (P : Option Value → kt_M → Prop) (X : String → Nat → kt_M → Prop) (a0 : Nat) (v1 : Int32) (v2 : Int32) (M : kt_M) : Prop :=
  ∃ p1, kt_gf M a0 51 = some (va_rf p1) ∧ 
    ((¬ p1 = (some (kt_cA w 1)) → vc_X6_peek_16 w gr d P X  a0 v1 v2 (0 : Int32) a0 M) ∧
    (p1 = (some (kt_cA w 1)) → vc_X6_peek_16 w gr d P X  a0 v1 v2 (1 : Int32) a0 M))
theorem ce_X6_peek {w : kt_W} {g : kt_g} {d : Nat} {P : Option Value → kt_M → Prop} {X : String → Nat → kt_M → Prop} {a0 : Nat} {v1 : Int32} {v2 : Int32} {M : kt_M} (h : vc_X6_peek w (g, M) d P X a0 v1 v2 M) : kt_Sp w g (d + 1) yX6_peek kc_X6_peek [va_rf (some a0), .int v1, .int v2] M P X := by
  refine kt_of (L0 := [(0, va_rf (some a0)), (1, .int v1), (2, .int v2)]) (by decide +kernel) (Nat.le_of_ble_eq_true rfl) rfl fun x O => ?_
  replace O : kt_O w x (g, M) (d + 1) cX6_peek "KeyTurns$Scanner" 3 ("peek", "(II)I") (Option.some Jvm.ClassFile.FieldType.int) [] := O
  unfold vc_X6_peek at h
  refine kr_aload_n O dX6_peek_0 rfl 0 rfl ?_
  refine kr_aload_n O dX6_peek_1 rfl 0 rfl ?_
  obtain ⟨p1, ep1, h⟩ := h
  refine kr_getf O dX6_peek_2 fs_X6_53 ep1 ?_
  refine kr_gets O dX6_peek_5 q1573 (kt_inT 1 rfl) ?_
  refine kr_acmp_ne (tgt := 15) O dX6_peek_8 rfl (fun hc => ?_) (fun hc => ?_)
  · replace h := h.1 hc
    refine kr_iconst O dX6_peek_15 (v := (0 : Int32)) (by decide) ?_
    exact cj_X6_peek_16 O  h
  · replace h := h.2 hc
    refine kr_iconst O dX6_peek_11 (v := (1 : Int32)) (by decide) ?_
    refine kr_goto (tgt := 16) O dX6_peek_12 rfl ?_
    exact cj_X6_peek_16 O  h
def vc_X6_expectSign (w : kt_W) (gr : kt_g × kt_M) (d : Nat) (P : Option Value → kt_M → Prop) (X : String → Nat → kt_M → Prop) (a0 : Nat) (v1 : Int32) (M : kt_M) : Prop :=
  (kt_co M a0 = some 7 ∨ kt_co M a0 = some 8) ∧ 
  kt_Ca w gr d yX6_isSign kc_X6_isSign [va_rf (some a0), .int v1] M (kt_pI fun u1 M2 => (kt_co M2 a0 = some 7 ∨ kt_co M2 a0 = some 8) ∧ 
  kt_Ca w gr d yX6_check kc_X6_check [va_rf (some a0), .int u1, .int (1 : Int32)] M2 (kt_pV fun M3 => (kt_co M3 a0 = some 7 ∨ kt_co M3 a0 = some 8) ∧ 
  kt_Ca w gr d yX6_next kc_X6_next [va_rf (some a0)] M3 (kt_pV fun M4 => P none M4) X) X) X
theorem ce_X6_expectSign {w : kt_W} {g : kt_g} {d : Nat} {P : Option Value → kt_M → Prop} {X : String → Nat → kt_M → Prop} {a0 : Nat} {v1 : Int32} {M : kt_M} (h : vc_X6_expectSign w (g, M) d P X a0 v1 M) : kt_Sp w g (d + 1) yX6_expectSign kc_X6_expectSign [va_rf (some a0), .int v1] M P X := by
  refine kt_of (L0 := [(0, va_rf (some a0)), (1, .int v1)]) (by decide +kernel) (Nat.le_of_ble_eq_true rfl) rfl fun x O => ?_
  replace O : kt_O w x (g, M) (d + 1) cX6_expectSign "KeyTurns$Scanner" 2 ("expectSign", "(I)V") (Option.none : Option Jvm.ClassFile.FieldType) [] := O
  unfold vc_X6_expectSign at h
  refine kr_aload_n O dX6_expectSign_0 rfl 0 rfl ?_
  refine kr_aload_n O dX6_expectSign_1 rfl 0 rfl ?_
  refine kr_iload_n O dX6_expectSign_2 rfl 1 rfl ?_
  obtain ⟨hco, h⟩ := h
  refine kr_caI (rest := [va_rf (some a0)]) O cd_X6_isSign h (Nat.le_of_ble_eq_true rfl) (fun ls _ => by rcases hco with hco | hco <;> first | exact kt_ivV (ci := 7) O dX6_expectSign_3 cd_X6_isSign in_X6_isSign (Or.inl q1696) q1697 q1699 hco (by decide) hy_X6_isSign | exact kt_ivV (ci := 8) O dX6_expectSign_3 cd_X6_isSign in_X6_isSign (Or.inl q1696) q1697 q1700 hco (by decide) hy_X6_isSign) (fun u1 M2 hq => ?_) (fun E q M9 hx => kr_out O hx)
  replace h := hq
  clear hq
  refine kr_iconst O dX6_expectSign_6 (v := (1 : Int32)) (by decide) ?_
  obtain ⟨hco, h⟩ := h
  refine kr_caV (rest := []) O cd_X6_check h (Nat.le_of_ble_eq_true rfl) (fun ls _ => by rcases hco with hco | hco <;> first | exact kt_ivV (ci := 7) O dX6_expectSign_7 cd_X6_check in_X6_check (Or.inl q1688) q1646 q3020 hco (by decide) hy_X6_check | exact kt_ivV (ci := 8) O dX6_expectSign_7 cd_X6_check in_X6_check (Or.inl q1688) q1646 q3021 hco (by decide) hy_X6_check) (fun M3 hq => ?_) (fun E q M9 hx => kr_out O hx)
  replace h := hq
  clear hq
  refine kr_aload_n O dX6_expectSign_10 rfl 0 rfl ?_
  obtain ⟨hco, h⟩ := h
  refine kr_caV (rest := []) O cd_X6_next h (Nat.le_of_ble_eq_true rfl) (fun ls _ => by rcases hco with hco | hco <;> first | exact kt_ivV (ci := 7) O dX6_expectSign_11 cd_X6_next in_X6_next (Or.inl q1515) q1516 q1518 hco (by decide) hy_X6_next | exact kt_ivV (ci := 8) O dX6_expectSign_11 cd_X6_next in_X6_next (Or.inl q1515) q1516 q1519 hco (by decide) hy_X6_next) (fun M4 hq => ?_) (fun E q M9 hx => kr_out O hx)
  replace h := hq
  clear hq
  exact kr_vret O dX6_expectSign_14 h
def vc_X6_isSign (w : kt_W) (gr : kt_g × kt_M) (d : Nat) (P : Option Value → kt_M → Prop) (X : String → Nat → kt_M → Prop) (a0 : Nat) (v1 : Int32) (M : kt_M) : Prop :=
  ∃ p1, kt_gf M a0 51 = some (va_rf p1) ∧ 
    ((¬ p1 = (some (kt_cA w 2)) → P (some (.int (0 : Int32))) M) ∧
    (p1 = (some (kt_cA w 2)) → ∃ u2, kt_gf M a0 50 = some (.int u2) ∧ 
      ((¬ u2 = v1 → P (some (.int (0 : Int32))) M) ∧
      (u2 = v1 → P (some (.int (1 : Int32))) M))))
theorem ce_X6_isSign {w : kt_W} {g : kt_g} {d : Nat} {P : Option Value → kt_M → Prop} {X : String → Nat → kt_M → Prop} {a0 : Nat} {v1 : Int32} {M : kt_M} (h : vc_X6_isSign w (g, M) d P X a0 v1 M) : kt_Sp w g (d + 1) yX6_isSign kc_X6_isSign [va_rf (some a0), .int v1] M P X := by
  refine kt_of (L0 := [(0, va_rf (some a0)), (1, .int v1)]) (by decide +kernel) (Nat.le_of_ble_eq_true rfl) rfl fun x O => ?_
  replace O : kt_O w x (g, M) (d + 1) cX6_isSign "KeyTurns$Scanner" 2 ("isSign", "(I)Z") (Option.some Jvm.ClassFile.FieldType.boolean) [] := O
  unfold vc_X6_isSign at h
  refine kr_aload_n O dX6_isSign_0 rfl 0 rfl ?_
  obtain ⟨p1, ep1, h⟩ := h
  refine kr_getf O dX6_isSign_1 fs_X6_53 ep1 ?_
  refine kr_gets O dX6_isSign_4 q1575 (kt_inT 2 rfl) ?_
  refine kr_acmp_ne (tgt := 22) O dX6_isSign_7 rfl (fun hc => ?_) (fun hc => ?_)
  · replace h := h.1 hc
    refine kr_iconst O dX6_isSign_22 (v := (0 : Int32)) (by decide) ?_
    exact kr_iret O dX6_isSign_23 (by decide) h
  · replace h := h.2 hc
    refine kr_aload_n O dX6_isSign_10 rfl 0 rfl ?_
    obtain ⟨u2, eu2, h⟩ := h
    refine kr_getf O dX6_isSign_11 fs_X6_83 eu2 ?_
    refine kr_iload_n O dX6_isSign_14 rfl 1 rfl ?_
    refine kr_icmp_ne (tgt := 22) O dX6_isSign_15 rfl (fun hc => ?_) (fun hc => ?_)
    · replace h := h.1 hc
      refine kr_iconst O dX6_isSign_22 (v := (0 : Int32)) (by decide) ?_
      exact kr_iret O dX6_isSign_23 (by decide) h
    · replace h := h.2 hc
      refine kr_iconst O dX6_isSign_18 (v := (1 : Int32)) (by decide) ?_
      refine kr_goto (tgt := 23) O dX6_isSign_19 rfl ?_
      exact kr_iret O dX6_isSign_23 (by decide) h
def vc_X6_relationSign_33 (w : kt_W) (gr : kt_g × kt_M) (d : Nat) (P : Option Value → kt_M → Prop) (X : String → Nat → kt_M → Prop)  (a0 : Nat) (s0 : Int32) (sa1 : Nat) (M : kt_M) : Prop :=
  (kt_co M sa1 = some 7 ∨ kt_co M sa1 = some 8) ∧ 
  kt_Ca w gr d yX6_check kc_X6_check [va_rf (some sa1), .int s0, .int (1 : Int32)] M (kt_pV fun M1 => ∃ u2, kt_gf M1 a0 50 = some (.int u2) ∧ (kt_co M1 a0 = some 7 ∨ kt_co M1 a0 = some 8) ∧ 
  kt_Ca w gr d yX6_next kc_X6_next [va_rf (some a0)] M1 (kt_pV fun M3 => P (some (.int u2)) M3) X) X
theorem cj_X6_relationSign_33 {w : kt_W} {x : kt_X} {gr : kt_g × kt_M} {d : Nat} {P : Option Value → kt_M → Prop} {X : String → Nat → kt_M → Prop}  {a0 : Nat} {s0 : Int32} {sa1 : Nat} {M : kt_M} (O : kt_O w x gr (d + 1) cX6_relationSign "KeyTurns$Scanner" 2 ("relationSign", "()I") (Option.some Jvm.ClassFile.FieldType.int) [])  (h : vc_X6_relationSign_33 w gr d P X  a0 s0 sa1 M) : kt_S w x 2 (kt_E w x P X) M 33 [(0, va_rf (some a0))] [.int s0, va_rf (some sa1)] := by
  unfold vc_X6_relationSign_33 at h
  refine kr_iconst O dX6_relationSign_33 (v := (1 : Int32)) (by decide) ?_
  obtain ⟨hco, h⟩ := h
  refine kr_caV (rest := []) O cd_X6_check h (Nat.le_of_ble_eq_true rfl) (fun ls _ => by rcases hco with hco | hco <;> first | exact kt_ivV (ci := 7) O dX6_relationSign_34 cd_X6_check in_X6_check (Or.inl q1688) q1646 q3020 hco (by decide) hy_X6_check | exact kt_ivV (ci := 8) O dX6_relationSign_34 cd_X6_check in_X6_check (Or.inl q1688) q1646 q3021 hco (by decide) hy_X6_check) (fun M1 hq => ?_) (fun E q M9 hx => kr_out O hx)
  replace h := hq
  clear hq
  refine kr_aload_n O dX6_relationSign_37 rfl 0 rfl ?_
  obtain ⟨u2, eu2, h⟩ := h
  refine kr_getf O dX6_relationSign_38 fs_X6_83 eu2 ?_
  refine kr_istore_n O dX6_relationSign_41 rfl (Nat.le_of_ble_eq_true rfl) rfl rfl ?_
  refine kr_aload_n O dX6_relationSign_42 rfl 1 rfl ?_
  obtain ⟨hco, h⟩ := h
  refine kr_caV (rest := []) O cd_X6_next h (Nat.le_of_ble_eq_true rfl) (fun ls _ => by rcases hco with hco | hco <;> first | exact kt_ivV (ci := 7) O dX6_relationSign_43 cd_X6_next in_X6_next (Or.inl q1515) q1516 q1518 hco (by decide) hy_X6_next | exact kt_ivV (ci := 8) O dX6_relationSign_43 cd_X6_next in_X6_next (Or.inl q1515) q1516 q1519 hco (by decide) hy_X6_next) (fun M3 hq => ?_) (fun E q M9 hx => kr_out O hx)
  replace h := hq
  clear hq
  refine kr_iload_n O dX6_relationSign_46 rfl 0 rfl ?_
  exact kr_iret O dX6_relationSign_47 rfl h
def vc_X6_relationSign_28 (w : kt_W) (gr : kt_g × kt_M) (d : Nat) (P : Option Value → kt_M → Prop) (X : String → Nat → kt_M → Prop)  (a0 : Nat) (sa0 : Nat) (M : kt_M) : Prop :=
  vc_X6_relationSign_33 w gr d P X  a0 (1 : Int32) sa0 M
theorem cj_X6_relationSign_28 {w : kt_W} {x : kt_X} {gr : kt_g × kt_M} {d : Nat} {P : Option Value → kt_M → Prop} {X : String → Nat → kt_M → Prop}  {a0 : Nat} {sa0 : Nat} {M : kt_M} (O : kt_O w x gr (d + 1) cX6_relationSign "KeyTurns$Scanner" 2 ("relationSign", "()I") (Option.some Jvm.ClassFile.FieldType.int) [])  (h : vc_X6_relationSign_28 w gr d P X  a0 sa0 M) : kt_S w x 2 (kt_E w x P X) M 28 [(0, va_rf (some a0))] [va_rf (some sa0)] := by
  unfold vc_X6_relationSign_28 at h
  refine kr_iconst O dX6_relationSign_28 (v := (1 : Int32)) (by decide) ?_
  refine kr_goto (tgt := 33) O dX6_relationSign_29 rfl ?_
  exact cj_X6_relationSign_33 O  h
def vc_X6_relationSign (w : kt_W) (gr : kt_g × kt_M) (d : Nat) (P : Option Value → kt_M → Prop) (X : String → Nat → kt_M → Prop) (a0 : Nat) (M : kt_M) : Prop :=
  (kt_co M a0 = some 7 ∨ kt_co M a0 = some 8) ∧ 
  kt_Ca w gr d yX6_isSign kc_X6_isSign [va_rf (some a0), .int (60 : Int32)] M (kt_pI fun u1 M2 => 
    ((¬ u1 = 0 → vc_X6_relationSign_28 w gr d P X  a0 a0 M2) ∧
    (u1 = 0 → (kt_co M2 a0 = some 7 ∨ kt_co M2 a0 = some 8) ∧ 
    kt_Ca w gr d yX6_isSign kc_X6_isSign [va_rf (some a0), .int (61 : Int32)] M2 (kt_pI fun u3 M4 => 
      ((¬ u3 = 0 → vc_X6_relationSign_28 w gr d P X  a0 a0 M4) ∧
      (u3 = 0 → (kt_co M4 a0 = some 7 ∨ kt_co M4 a0 = some 8) ∧ 
      kt_Ca w gr d yX6_isSign kc_X6_isSign [va_rf (some a0), .int (62 : Int32)] M4 (kt_pI fun u5 M6 => 
        ((u5 = 0 → vc_X6_relationSign_33 w gr d P X  a0 (0 : Int32) a0 M6) ∧
        (¬ u5 = 0 → vc_X6_relationSign_28 w gr d P X  a0 a0 M6))) X))) X))) X
theorem ce_X6_relationSign {w : kt_W} {g : kt_g} {d : Nat} {P : Option Value → kt_M → Prop} {X : String → Nat → kt_M → Prop} {a0 : Nat} {M : kt_M} (h : vc_X6_relationSign w (g, M) d P X a0 M) : kt_Sp w g (d + 1) yX6_relationSign kc_X6_relationSign [va_rf (some a0)] M P X := by
  refine kt_of (L0 := [(0, va_rf (some a0))]) (by decide +kernel) (Nat.le_of_ble_eq_true rfl) rfl fun x O => ?_
  replace O : kt_O w x (g, M) (d + 1) cX6_relationSign "KeyTurns$Scanner" 2 ("relationSign", "()I") (Option.some Jvm.ClassFile.FieldType.int) [] := O
  unfold vc_X6_relationSign at h
  refine kr_aload_n O dX6_relationSign_0 rfl 0 rfl ?_
  refine kr_aload_n O dX6_relationSign_1 rfl 0 rfl ?_
  refine kr_bipush O dX6_relationSign_2 (v := (60 : Int32)) (by decide) ?_
  obtain ⟨hco, h⟩ := h
  refine kr_caI (rest := [va_rf (some a0)]) O cd_X6_isSign h (Nat.le_of_ble_eq_true rfl) (fun ls _ => by rcases hco with hco | hco <;> first | exact kt_ivV (ci := 7) O dX6_relationSign_4 cd_X6_isSign in_X6_isSign (Or.inl q1696) q1697 q1699 hco (by decide) hy_X6_isSign | exact kt_ivV (ci := 8) O dX6_relationSign_4 cd_X6_isSign in_X6_isSign (Or.inl q1696) q1697 q1700 hco (by decide) hy_X6_isSign) (fun u1 M2 hq => ?_) (fun E q M9 hx => kr_out O hx)
  replace h := hq
  clear hq
  refine kr_if_ne (tgt := 28) O dX6_relationSign_7 rfl (fun hc => ?_) (fun hc => ?_)
  · replace h := h.1 hc
    exact cj_X6_relationSign_28 O  h
  · replace h := h.2 hc
    refine kr_aload_n O dX6_relationSign_10 rfl 0 rfl ?_
    refine kr_bipush O dX6_relationSign_11 (v := (61 : Int32)) (by decide) ?_
    obtain ⟨hco, h⟩ := h
    refine kr_caI (rest := [va_rf (some a0)]) O cd_X6_isSign h (Nat.le_of_ble_eq_true rfl) (fun ls _ => by rcases hco with hco | hco <;> first | exact kt_ivV (ci := 7) O dX6_relationSign_13 cd_X6_isSign in_X6_isSign (Or.inl q1696) q1697 q1699 hco (by decide) hy_X6_isSign | exact kt_ivV (ci := 8) O dX6_relationSign_13 cd_X6_isSign in_X6_isSign (Or.inl q1696) q1697 q1700 hco (by decide) hy_X6_isSign) (fun u3 M4 hq => ?_) (fun E q M9 hx => kr_out O hx)
    replace h := hq
    clear hq
    refine kr_if_ne (tgt := 28) O dX6_relationSign_16 rfl (fun hc => ?_) (fun hc => ?_)
    · replace h := h.1 hc
      exact cj_X6_relationSign_28 O  h
    · replace h := h.2 hc
      refine kr_aload_n O dX6_relationSign_19 rfl 0 rfl ?_
      refine kr_bipush O dX6_relationSign_20 (v := (62 : Int32)) (by decide) ?_
      obtain ⟨hco, h⟩ := h
      refine kr_caI (rest := [va_rf (some a0)]) O cd_X6_isSign h (Nat.le_of_ble_eq_true rfl) (fun ls _ => by rcases hco with hco | hco <;> first | exact kt_ivV (ci := 7) O dX6_relationSign_22 cd_X6_isSign in_X6_isSign (Or.inl q1696) q1697 q1699 hco (by decide) hy_X6_isSign | exact kt_ivV (ci := 8) O dX6_relationSign_22 cd_X6_isSign in_X6_isSign (Or.inl q1696) q1697 q1700 hco (by decide) hy_X6_isSign) (fun u5 M6 hq => ?_) (fun E q M9 hx => kr_out O hx)
      replace h := hq
      clear hq
      refine kr_if_eq (tgt := 32) O dX6_relationSign_25 rfl (fun hc => ?_) (fun hc => ?_)
      · replace h := h.1 hc
        refine kr_iconst O dX6_relationSign_32 (v := (0 : Int32)) (by decide) ?_
        exact cj_X6_relationSign_33 O  h
      · replace h := h.2 hc
        exact cj_X6_relationSign_28 O  h
def vc_X7_init (w : kt_W) (gr : kt_g × kt_M) (d : Nat) (P : Option Value → kt_M → Prop) (X : String → Nat → kt_M → Prop) (a0 : Nat) (r1 : Option Nat) (v2 : Int32) (M : kt_M) : Prop :=
  kt_hf gr M a0 55 ∧ ∀ M1, M1 = kt_pf M a0 55 (va_rf r1) → 
  kt_Ca w gr d yX6_init kc_X6_init [va_rf (some a0), va_rf r1, .int v2] M1 (kt_pV fun M2 => P none M2) X
theorem ce_X7_init {w : kt_W} {g : kt_g} {d : Nat} {P : Option Value → kt_M → Prop} {X : String → Nat → kt_M → Prop} {a0 : Nat} {r1 : Option Nat} {v2 : Int32} {M : kt_M} (h : vc_X7_init w (g, M) d P X a0 r1 v2 M) : kt_Sp w g (d + 1) yX7_init kc_X7_init [va_rf (some a0), va_rf r1, .int v2] M P X := by
  refine kt_of (L0 := [(0, va_rf (some a0)), (1, va_rf r1), (2, .int v2)]) (by decide +kernel) (by simp only [kt_lgR, kt_lgI, kt_lgN] <;> exact Nat.le_of_ble_eq_true rfl) (by simp only [kt_lvR, kt_lvI, kt_lvN] <;> rfl) fun x O => ?_
  replace O : kt_O w x (g, M) (d + 1) cX7_init "KeyTurns$KeysParser" 3 ("<init>", "(LKeyTurns;I)V") (Option.none : Option Jvm.ClassFile.FieldType) [] := O
  unfold vc_X7_init at h
  refine kr_aload_n O dX7_init_0 rfl 0 rfl ?_
  refine kr_aload_n O dX7_init_1 rfl 1 rfl ?_
  obtain ⟨hw, h⟩ := h
  refine kr_putf O dX7_init_2 fs_X7_3 (Or.inr ⟨rfl, rfl⟩) (kt_ok_rf _ rfl) hw (kr_nmM fun M1 hM1 => ?_)
  replace h := h M1 hM1
  refine kr_aload_n O dX7_init_5 rfl 0 rfl ?_
  refine kr_aload_n O dX7_init_6 rfl 1 rfl ?_
  refine kr_iload_n O dX7_init_7 rfl 2 rfl ?_
  refine kr_caV (rest := []) O cd_X6_init h (Nat.le_of_ble_eq_true rfl) (fun ls _ => kt_ivI O dX7_init_8 cd_X6_init in_X6_init (Or.inl q1509) q1510 hi_X6_init) (fun M2 hq => ?_) (fun E q M9 hx => kr_out O hx)
  replace h := hq
  clear hq
  exact kr_vret O dX7_init_11 h
def vc_X7_parse_115 (w : kt_W) (gr : kt_g × kt_M) (d : Nat) (P : Option Value → kt_M → Prop) (X : String → Nat → kt_M → Prop) (nx115 : Int32 → kt_M → Prop) (a0 : Nat) (v4 : Int32) (M : kt_M) : Prop :=
  ∃ p1, kt_gf M a0 53 = some (va_rf p1) ∧ ∃ b2, p1 = some b2 ∧ ∃ p3, kt_gf M b2 12 = some (va_rf p3) ∧ ∃ b4, p3 = some b4 ∧ (kt_co M b4 = some 13) ∧ 
  kt_Ca w gr d yJ3_size kc_J3_size [va_rf (some b4)] M (kt_pI fun u5 M6 => 
    ((u5 ≤ v4 → ∃ p7, kt_gf M6 a0 53 = some (va_rf p7) ∧ P (some (va_rf p7)) M6) ∧
    (¬ u5 ≤ v4 → ∃ p8, kt_gf M6 a0 53 = some (va_rf p8) ∧ ∃ p9, kt_gf M6 a0 53 = some (va_rf p9) ∧ ∃ b10, p9 = some b10 ∧ ∃ p11, kt_gf M6 b10 12 = some (va_rf p11) ∧ ∃ b12, p11 = some b12 ∧ (kt_co M6 b12 = some 13) ∧ 
    kt_Ca w gr d yJ3_get kc_J3_get [va_rf (some b12), .int v4] M6 (kt_pR fun p13 M14 => ∃ b15, p13 = some b15 ∧ (∃ c, kt_co M14 b15 = some c ∧ kt_is c "KeyTurns$Client") ∧ ∃ b16, p8 = some b16 ∧ (kt_co M14 b16 = some 1) ∧ 
    kt_Ca w gr d yX2_ask kc_X2_ask [va_rf (some b16), va_rf (some b15)] M14 (kt_pI fun u17 M18 => nx115 (v4 + (1 : Int32)) M18) X) X))) X
theorem cj_X7_parse_115 {w : kt_W} {x : kt_X} {gr : kt_g × kt_M} {d : Nat} {P : Option Value → kt_M → Prop} {X : String → Nat → kt_M → Prop} {nx115 : Int32 → kt_M → Prop} {a0 : Nat} {v4 : Int32} {M : kt_M} (O : kt_O w x gr (d + 1) cX7_parse "KeyTurns$KeysParser" 5 ("parse", "()LKeyTurns$State;") (Option.some (Jvm.ClassFile.FieldType.object "KeyTurns$State")) []) (hn115 : ∀ v4 M, nx115 v4 M → kt_S w x 5 (kt_E w x P X) M 115 [(0, va_rf (some a0)), (4, .int v4)] []) (h : vc_X7_parse_115 w gr d P X nx115 a0 v4 M) : kt_S w x 5 (kt_E w x P X) M 115 [(0, va_rf (some a0)), (4, .int v4)] [] := by
  unfold vc_X7_parse_115 at h
  refine kr_iload O dX7_parse_115 1 rfl ?_
  refine kr_aload_n O dX7_parse_117 rfl 0 rfl ?_
  obtain ⟨p1, ep1, h⟩ := h
  refine kr_getf O dX7_parse_118 fs_X7_33 ep1 ?_
  obtain ⟨b2, rfl, h⟩ := h
  obtain ⟨p3, ep3, h⟩ := h
  refine kr_getf O dX7_parse_121 fs_X7_68 ep3 ?_
  obtain ⟨b4, rfl, h⟩ := h
  obtain ⟨hco, h⟩ := h
  refine kr_caI (rest := [.int v4]) O cd_J3_size h (Nat.le_of_ble_eq_true rfl) (fun ls _ => kt_ivV (ci := 13) O dX7_parse_124 cd_J3_size in_J3_size (Or.inl q1771) q478 q479 hco (by decide) hy_J3_size) (fun u5 M6 hq => ?_) (fun E q M9 hx => kr_out O hx)
  replace h := hq
  clear hq
  refine kr_icmp_ge (tgt := 159) O dX7_parse_127 rfl (fun hc => ?_) (fun hc => ?_)
  · replace h := h.1 hc
    refine kr_aload_n O dX7_parse_159 rfl 0 rfl ?_
    obtain ⟨p7, ep7, h⟩ := h
    refine kr_getf O dX7_parse_160 fs_X7_33 ep7 ?_
    exact kr_aret O dX7_parse_163 (by first | exact Or.inl ⟨_, rfl⟩ | exact Or.inr ⟨_, rfl⟩) h
  · replace h := h.2 hc
    refine kr_aload_n O dX7_parse_130 rfl 0 rfl ?_
    obtain ⟨p8, ep8, h⟩ := h
    refine kr_getf O dX7_parse_131 fs_X7_33 ep8 ?_
    refine kr_aload_n O dX7_parse_134 rfl 0 rfl ?_
    obtain ⟨p9, ep9, h⟩ := h
    refine kr_getf O dX7_parse_135 fs_X7_33 ep9 ?_
    obtain ⟨b10, rfl, h⟩ := h
    obtain ⟨p11, ep11, h⟩ := h
    refine kr_getf O dX7_parse_138 fs_X7_68 ep11 ?_
    refine kr_iload O dX7_parse_141 1 rfl ?_
    obtain ⟨b12, rfl, h⟩ := h
    obtain ⟨hco, h⟩ := h
    refine kr_caR (rest := [va_rf p8]) O cd_J3_get h (Nat.le_of_ble_eq_true rfl) (fun ls _ => kt_ivV (ci := 13) O dX7_parse_143 cd_J3_get in_J3_get (Or.inl q1784) q482 q483 hco (by decide) hy_J3_get) (fun p13 M14 hq => ?_) (fun E q M9 hx => kr_out O hx)
    replace h := hq
    clear hq
    obtain ⟨b15, rfl, h⟩ := h
    obtain ⟨⟨cc1, hc1, hc2⟩, h⟩ := h
    refine kr_cast O dX7_parse_146 q1776 hc1 hc2 ?_
    obtain ⟨b16, rfl, h⟩ := h
    obtain ⟨hco, h⟩ := h
    refine kr_caI (rest := []) O cd_X2_ask h (Nat.le_of_ble_eq_true rfl) (fun ls _ => kt_ivV (ci := 1) O dX7_parse_149 cd_X2_ask in_X2_ask (Or.inl q1785) q1786 q1787 hco (by decide) hy_X2_ask) (fun u17 M18 hq => ?_) (fun E q M9 hx => kr_out O hx)
    replace h := hq
    clear hq
    refine kr_pop O dX7_parse_152 rfl ?_
    refine kr_iinc O dX7_parse_153 1 rfl (v := v4 + (1 : Int32)) rfl (Nat.le_of_ble_eq_true rfl) rfl rfl ?_
    refine kr_goto (tgt := 115) O dX7_parse_156 rfl ?_
    refine kr_sub [1, 0] rfl ?_
    exact hn115 _ _ h
def vl_X7_parse_115 (w : kt_W) (gr : kt_g × kt_M) (d : Nat) (P : Option Value → kt_M → Prop) (X : String → Nat → kt_M → Prop)  (a0 : Nat) (v4 : Int32) (M : kt_M) : Prop :=
  ∃ Inv : Nat → Int32 → kt_M → Prop, (∃ k, Inv k v4 M) ∧ ∀ k v4 M, kt_le gr.1 gr.2 M → Inv k v4 M → vc_X7_parse_115 w gr d P X (fun v4' M' => ∃ k', k' < k ∧ Inv k' v4' M') a0 v4 M
theorem cl_X7_parse_115 {w : kt_W} {x : kt_X} {gr : kt_g × kt_M} {d : Nat} {P : Option Value → kt_M → Prop} {X : String → Nat → kt_M → Prop}  {a0 : Nat} {v4 : Int32} {M : kt_M} (O : kt_O w x gr (d + 1) cX7_parse "KeyTurns$KeysParser" 5 ("parse", "()LKeyTurns$State;") (Option.some (Jvm.ClassFile.FieldType.object "KeyTurns$State")) [])  (h : vl_X7_parse_115 w gr d P X  a0 v4 M) : kt_S w x 5 (kt_E w x P X) M 115 [(0, va_rf (some a0)), (4, .int v4)] [] := by
  obtain ⟨Inv, ⟨k, hk⟩, hb⟩ := h
  induction k using Nat.strongRecOn generalizing v4 M with
  | ind k ih =>
    exact kr_le O fun hle => cj_X7_parse_115 O (fun v4' M' hi => let ⟨k', h1, h2⟩ := hi; ih k' h1 h2) (hb k _ _ hle hk)
def vc_X7_parse_89 (w : kt_W) (gr : kt_g × kt_M) (d : Nat) (P : Option Value → kt_M → Prop) (X : String → Nat → kt_M → Prop) (nx89 : Int32 → kt_M → Prop) (a0 : Nat) (v4 : Int32) (M : kt_M) : Prop :=
  ∃ u1, kt_gf M a0 54 = some (.int u1) ∧ 
    ((u1 ≤ v4 → vl_X7_parse_115 w gr d P X  a0 (0 : Int32) M) ∧
    (¬ u1 ≤ v4 → ∃ p2, kt_gf M a0 53 = some (va_rf p2) ∧ ∃ b3, p2 = some b3 ∧ (kt_co M b3 = some 1) ∧ 
    kt_Ca w gr d yX2_make kc_X2_make [va_rf (some b3)] M (kt_pR fun p4 M5 => nx89 (v4 + (1 : Int32)) M5) X))
theorem cj_X7_parse_89 {w : kt_W} {x : kt_X} {gr : kt_g × kt_M} {d : Nat} {P : Option Value → kt_M → Prop} {X : String → Nat → kt_M → Prop} {nx89 : Int32 → kt_M → Prop} {a0 : Nat} {v4 : Int32} {M : kt_M} (O : kt_O w x gr (d + 1) cX7_parse "KeyTurns$KeysParser" 5 ("parse", "()LKeyTurns$State;") (Option.some (Jvm.ClassFile.FieldType.object "KeyTurns$State")) []) (hn89 : ∀ v4 M, nx89 v4 M → kt_S w x 5 (kt_E w x P X) M 89 [(0, va_rf (some a0)), (4, .int v4)] []) (h : vc_X7_parse_89 w gr d P X nx89 a0 v4 M) : kt_S w x 5 (kt_E w x P X) M 89 [(0, va_rf (some a0)), (4, .int v4)] [] := by
  unfold vc_X7_parse_89 at h
  refine kr_iload O dX7_parse_89 1 rfl ?_
  refine kr_aload_n O dX7_parse_91 rfl 0 rfl ?_
  obtain ⟨u1, eu1, h⟩ := h
  refine kr_getf O dX7_parse_92 fs_X7_58 eu1 ?_
  refine kr_icmp_ge (tgt := 112) O dX7_parse_95 rfl (fun hc => ?_) (fun hc => ?_)
  · replace h := h.1 hc
    refine kr_iconst O dX7_parse_112 (v := (0 : Int32)) (by decide) ?_
    refine kr_istore O dX7_parse_113 (Nat.le_of_ble_eq_true rfl) rfl rfl ?_
    refine kr_sub [1, 0] rfl ?_
    exact cl_X7_parse_115 O  h
  · replace h := h.2 hc
    refine kr_aload_n O dX7_parse_98 rfl 0 rfl ?_
    obtain ⟨p2, ep2, h⟩ := h
    refine kr_getf O dX7_parse_99 fs_X7_33 ep2 ?_
    obtain ⟨b3, rfl, h⟩ := h
    obtain ⟨hco, h⟩ := h
    refine kr_caR (rest := []) O cd_X2_make h (Nat.le_of_ble_eq_true rfl) (fun ls _ => kt_ivV (ci := 1) O dX7_parse_102 cd_X2_make in_X2_make (Or.inl q1783) q1412 q1413 hco (by decide) hy_X2_make) (fun p4 M5 hq => ?_) (fun E q M9 hx => kr_out O hx)
    replace h := hq
    clear hq
    refine kr_pop O dX7_parse_105 (kt_nrf _) ?_
    refine kr_iinc O dX7_parse_106 1 rfl (v := v4 + (1 : Int32)) rfl (Nat.le_of_ble_eq_true rfl) rfl rfl ?_
    refine kr_goto (tgt := 89) O dX7_parse_109 rfl ?_
    refine kr_sub [1, 0] rfl ?_
    exact hn89 _ _ h
def vl_X7_parse_89 (w : kt_W) (gr : kt_g × kt_M) (d : Nat) (P : Option Value → kt_M → Prop) (X : String → Nat → kt_M → Prop)  (a0 : Nat) (v4 : Int32) (M : kt_M) : Prop :=
  ∃ Inv : Nat → Int32 → kt_M → Prop, (∃ k, Inv k v4 M) ∧ ∀ k v4 M, kt_le gr.1 gr.2 M → Inv k v4 M → vc_X7_parse_89 w gr d P X (fun v4' M' => ∃ k', k' < k ∧ Inv k' v4' M') a0 v4 M
theorem cl_X7_parse_89 {w : kt_W} {x : kt_X} {gr : kt_g × kt_M} {d : Nat} {P : Option Value → kt_M → Prop} {X : String → Nat → kt_M → Prop}  {a0 : Nat} {v4 : Int32} {M : kt_M} (O : kt_O w x gr (d + 1) cX7_parse "KeyTurns$KeysParser" 5 ("parse", "()LKeyTurns$State;") (Option.some (Jvm.ClassFile.FieldType.object "KeyTurns$State")) [])  (h : vl_X7_parse_89 w gr d P X  a0 v4 M) : kt_S w x 5 (kt_E w x P X) M 89 [(0, va_rf (some a0)), (4, .int v4)] [] := by
  obtain ⟨Inv, ⟨k, hk⟩, hb⟩ := h
  induction k using Nat.strongRecOn generalizing v4 M with
  | ind k ih =>
    exact kr_le O fun hle => cj_X7_parse_89 O (fun v4' M' hi => let ⟨k', h1, h2⟩ := hi; ih k' h1 h2) (hb k _ _ hle hk)
def vc_X7_parse_59 (w : kt_W) (gr : kt_g × kt_M) (d : Nat) (P : Option Value → kt_M → Prop) (X : String → Nat → kt_M → Prop) (nx59 : kt_M → Prop) (a0 : Nat) (M : kt_M) : Prop :=
  ∃ p1, kt_gf M a0 51 = some (va_rf p1) ∧ 
    ((p1 = (some (kt_cA w 3)) → vl_X7_parse_89 w gr d P X  a0 (0 : Int32) M) ∧
    (¬ p1 = (some (kt_cA w 3)) → (kt_co M a0 = some 7) ∧ 
    kt_Ca w gr d yX6_keyword kc_X6_keyword [va_rf (some a0)] M (kt_pR fun p2 M3 => (kt_co M3 a0 = some 7) ∧ 
    kt_Ca w gr d yX7_clause kc_X7_clause [va_rf (some a0), va_rf p2] M3 (kt_pV fun M4 => (kt_co M4 a0 = some 7) ∧ 
    kt_Ca w gr d yX6_expectSign kc_X6_expectSign [va_rf (some a0), .int (59 : Int32)] M4 (kt_pV fun M5 => nx59  M5) X) X) X))
theorem cj_X7_parse_59 {w : kt_W} {x : kt_X} {gr : kt_g × kt_M} {d : Nat} {P : Option Value → kt_M → Prop} {X : String → Nat → kt_M → Prop} {nx59 : kt_M → Prop} {a0 : Nat} {M : kt_M} (O : kt_O w x gr (d + 1) cX7_parse "KeyTurns$KeysParser" 5 ("parse", "()LKeyTurns$State;") (Option.some (Jvm.ClassFile.FieldType.object "KeyTurns$State")) []) (hn59 : ∀ M, nx59  M → kt_S w x 5 (kt_E w x P X) M 59 [(0, va_rf (some a0))] []) (h : vc_X7_parse_59 w gr d P X nx59 a0 M) : kt_S w x 5 (kt_E w x P X) M 59 [(0, va_rf (some a0))] [] := by
  unfold vc_X7_parse_59 at h
  refine kr_aload_n O dX7_parse_59 rfl 0 rfl ?_
  obtain ⟨p1, ep1, h⟩ := h
  refine kr_getf O dX7_parse_60 fs_X7_41 ep1 ?_
  refine kr_gets O dX7_parse_63 q1702 (kt_inT 3 rfl) ?_
  refine kr_acmp_eq (tgt := 86) O dX7_parse_66 rfl (fun hc => ?_) (fun hc => ?_)
  · replace h := h.1 hc
    refine kr_iconst O dX7_parse_86 (v := (0 : Int32)) (by decide) ?_
    refine kr_istore O dX7_parse_87 (Nat.le_of_ble_eq_true rfl) rfl rfl ?_
    refine kr_sub [1, 0] rfl ?_
    exact cl_X7_parse_89 O  h
  · replace h := h.2 hc
    refine kr_aload_n O dX7_parse_69 rfl 0 rfl ?_
    refine kr_aload_n O dX7_parse_70 rfl 0 rfl ?_
    obtain ⟨hco, h⟩ := h
    refine kr_caR (rest := [va_rf (some a0)]) O cd_X6_keyword h (Nat.le_of_ble_eq_true rfl) (fun ls _ => kt_ivU (ci := 7) O dX7_parse_71 cd_X6_keyword q1703 q1704 (Or.inr q1705) q1627 q1706 hco (by decide) ⟨by decide, by decide, rfl⟩) (fun p2 M3 hq => ?_) (fun E q M9 hx => kr_out O hx)
    replace h := hq
    clear hq
    obtain ⟨hco, h⟩ := h
    refine kr_caV (rest := []) O cd_X7_clause h (Nat.le_of_ble_eq_true rfl) (fun ls _ => kt_ivV (ci := 7) O dX7_parse_74 cd_X7_clause in_X7_clause (Or.inl q1707) q1709 qs21 hco (by decide) hy_X7_clause) (fun M4 hq => ?_) (fun E q M9 hx => kr_out O hx)
    replace h := hq
    clear hq
    refine kr_aload_n O dX7_parse_77 rfl 0 rfl ?_
    refine kr_bipush O dX7_parse_78 (v := (59 : Int32)) (by decide) ?_
    obtain ⟨hco, h⟩ := h
    refine kr_caV (rest := []) O cd_X6_expectSign h (Nat.le_of_ble_eq_true rfl) (fun ls _ => kt_ivU (ci := 7) O dX7_parse_80 cd_X6_expectSign q1690 q1691 (Or.inr q1692) q1694 q1693 hco (by decide) ⟨by decide, by decide, rfl⟩) (fun M5 hq => ?_) (fun E q M9 hx => kr_out O hx)
    replace h := hq
    clear hq
    refine kr_goto (tgt := 59) O dX7_parse_83 rfl ?_
    exact hn59  _ h
def vl_X7_parse_59 (w : kt_W) (gr : kt_g × kt_M) (d : Nat) (P : Option Value → kt_M → Prop) (X : String → Nat → kt_M → Prop)  (a0 : Nat) (M : kt_M) : Prop :=
  ∃ Inv : Nat → kt_M → Prop, (∃ k, Inv k  M) ∧ ∀ k  M, kt_le gr.1 gr.2 M → Inv k  M → vc_X7_parse_59 w gr d P X (fun M' => ∃ k', k' < k ∧ Inv k'  M') a0 M
theorem cl_X7_parse_59 {w : kt_W} {x : kt_X} {gr : kt_g × kt_M} {d : Nat} {P : Option Value → kt_M → Prop} {X : String → Nat → kt_M → Prop}  {a0 : Nat} {M : kt_M} (O : kt_O w x gr (d + 1) cX7_parse "KeyTurns$KeysParser" 5 ("parse", "()LKeyTurns$State;") (Option.some (Jvm.ClassFile.FieldType.object "KeyTurns$State")) [])  (h : vl_X7_parse_59 w gr d P X  a0 M) : kt_S w x 5 (kt_E w x P X) M 59 [(0, va_rf (some a0))] [] := by
  obtain ⟨Inv, ⟨k, hk⟩, hb⟩ := h
  induction k using Nat.strongRecOn generalizing  M with
  | ind k ih =>
    exact kr_le O fun hle => cj_X7_parse_59 O (fun  M' hi => let ⟨k', h1, h2⟩ := hi; ih k' h1 h2) (hb k  _ hle hk)
def vc_X7_parse (w : kt_W) (gr : kt_g × kt_M) (d : Nat) (P : Option Value → kt_M → Prop) (X : String → Nat → kt_M → Prop) (a0 : Nat) (M : kt_M) : Prop :=
  (kt_co M a0 = some 7) ∧ 
  kt_Ca w gr d yX6_accept kc_X6_accept [va_rf (some a0), va_rf (some (kt_cA w 26))] M (kt_pI fun u1 M2 => (kt_co M2 a0 = some 7) ∧ 
  kt_Ca w gr d yX6_check kc_X6_check [va_rf (some a0), .int u1, .int (1 : Int32)] M2 (kt_pV fun M3 => (kt_co M3 a0 = some 7) ∧ 
  kt_Ca w gr d yX6_number kc_X6_number [va_rf (some a0), .int (1 : Int32), .int (500 : Int32)] M3 (kt_pI fun u4 M5 => (kt_co M5 a0 = some 7) ∧ 
  kt_Ca w gr d yX6_number kc_X6_number [va_rf (some a0), .int (0 : Int32), .int (200 : Int32)] M5 (kt_pI fun u6 M7 => (kt_co M7 a0 = some 7) ∧ 
  kt_Ca w gr d yX6_number kc_X6_number [va_rf (some a0), .int (0 : Int32), .int u4] M7 (kt_pI fun u8 M9 => (kt_co M9 a0 = some 7) ∧ 
  kt_Ca w gr d yX6_number kc_X6_number [va_rf (some a0), .int (1 : Int32), .int (30 : Int32)] M9 (kt_pI fun u10 M11 => 
  kt_Ca w gr d yX1_begun kc_X1_begun [.int u4, .int u6, .int u8, .int u10] M11 (kt_pR fun p12 M13 => kt_hf gr M13 a0 53 ∧ ∀ M14, M14 = kt_pf M13 a0 53 (va_rf p12) → (kt_co M14 a0 = some 7) ∧ 
  kt_Ca w gr d yX6_expectSign kc_X6_expectSign [va_rf (some a0), .int (59 : Int32)] M14 (kt_pV fun M15 => vl_X7_parse_59 w gr d P X  a0 M15) X) X) X) X) X) X) X) X
theorem ce_X7_parse {w : kt_W} {g : kt_g} {d : Nat} {P : Option Value → kt_M → Prop} {X : String → Nat → kt_M → Prop} {a0 : Nat} {M : kt_M} (h : vc_X7_parse w (g, M) d P X a0 M) : kt_Sp w g (d + 1) yX7_parse kc_X7_parse [va_rf (some a0)] M P X := by
  refine kt_of (L0 := [(0, va_rf (some a0))]) (by decide +kernel) (Nat.le_of_ble_eq_true rfl) rfl fun x O => ?_
  replace O : kt_O w x (g, M) (d + 1) cX7_parse "KeyTurns$KeysParser" 5 ("parse", "()LKeyTurns$State;") (Option.some (Jvm.ClassFile.FieldType.object "KeyTurns$State")) [] := O
  unfold vc_X7_parse at h
  refine kr_aload_n O dX7_parse_0 rfl 0 rfl ?_
  refine kr_aload_n O dX7_parse_1 rfl 0 rfl ?_
  refine kr_ldcS O dX7_parse_2 st_X7_15 ?_
  obtain ⟨hco, h⟩ := h
  refine kr_caI (rest := [va_rf (some a0)]) O cd_X6_accept h (Nat.le_of_ble_eq_true rfl) (fun ls _ => kt_ivU (ci := 7) O dX7_parse_4 cd_X6_accept q1620 q1621 (Or.inr q1622) q1624 q1623 hco (by decide) ⟨by decide, by decide, rfl⟩) (fun u1 M2 hq => ?_) (fun E q M9 hx => kr_out O hx)
  replace h := hq
  clear hq
  refine kr_iconst O dX7_parse_7 (v := (1 : Int32)) (by decide) ?_
  obtain ⟨hco, h⟩ := h
  refine kr_caV (rest := []) O cd_X6_check h (Nat.le_of_ble_eq_true rfl) (fun ls _ => kt_ivU (ci := 7) O dX7_parse_8 cd_X6_check q1642 q1643 (Or.inr q1644) q1646 q1645 hco (by decide) ⟨by decide, by decide, rfl⟩) (fun M3 hq => ?_) (fun E q M9 hx => kr_out O hx)
  replace h := hq
  clear hq
  refine kr_aload_n O dX7_parse_11 rfl 0 rfl ?_
  refine kr_iconst O dX7_parse_12 (v := (1 : Int32)) (by decide) ?_
  refine kr_sipush O dX7_parse_13 (v := (500 : Int32)) (by decide) ?_
  obtain ⟨hco, h⟩ := h
  refine kr_caI (rest := []) O cd_X6_number h (Nat.le_of_ble_eq_true rfl) (fun ls _ => kt_ivU (ci := 7) O dX7_parse_16 cd_X6_number q1676 q1677 (Or.inr q1678) q1680 q1679 hco (by decide) ⟨by decide, by decide, rfl⟩) (fun u4 M5 hq => ?_) (fun E q M9 hx => kr_out O hx)
  replace h := hq
  clear hq
  refine kr_istore_n O dX7_parse_19 rfl (Nat.le_of_ble_eq_true rfl) rfl rfl ?_
  refine kr_aload_n O dX7_parse_20 rfl 1 rfl ?_
  refine kr_iconst O dX7_parse_21 (v := (0 : Int32)) (by decide) ?_
  refine kr_sipush O dX7_parse_22 (v := (200 : Int32)) (by decide) ?_
  obtain ⟨hco, h⟩ := h
  refine kr_caI (rest := []) O cd_X6_number h (Nat.le_of_ble_eq_true rfl) (fun ls _ => kt_ivU (ci := 7) O dX7_parse_25 cd_X6_number q1676 q1677 (Or.inr q1678) q1680 q1679 hco (by decide) ⟨by decide, by decide, rfl⟩) (fun u6 M7 hq => ?_) (fun E q M9 hx => kr_out O hx)
  replace h := hq
  clear hq
  refine kr_istore_n O dX7_parse_28 rfl (Nat.le_of_ble_eq_true rfl) rfl rfl ?_
  refine kr_aload_n O dX7_parse_29 rfl 2 rfl ?_
  refine kr_iconst O dX7_parse_30 (v := (0 : Int32)) (by decide) ?_
  refine kr_iload_n O dX7_parse_31 rfl 1 rfl ?_
  obtain ⟨hco, h⟩ := h
  refine kr_caI (rest := []) O cd_X6_number h (Nat.le_of_ble_eq_true rfl) (fun ls _ => kt_ivU (ci := 7) O dX7_parse_32 cd_X6_number q1676 q1677 (Or.inr q1678) q1680 q1679 hco (by decide) ⟨by decide, by decide, rfl⟩) (fun u8 M9 hq => ?_) (fun E q M9 hx => kr_out O hx)
  replace h := hq
  clear hq
  refine kr_istore_n O dX7_parse_35 rfl (Nat.le_of_ble_eq_true rfl) rfl rfl ?_
  refine kr_aload_n O dX7_parse_36 rfl 3 rfl ?_
  refine kr_iload_n O dX7_parse_37 rfl 2 rfl ?_
  refine kr_iload_n O dX7_parse_38 rfl 1 rfl ?_
  refine kr_iload_n O dX7_parse_39 rfl 0 rfl ?_
  refine kr_aload_n O dX7_parse_40 rfl 3 rfl ?_
  refine kr_iconst O dX7_parse_41 (v := (1 : Int32)) (by decide) ?_
  refine kr_bipush O dX7_parse_42 (v := (30 : Int32)) (by decide) ?_
  obtain ⟨hco, h⟩ := h
  refine kr_caI (rest := [.int u8, .int u6, .int u4, va_rf (some a0)]) O cd_X6_number h (Nat.le_of_ble_eq_true rfl) (fun ls _ => kt_ivU (ci := 7) O dX7_parse_44 cd_X6_number q1676 q1677 (Or.inr q1678) q1680 q1679 hco (by decide) ⟨by decide, by decide, rfl⟩) (fun u10 M11 hq => ?_) (fun E q M9 hx => kr_out O hx)
  replace h := hq
  clear hq
  refine kr_caR (rest := [va_rf (some a0)]) O cd_X1_begun h (Nat.le_of_ble_eq_true rfl) (fun ls _ => kt_ivSN O dX7_parse_47 cd_X1_begun in_X1_begun q1689 q198 hy_X1_begun) (fun p12 M13 hq => ?_) (fun E q M9 hx => kr_out O hx)
  replace h := hq
  clear hq
  obtain ⟨hw, h⟩ := h
  refine kr_putf O dX7_parse_50 fs_X7_33 (Or.inl rfl) (kt_ok_rf _ rfl) hw (kr_nmM fun M14 hM14 => ?_)
  replace h := h M14 hM14
  refine kr_aload_n O dX7_parse_53 rfl 3 rfl ?_
  refine kr_bipush O dX7_parse_54 (v := (59 : Int32)) (by decide) ?_
  obtain ⟨hco, h⟩ := h
  refine kr_caV (rest := []) O cd_X6_expectSign h (Nat.le_of_ble_eq_true rfl) (fun ls _ => kt_ivU (ci := 7) O dX7_parse_56 cd_X6_expectSign q1690 q1691 (Or.inr q1692) q1694 q1693 hco (by decide) ⟨by decide, by decide, rfl⟩) (fun M15 hq => ?_) (fun E q M9 hx => kr_out O hx)
  replace h := hq
  clear hq
  refine kr_sub [3] rfl ?_
  exact cl_X7_parse_59 O  h
def vc_X7_clause_109 (w : kt_W) (gr : kt_g × kt_M) (d : Nat) (P : Option Value → kt_M → Prop) (X : String → Nat → kt_M → Prop)  (a0 : Nat) (s0 : Int32) (sa1 : Nat) (M : kt_M) : Prop :=
  (kt_co M sa1 = some 7) ∧ 
  kt_Ca w gr d yX6_check kc_X6_check [va_rf (some sa1), .int s0, .int (3 : Int32)] M (kt_pV fun M1 => (kt_co M1 a0 = some 7) ∧ 
  kt_Ca w gr d yX6_next kc_X6_next [va_rf (some a0)] M1 (kt_pV fun M2 => (kt_co M2 a0 = some 7) ∧ 
  kt_Ca w gr d yX6_number kc_X6_number [va_rf (some a0), .int (1 : Int32), .int (48 : Int32)] M2 (kt_pI fun u3 M4 => ∃ p5, kt_gf M4 a0 53 = some (va_rf p5) ∧ ∃ b6, p5 = some b6 ∧ ∃ p7, kt_gf M4 b6 12 = some (va_rf p7) ∧ kt_fits w M4 8 ∧ ∃ t8, ∀ M9, M9 = kt_new M4 8 (t8 + 2, .inr (5, [.int 0, .int 0, .int 0, .int 0, .int 0, .int 0, va_rf none, va_rf none])) → (kt_co M9 a0 = some 7) ∧ 
  kt_Ca w gr d yX6_number kc_X6_number [va_rf (some a0), .int (0 : Int32), .int (u3 - (1 : Int32))] M9 (kt_pI fun u10 M11 => ∃ n12, (30 : Int32) = nI n12 ∧ n12 < 2 ^ 31 ∧ kt_fits w M11 n12 ∧ ∃ t13, ∀ M14, M14 = kt_new M11 n12 (t13 + 2, .inl (0, kt_z 0 n12)) → ∃ n15, (30 : Int32) = nI n15 ∧ n15 < 2 ^ 31 ∧ kt_fits w M14 n15 ∧ ∃ t16, ∀ M17, M17 = kt_new M14 n15 (t16 + 2, .inl (0, kt_z 0 n15)) → 
  kt_Ca w gr d yX9_init kc_X9_init [va_rf (some M4.1), .int u3, .int u10, va_rf (some M11.1), va_rf (some M14.1)] M17 (kt_pV fun M18 => ∃ b19, p7 = some b19 ∧ (kt_co M18 b19 = some 13) ∧ 
  kt_Ca w gr d yJ3_add kc_J3_add [va_rf (some b19), va_rf (some M4.1)] M18 (kt_pI fun u20 M21 => P none M21) X) X) X) X) X) X
theorem cj_X7_clause_109 {w : kt_W} {x : kt_X} {gr : kt_g × kt_M} {d : Nat} {P : Option Value → kt_M → Prop} {X : String → Nat → kt_M → Prop}  {a0 : Nat} {s0 : Int32} {sa1 : Nat} {M : kt_M} (O : kt_O w x gr (d + 1) cX7_clause "KeyTurns$KeysParser" 6 ("clause", "(Ljava/lang/String;)V") (Option.none : Option Jvm.ClassFile.FieldType) [])  (h : vc_X7_clause_109 w gr d P X  a0 s0 sa1 M) : kt_S w x 6 (kt_E w x P X) M 109 [(0, va_rf (some a0))] [.int s0, va_rf (some sa1)] := by
  unfold vc_X7_clause_109 at h
  refine kr_iconst O dX7_clause_109 (v := (3 : Int32)) (by decide) ?_
  obtain ⟨hco, h⟩ := h
  refine kr_caV (rest := []) O cd_X6_check h (Nat.le_of_ble_eq_true rfl) (fun ls _ => kt_ivU (ci := 7) O dX7_clause_110 cd_X6_check q1642 q1643 (Or.inr q1644) q1646 q1645 hco (by decide) ⟨by decide, by decide, rfl⟩) (fun M1 hq => ?_) (fun E q M9 hx => kr_out O hx)
  replace h := hq
  clear hq
  refine kr_aload_n O dX7_clause_113 rfl 0 rfl ?_
  obtain ⟨hco, h⟩ := h
  refine kr_caV (rest := []) O cd_X6_next h (Nat.le_of_ble_eq_true rfl) (fun ls _ => kt_ivU (ci := 7) O dX7_clause_114 cd_X6_next q1772 q1773 (Or.inr q1774) q1516 q1775 hco (by decide) ⟨by decide, by decide, rfl⟩) (fun M2 hq => ?_) (fun E q M9 hx => kr_out O hx)
  replace h := hq
  clear hq
  refine kr_aload_n O dX7_clause_117 rfl 0 rfl ?_
  refine kr_iconst O dX7_clause_118 (v := (1 : Int32)) (by decide) ?_
  refine kr_bipush O dX7_clause_119 (v := (48 : Int32)) (by decide) ?_
  obtain ⟨hco, h⟩ := h
  refine kr_caI (rest := []) O cd_X6_number h (Nat.le_of_ble_eq_true rfl) (fun ls _ => kt_ivU (ci := 7) O dX7_clause_121 cd_X6_number q1676 q1677 (Or.inr q1678) q1680 q1679 hco (by decide) ⟨by decide, by decide, rfl⟩) (fun u3 M4 hq => ?_) (fun E q M9 hx => kr_out O hx)
  replace h := hq
  clear hq
  refine kr_istore O dX7_clause_124 (Nat.le_of_ble_eq_true rfl) rfl rfl ?_
  refine kr_aload_n O dX7_clause_126 rfl 1 rfl ?_
  obtain ⟨p5, ep5, h⟩ := h
  refine kr_getf O dX7_clause_127 fs_X7_33 ep5 ?_
  obtain ⟨b6, rfl, h⟩ := h
  obtain ⟨p7, ep7, h⟩ := h
  refine kr_getf O dX7_clause_130 fs_X7_68 ep7 ?_
  obtain ⟨hf, t8, h⟩ := h
  refine kr_new (c := 5) (r := (RX9, TX9, 8)) (fs := [.int 0, .int 0, .int 0, .int 0, .int 0, .int 0, va_rf none, va_rf none]) t8 O dX7_clause_133 rfl q1776 q814 q141 rfl hf (kr_nmM fun M9 hM9 => ?_)
  replace h := h M9 hM9
  refine kr_dup O dX7_clause_136 (kt_nrf _) ?_
  refine kr_iload O dX7_clause_137 0 rfl ?_
  refine kr_aload_n O dX7_clause_139 rfl 1 rfl ?_
  refine kr_iconst O dX7_clause_140 (v := (0 : Int32)) (by decide) ?_
  refine kr_iload O dX7_clause_141 0 rfl ?_
  refine kr_iconst O dX7_clause_143 (v := (1 : Int32)) (by decide) ?_
  refine kr_isub O dX7_clause_144 ?_
  obtain ⟨hco, h⟩ := h
  refine kr_caI (rest := [.int u3, va_rf (some M4.1), va_rf (some M4.1), va_rf p7]) O cd_X6_number h (Nat.le_of_ble_eq_true rfl) (fun ls _ => kt_ivU (ci := 7) O dX7_clause_145 cd_X6_number q1676 q1677 (Or.inr q1678) q1680 q1679 hco (by decide) ⟨by decide, by decide, rfl⟩) (fun u10 M11 hq => ?_) (fun E q M9 hx => kr_out O hx)
  replace h := hq
  clear hq
  refine kr_bipush O dX7_clause_148 (v := (30 : Int32)) (by decide) ?_
  obtain ⟨n12, hn, hl, hf, t13, h⟩ := h
  refine kr_newarr t13 0 O dX7_clause_150 (by decide) rfl q312 hn hl hf (kr_nmM fun M14 hM14 => ?_)
  replace h := h M14 hM14
  refine kr_bipush O dX7_clause_152 (v := (30 : Int32)) (by decide) ?_
  obtain ⟨n15, hn, hl, hf, t16, h⟩ := h
  refine kr_newarr t16 0 O dX7_clause_154 (by decide) rfl q312 hn hl hf (kr_nmM fun M17 hM17 => ?_)
  replace h := h M17 hM17
  refine kr_caV (rest := [va_rf (some M4.1), va_rf p7]) O cd_X9_init h (Nat.le_of_ble_eq_true rfl) (fun ls _ => kt_ivI O dX7_clause_156 cd_X9_init in_X9_init (Or.inl q1777) q821 hi_X9_init) (fun M18 hq => ?_) (fun E q M9 hx => kr_out O hx)
  replace h := hq
  clear hq
  obtain ⟨b19, rfl, h⟩ := h
  obtain ⟨hco, h⟩ := h
  refine kr_caI (rest := []) O cd_J3_add h (Nat.le_of_ble_eq_true rfl) (fun ls _ => kt_ivV (ci := 13) O dX7_clause_159 cd_J3_add in_J3_add (Or.inl q1778) q348 q349 hco (by decide) hy_J3_add) (fun u20 M21 hq => ?_) (fun E q M9 hx => kr_out O hx)
  replace h := hq
  clear hq
  refine kr_pop O dX7_clause_162 rfl ?_
  refine kr_goto (tgt := 225) O dX7_clause_163 rfl ?_
  exact kr_vret O dX7_clause_225 h
def vc_X7_clause_197 (w : kt_W) (gr : kt_g × kt_M) (d : Nat) (P : Option Value → kt_M → Prop) (X : String → Nat → kt_M → Prop)  (a0 : Nat) (v5 : Int32) (s0 : Int32) (sa1 : Nat) (M : kt_M) : Prop :=
  (kt_co M sa1 = some 7) ∧ 
  kt_Ca w gr d yX6_check kc_X6_check [va_rf (some sa1), .int s0, .int (3 : Int32)] M (kt_pV fun M1 => (kt_co M1 a0 = some 7) ∧ 
  kt_Ca w gr d yX6_next kc_X6_next [va_rf (some a0)] M1 (kt_pV fun M2 => ∃ u3, kt_gf M2 a0 54 = some (.int u3) ∧ kt_hf gr M2 a0 54 ∧ ∀ M4, M4 = kt_pf M2 a0 54 (.int (u3 + v5)) → P none M4) X) X
theorem cj_X7_clause_197 {w : kt_W} {x : kt_X} {gr : kt_g × kt_M} {d : Nat} {P : Option Value → kt_M → Prop} {X : String → Nat → kt_M → Prop}  {a0 : Nat} {v5 : Int32} {s0 : Int32} {sa1 : Nat} {M : kt_M} (O : kt_O w x gr (d + 1) cX7_clause "KeyTurns$KeysParser" 6 ("clause", "(Ljava/lang/String;)V") (Option.none : Option Jvm.ClassFile.FieldType) [])  (h : vc_X7_clause_197 w gr d P X  a0 v5 s0 sa1 M) : kt_S w x 6 (kt_E w x P X) M 197 [(0, va_rf (some a0)), (5, .int v5)] [.int s0, va_rf (some sa1)] := by
  unfold vc_X7_clause_197 at h
  refine kr_iconst O dX7_clause_197 (v := (3 : Int32)) (by decide) ?_
  obtain ⟨hco, h⟩ := h
  refine kr_caV (rest := []) O cd_X6_check h (Nat.le_of_ble_eq_true rfl) (fun ls _ => kt_ivU (ci := 7) O dX7_clause_198 cd_X6_check q1642 q1643 (Or.inr q1644) q1646 q1645 hco (by decide) ⟨by decide, by decide, rfl⟩) (fun M1 hq => ?_) (fun E q M9 hx => kr_out O hx)
  replace h := hq
  clear hq
  refine kr_aload_n O dX7_clause_201 rfl 0 rfl ?_
  obtain ⟨hco, h⟩ := h
  refine kr_caV (rest := []) O cd_X6_next h (Nat.le_of_ble_eq_true rfl) (fun ls _ => kt_ivU (ci := 7) O dX7_clause_202 cd_X6_next q1772 q1773 (Or.inr q1774) q1516 q1775 hco (by decide) ⟨by decide, by decide, rfl⟩) (fun M2 hq => ?_) (fun E q M9 hx => kr_out O hx)
  replace h := hq
  clear hq
  refine kr_aload_n O dX7_clause_205 rfl 0 rfl ?_
  refine kr_dup O dX7_clause_206 (kt_nrf _) ?_
  obtain ⟨u3, eu3, h⟩ := h
  refine kr_getf O dX7_clause_207 fs_X7_58 eu3 ?_
  refine kr_iload O dX7_clause_210 1 rfl ?_
  refine kr_iadd O dX7_clause_212 ?_
  obtain ⟨hw, h⟩ := h
  refine kr_putf O dX7_clause_213 fs_X7_58 (Or.inl rfl) ⟨rfl, rfl⟩ hw (kr_nmM fun M4 hM4 => ?_)
  replace h := h M4 hM4
  refine kr_goto (tgt := 225) O dX7_clause_216 rfl ?_
  exact kr_vret O dX7_clause_225 h
def vc_X7_clause_61 (w : kt_W) (gr : kt_g × kt_M) (d : Nat) (P : Option Value → kt_M → Prop) (X : String → Nat → kt_M → Prop)  (a0 : Nat) (v3 : Int32) (M : kt_M) : Prop :=
  
    ((v3.toInt = 0 → ∃ p1, kt_gf M a0 53 = some (va_rf p1) ∧ ∃ b2, p1 = some b2 ∧ ∃ p3, kt_gf M b2 12 = some (va_rf p3) ∧ ∃ b4, p3 = some b4 ∧ (kt_co M b4 = some 13) ∧ 
    kt_Ca w gr d yJ3_size kc_J3_size [va_rf (some b4)] M (kt_pI fun u5 M6 => 
      (((8 : Int32) ≤ u5 → vc_X7_clause_109 w gr d P X  a0 (0 : Int32) a0 M6) ∧
      (¬ (8 : Int32) ≤ u5 → vc_X7_clause_109 w gr d P X  a0 (1 : Int32) a0 M6))) X) ∧
    (v3.toInt = 1 → (kt_co M a0 = some 7) ∧ 
    kt_Ca w gr d yX6_next kc_X6_next [va_rf (some a0)] M (kt_pV fun M7 => (kt_co M7 a0 = some 7) ∧ 
    kt_Ca w gr d yX6_peek kc_X6_peek [va_rf (some a0), .int (1 : Int32), .int (30 : Int32)] M7 (kt_pI fun u8 M9 => ∃ u10, kt_gf M9 a0 54 = some (.int u10) ∧ 
      (((30 : Int32) < (u10 + u8) → vc_X7_clause_197 w gr d P X  a0 u8 (0 : Int32) a0 M9) ∧
      (¬ (30 : Int32) < (u10 + u8) → vc_X7_clause_197 w gr d P X  a0 u8 (1 : Int32) a0 M9))) X) X) ∧
    (¬ v3.toInt = 0 → ¬ v3.toInt = 1 → (kt_co M a0 = some 7) ∧ 
  kt_Ca w gr d yX6_check kc_X6_check [va_rf (some a0), .int (0 : Int32), .int (1 : Int32)] M (kt_pV fun M11 => P none M11) X))
theorem cj_X7_clause_61 {w : kt_W} {x : kt_X} {gr : kt_g × kt_M} {d : Nat} {P : Option Value → kt_M → Prop} {X : String → Nat → kt_M → Prop}  {a0 : Nat} {v3 : Int32} {M : kt_M} (O : kt_O w x gr (d + 1) cX7_clause "KeyTurns$KeysParser" 6 ("clause", "(Ljava/lang/String;)V") (Option.none : Option Jvm.ClassFile.FieldType) [])  (h : vc_X7_clause_61 w gr d P X  a0 v3 M) : kt_S w x 6 (kt_E w x P X) M 61 [(0, va_rf (some a0)), (3, .int v3)] [] := by
  unfold vc_X7_clause_61 at h
  refine kr_iload_n O dX7_clause_61 rfl 1 rfl ?_
  by_cases hs0 : v3.toInt = 0
  · refine kr_lookup (tgt := 88) O dX7_clause_62 (by decide) (by rw [hs0] <;> rfl) rfl ?_
    replace h := h.1 hs0
    refine kr_aload_n O dX7_clause_88 rfl 0 rfl ?_
    refine kr_aload_n O dX7_clause_89 rfl 0 rfl ?_
    obtain ⟨p1, ep1, h⟩ := h
    refine kr_getf O dX7_clause_90 fs_X7_33 ep1 ?_
    obtain ⟨b2, rfl, h⟩ := h
    obtain ⟨p3, ep3, h⟩ := h
    refine kr_getf O dX7_clause_93 fs_X7_68 ep3 ?_
    obtain ⟨b4, rfl, h⟩ := h
    obtain ⟨hco, h⟩ := h
    refine kr_caI (rest := [va_rf (some a0)]) O cd_J3_size h (Nat.le_of_ble_eq_true rfl) (fun ls _ => kt_ivV (ci := 13) O dX7_clause_96 cd_J3_size in_J3_size (Or.inl q1771) q478 q479 hco (by decide) hy_J3_size) (fun u5 M6 hq => ?_) (fun E q M9 hx => kr_out O hx)
    replace h := hq
    clear hq
    refine kr_bipush O dX7_clause_99 (v := (8 : Int32)) (by decide) ?_
    refine kr_icmp_ge (tgt := 108) O dX7_clause_101 rfl (fun hc => ?_) (fun hc => ?_)
    · replace h := h.1 hc
      refine kr_iconst O dX7_clause_108 (v := (0 : Int32)) (by decide) ?_
      refine kr_sub [0] rfl ?_
      exact cj_X7_clause_109 O  h
    · replace h := h.2 hc
      refine kr_iconst O dX7_clause_104 (v := (1 : Int32)) (by decide) ?_
      refine kr_goto (tgt := 109) O dX7_clause_105 rfl ?_
      refine kr_sub [0] rfl ?_
      exact cj_X7_clause_109 O  h
  by_cases hs1 : v3.toInt = 1
  · refine kr_lookup (tgt := 166) O dX7_clause_62 (by decide) (by rw [hs1] <;> rfl) rfl ?_
    replace h := h.2.1 hs1
    refine kr_aload_n O dX7_clause_166 rfl 0 rfl ?_
    obtain ⟨hco, h⟩ := h
    refine kr_caV (rest := []) O cd_X6_next h (Nat.le_of_ble_eq_true rfl) (fun ls _ => kt_ivU (ci := 7) O dX7_clause_167 cd_X6_next q1772 q1773 (Or.inr q1774) q1516 q1775 hco (by decide) ⟨by decide, by decide, rfl⟩) (fun M7 hq => ?_) (fun E q M9 hx => kr_out O hx)
    replace h := hq
    clear hq
    refine kr_aload_n O dX7_clause_170 rfl 0 rfl ?_
    refine kr_iconst O dX7_clause_171 (v := (1 : Int32)) (by decide) ?_
    refine kr_bipush O dX7_clause_172 (v := (30 : Int32)) (by decide) ?_
    obtain ⟨hco, h⟩ := h
    refine kr_caI (rest := []) O cd_X6_peek h (Nat.le_of_ble_eq_true rfl) (fun ls _ => kt_ivU (ci := 7) O dX7_clause_174 cd_X6_peek q1779 q1780 (Or.inr q1781) q1683 q1782 hco (by decide) ⟨by decide, by decide, rfl⟩) (fun u8 M9 hq => ?_) (fun E q M9 hx => kr_out O hx)
    replace h := hq
    clear hq
    refine kr_istore O dX7_clause_177 (Nat.le_of_ble_eq_true rfl) rfl rfl ?_
    refine kr_aload_n O dX7_clause_179 rfl 1 rfl ?_
    refine kr_aload_n O dX7_clause_180 rfl 1 rfl ?_
    obtain ⟨u10, eu10, h⟩ := h
    refine kr_getf O dX7_clause_181 fs_X7_58 eu10 ?_
    refine kr_iload O dX7_clause_184 0 rfl ?_
    refine kr_iadd O dX7_clause_186 ?_
    refine kr_bipush O dX7_clause_187 (v := (30 : Int32)) (by decide) ?_
    refine kr_icmp_gt (tgt := 196) O dX7_clause_189 rfl (fun hc => ?_) (fun hc => ?_)
    · replace h := h.1 hc
      refine kr_iconst O dX7_clause_196 (v := (0 : Int32)) (by decide) ?_
      refine kr_sub [1, 0] rfl ?_
      exact cj_X7_clause_197 O  h
    · replace h := h.2 hc
      refine kr_iconst O dX7_clause_192 (v := (1 : Int32)) (by decide) ?_
      refine kr_goto (tgt := 197) O dX7_clause_193 rfl ?_
      refine kr_sub [1, 0] rfl ?_
      exact cj_X7_clause_197 O  h
  refine kr_lookup (tgt := 219) O dX7_clause_62 (by decide) (kt_lk2 hs0 hs1) rfl ?_
  replace h := h.2.2 hs0 hs1
  refine kr_aload_n O dX7_clause_219 rfl 0 rfl ?_
  refine kr_iconst O dX7_clause_220 (v := (0 : Int32)) (by decide) ?_
  refine kr_iconst O dX7_clause_221 (v := (1 : Int32)) (by decide) ?_
  obtain ⟨hco, h⟩ := h
  refine kr_caV (rest := []) O cd_X6_check h (Nat.le_of_ble_eq_true rfl) (fun ls _ => kt_ivU (ci := 7) O dX7_clause_222 cd_X6_check q1642 q1643 (Or.inr q1644) q1646 q1645 hco (by decide) ⟨by decide, by decide, rfl⟩) (fun M11 hq => ?_) (fun E q M9 hx => kr_out O hx)
  replace h := hq
  clear hq
  exact kr_vret O dX7_clause_225 h
def vc_X7_clause (w : kt_W) (gr : kt_g × kt_M) (d : Nat) (P : Option Value → kt_M → Prop) (X : String → Nat → kt_M → Prop) (a0 : Nat) (r1 : Option Nat) (M : kt_M) : Prop :=
  ∃ b1, r1 = some b1 ∧ (kt_co M b1 = some 20) ∧ 
  kt_Ca w gr d yJ15_hashCode kc_J15_hashCode [va_rf (some b1)] M (kt_pI fun u2 M3 => 
    ((u2.toInt = -1357712437 → (kt_co M3 b1 = some 20) ∧ 
    kt_Ca w gr d yJ15_equals kc_J15_equals [va_rf (some b1), va_rf (some (kt_cA w 28))] M3 (kt_pI fun u4 M5 => 
      ((u4 = 0 → vc_X7_clause_61 w gr d P X  a0 (-1 : Int32) M5) ∧
      (¬ u4 = 0 → vc_X7_clause_61 w gr d P X  a0 (0 : Int32) M5))) X) ∧
    (u2.toInt = 1082596930 → (kt_co M3 b1 = some 20) ∧ 
    kt_Ca w gr d yJ15_equals kc_J15_equals [va_rf (some b1), va_rf (some (kt_cA w 29))] M3 (kt_pI fun u6 M7 => 
      ((u6 = 0 → vc_X7_clause_61 w gr d P X  a0 (-1 : Int32) M7) ∧
      (¬ u6 = 0 → vc_X7_clause_61 w gr d P X  a0 (1 : Int32) M7))) X) ∧
    (¬ u2.toInt = -1357712437 → ¬ u2.toInt = 1082596930 → vc_X7_clause_61 w gr d P X  a0 (-1 : Int32) M3))) X
theorem ce_X7_clause {w : kt_W} {g : kt_g} {d : Nat} {P : Option Value → kt_M → Prop} {X : String → Nat → kt_M → Prop} {a0 : Nat} {r1 : Option Nat} {M : kt_M} (h : vc_X7_clause w (g, M) d P X a0 r1 M) : kt_Sp w g (d + 1) yX7_clause kc_X7_clause [va_rf (some a0), va_rf r1] M P X := by
  refine kt_of (L0 := [(0, va_rf (some a0)), (1, va_rf r1)]) (by decide +kernel) (by simp only [kt_lgR, kt_lgI, kt_lgN] <;> exact Nat.le_of_ble_eq_true rfl) (by simp only [kt_lvR, kt_lvI, kt_lvN] <;> rfl) fun x O => ?_
  replace O : kt_O w x (g, M) (d + 1) cX7_clause "KeyTurns$KeysParser" 6 ("clause", "(Ljava/lang/String;)V") (Option.none : Option Jvm.ClassFile.FieldType) [] := O
  unfold vc_X7_clause at h
  refine kr_aload_n O dX7_clause_0 rfl 1 rfl ?_
  refine kr_astore_n O dX7_clause_1 rfl (Nat.le_of_ble_eq_true rfl) (by simp [kt_nw, kt_nrf, kt_cI, kt_cJ, kt_cF, kt_cD, kt_cR, kt_cU]) rfl ?_
  refine kr_iconst O dX7_clause_2 (v := (-1 : Int32)) (by decide) ?_
  refine kr_istore_n O dX7_clause_3 rfl (Nat.le_of_ble_eq_true rfl) (by simp [kt_nw, kt_nrf, kt_cI, kt_cJ, kt_cF, kt_cD, kt_cR, kt_cU]) rfl ?_
  refine kr_aload_n O dX7_clause_4 rfl 1 rfl ?_
  obtain ⟨b1, rfl, h⟩ := h
  obtain ⟨hco, h⟩ := h
  refine kr_caI (rest := []) O cd_J15_hashCode h (Nat.le_of_ble_eq_true rfl) (fun ls _ => kt_ivV (ci := 20) O dX7_clause_5 cd_J15_hashCode in_J15_hashCode (Or.inl q1711) q1712 q1713 hco (by decide) hy_J15_hashCode) (fun u2 M3 hq => ?_) (fun E q M9 hx => kr_out O hx)
  replace h := hq
  clear hq
  by_cases hs0 : u2.toInt = -1357712437
  · refine kr_lookup (tgt := 36) O dX7_clause_8 (by decide) (by rw [hs0] <;> rfl) rfl ?_
    replace h := h.1 hs0
    refine kr_aload_n O dX7_clause_36 rfl 1 rfl ?_
    refine kr_ldcS O dX7_clause_37 st_X7_93 ?_
    obtain ⟨hco, h⟩ := h
    refine kr_caI (rest := []) O cd_J15_equals h (Nat.le_of_ble_eq_true rfl) (fun ls _ => kt_ivV (ci := 20) O dX7_clause_39 cd_J15_equals in_J15_equals (Or.inl q1769) q1635 q1636 hco (by decide) hy_J15_equals) (fun u4 M5 hq => ?_) (fun E q M9 hx => kr_out O hx)
    replace h := hq
    clear hq
    refine kr_if_eq (tgt := 61) O dX7_clause_42 rfl (fun hc => ?_) (fun hc => ?_)
    · replace h := h.1 hc
      refine kr_sub [2, 0] rfl ?_
      exact cj_X7_clause_61 O  h
    · replace h := h.2 hc
      refine kr_iconst O dX7_clause_45 (v := (0 : Int32)) (by decide) ?_
      refine kr_istore_n O dX7_clause_46 rfl (Nat.le_of_ble_eq_true rfl) rfl rfl ?_
      refine kr_goto (tgt := 61) O dX7_clause_47 rfl ?_
      refine kr_sub [2, 0] rfl ?_
      exact cj_X7_clause_61 O  h
  by_cases hs1 : u2.toInt = 1082596930
  · refine kr_lookup (tgt := 50) O dX7_clause_8 (by decide) (by rw [hs1] <;> rfl) rfl ?_
    replace h := h.2.1 hs1
    refine kr_aload_n O dX7_clause_50 rfl 1 rfl ?_
    refine kr_ldcS O dX7_clause_51 st_X7_99 ?_
    obtain ⟨hco, h⟩ := h
    refine kr_caI (rest := []) O cd_J15_equals h (Nat.le_of_ble_eq_true rfl) (fun ls _ => kt_ivV (ci := 20) O dX7_clause_53 cd_J15_equals in_J15_equals (Or.inl q1769) q1635 q1636 hco (by decide) hy_J15_equals) (fun u6 M7 hq => ?_) (fun E q M9 hx => kr_out O hx)
    replace h := hq
    clear hq
    refine kr_if_eq (tgt := 61) O dX7_clause_56 rfl (fun hc => ?_) (fun hc => ?_)
    · replace h := h.1 hc
      refine kr_sub [2, 0] rfl ?_
      exact cj_X7_clause_61 O  h
    · replace h := h.2 hc
      refine kr_iconst O dX7_clause_59 (v := (1 : Int32)) (by decide) ?_
      refine kr_istore_n O dX7_clause_60 rfl (Nat.le_of_ble_eq_true rfl) rfl rfl ?_
      refine kr_sub [2, 0] rfl ?_
      exact cj_X7_clause_61 O  h
  refine kr_lookup (tgt := 61) O dX7_clause_8 (by decide) (kt_lk2 hs0 hs1) rfl ?_
  replace h := h.2.2 hs0 hs1
  refine kr_sub [2, 0] rfl ?_
  exact cj_X7_clause_61 O  h
def vc_J13_init (w : kt_W) (gr : kt_g × kt_M) (d : Nat) (P : Option Value → kt_M → Prop) (X : String → Nat → kt_M → Prop) (a0 : Nat) (v1 : Int32) (M : kt_M) : Prop :=
  
    (((1 : Int32) = 0 → 
    kt_Ca w gr d yJ16_newBytesFor kc_J16_newBytesFor [.int v1] M (kt_pR fun p1 M2 => kt_hf gr M2 a0 110 ∧ ∀ M3, M3 = kt_pf M2 a0 110 (va_rf p1) → kt_hf gr M3 a0 111 ∧ ∀ M4, M4 = kt_pf M3 a0 111 (.int (1 : Int32)) → P none M4) X) ∧
    (¬ (1 : Int32) = 0 → ∃ n5, v1 = nI n5 ∧ n5 < 2 ^ 31 ∧ kt_fits w M n5 ∧ ∃ t6, ∀ M7, M7 = kt_new M n5 (t6 + 2, .inl (2, kt_z 2 n5)) → kt_hf gr M7 a0 110 ∧ ∀ M8, M8 = kt_pf M7 a0 110 (va_rf (some M.1)) → kt_hf gr M8 a0 111 ∧ ∀ M9, M9 = kt_pf M8 a0 111 (.int (0 : Int32)) → P none M9))
theorem ce_J13_init {w : kt_W} {g : kt_g} {d : Nat} {P : Option Value → kt_M → Prop} {X : String → Nat → kt_M → Prop} {a0 : Nat} {v1 : Int32} {M : kt_M} (h : vc_J13_init w (g, M) d P X a0 v1 M) : kt_Sp w g (d + 1) yJ13_init kc_J13_init [va_rf (some a0), .int v1] M P X := by
  refine kt_of (L0 := [(0, va_rf (some a0)), (1, .int v1)]) (by decide +kernel) (Nat.le_of_ble_eq_true rfl) rfl fun x O => ?_
  replace O : kt_O w x (g, M) (d + 1) cJ13_init "java/lang/AbstractStringBuilder" 2 ("<init>", "(I)V") (Option.none : Option Jvm.ClassFile.FieldType) [] := O
  unfold vc_J13_init at h
  refine kr_aload_n O dJ13_init_0 rfl 0 rfl ?_
  refine kr_objinit O dJ13_init_1 q1049 q173 q174 (Nat.le_of_ble_eq_true rfl) ?_
  refine kr_getsI O dJ13_init_4 q1050 (kt_inI 0 rfl) ?_
  refine kr_if_eq (tgt := 25) O dJ13_init_7 rfl (fun hc => ?_) (fun hc => ?_)
  · replace h := h.1 hc
    refine kr_aload_n O dJ13_init_25 rfl 0 rfl ?_
    refine kr_iload_n O dJ13_init_26 rfl 1 rfl ?_
    refine kr_caR (rest := [va_rf (some a0)]) O cd_J16_newBytesFor h (Nat.le_of_ble_eq_true rfl) (fun ls _ => kt_ivS O dJ13_init_27 cd_J16_newBytesFor in_J16_newBytesFor q1052 q1053 hy_J16_newBytesFor) (fun p1 M2 hq => ?_) (fun E q M9 hx => kr_out O hx)
    replace h := hq
    clear hq
    obtain ⟨hw, h⟩ := h
    refine kr_putf O dJ13_init_30 fs_J13_15 (Or.inl rfl) (kt_ok_ra _ rfl) hw (kr_nmM fun M3 hM3 => ?_)
    replace h := h M3 hM3
    refine kr_aload_n O dJ13_init_33 rfl 0 rfl ?_
    refine kr_iconst O dJ13_init_34 (v := (1 : Int32)) (by decide) ?_
    obtain ⟨hw, h⟩ := h
    refine kr_putf O dJ13_init_35 fs_J13_22 (Or.inl rfl) ⟨by decide, by decide⟩ hw (kr_nmM fun M4 hM4 => ?_)
    replace h := h M4 hM4
    exact kr_vret O dJ13_init_38 h
  · replace h := h.2 hc
    refine kr_aload_n O dJ13_init_10 rfl 0 rfl ?_
    refine kr_iload_n O dJ13_init_11 rfl 1 rfl ?_
    obtain ⟨n5, hn, hl, hf, t6, h⟩ := h
    refine kr_newarr t6 2 O dJ13_init_12 (by decide) rfl q236 hn hl hf (kr_nmM fun M7 hM7 => ?_)
    replace h := h M7 hM7
    obtain ⟨hw, h⟩ := h
    refine kr_putf O dJ13_init_14 fs_J13_15 (Or.inl rfl) (kt_ok_ra _ rfl) hw (kr_nmM fun M8 hM8 => ?_)
    replace h := h M8 hM8
    refine kr_aload_n O dJ13_init_17 rfl 0 rfl ?_
    refine kr_iconst O dJ13_init_18 (v := (0 : Int32)) (by decide) ?_
    obtain ⟨hw, h⟩ := h
    refine kr_putf O dJ13_init_19 fs_J13_22 (Or.inl rfl) ⟨by decide, by decide⟩ hw (kr_nmM fun M9 hM9 => ?_)
    replace h := h M9 hM9
    refine kr_goto (tgt := 38) O dJ13_init_22 rfl ?_
    exact kr_vret O dJ13_init_38 h
def vc_J13_ensureCapacityInternal (w : kt_W) (gr : kt_g × kt_M) (d : Nat) (P : Option Value → kt_M → Prop) (X : String → Nat → kt_M → Prop) (a0 : Nat) (v1 : Int32) (M : kt_M) : Prop :=
  ∃ p1, kt_gf M a0 110 = some (va_rf p1) ∧ ∃ b2, p1 = some b2 ∧ ∃ n3, kt_len M b2 = some n3 ∧ ∃ u4, kt_gf M a0 111 = some (.int u4) ∧ 
    (((v1 - ((nI n3) >>> (u4 &&& 31))) ≤ 0 → P none M) ∧
    (¬ (v1 - ((nI n3) >>> (u4 &&& 31))) ≤ 0 → ∃ p5, kt_gf M a0 110 = some (va_rf p5) ∧ (kt_co M a0 = some 19) ∧ 
    kt_Ca w gr d yJ13_newCapacity kc_J13_newCapacity [va_rf (some a0), .int v1] M (kt_pI fun u6 M7 => ∃ u8, kt_gf M7 a0 111 = some (.int u8) ∧ 
    kt_Ca w gr d yJ8_copyOf_4 kc_J8_copyOf_4 [va_rf p5, .int (u6 <<< (u8 &&& 31))] M7 (kt_pR fun p9 M10 => kt_hf gr M10 a0 110 ∧ ∀ M11, M11 = kt_pf M10 a0 110 (va_rf p9) → P none M11) X) X))
theorem ce_J13_ensureCapacityInternal {w : kt_W} {g : kt_g} {d : Nat} {P : Option Value → kt_M → Prop} {X : String → Nat → kt_M → Prop} {a0 : Nat} {v1 : Int32} {M : kt_M} (h : vc_J13_ensureCapacityInternal w (g, M) d P X a0 v1 M) : kt_Sp w g (d + 1) yJ13_ensureCapacityInternal kc_J13_ensureCapacityInternal [va_rf (some a0), .int v1] M P X := by
  refine kt_of (L0 := [(0, va_rf (some a0)), (1, .int v1)]) (by decide +kernel) (Nat.le_of_ble_eq_true rfl) rfl fun x O => ?_
  replace O : kt_O w x (g, M) (d + 1) cJ13_ensureCapacityInternal "java/lang/AbstractStringBuilder" 3 ("ensureCapacityInternal", "(I)V") (Option.none : Option Jvm.ClassFile.FieldType) [] := O
  unfold vc_J13_ensureCapacityInternal at h
  refine kr_aload_n O dJ13_ensureCapacityInternal_0 rfl 0 rfl ?_
  obtain ⟨p1, ep1, h⟩ := h
  refine kr_getf O dJ13_ensureCapacityInternal_1 fs_J13_15 ep1 ?_
  obtain ⟨b2, rfl, h⟩ := h
  obtain ⟨n3, en3, h⟩ := h
  refine kr_alen O dJ13_ensureCapacityInternal_4 en3 ?_
  refine kr_aload_n O dJ13_ensureCapacityInternal_5 rfl 0 rfl ?_
  obtain ⟨u4, eu4, h⟩ := h
  refine kr_getf O dJ13_ensureCapacityInternal_6 fs_J13_22 eu4 ?_
  refine kr_ishr O dJ13_ensureCapacityInternal_9 ?_
  refine kr_istore_n O dJ13_ensureCapacityInternal_10 rfl (Nat.le_of_ble_eq_true rfl) rfl rfl ?_
  refine kr_iload_n O dJ13_ensureCapacityInternal_11 rfl 2 rfl ?_
  refine kr_iload_n O dJ13_ensureCapacityInternal_12 rfl 0 rfl ?_
  refine kr_isub O dJ13_ensureCapacityInternal_13 ?_
  refine kr_if_le (tgt := 38) O dJ13_ensureCapacityInternal_14 rfl (fun hc => ?_) (fun hc => ?_)
  · replace h := h.1 hc
    exact kr_vret O dJ13_ensureCapacityInternal_38 h
  · replace h := h.2 hc
    refine kr_aload_n O dJ13_ensureCapacityInternal_17 rfl 1 rfl ?_
    refine kr_aload_n O dJ13_ensureCapacityInternal_18 rfl 1 rfl ?_
    obtain ⟨p5, ep5, h⟩ := h
    refine kr_getf O dJ13_ensureCapacityInternal_19 fs_J13_15 ep5 ?_
    refine kr_aload_n O dJ13_ensureCapacityInternal_22 rfl 1 rfl ?_
    refine kr_iload_n O dJ13_ensureCapacityInternal_23 rfl 2 rfl ?_
    obtain ⟨hco, h⟩ := h
    refine kr_caI (rest := [va_rf p5, va_rf (some a0)]) O cd_J13_newCapacity h (Nat.le_of_ble_eq_true rfl) (fun ls _ => kt_ivP (ci := 19) O dJ13_ensureCapacityInternal_24 cd_J13_newCapacity in_J13_newCapacity (Or.inl q1088) q1090 q1089 q3010 hco (by decide) hy_J13_newCapacity) (fun u6 M7 hq => ?_) (fun E q M9 hx => kr_out O hx)
    replace h := hq
    clear hq
    refine kr_aload_n O dJ13_ensureCapacityInternal_27 rfl 1 rfl ?_
    obtain ⟨u8, eu8, h⟩ := h
    refine kr_getf O dJ13_ensureCapacityInternal_28 fs_J13_22 eu8 ?_
    refine kr_ishl O dJ13_ensureCapacityInternal_31 ?_
    refine kr_caR (rest := [va_rf (some a0)]) O cd_J8_copyOf_4 h (Nat.le_of_ble_eq_true rfl) (fun ls _ => kt_ivS O dJ13_ensureCapacityInternal_32 cd_J8_copyOf_4 in_J8_copyOf_4 q1094 q1095 hy_J8_copyOf_4) (fun p9 M10 hq => ?_) (fun E q M9 hx => kr_out O hx)
    replace h := hq
    clear hq
    obtain ⟨hw, h⟩ := h
    refine kr_putf O dJ13_ensureCapacityInternal_35 fs_J13_15 (Or.inl rfl) (kt_ok_ra _ rfl) hw (kr_nmM fun M11 hM11 => ?_)
    replace h := h M11 hM11
    exact kr_vret O dJ13_ensureCapacityInternal_38 h
def vc_J13_newCapacity (w : kt_W) (gr : kt_g × kt_M) (d : Nat) (P : Option Value → kt_M → Prop) (X : String → Nat → kt_M → Prop) (a0 : Nat) (v1 : Int32) (M : kt_M) : Prop :=
  ∃ p1, kt_gf M a0 110 = some (va_rf p1) ∧ ∃ b2, p1 = some b2 ∧ ∃ n3, kt_len M b2 = some n3 ∧ ∃ u4, kt_gf M a0 111 = some (.int u4) ∧ ∃ u5, kt_gf M a0 111 = some (.int u5) ∧ 
  kt_Ca w gr d yJ6_newLength kc_J6_newLength [.int (nI n3), .int ((v1 <<< (u4 &&& 31)) - (nI n3)), .int ((nI n3) + ((2 : Int32) <<< (u5 &&& 31)))] M (kt_pI fun u6 M7 => 
    ((¬ u6 = (2147483647 : Int32) → ∃ u8, kt_gf M7 a0 111 = some (.int u8) ∧ P (some (.int (u6 >>> (u8 &&& 31)))) M7) ∧
    (u6 = (2147483647 : Int32) → False))) X
theorem ce_J13_newCapacity {w : kt_W} {g : kt_g} {d : Nat} {P : Option Value → kt_M → Prop} {X : String → Nat → kt_M → Prop} {a0 : Nat} {v1 : Int32} {M : kt_M} (h : vc_J13_newCapacity w (g, M) d P X a0 v1 M) : kt_Sp w g (d + 1) yJ13_newCapacity kc_J13_newCapacity [va_rf (some a0), .int v1] M P X := by
  refine kt_of (L0 := [(0, va_rf (some a0)), (1, .int v1)]) (by decide +kernel) (Nat.le_of_ble_eq_true rfl) rfl fun x O => ?_
  replace O : kt_O w x (g, M) (d + 1) cJ13_newCapacity "java/lang/AbstractStringBuilder" 6 ("newCapacity", "(I)I") (Option.some Jvm.ClassFile.FieldType.int) [] := O
  unfold vc_J13_newCapacity at h
  refine kr_aload_n O dJ13_newCapacity_0 rfl 0 rfl ?_
  obtain ⟨p1, ep1, h⟩ := h
  refine kr_getf O dJ13_newCapacity_1 fs_J13_15 ep1 ?_
  obtain ⟨b2, rfl, h⟩ := h
  obtain ⟨n3, en3, h⟩ := h
  refine kr_alen O dJ13_newCapacity_4 en3 ?_
  refine kr_istore_n O dJ13_newCapacity_5 rfl (Nat.le_of_ble_eq_true rfl) rfl rfl ?_
  refine kr_iload_n O dJ13_newCapacity_6 rfl 2 rfl ?_
  refine kr_aload_n O dJ13_newCapacity_7 rfl 1 rfl ?_
  obtain ⟨u4, eu4, h⟩ := h
  refine kr_getf O dJ13_newCapacity_8 fs_J13_22 eu4 ?_
  refine kr_ishl O dJ13_newCapacity_11 ?_
  refine kr_istore_n O dJ13_newCapacity_12 rfl (Nat.le_of_ble_eq_true rfl) rfl rfl ?_
  refine kr_iload_n O dJ13_newCapacity_13 rfl 0 rfl ?_
  refine kr_iload_n O dJ13_newCapacity_14 rfl 1 rfl ?_
  refine kr_isub O dJ13_newCapacity_15 ?_
  refine kr_istore O dJ13_newCapacity_16 (Nat.le_of_ble_eq_true rfl) rfl rfl ?_
  refine kr_iload_n O dJ13_newCapacity_18 rfl 2 rfl ?_
  refine kr_iload O dJ13_newCapacity_19 0 rfl ?_
  refine kr_iload_n O dJ13_newCapacity_21 rfl 2 rfl ?_
  refine kr_iconst O dJ13_newCapacity_22 (v := (2 : Int32)) (by decide) ?_
  refine kr_aload_n O dJ13_newCapacity_23 rfl 3 rfl ?_
  obtain ⟨u5, eu5, h⟩ := h
  refine kr_getf O dJ13_newCapacity_24 fs_J13_22 eu5 ?_
  refine kr_ishl O dJ13_newCapacity_27 ?_
  refine kr_iadd O dJ13_newCapacity_28 ?_
  refine kr_caI (rest := []) O cd_J6_newLength h (Nat.le_of_ble_eq_true rfl) (fun ls _ => kt_ivS O dJ13_newCapacity_29 cd_J6_newLength in_J6_newLength q1092 q364 hy_J6_newLength) (fun u6 M7 hq => ?_) (fun E q M9 hx => kr_out O hx)
  replace h := hq
  clear hq
  refine kr_istore O dJ13_newCapacity_32 (Nat.le_of_ble_eq_true rfl) rfl rfl ?_
  refine kr_iload O dJ13_newCapacity_34 0 rfl ?_
  refine kr_ldc O dJ13_newCapacity_36 q1093 ?_
  refine kr_icmp_ne (tgt := 51) O dJ13_newCapacity_38 rfl (fun hc => ?_) (fun hc => ?_)
  · replace h := h.1 hc
    refine kr_iload O dJ13_newCapacity_51 0 rfl ?_
    refine kr_aload_n O dJ13_newCapacity_53 rfl 4 rfl ?_
    obtain ⟨u8, eu8, h⟩ := h
    refine kr_getf O dJ13_newCapacity_54 fs_J13_22 eu8 ?_
    refine kr_ishr O dJ13_newCapacity_57 ?_
    exact kr_iret O dJ13_newCapacity_58 rfl h
  · replace h := h.2 hc
    exact h.elim
def vc_J13_isLatin1 (w : kt_W) (gr : kt_g × kt_M) (d : Nat) (P : Option Value → kt_M → Prop) (X : String → Nat → kt_M → Prop) (a0 : Nat) (M : kt_M) : Prop :=
  
    (((1 : Int32) = 0 → P (some (.int (0 : Int32))) M) ∧
    (¬ (1 : Int32) = 0 → ∃ u1, kt_gf M a0 111 = some (.int u1) ∧ 
      ((¬ u1 = 0 → P (some (.int (0 : Int32))) M) ∧
      (u1 = 0 → P (some (.int (1 : Int32))) M))))
theorem ce_J13_isLatin1 {w : kt_W} {g : kt_g} {d : Nat} {P : Option Value → kt_M → Prop} {X : String → Nat → kt_M → Prop} {a0 : Nat} {M : kt_M} (h : vc_J13_isLatin1 w (g, M) d P X a0 M) : kt_Sp w g (d + 1) yJ13_isLatin1 kc_J13_isLatin1 [va_rf (some a0)] M P X := by
  refine kt_of (L0 := [(0, va_rf (some a0))]) (by decide +kernel) (Nat.le_of_ble_eq_true rfl) rfl fun x O => ?_
  replace O : kt_O w x (g, M) (d + 1) cJ13_isLatin1 "java/lang/AbstractStringBuilder" 1 ("isLatin1", "()Z") (Option.some Jvm.ClassFile.FieldType.boolean) [] := O
  unfold vc_J13_isLatin1 at h
  refine kr_getsI O dJ13_isLatin1_0 q1050 (kt_inI 0 rfl) ?_
  refine kr_if_eq (tgt := 17) O dJ13_isLatin1_3 rfl (fun hc => ?_) (fun hc => ?_)
  · replace h := h.1 hc
    refine kr_iconst O dJ13_isLatin1_17 (v := (0 : Int32)) (by decide) ?_
    exact kr_iret O dJ13_isLatin1_18 (by decide) h
  · replace h := h.2 hc
    refine kr_aload_n O dJ13_isLatin1_6 rfl 0 rfl ?_
    obtain ⟨u1, eu1, h⟩ := h
    refine kr_getf O dJ13_isLatin1_7 fs_J13_22 eu1 ?_
    refine kr_if_ne (tgt := 17) O dJ13_isLatin1_10 rfl (fun hc => ?_) (fun hc => ?_)
    · replace h := h.1 hc
      refine kr_iconst O dJ13_isLatin1_17 (v := (0 : Int32)) (by decide) ?_
      exact kr_iret O dJ13_isLatin1_18 (by decide) h
    · replace h := h.2 hc
      refine kr_iconst O dJ13_isLatin1_13 (v := (1 : Int32)) (by decide) ?_
      refine kr_goto (tgt := 18) O dJ13_isLatin1_14 rfl ?_
      exact kr_iret O dJ13_isLatin1_18 (by decide) h
def vc_J13_inflate (w : kt_W) (gr : kt_g × kt_M) (d : Nat) (P : Option Value → kt_M → Prop) (X : String → Nat → kt_M → Prop) (a0 : Nat) (M : kt_M) : Prop :=
  (kt_co M a0 = some 19) ∧ 
  kt_Ca w gr d yJ13_isLatin1 kc_J13_isLatin1 [va_rf (some a0)] M (kt_pI fun u1 M2 => 
    ((¬ u1 = 0 → ∃ p3, kt_gf M2 a0 110 = some (va_rf p3) ∧ ∃ b4, p3 = some b4 ∧ ∃ n5, kt_len M2 b4 = some n5 ∧ 
    kt_Ca w gr d yJ16_newBytesFor kc_J16_newBytesFor [.int (nI n5)] M2 (kt_pR fun p6 M7 => ∃ p8, kt_gf M7 a0 110 = some (va_rf p8) ∧ ∃ u9, kt_gf M7 a0 113 = some (.int u9) ∧ 
    kt_Ca w gr d yJ17_inflate kc_J17_inflate [va_rf p8, .int (0 : Int32), va_rf p6, .int (0 : Int32), .int u9] M7 (kt_pV fun M10 => kt_hf gr M10 a0 110 ∧ ∀ M11, M11 = kt_pf M10 a0 110 (va_rf p6) → kt_hf gr M11 a0 111 ∧ ∀ M12, M12 = kt_pf M11 a0 111 (.int (1 : Int32)) → P none M12) X) X) ∧
    (u1 = 0 → P none M2))) X
theorem ce_J13_inflate {w : kt_W} {g : kt_g} {d : Nat} {P : Option Value → kt_M → Prop} {X : String → Nat → kt_M → Prop} {a0 : Nat} {M : kt_M} (h : vc_J13_inflate w (g, M) d P X a0 M) : kt_Sp w g (d + 1) yJ13_inflate kc_J13_inflate [va_rf (some a0)] M P X := by
  refine kt_of (L0 := [(0, va_rf (some a0))]) (by decide +kernel) (Nat.le_of_ble_eq_true rfl) rfl fun x O => ?_
  replace O : kt_O w x (g, M) (d + 1) cJ13_inflate "java/lang/AbstractStringBuilder" 2 ("inflate", "()V") (Option.none : Option Jvm.ClassFile.FieldType) [] := O
  unfold vc_J13_inflate at h
  refine kr_aload_n O dJ13_inflate_0 rfl 0 rfl ?_
  obtain ⟨hco, h⟩ := h
  refine kr_caI (rest := []) O cd_J13_isLatin1 h (Nat.le_of_ble_eq_true rfl) (fun ls _ => kt_ivV (ci := 19) O dJ13_inflate_1 cd_J13_isLatin1 in_J13_isLatin1 (Or.inl q1102) q1103 q1105 hco (by decide) hy_J13_isLatin1) (fun u1 M2 hq => ?_) (fun E q M9 hx => kr_out O hx)
  replace h := hq
  clear hq
  refine kr_if_ne (tgt := 8) O dJ13_inflate_4 rfl (fun hc => ?_) (fun hc => ?_)
  · replace h := h.1 hc
    refine kr_aload_n O dJ13_inflate_8 rfl 0 rfl ?_
    obtain ⟨p3, ep3, h⟩ := h
    refine kr_getf O dJ13_inflate_9 fs_J13_15 ep3 ?_
    obtain ⟨b4, rfl, h⟩ := h
    obtain ⟨n5, en5, h⟩ := h
    refine kr_alen O dJ13_inflate_12 en5 ?_
    refine kr_caR (rest := []) O cd_J16_newBytesFor h (Nat.le_of_ble_eq_true rfl) (fun ls _ => kt_ivS O dJ13_inflate_13 cd_J16_newBytesFor in_J16_newBytesFor q1052 q1053 hy_J16_newBytesFor) (fun p6 M7 hq => ?_) (fun E q M9 hx => kr_out O hx)
    replace h := hq
    clear hq
    refine kr_astore_n O dJ13_inflate_16 rfl (Nat.le_of_ble_eq_true rfl) rfl rfl ?_
    refine kr_aload_n O dJ13_inflate_17 rfl 1 rfl ?_
    obtain ⟨p8, ep8, h⟩ := h
    refine kr_getf O dJ13_inflate_18 fs_J13_15 ep8 ?_
    refine kr_iconst O dJ13_inflate_21 (v := (0 : Int32)) (by decide) ?_
    refine kr_aload_n O dJ13_inflate_22 rfl 0 rfl ?_
    refine kr_iconst O dJ13_inflate_23 (v := (0 : Int32)) (by decide) ?_
    refine kr_aload_n O dJ13_inflate_24 rfl 1 rfl ?_
    obtain ⟨u9, eu9, h⟩ := h
    refine kr_getf O dJ13_inflate_25 fs_J13_79 eu9 ?_
    refine kr_caV (rest := []) O cd_J17_inflate h (Nat.le_of_ble_eq_true rfl) (fun ls _ => kt_ivS O dJ13_inflate_28 cd_J17_inflate in_J17_inflate q1155 q1156 hy_J17_inflate) (fun M10 hq => ?_) (fun E q M9 hx => kr_out O hx)
    replace h := hq
    clear hq
    refine kr_aload_n O dJ13_inflate_31 rfl 1 rfl ?_
    refine kr_aload_n O dJ13_inflate_32 rfl 0 rfl ?_
    obtain ⟨hw, h⟩ := h
    refine kr_putf O dJ13_inflate_33 fs_J13_15 (Or.inl rfl) (kt_ok_ra _ rfl) hw (kr_nmM fun M11 hM11 => ?_)
    replace h := h M11 hM11
    refine kr_aload_n O dJ13_inflate_36 rfl 1 rfl ?_
    refine kr_iconst O dJ13_inflate_37 (v := (1 : Int32)) (by decide) ?_
    obtain ⟨hw, h⟩ := h
    refine kr_putf O dJ13_inflate_38 fs_J13_22 (Or.inl rfl) ⟨by decide, by decide⟩ hw (kr_nmM fun M12 hM12 => ?_)
    replace h := h M12 hM12
    exact kr_vret O dJ13_inflate_41 h
  · replace h := h.2 hc
    exact kr_vret O dJ13_inflate_7 h
def vc_J13_getValue (w : kt_W) (gr : kt_g × kt_M) (d : Nat) (P : Option Value → kt_M → Prop) (X : String → Nat → kt_M → Prop) (a0 : Nat) (M : kt_M) : Prop :=
  ∃ p1, kt_gf M a0 110 = some (va_rf p1) ∧ P (some (va_rf p1)) M
theorem ce_J13_getValue {w : kt_W} {g : kt_g} {d : Nat} {P : Option Value → kt_M → Prop} {X : String → Nat → kt_M → Prop} {a0 : Nat} {M : kt_M} (h : vc_J13_getValue w (g, M) d P X a0 M) : kt_Sp w g (d + 1) yJ13_getValue kc_J13_getValue [va_rf (some a0)] M P X := by
  refine kt_of (L0 := [(0, va_rf (some a0))]) (by decide +kernel) (Nat.le_of_ble_eq_true rfl) rfl fun x O => ?_
  replace O : kt_O w x (g, M) (d + 1) cJ13_getValue "java/lang/AbstractStringBuilder" 1 ("getValue", "()[B") (Option.some (Jvm.ClassFile.FieldType.array Jvm.ClassFile.FieldType.byte)) [] := O
  unfold vc_J13_getValue at h
  refine kr_aload_n O dJ13_getValue_0 rfl 0 rfl ?_
  obtain ⟨p1, ep1, h⟩ := h
  refine kr_getf O dJ13_getValue_1 fs_J13_15 ep1 ?_
  exact kr_aret O dJ13_getValue_4 (by first | exact Or.inl ⟨_, rfl⟩ | exact Or.inr ⟨_, rfl⟩) h
def vc_J13_length (w : kt_W) (gr : kt_g × kt_M) (d : Nat) (P : Option Value → kt_M → Prop) (X : String → Nat → kt_M → Prop) (a0 : Nat) (M : kt_M) : Prop :=
  ∃ u1, kt_gf M a0 113 = some (.int u1) ∧ P (some (.int u1)) M
theorem ce_J13_length {w : kt_W} {g : kt_g} {d : Nat} {P : Option Value → kt_M → Prop} {X : String → Nat → kt_M → Prop} {a0 : Nat} {M : kt_M} (h : vc_J13_length w (g, M) d P X a0 M) : kt_Sp w g (d + 1) yJ13_length kc_J13_length [va_rf (some a0)] M P X := by
  refine kt_of (L0 := [(0, va_rf (some a0))]) (by decide +kernel) (Nat.le_of_ble_eq_true rfl) rfl fun x O => ?_
  replace O : kt_O w x (g, M) (d + 1) cJ13_length "java/lang/AbstractStringBuilder" 1 ("length", "()I") (Option.some Jvm.ClassFile.FieldType.int) [] := O
  unfold vc_J13_length at h
  refine kr_aload_n O dJ13_length_0 rfl 0 rfl ?_
  obtain ⟨u1, eu1, h⟩ := h
  refine kr_getf O dJ13_length_1 fs_J13_79 eu1 ?_
  exact kr_iret O dJ13_length_4 rfl h
def vc_J13_append_2_48 (w : kt_W) (gr : kt_g × kt_M) (d : Nat) (P : Option Value → kt_M → Prop) (X : String → Nat → kt_M → Prop)  (a0 : Nat) (v3 : Int32) (M : kt_M) : Prop :=
  kt_hf gr M a0 113 ∧ ∀ M1, M1 = kt_pf M a0 113 (.int v3) → P (some (va_rf (some a0))) M1
theorem cj_J13_append_2_48 {w : kt_W} {x : kt_X} {gr : kt_g × kt_M} {d : Nat} {P : Option Value → kt_M → Prop} {X : String → Nat → kt_M → Prop}  {a0 : Nat} {v3 : Int32} {M : kt_M} (O : kt_O w x gr (d + 1) cJ13_append_2 "java/lang/AbstractStringBuilder" 4 ("append", "(I)Ljava/lang/AbstractStringBuilder;") (Option.some (Jvm.ClassFile.FieldType.object "java/lang/AbstractStringBuilder")) [])  (h : vc_J13_append_2_48 w gr d P X  a0 v3 M) : kt_S w x 4 (kt_E w x P X) M 48 [(0, va_rf (some a0)), (3, .int v3)] [] := by
  unfold vc_J13_append_2_48 at h
  refine kr_aload_n O dJ13_append_2_48 rfl 0 rfl ?_
  refine kr_iload_n O dJ13_append_2_49 rfl 1 rfl ?_
  obtain ⟨hw, h⟩ := h
  refine kr_putf O dJ13_append_2_50 fs_J13_79 (Or.inl rfl) ⟨rfl, rfl⟩ hw (kr_nmM fun M1 hM1 => ?_)
  replace h := h M1 hM1
  refine kr_aload_n O dJ13_append_2_53 rfl 0 rfl ?_
  exact kr_aret O dJ13_append_2_54 (by first | exact Or.inl ⟨_, rfl⟩ | exact Or.inr ⟨_, rfl⟩) h
def vc_J13_append_2 (w : kt_W) (gr : kt_g × kt_M) (d : Nat) (P : Option Value → kt_M → Prop) (X : String → Nat → kt_M → Prop) (a0 : Nat) (v1 : Int32) (M : kt_M) : Prop :=
  ∃ u1, kt_gf M a0 113 = some (.int u1) ∧ 
  kt_Ca w gr d yJ19_stringSize kc_J19_stringSize [.int v1] M (kt_pI fun u2 M3 => (kt_co M3 a0 = some 19) ∧ 
  kt_Ca w gr d yJ13_ensureCapacityInternal kc_J13_ensureCapacityInternal [va_rf (some a0), .int (u1 + u2)] M3 (kt_pV fun M4 => (kt_co M4 a0 = some 19) ∧ 
  kt_Ca w gr d yJ13_isLatin1 kc_J13_isLatin1 [va_rf (some a0)] M4 (kt_pI fun u5 M6 => 
    ((u5 = 0 → ∃ p7, kt_gf M6 a0 110 = some (va_rf p7) ∧ 
    kt_Ca w gr d yJ16_getChars kc_J16_getChars [.int v1, .int u1, .int (u1 + u2), va_rf p7] M6 (kt_pI fun u8 M9 => vc_J13_append_2_48 w gr d P X  a0 (u1 + u2) M9) X) ∧
    (¬ u5 = 0 → ∃ p10, kt_gf M6 a0 110 = some (va_rf p10) ∧ 
    kt_Ca w gr d yJ19_getChars kc_J19_getChars [.int v1, .int (u1 + u2), va_rf p10] M6 (kt_pI fun u11 M12 => vc_J13_append_2_48 w gr d P X  a0 (u1 + u2) M12) X))) X) X) X
theorem ce_J13_append_2 {w : kt_W} {g : kt_g} {d : Nat} {P : Option Value → kt_M → Prop} {X : String → Nat → kt_M → Prop} {a0 : Nat} {v1 : Int32} {M : kt_M} (h : vc_J13_append_2 w (g, M) d P X a0 v1 M) : kt_Sp w g (d + 1) yJ13_append_2 kc_J13_append_2 [va_rf (some a0), .int v1] M P X := by
  refine kt_of (L0 := [(0, va_rf (some a0)), (1, .int v1)]) (by decide +kernel) (Nat.le_of_ble_eq_true rfl) rfl fun x O => ?_
  replace O : kt_O w x (g, M) (d + 1) cJ13_append_2 "java/lang/AbstractStringBuilder" 4 ("append", "(I)Ljava/lang/AbstractStringBuilder;") (Option.some (Jvm.ClassFile.FieldType.object "java/lang/AbstractStringBuilder")) [] := O
  unfold vc_J13_append_2 at h
  refine kr_aload_n O dJ13_append_2_0 rfl 0 rfl ?_
  obtain ⟨u1, eu1, h⟩ := h
  refine kr_getf O dJ13_append_2_1 fs_J13_79 eu1 ?_
  refine kr_istore_n O dJ13_append_2_4 rfl (Nat.le_of_ble_eq_true rfl) rfl rfl ?_
  refine kr_iload_n O dJ13_append_2_5 rfl 0 rfl ?_
  refine kr_iload_n O dJ13_append_2_6 rfl 2 rfl ?_
  refine kr_caI (rest := [.int u1]) O cd_J19_stringSize h (Nat.le_of_ble_eq_true rfl) (fun ls _ => kt_ivS O dJ13_append_2_7 cd_J19_stringSize in_J19_stringSize q1231 q1232 hy_J19_stringSize) (fun u2 M3 hq => ?_) (fun E q M9 hx => kr_out O hx)
  replace h := hq
  clear hq
  refine kr_iadd O dJ13_append_2_10 ?_
  refine kr_istore_n O dJ13_append_2_11 rfl (Nat.le_of_ble_eq_true rfl) rfl rfl ?_
  refine kr_aload_n O dJ13_append_2_12 rfl 2 rfl ?_
  refine kr_iload_n O dJ13_append_2_13 rfl 0 rfl ?_
  obtain ⟨hco, h⟩ := h
  refine kr_caV (rest := []) O cd_J13_ensureCapacityInternal h (Nat.le_of_ble_eq_true rfl) (fun ls _ => kt_ivP (ci := 19) O dJ13_append_2_14 cd_J13_ensureCapacityInternal in_J13_ensureCapacityInternal (Or.inl q1084) q1086 q1085 q3009 hco (by decide) hy_J13_ensureCapacityInternal) (fun M4 hq => ?_) (fun E q M9 hx => kr_out O hx)
  replace h := hq
  clear hq
  refine kr_aload_n O dJ13_append_2_17 rfl 2 rfl ?_
  obtain ⟨hco, h⟩ := h
  refine kr_caI (rest := []) O cd_J13_isLatin1 h (Nat.le_of_ble_eq_true rfl) (fun ls _ => kt_ivV (ci := 19) O dJ13_append_2_18 cd_J13_isLatin1 in_J13_isLatin1 (Or.inl q1102) q1103 q1105 hco (by decide) hy_J13_isLatin1) (fun u5 M6 hq => ?_) (fun E q M9 hx => kr_out O hx)
  replace h := hq
  clear hq
  refine kr_if_eq (tgt := 37) O dJ13_append_2_21 rfl (fun hc => ?_) (fun hc => ?_)
  · replace h := h.1 hc
    refine kr_iload_n O dJ13_append_2_37 rfl 3 rfl ?_
    refine kr_iload_n O dJ13_append_2_38 rfl 1 rfl ?_
    refine kr_iload_n O dJ13_append_2_39 rfl 0 rfl ?_
    refine kr_aload_n O dJ13_append_2_40 rfl 2 rfl ?_
    obtain ⟨p7, ep7, h⟩ := h
    refine kr_getf O dJ13_append_2_41 fs_J13_15 ep7 ?_
    refine kr_caI (rest := []) O cd_J16_getChars h (Nat.le_of_ble_eq_true rfl) (fun ls _ => kt_ivS O dJ13_append_2_44 cd_J16_getChars in_J16_getChars q1241 q1242 hy_J16_getChars) (fun u8 M9 hq => ?_) (fun E q M9 hx => kr_out O hx)
    replace h := hq
    clear hq
    refine kr_pop O dJ13_append_2_47 rfl ?_
    refine kr_sub [2, 0] rfl ?_
    exact cj_J13_append_2_48 O  h
  · replace h := h.2 hc
    refine kr_iload_n O dJ13_append_2_24 rfl 3 rfl ?_
    refine kr_iload_n O dJ13_append_2_25 rfl 0 rfl ?_
    refine kr_aload_n O dJ13_append_2_26 rfl 2 rfl ?_
    obtain ⟨p10, ep10, h⟩ := h
    refine kr_getf O dJ13_append_2_27 fs_J13_15 ep10 ?_
    refine kr_caI (rest := []) O cd_J19_getChars h (Nat.le_of_ble_eq_true rfl) (fun ls _ => kt_ivS O dJ13_append_2_30 cd_J19_getChars in_J19_getChars q1234 q1235 hy_J19_getChars) (fun u11 M12 hq => ?_) (fun E q M9 hx => kr_out O hx)
    replace h := hq
    clear hq
    refine kr_pop O dJ13_append_2_33 rfl ?_
    refine kr_goto (tgt := 48) O dJ13_append_2_34 rfl ?_
    refine kr_sub [2, 0] rfl ?_
    exact cj_J13_append_2_48 O  h
def vc_J13_setLength_76 (w : kt_W) (gr : kt_g × kt_M) (d : Nat) (P : Option Value → kt_M → Prop) (X : String → Nat → kt_M → Prop)  (a0 : Nat) (v1 : Int32) (M : kt_M) : Prop :=
  kt_hf gr M a0 113 ∧ ∀ M1, M1 = kt_pf M a0 113 (.int v1) → P none M1
theorem cj_J13_setLength_76 {w : kt_W} {x : kt_X} {gr : kt_g × kt_M} {d : Nat} {P : Option Value → kt_M → Prop} {X : String → Nat → kt_M → Prop}  {a0 : Nat} {v1 : Int32} {M : kt_M} (O : kt_O w x gr (d + 1) cJ13_setLength "java/lang/AbstractStringBuilder" 2 ("setLength", "(I)V") (Option.none : Option Jvm.ClassFile.FieldType) [])  (h : vc_J13_setLength_76 w gr d P X  a0 v1 M) : kt_S w x 2 (kt_E w x P X) M 76 [(0, va_rf (some a0)), (1, .int v1)] [] := by
  unfold vc_J13_setLength_76 at h
  refine kr_aload_n O dJ13_setLength_76 rfl 0 rfl ?_
  refine kr_iload_n O dJ13_setLength_77 rfl 1 rfl ?_
  obtain ⟨hw, h⟩ := h
  refine kr_putf O dJ13_setLength_78 fs_J13_79 (Or.inl rfl) ⟨rfl, rfl⟩ hw (kr_nmM fun M1 hM1 => ?_)
  replace h := h M1 hM1
  exact kr_vret O dJ13_setLength_81 h
def vc_J13_setLength (w : kt_W) (gr : kt_g × kt_M) (d : Nat) (P : Option Value → kt_M → Prop) (X : String → Nat → kt_M → Prop) (a0 : Nat) (v1 : Int32) (M : kt_M) : Prop :=
  
    ((0 ≤ v1 → (kt_co M a0 = some 19) ∧ 
    kt_Ca w gr d yJ13_ensureCapacityInternal kc_J13_ensureCapacityInternal [va_rf (some a0), .int v1] M (kt_pV fun M1 => ∃ u2, kt_gf M1 a0 113 = some (.int u2) ∧ 
      ((v1 ≤ u2 → ∃ u3, kt_gf M1 a0 113 = some (.int u3) ∧ 
        ((u3 ≤ v1 → vc_J13_setLength_76 w gr d P X  a0 v1 M1) ∧
        (¬ u3 ≤ v1 → kt_hf gr M1 a0 112 ∧ ∀ M4, M4 = kt_pf M1 a0 112 (.int (1 : Int32)) → vc_J13_setLength_76 w gr d P X  a0 v1 M4))) ∧
      (¬ v1 ≤ u2 → (kt_co M1 a0 = some 19) ∧ 
      kt_Ca w gr d yJ13_isLatin1 kc_J13_isLatin1 [va_rf (some a0)] M1 (kt_pI fun u5 M6 => 
        ((u5 = 0 → ∃ p7, kt_gf M6 a0 110 = some (va_rf p7) ∧ ∃ u8, kt_gf M6 a0 113 = some (.int u8) ∧ 
        kt_Ca w gr d yJ16_fillNull kc_J16_fillNull [va_rf p7, .int u8, .int v1] M6 (kt_pV fun M9 => vc_J13_setLength_76 w gr d P X  a0 v1 M9) X) ∧
        (¬ u5 = 0 → ∃ p10, kt_gf M6 a0 110 = some (va_rf p10) ∧ ∃ u11, kt_gf M6 a0 113 = some (.int u11) ∧ 
        kt_Ca w gr d yJ17_fillNull kc_J17_fillNull [va_rf p10, .int u11, .int v1] M6 (kt_pV fun M12 => vc_J13_setLength_76 w gr d P X  a0 v1 M12) X))) X))) X) ∧
    (¬ 0 ≤ v1 → False))
theorem ce_J13_setLength {w : kt_W} {g : kt_g} {d : Nat} {P : Option Value → kt_M → Prop} {X : String → Nat → kt_M → Prop} {a0 : Nat} {v1 : Int32} {M : kt_M} (h : vc_J13_setLength w (g, M) d P X a0 v1 M) : kt_Sp w g (d + 1) yJ13_setLength kc_J13_setLength [va_rf (some a0), .int v1] M P X := by
  refine kt_of (L0 := [(0, va_rf (some a0)), (1, .int v1)]) (by decide +kernel) (Nat.le_of_ble_eq_true rfl) rfl fun x O => ?_
  replace O : kt_O w x (g, M) (d + 1) cJ13_setLength "java/lang/AbstractStringBuilder" 2 ("setLength", "(I)V") (Option.none : Option Jvm.ClassFile.FieldType) [] := O
  unfold vc_J13_setLength at h
  refine kr_iload_n O dJ13_setLength_0 rfl 1 rfl ?_
  refine kr_if_ge (tgt := 13) O dJ13_setLength_1 rfl (fun hc => ?_) (fun hc => ?_)
  · replace h := h.1 hc
    refine kr_aload_n O dJ13_setLength_13 rfl 0 rfl ?_
    refine kr_iload_n O dJ13_setLength_14 rfl 1 rfl ?_
    obtain ⟨hco, h⟩ := h
    refine kr_caV (rest := []) O cd_J13_ensureCapacityInternal h (Nat.le_of_ble_eq_true rfl) (fun ls _ => kt_ivP (ci := 19) O dJ13_setLength_15 cd_J13_ensureCapacityInternal in_J13_ensureCapacityInternal (Or.inl q1084) q1086 q1085 q3009 hco (by decide) hy_J13_ensureCapacityInternal) (fun M1 hq => ?_) (fun E q M9 hx => kr_out O hx)
    replace h := hq
    clear hq
    refine kr_aload_n O dJ13_setLength_18 rfl 0 rfl ?_
    obtain ⟨u2, eu2, h⟩ := h
    refine kr_getf O dJ13_setLength_19 fs_J13_79 eu2 ?_
    refine kr_iload_n O dJ13_setLength_22 rfl 1 rfl ?_
    refine kr_icmp_ge (tgt := 63) O dJ13_setLength_23 rfl (fun hc => ?_) (fun hc => ?_)
    · replace h := h.1 hc
      refine kr_aload_n O dJ13_setLength_63 rfl 0 rfl ?_
      obtain ⟨u3, eu3, h⟩ := h
      refine kr_getf O dJ13_setLength_64 fs_J13_79 eu3 ?_
      refine kr_iload_n O dJ13_setLength_67 rfl 1 rfl ?_
      refine kr_icmp_le (tgt := 76) O dJ13_setLength_68 rfl (fun hc => ?_) (fun hc => ?_)
      · replace h := h.1 hc
        exact cj_J13_setLength_76 O  h
      · replace h := h.2 hc
        refine kr_aload_n O dJ13_setLength_71 rfl 0 rfl ?_
        refine kr_iconst O dJ13_setLength_72 (v := (1 : Int32)) (by decide) ?_
        obtain ⟨hw, h⟩ := h
        refine kr_putf O dJ13_setLength_73 fs_J13_73 (Or.inl rfl) ⟨by decide, by decide⟩ hw (kr_nmM fun M4 hM4 => ?_)
        replace h := h M4 hM4
        exact cj_J13_setLength_76 O  h
    · replace h := h.2 hc
      refine kr_aload_n O dJ13_setLength_26 rfl 0 rfl ?_
      obtain ⟨hco, h⟩ := h
      refine kr_caI (rest := []) O cd_J13_isLatin1 h (Nat.le_of_ble_eq_true rfl) (fun ls _ => kt_ivV (ci := 19) O dJ13_setLength_27 cd_J13_isLatin1 in_J13_isLatin1 (Or.inl q1102) q1103 q1105 hco (by decide) hy_J13_isLatin1) (fun u5 M6 hq => ?_) (fun E q M9 hx => kr_out O hx)
      replace h := hq
      clear hq
      refine kr_if_eq (tgt := 48) O dJ13_setLength_30 rfl (fun hc => ?_) (fun hc => ?_)
      · replace h := h.1 hc
        refine kr_aload_n O dJ13_setLength_48 rfl 0 rfl ?_
        obtain ⟨p7, ep7, h⟩ := h
        refine kr_getf O dJ13_setLength_49 fs_J13_15 ep7 ?_
        refine kr_aload_n O dJ13_setLength_52 rfl 0 rfl ?_
        obtain ⟨u8, eu8, h⟩ := h
        refine kr_getf O dJ13_setLength_53 fs_J13_79 eu8 ?_
        refine kr_iload_n O dJ13_setLength_56 rfl 1 rfl ?_
        refine kr_caV (rest := []) O cd_J16_fillNull h (Nat.le_of_ble_eq_true rfl) (fun ls _ => kt_ivS O dJ13_setLength_57 cd_J16_fillNull in_J16_fillNull q1544 q1545 hy_J16_fillNull) (fun M9 hq => ?_) (fun E q M9 hx => kr_out O hx)
        replace h := hq
        clear hq
        refine kr_goto (tgt := 76) O dJ13_setLength_60 rfl ?_
        exact cj_J13_setLength_76 O  h
      · replace h := h.2 hc
        refine kr_aload_n O dJ13_setLength_33 rfl 0 rfl ?_
        obtain ⟨p10, ep10, h⟩ := h
        refine kr_getf O dJ13_setLength_34 fs_J13_15 ep10 ?_
        refine kr_aload_n O dJ13_setLength_37 rfl 0 rfl ?_
        obtain ⟨u11, eu11, h⟩ := h
        refine kr_getf O dJ13_setLength_38 fs_J13_79 eu11 ?_
        refine kr_iload_n O dJ13_setLength_41 rfl 1 rfl ?_
        refine kr_caV (rest := []) O cd_J17_fillNull h (Nat.le_of_ble_eq_true rfl) (fun ls _ => kt_ivS O dJ13_setLength_42 cd_J17_fillNull in_J17_fillNull q1532 q1533 hy_J17_fillNull) (fun M12 hq => ?_) (fun E q M9 hx => kr_out O hx)
        replace h := hq
        clear hq
        refine kr_goto (tgt := 76) O dJ13_setLength_45 rfl ?_
        exact cj_J13_setLength_76 O  h
  · replace h := h.2 hc
    exact h.elim
def vc_J13_append_3_56 (w : kt_W) (gr : kt_g × kt_M) (d : Nat) (P : Option Value → kt_M → Prop) (X : String → Nat → kt_M → Prop)  (a0 : Nat) (v1 : Int32) (M : kt_M) : Prop :=
  ∃ p1, kt_gf M a0 110 = some (va_rf p1) ∧ ∃ u2, kt_gf M a0 113 = some (.int u2) ∧ kt_hf gr M a0 113 ∧ ∀ M3, M3 = kt_pf M a0 113 (.int (u2 + (1 : Int32))) → 
  kt_Ca w gr d yJ16_putCharSB kc_J16_putCharSB [va_rf p1, .int u2, .int v1] M3 (kt_pV fun M4 => P (some (va_rf (some a0))) M4) X
theorem cj_J13_append_3_56 {w : kt_W} {x : kt_X} {gr : kt_g × kt_M} {d : Nat} {P : Option Value → kt_M → Prop} {X : String → Nat → kt_M → Prop}  {a0 : Nat} {v1 : Int32} {M : kt_M} (O : kt_O w x gr (d + 1) cJ13_append_3 "java/lang/AbstractStringBuilder" 2 ("append", "(C)Ljava/lang/AbstractStringBuilder;") (Option.some (Jvm.ClassFile.FieldType.object "java/lang/AbstractStringBuilder")) [])  (h : vc_J13_append_3_56 w gr d P X  a0 v1 M) : kt_S w x 2 (kt_E w x P X) M 56 [(0, va_rf (some a0)), (1, .int v1)] [] := by
  unfold vc_J13_append_3_56 at h
  refine kr_aload_n O dJ13_append_3_56 rfl 0 rfl ?_
  obtain ⟨p1, ep1, h⟩ := h
  refine kr_getf O dJ13_append_3_57 fs_J13_15 ep1 ?_
  refine kr_aload_n O dJ13_append_3_60 rfl 0 rfl ?_
  refine kr_dup O dJ13_append_3_61 (kt_nrf _) ?_
  obtain ⟨u2, eu2, h⟩ := h
  refine kr_getf O dJ13_append_3_62 fs_J13_79 eu2 ?_
  refine kr_dup_x1 O dJ13_append_3_65 rfl (kt_nrf _) ?_
  refine kr_iconst O dJ13_append_3_66 (v := (1 : Int32)) (by decide) ?_
  refine kr_iadd O dJ13_append_3_67 ?_
  obtain ⟨hw, h⟩ := h
  refine kr_putf O dJ13_append_3_68 fs_J13_79 (Or.inl rfl) ⟨rfl, rfl⟩ hw (kr_nmM fun M3 hM3 => ?_)
  replace h := h M3 hM3
  refine kr_iload_n O dJ13_append_3_71 rfl 1 rfl ?_
  refine kr_caV (rest := []) O cd_J16_putCharSB h (Nat.le_of_ble_eq_true rfl) (fun ls _ => kt_ivS O dJ13_append_3_72 cd_J16_putCharSB in_J16_putCharSB q1563 q1564 hy_J16_putCharSB) (fun M4 hq => ?_) (fun E q M9 hx => kr_out O hx)
  replace h := hq
  clear hq
  refine kr_aload_n O dJ13_append_3_75 rfl 0 rfl ?_
  exact kr_aret O dJ13_append_3_76 (by first | exact Or.inl ⟨_, rfl⟩ | exact Or.inr ⟨_, rfl⟩) h
def vc_J13_append_3_45 (w : kt_W) (gr : kt_g × kt_M) (d : Nat) (P : Option Value → kt_M → Prop) (X : String → Nat → kt_M → Prop)  (a0 : Nat) (v1 : Int32) (M : kt_M) : Prop :=
  (kt_co M a0 = some 19) ∧ 
  kt_Ca w gr d yJ13_isLatin1 kc_J13_isLatin1 [va_rf (some a0)] M (kt_pI fun u1 M2 => 
    ((u1 = 0 → vc_J13_append_3_56 w gr d P X  a0 v1 M2) ∧
    (¬ u1 = 0 → (kt_co M2 a0 = some 19) ∧ 
    kt_Ca w gr d yJ13_inflate kc_J13_inflate [va_rf (some a0)] M2 (kt_pV fun M3 => vc_J13_append_3_56 w gr d P X  a0 v1 M3) X))) X
theorem cj_J13_append_3_45 {w : kt_W} {x : kt_X} {gr : kt_g × kt_M} {d : Nat} {P : Option Value → kt_M → Prop} {X : String → Nat → kt_M → Prop}  {a0 : Nat} {v1 : Int32} {M : kt_M} (O : kt_O w x gr (d + 1) cJ13_append_3 "java/lang/AbstractStringBuilder" 2 ("append", "(C)Ljava/lang/AbstractStringBuilder;") (Option.some (Jvm.ClassFile.FieldType.object "java/lang/AbstractStringBuilder")) [])  (h : vc_J13_append_3_45 w gr d P X  a0 v1 M) : kt_S w x 2 (kt_E w x P X) M 45 [(0, va_rf (some a0)), (1, .int v1)] [] := by
  unfold vc_J13_append_3_45 at h
  refine kr_aload_n O dJ13_append_3_45 rfl 0 rfl ?_
  obtain ⟨hco, h⟩ := h
  refine kr_caI (rest := []) O cd_J13_isLatin1 h (Nat.le_of_ble_eq_true rfl) (fun ls _ => kt_ivV (ci := 19) O dJ13_append_3_46 cd_J13_isLatin1 in_J13_isLatin1 (Or.inl q1102) q1103 q1105 hco (by decide) hy_J13_isLatin1) (fun u1 M2 hq => ?_) (fun E q M9 hx => kr_out O hx)
  replace h := hq
  clear hq
  refine kr_if_eq (tgt := 56) O dJ13_append_3_49 rfl (fun hc => ?_) (fun hc => ?_)
  · replace h := h.1 hc
    exact cj_J13_append_3_56 O  h
  · replace h := h.2 hc
    refine kr_aload_n O dJ13_append_3_52 rfl 0 rfl ?_
    obtain ⟨hco, h⟩ := h
    refine kr_caV (rest := []) O cd_J13_inflate h (Nat.le_of_ble_eq_true rfl) (fun ls _ => kt_ivP (ci := 19) O dJ13_append_3_53 cd_J13_inflate in_J13_inflate (Or.inl q1151) q1153 q1152 q3013 hco (by decide) hy_J13_inflate) (fun M3 hq => ?_) (fun E q M9 hx => kr_out O hx)
    replace h := hq
    clear hq
    exact cj_J13_append_3_56 O  h
def vc_J13_append_3 (w : kt_W) (gr : kt_g × kt_M) (d : Nat) (P : Option Value → kt_M → Prop) (X : String → Nat → kt_M → Prop) (a0 : Nat) (v1 : Int32) (M : kt_M) : Prop :=
  ∃ u1, kt_gf M a0 113 = some (.int u1) ∧ (kt_co M a0 = some 19) ∧ 
  kt_Ca w gr d yJ13_ensureCapacityInternal kc_J13_ensureCapacityInternal [va_rf (some a0), .int (u1 + (1 : Int32))] M (kt_pV fun M2 => (kt_co M2 a0 = some 19) ∧ 
  kt_Ca w gr d yJ13_isLatin1 kc_J13_isLatin1 [va_rf (some a0)] M2 (kt_pI fun u3 M4 => 
    ((u3 = 0 → vc_J13_append_3_45 w gr d P X  a0 v1 M4) ∧
    (¬ u3 = 0 → 
    kt_Ca w gr d yJ17_canEncode kc_J17_canEncode [.int v1] M4 (kt_pI fun u5 M6 => 
      ((u5 = 0 → vc_J13_append_3_45 w gr d P X  a0 v1 M6) ∧
      (¬ u5 = 0 → ∃ p7, kt_gf M6 a0 110 = some (va_rf p7) ∧ ∃ u8, kt_gf M6 a0 113 = some (.int u8) ∧ kt_hf gr M6 a0 113 ∧ ∀ M9, M9 = kt_pf M6 a0 113 (.int (u8 + (1 : Int32))) → ∃ b10, p7 = some b10 ∧ kt_hii gr 2 M9 b10 u8 ∧ ∀ M11, M11 = kt_si M9 b10 u8 v1.toInt8.toInt32.toInt8.toInt32 → P (some (va_rf (some a0))) M11))) X))) X) X
theorem ce_J13_append_3 {w : kt_W} {g : kt_g} {d : Nat} {P : Option Value → kt_M → Prop} {X : String → Nat → kt_M → Prop} {a0 : Nat} {v1 : Int32} {M : kt_M} (h : vc_J13_append_3 w (g, M) d P X a0 v1 M) : kt_Sp w g (d + 1) yJ13_append_3 kc_J13_append_3 [va_rf (some a0), .int v1] M P X := by
  refine kt_of (L0 := [(0, va_rf (some a0)), (1, .int v1)]) (by decide +kernel) (Nat.le_of_ble_eq_true rfl) rfl fun x O => ?_
  replace O : kt_O w x (g, M) (d + 1) cJ13_append_3 "java/lang/AbstractStringBuilder" 2 ("append", "(C)Ljava/lang/AbstractStringBuilder;") (Option.some (Jvm.ClassFile.FieldType.object "java/lang/AbstractStringBuilder")) [] := O
  unfold vc_J13_append_3 at h
  refine kr_aload_n O dJ13_append_3_0 rfl 0 rfl ?_
  refine kr_aload_n O dJ13_append_3_1 rfl 0 rfl ?_
  obtain ⟨u1, eu1, h⟩ := h
  refine kr_getf O dJ13_append_3_2 fs_J13_79 eu1 ?_
  refine kr_iconst O dJ13_append_3_5 (v := (1 : Int32)) (by decide) ?_
  refine kr_iadd O dJ13_append_3_6 ?_
  obtain ⟨hco, h⟩ := h
  refine kr_caV (rest := []) O cd_J13_ensureCapacityInternal h (Nat.le_of_ble_eq_true rfl) (fun ls _ => kt_ivP (ci := 19) O dJ13_append_3_7 cd_J13_ensureCapacityInternal in_J13_ensureCapacityInternal (Or.inl q1084) q1086 q1085 q3009 hco (by decide) hy_J13_ensureCapacityInternal) (fun M2 hq => ?_) (fun E q M9 hx => kr_out O hx)
  replace h := hq
  clear hq
  refine kr_aload_n O dJ13_append_3_10 rfl 0 rfl ?_
  obtain ⟨hco, h⟩ := h
  refine kr_caI (rest := []) O cd_J13_isLatin1 h (Nat.le_of_ble_eq_true rfl) (fun ls _ => kt_ivV (ci := 19) O dJ13_append_3_11 cd_J13_isLatin1 in_J13_isLatin1 (Or.inl q1102) q1103 q1105 hco (by decide) hy_J13_isLatin1) (fun u3 M4 hq => ?_) (fun E q M9 hx => kr_out O hx)
  replace h := hq
  clear hq
  refine kr_if_eq (tgt := 45) O dJ13_append_3_14 rfl (fun hc => ?_) (fun hc => ?_)
  · replace h := h.1 hc
    exact cj_J13_append_3_45 O  h
  · replace h := h.2 hc
    refine kr_iload_n O dJ13_append_3_17 rfl 1 rfl ?_
    refine kr_caI (rest := []) O cd_J17_canEncode h (Nat.le_of_ble_eq_true rfl) (fun ls _ => kt_ivS O dJ13_append_3_18 cd_J17_canEncode in_J17_canEncode q1560 q1561 hy_J17_canEncode) (fun u5 M6 hq => ?_) (fun E q M9 hx => kr_out O hx)
    replace h := hq
    clear hq
    refine kr_if_eq (tgt := 45) O dJ13_append_3_21 rfl (fun hc => ?_) (fun hc => ?_)
    · replace h := h.1 hc
      exact cj_J13_append_3_45 O  h
    · replace h := h.2 hc
      refine kr_aload_n O dJ13_append_3_24 rfl 0 rfl ?_
      obtain ⟨p7, ep7, h⟩ := h
      refine kr_getf O dJ13_append_3_25 fs_J13_15 ep7 ?_
      refine kr_aload_n O dJ13_append_3_28 rfl 0 rfl ?_
      refine kr_dup O dJ13_append_3_29 (kt_nrf _) ?_
      obtain ⟨u8, eu8, h⟩ := h
      refine kr_getf O dJ13_append_3_30 fs_J13_79 eu8 ?_
      refine kr_dup_x1 O dJ13_append_3_33 rfl (kt_nrf _) ?_
      refine kr_iconst O dJ13_append_3_34 (v := (1 : Int32)) (by decide) ?_
      refine kr_iadd O dJ13_append_3_35 ?_
      obtain ⟨hw, h⟩ := h
      refine kr_putf O dJ13_append_3_36 fs_J13_79 (Or.inl rfl) ⟨rfl, rfl⟩ hw (kr_nmM fun M9 hM9 => ?_)
      replace h := h M9 hM9
      refine kr_iload_n O dJ13_append_3_39 rfl 1 rfl ?_
      refine kr_i2b O dJ13_append_3_40 ?_
      obtain ⟨b10, rfl, h⟩ := h
      obtain ⟨hw, h⟩ := h
      refine kr_bastore O dJ13_append_3_41 hw (kr_nmM fun M11 hM11 => ?_)
      replace h := h M11 hM11
      refine kr_goto (tgt := 75) O dJ13_append_3_42 rfl ?_
      refine kr_aload_n O dJ13_append_3_75 rfl 0 rfl ?_
      exact kr_aret O dJ13_append_3_76 (by first | exact Or.inl ⟨_, rfl⟩ | exact Or.inr ⟨_, rfl⟩) h
def vc_J14_init (w : kt_W) (gr : kt_g × kt_M) (d : Nat) (P : Option Value → kt_M → Prop) (X : String → Nat → kt_M → Prop) (a0 : Nat) (M : kt_M) : Prop :=
  
  kt_Ca w gr d yJ13_init kc_J13_init [va_rf (some a0), .int (16 : Int32)] M (kt_pV fun M1 => P none M1) X
theorem ce_J14_init {w : kt_W} {g : kt_g} {d : Nat} {P : Option Value → kt_M → Prop} {X : String → Nat → kt_M → Prop} {a0 : Nat} {M : kt_M} (h : vc_J14_init w (g, M) d P X a0 M) : kt_Sp w g (d + 1) yJ14_init kc_J14_init [va_rf (some a0)] M P X := by
  refine kt_of (L0 := [(0, va_rf (some a0))]) (by decide +kernel) (Nat.le_of_ble_eq_true rfl) rfl fun x O => ?_
  replace O : kt_O w x (g, M) (d + 1) cJ14_init "java/lang/StringBuilder" 1 ("<init>", "()V") (Option.none : Option Jvm.ClassFile.FieldType) [] := O
  unfold vc_J14_init at h
  refine kr_aload_n O dJ14_init_0 rfl 0 rfl ?_
  refine kr_bipush O dJ14_init_1 (v := (16 : Int32)) (by decide) ?_
  refine kr_caV (rest := []) O cd_J13_init h (Nat.le_of_ble_eq_true rfl) (fun ls _ => kt_ivI O dJ14_init_3 cd_J13_init in_J13_init (Or.inl q1046) q1047 hi_J13_init) (fun M1 hq => ?_) (fun E q M9 hx => kr_out O hx)
  replace h := hq
  clear hq
  exact kr_vret O dJ14_init_6 h
def vc_J14_toString (w : kt_W) (gr : kt_g × kt_M) (d : Nat) (P : Option Value → kt_M → Prop) (X : String → Nat → kt_M → Prop) (a0 : Nat) (M : kt_M) : Prop :=
  kt_fits w M 4 ∧ ∃ t1, ∀ M2, M2 = kt_new M 4 (t1 + 2, .inr (20, [va_rf none, .int 0, .int 0, .int 0])) → 
  kt_Ca w gr d yJ15_init kc_J15_init [va_rf (some M.1), va_rf (some a0)] M2 (kt_pV fun M3 => P (some (va_rf (some M.1))) M3) X
theorem ce_J14_toString {w : kt_W} {g : kt_g} {d : Nat} {P : Option Value → kt_M → Prop} {X : String → Nat → kt_M → Prop} {a0 : Nat} {M : kt_M} (h : vc_J14_toString w (g, M) d P X a0 M) : kt_Sp w g (d + 1) yJ14_toString kc_J14_toString [va_rf (some a0)] M P X := by
  refine kt_of (L0 := [(0, va_rf (some a0))]) (by decide +kernel) (Nat.le_of_ble_eq_true rfl) rfl fun x O => ?_
  replace O : kt_O w x (g, M) (d + 1) cJ14_toString "java/lang/StringBuilder" 1 ("toString", "()Ljava/lang/String;") (Option.some (Jvm.ClassFile.FieldType.object "java/lang/String")) [] := O
  unfold vc_J14_toString at h
  obtain ⟨hf, t1, h⟩ := h
  refine kr_new (c := 20) (r := (RJ15, TJ15, 4)) (fs := [va_rf none, .int 0, .int 0, .int 0]) t1 O dJ14_toString_0 rfl q1181 q1182 q132 rfl hf (kr_nmM fun M2 hM2 => ?_)
  replace h := h M2 hM2
  refine kr_dup O dJ14_toString_3 (kt_nrf _) ?_
  refine kr_aload_n O dJ14_toString_4 rfl 0 rfl ?_
  refine kr_caV (rest := [va_rf (some M.1)]) O cd_J15_init h (Nat.le_of_ble_eq_true rfl) (fun ls _ => kt_ivI O dJ14_toString_5 cd_J15_init in_J15_init (Or.inl q1183) q1184 hi_J15_init) (fun M3 hq => ?_) (fun E q M9 hx => kr_out O hx)
  replace h := hq
  clear hq
  exact kr_aret O dJ14_toString_8 (by first | exact Or.inl ⟨_, rfl⟩ | exact Or.inr ⟨_, rfl⟩) h
def vc_J14_length (w : kt_W) (gr : kt_g × kt_M) (d : Nat) (P : Option Value → kt_M → Prop) (X : String → Nat → kt_M → Prop) (a0 : Nat) (M : kt_M) : Prop :=
  (kt_co M a0 = some 19) ∧ 
  kt_Ca w gr d yJ13_length kc_J13_length [va_rf (some a0)] M (kt_pI fun u1 M2 => P (some (.int u1)) M2) X
theorem ce_J14_length {w : kt_W} {g : kt_g} {d : Nat} {P : Option Value → kt_M → Prop} {X : String → Nat → kt_M → Prop} {a0 : Nat} {M : kt_M} (h : vc_J14_length w (g, M) d P X a0 M) : kt_Sp w g (d + 1) yJ14_length kc_J14_length [va_rf (some a0)] M P X := by
  refine kt_of (L0 := [(0, va_rf (some a0))]) (by decide +kernel) (Nat.le_of_ble_eq_true rfl) rfl fun x O => ?_
  replace O : kt_O w x (g, M) (d + 1) cJ14_length "java/lang/StringBuilder" 1 ("length", "()I") (Option.some Jvm.ClassFile.FieldType.int) [] := O
  unfold vc_J14_length at h
  refine kr_aload_n O dJ14_length_0 rfl 0 rfl ?_
  obtain ⟨hco, h⟩ := h
  refine kr_caI (rest := []) O cd_J13_length h (Nat.le_of_ble_eq_true rfl) (fun ls _ => kt_ivB (ci := 19) O dJ14_length_1 cd_J13_length q1201 q1197 q1072 q1196 hco (by decide) hb_J13_length) (fun u1 M2 hq => ?_) (fun E q M9 hx => kr_out O hx)
  replace h := hq
  clear hq
  exact kr_iret O dJ14_length_4 rfl h
def vc_J14_append_2 (w : kt_W) (gr : kt_g × kt_M) (d : Nat) (P : Option Value → kt_M → Prop) (X : String → Nat → kt_M → Prop) (a0 : Nat) (v1 : Int32) (M : kt_M) : Prop :=
  (kt_co M a0 = some 19) ∧ 
  kt_Ca w gr d yJ13_append_2 kc_J13_append_2 [va_rf (some a0), .int v1] M (kt_pR fun p1 M2 => P (some (va_rf (some a0))) M2) X
theorem ce_J14_append_2 {w : kt_W} {g : kt_g} {d : Nat} {P : Option Value → kt_M → Prop} {X : String → Nat → kt_M → Prop} {a0 : Nat} {v1 : Int32} {M : kt_M} (h : vc_J14_append_2 w (g, M) d P X a0 v1 M) : kt_Sp w g (d + 1) yJ14_append_2 kc_J14_append_2 [va_rf (some a0), .int v1] M P X := by
  refine kt_of (L0 := [(0, va_rf (some a0)), (1, .int v1)]) (by decide +kernel) (Nat.le_of_ble_eq_true rfl) rfl fun x O => ?_
  replace O : kt_O w x (g, M) (d + 1) cJ14_append_2 "java/lang/StringBuilder" 2 ("append", "(I)Ljava/lang/StringBuilder;") (Option.some (Jvm.ClassFile.FieldType.object "java/lang/StringBuilder")) [] := O
  unfold vc_J14_append_2 at h
  refine kr_aload_n O dJ14_append_2_0 rfl 0 rfl ?_
  refine kr_iload_n O dJ14_append_2_1 rfl 1 rfl ?_
  obtain ⟨hco, h⟩ := h
  refine kr_caR (rest := []) O cd_J13_append_2 h (Nat.le_of_ble_eq_true rfl) (fun ls _ => kt_ivB (ci := 19) O dJ14_append_2_2 cd_J13_append_2 q1228 q3014 q1072 q1229 hco (by decide) hb_J13_append_2) (fun p1 M2 hq => ?_) (fun E q M9 hx => kr_out O hx)
  replace h := hq
  clear hq
  refine kr_pop O dJ14_append_2_5 (kt_nrf _) ?_
  refine kr_aload_n O dJ14_append_2_6 rfl 0 rfl ?_
  exact kr_aret O dJ14_append_2_7 (by first | exact Or.inl ⟨_, rfl⟩ | exact Or.inr ⟨_, rfl⟩) h
def vc_J14_setLength (w : kt_W) (gr : kt_g × kt_M) (d : Nat) (P : Option Value → kt_M → Prop) (X : String → Nat → kt_M → Prop) (a0 : Nat) (v1 : Int32) (M : kt_M) : Prop :=
  (kt_co M a0 = some 19) ∧ 
  kt_Ca w gr d yJ13_setLength kc_J13_setLength [va_rf (some a0), .int v1] M (kt_pV fun M1 => P none M1) X
theorem ce_J14_setLength {w : kt_W} {g : kt_g} {d : Nat} {P : Option Value → kt_M → Prop} {X : String → Nat → kt_M → Prop} {a0 : Nat} {v1 : Int32} {M : kt_M} (h : vc_J14_setLength w (g, M) d P X a0 v1 M) : kt_Sp w g (d + 1) yJ14_setLength kc_J14_setLength [va_rf (some a0), .int v1] M P X := by
  refine kt_of (L0 := [(0, va_rf (some a0)), (1, .int v1)]) (by decide +kernel) (Nat.le_of_ble_eq_true rfl) rfl fun x O => ?_
  replace O : kt_O w x (g, M) (d + 1) cJ14_setLength "java/lang/StringBuilder" 2 ("setLength", "(I)V") (Option.none : Option Jvm.ClassFile.FieldType) [] := O
  unfold vc_J14_setLength at h
  refine kr_aload_n O dJ14_setLength_0 rfl 0 rfl ?_
  refine kr_iload_n O dJ14_setLength_1 rfl 1 rfl ?_
  obtain ⟨hco, h⟩ := h
  refine kr_caV (rest := []) O cd_J13_setLength h (Nat.le_of_ble_eq_true rfl) (fun ls _ => kt_ivB (ci := 19) O dJ14_setLength_2 cd_J13_setLength q1529 q3017 q1072 q1530 hco (by decide) hb_J13_setLength) (fun M1 hq => ?_) (fun E q M9 hx => kr_out O hx)
  replace h := hq
  clear hq
  exact kr_vret O dJ14_setLength_5 h
def vc_J14_append_3 (w : kt_W) (gr : kt_g × kt_M) (d : Nat) (P : Option Value → kt_M → Prop) (X : String → Nat → kt_M → Prop) (a0 : Nat) (v1 : Int32) (M : kt_M) : Prop :=
  (kt_co M a0 = some 19) ∧ 
  kt_Ca w gr d yJ13_append_3 kc_J13_append_3 [va_rf (some a0), .int v1] M (kt_pR fun p1 M2 => P (some (va_rf (some a0))) M2) X
theorem ce_J14_append_3 {w : kt_W} {g : kt_g} {d : Nat} {P : Option Value → kt_M → Prop} {X : String → Nat → kt_M → Prop} {a0 : Nat} {v1 : Int32} {M : kt_M} (h : vc_J14_append_3 w (g, M) d P X a0 v1 M) : kt_Sp w g (d + 1) yJ14_append_3 kc_J14_append_3 [va_rf (some a0), .int v1] M P X := by
  refine kt_of (L0 := [(0, va_rf (some a0)), (1, .int v1)]) (by decide +kernel) (Nat.le_of_ble_eq_true rfl) rfl fun x O => ?_
  replace O : kt_O w x (g, M) (d + 1) cJ14_append_3 "java/lang/StringBuilder" 2 ("append", "(C)Ljava/lang/StringBuilder;") (Option.some (Jvm.ClassFile.FieldType.object "java/lang/StringBuilder")) [] := O
  unfold vc_J14_append_3 at h
  refine kr_aload_n O dJ14_append_3_0 rfl 0 rfl ?_
  refine kr_iload_n O dJ14_append_3_1 rfl 1 rfl ?_
  obtain ⟨hco, h⟩ := h
  refine kr_caR (rest := []) O cd_J13_append_3 h (Nat.le_of_ble_eq_true rfl) (fun ls _ => kt_ivB (ci := 19) O dJ14_append_3_2 cd_J13_append_3 q1557 q3018 q1072 q1558 hco (by decide) hb_J13_append_3) (fun p1 M2 hq => ?_) (fun E q M9 hx => kr_out O hx)
  replace h := hq
  clear hq
  refine kr_pop O dJ14_append_3_5 (kt_nrf _) ?_
  refine kr_aload_n O dJ14_append_3_6 rfl 0 rfl ?_
  exact kr_aret O dJ14_append_3_7 (by first | exact Or.inl ⟨_, rfl⟩ | exact Or.inr ⟨_, rfl⟩) h
def vc_J15_checkBoundsBeginEnd (w : kt_W) (gr : kt_g × kt_M) (d : Nat) (P : Option Value → kt_M → Prop) (X : String → Nat → kt_M → Prop) (v0 : Int32) (v1 : Int32) (v2 : Int32) (M : kt_M) : Prop :=
  False
theorem ce_J15_checkBoundsBeginEnd {w : kt_W} {g : kt_g} {d : Nat} {P : Option Value → kt_M → Prop} {X : String → Nat → kt_M → Prop} {v0 : Int32} {v1 : Int32} {v2 : Int32} {M : kt_M} (h : vc_J15_checkBoundsBeginEnd w (g, M) d P X v0 v1 v2 M) : kt_Sp w g (d + 1) yJ15_checkBoundsBeginEnd kc_J15_checkBoundsBeginEnd [.int v0, .int v1, .int v2] M P X := by
  refine kt_of (L0 := [(0, .int v0), (1, .int v1), (2, .int v2)]) (by decide +kernel) (Nat.le_of_ble_eq_true rfl) rfl fun x O => ?_
  replace O : kt_O w x (g, M) (d + 1) cJ15_checkBoundsBeginEnd "java/lang/String" 3 ("checkBoundsBeginEnd", "(III)V") (Option.none : Option Jvm.ClassFile.FieldType) [] := O
  unfold vc_J15_checkBoundsBeginEnd at h
  refine kr_iload_n O dJ15_checkBoundsBeginEnd_0 rfl 0 rfl ?_
  refine kr_iload_n O dJ15_checkBoundsBeginEnd_1 rfl 1 rfl ?_
  refine kr_iload_n O dJ15_checkBoundsBeginEnd_2 rfl 2 rfl ?_
  exact h.elim
def vc_J15_length (w : kt_W) (gr : kt_g × kt_M) (d : Nat) (P : Option Value → kt_M → Prop) (X : String → Nat → kt_M → Prop) (a0 : Nat) (M : kt_M) : Prop :=
  ∃ p1, kt_gf M a0 114 = some (va_rf p1) ∧ ∃ b2, p1 = some b2 ∧ ∃ n3, kt_len M b2 = some n3 ∧ (kt_co M a0 = some 20) ∧ 
  kt_Ca w gr d yJ15_coder kc_J15_coder [va_rf (some a0)] M (kt_pI fun u4 M5 => P (some (.int ((nI n3) >>> (u4 &&& 31)))) M5) X
theorem ce_J15_length {w : kt_W} {g : kt_g} {d : Nat} {P : Option Value → kt_M → Prop} {X : String → Nat → kt_M → Prop} {a0 : Nat} {M : kt_M} (h : vc_J15_length w (g, M) d P X a0 M) : kt_Sp w g (d + 1) yJ15_length kc_J15_length [va_rf (some a0)] M P X := by
  refine kt_of (L0 := [(0, va_rf (some a0))]) (by decide +kernel) (Nat.le_of_ble_eq_true rfl) rfl fun x O => ?_
  replace O : kt_O w x (g, M) (d + 1) cJ15_length "java/lang/String" 1 ("length", "()I") (Option.some Jvm.ClassFile.FieldType.int) [] := O
  unfold vc_J15_length at h
  refine kr_aload_n O dJ15_length_0 rfl 0 rfl ?_
  obtain ⟨p1, ep1, h⟩ := h
  refine kr_getf O dJ15_length_1 fs_J15_9 ep1 ?_
  obtain ⟨b2, rfl, h⟩ := h
  obtain ⟨n3, en3, h⟩ := h
  refine kr_alen O dJ15_length_4 en3 ?_
  refine kr_aload_n O dJ15_length_5 rfl 0 rfl ?_
  obtain ⟨hco, h⟩ := h
  refine kr_caI (rest := [.int (nI n3)]) O cd_J15_coder h (Nat.le_of_ble_eq_true rfl) (fun ls _ => kt_ivV (ci := 20) O dJ15_length_6 cd_J15_coder in_J15_coder (Or.inl q1137) q1138 q1139 hco (by decide) hy_J15_coder) (fun u4 M5 hq => ?_) (fun E q M9 hx => kr_out O hx)
  replace h := hq
  clear hq
  refine kr_ishr O dJ15_length_9 ?_
  exact kr_iret O dJ15_length_10 rfl h
def vc_J15_coder (w : kt_W) (gr : kt_g × kt_M) (d : Nat) (P : Option Value → kt_M → Prop) (X : String → Nat → kt_M → Prop) (a0 : Nat) (M : kt_M) : Prop :=
  
    (((1 : Int32) = 0 → P (some (.int (1 : Int32))) M) ∧
    (¬ (1 : Int32) = 0 → ∃ u1, kt_gf M a0 115 = some (.int u1) ∧ narrow .byte (.int u1) = .int u1 ∧ P (some (.int u1)) M))
theorem ce_J15_coder {w : kt_W} {g : kt_g} {d : Nat} {P : Option Value → kt_M → Prop} {X : String → Nat → kt_M → Prop} {a0 : Nat} {M : kt_M} (h : vc_J15_coder w (g, M) d P X a0 M) : kt_Sp w g (d + 1) yJ15_coder kc_J15_coder [va_rf (some a0)] M P X := by
  refine kt_of (L0 := [(0, va_rf (some a0))]) (by decide +kernel) (Nat.le_of_ble_eq_true rfl) rfl fun x O => ?_
  replace O : kt_O w x (g, M) (d + 1) cJ15_coder "java/lang/String" 1 ("coder", "()B") (Option.some Jvm.ClassFile.FieldType.byte) [] := O
  unfold vc_J15_coder at h
  refine kr_getsI O dJ15_coder_0 q1141 (kt_inI 0 rfl) ?_
  refine kr_if_eq (tgt := 13) O dJ15_coder_3 rfl (fun hc => ?_) (fun hc => ?_)
  · replace h := h.1 hc
    refine kr_iconst O dJ15_coder_13 (v := (1 : Int32)) (by decide) ?_
    exact kr_iret O dJ15_coder_14 (by decide) h
  · replace h := h.2 hc
    refine kr_aload_n O dJ15_coder_6 rfl 0 rfl ?_
    obtain ⟨u1, eu1, h⟩ := h
    refine kr_getf O dJ15_coder_7 fs_J15_15 eu1 ?_
    refine kr_goto (tgt := 14) O dJ15_coder_10 rfl ?_
    exact kr_iret O dJ15_coder_14 h.1 h.2
def vc_J15_checkBoundsOffCount (w : kt_W) (gr : kt_g × kt_M) (d : Nat) (P : Option Value → kt_M → Prop) (X : String → Nat → kt_M → Prop) (v0 : Int32) (v1 : Int32) (v2 : Int32) (M : kt_M) : Prop :=
  False
theorem ce_J15_checkBoundsOffCount {w : kt_W} {g : kt_g} {d : Nat} {P : Option Value → kt_M → Prop} {X : String → Nat → kt_M → Prop} {v0 : Int32} {v1 : Int32} {v2 : Int32} {M : kt_M} (h : vc_J15_checkBoundsOffCount w (g, M) d P X v0 v1 v2 M) : kt_Sp w g (d + 1) yJ15_checkBoundsOffCount kc_J15_checkBoundsOffCount [.int v0, .int v1, .int v2] M P X := by
  refine kt_of (L0 := [(0, .int v0), (1, .int v1), (2, .int v2)]) (by decide +kernel) (Nat.le_of_ble_eq_true rfl) rfl fun x O => ?_
  replace O : kt_O w x (g, M) (d + 1) cJ15_checkBoundsOffCount "java/lang/String" 3 ("checkBoundsOffCount", "(III)I") (Option.some Jvm.ClassFile.FieldType.int) [] := O
  unfold vc_J15_checkBoundsOffCount at h
  refine kr_iload_n O dJ15_checkBoundsOffCount_0 rfl 0 rfl ?_
  refine kr_iload_n O dJ15_checkBoundsOffCount_1 rfl 1 rfl ?_
  refine kr_iload_n O dJ15_checkBoundsOffCount_2 rfl 2 rfl ?_
  exact h.elim
def vc_J15_init (w : kt_W) (gr : kt_g × kt_M) (d : Nat) (P : Option Value → kt_M → Prop) (X : String → Nat → kt_M → Prop) (a0 : Nat) (r1 : Option Nat) (M : kt_M) : Prop :=
  
  kt_Ca w gr d yJ15_init_2 kc_J15_init_2 [va_rf (some a0), va_rf r1, va_rf none] M (kt_pV fun M1 => P none M1) X
theorem ce_J15_init {w : kt_W} {g : kt_g} {d : Nat} {P : Option Value → kt_M → Prop} {X : String → Nat → kt_M → Prop} {a0 : Nat} {r1 : Option Nat} {M : kt_M} (h : vc_J15_init w (g, M) d P X a0 r1 M) : kt_Sp w g (d + 1) yJ15_init kc_J15_init [va_rf (some a0), va_rf r1] M P X := by
  refine kt_of (L0 := [(0, va_rf (some a0)), (1, va_rf r1)]) (by decide +kernel) (by simp only [kt_lgR, kt_lgI, kt_lgN] <;> exact Nat.le_of_ble_eq_true rfl) (by simp only [kt_lvR, kt_lvI, kt_lvN] <;> rfl) fun x O => ?_
  replace O : kt_O w x (g, M) (d + 1) cJ15_init "java/lang/String" 2 ("<init>", "(Ljava/lang/StringBuilder;)V") (Option.none : Option Jvm.ClassFile.FieldType) [] := O
  unfold vc_J15_init at h
  refine kr_aload_n O dJ15_init_0 rfl 0 rfl ?_
  refine kr_aload_n O dJ15_init_1 rfl 1 rfl ?_
  refine kr_null O dJ15_init_2 ?_
  refine kr_caV (rest := []) O cd_J15_init_2 h (Nat.le_of_ble_eq_true rfl) (fun ls _ => kt_ivI O dJ15_init_3 cd_J15_init_2 in_J15_init_2 (Or.inl q1186) q1187 hi_J15_init_2) (fun M1 hq => ?_) (fun E q M9 hx => kr_out O hx)
  replace h := hq
  clear hq
  exact kr_vret O dJ15_init_6 h
def vc_J15_init_2_79 (w : kt_W) (gr : kt_g × kt_M) (d : Nat) (P : Option Value → kt_M → Prop) (X : String → Nat → kt_M → Prop)  (a0 : Nat) (r3 : Option Nat) (v4 : Int32) (M : kt_M) : Prop :=
  kt_hf gr M a0 115 ∧ ∀ M1, M1 = kt_pf M a0 115 (.int (1 : Int32)) → 
  kt_Ca w gr d yJ8_copyOfRange kc_J8_copyOfRange [va_rf r3, .int (0 : Int32), .int (v4 <<< ((1 : Int32) &&& 31))] M1 (kt_pR fun p2 M3 => kt_hf gr M3 a0 114 ∧ ∀ M4, M4 = kt_pf M3 a0 114 (va_rf p2) → P none M4) X
theorem cj_J15_init_2_79 {w : kt_W} {x : kt_X} {gr : kt_g × kt_M} {d : Nat} {P : Option Value → kt_M → Prop} {X : String → Nat → kt_M → Prop}  {a0 : Nat} {r3 : Option Nat} {v4 : Int32} {M : kt_M} (O : kt_O w x gr (d + 1) cJ15_init_2 "java/lang/String" 5 ("<init>", "(Ljava/lang/AbstractStringBuilder;Ljava/lang/Void;)V") (Option.none : Option Jvm.ClassFile.FieldType) [])  (h : vc_J15_init_2_79 w gr d P X  a0 r3 v4 M) : kt_S w x 5 (kt_E w x P X) M 79 [(0, va_rf (some a0)), (3, va_rf r3), (4, .int v4)] [] := by
  unfold vc_J15_init_2_79 at h
  refine kr_aload_n O dJ15_init_2_79 rfl 0 rfl ?_
  refine kr_iconst O dJ15_init_2_80 (v := (1 : Int32)) (by decide) ?_
  obtain ⟨hw, h⟩ := h
  refine kr_putf O dJ15_init_2_81 fs_J15_15 (Or.inr ⟨rfl, rfl⟩) ⟨by decide, by decide⟩ hw (kr_nmM fun M1 hM1 => ?_)
  replace h := h M1 hM1
  refine kr_aload_n O dJ15_init_2_84 rfl 0 rfl ?_
  refine kr_aload_n O dJ15_init_2_85 rfl 1 rfl ?_
  refine kr_iconst O dJ15_init_2_86 (v := (0 : Int32)) (by decide) ?_
  refine kr_iload O dJ15_init_2_87 2 rfl ?_
  refine kr_iconst O dJ15_init_2_89 (v := (1 : Int32)) (by decide) ?_
  refine kr_ishl O dJ15_init_2_90 ?_
  refine kr_caR (rest := [va_rf (some a0)]) O cd_J8_copyOfRange h (Nat.le_of_ble_eq_true rfl) (fun ls _ => kt_ivS O dJ15_init_2_91 cd_J8_copyOfRange in_J8_copyOfRange q1204 q1205 hy_J8_copyOfRange) (fun p2 M3 hq => ?_) (fun E q M9 hx => kr_out O hx)
  replace h := hq
  clear hq
  obtain ⟨hw, h⟩ := h
  refine kr_putf O dJ15_init_2_94 fs_J15_9 (Or.inr ⟨rfl, rfl⟩) (kt_ok_ra _ rfl) hw (kr_nmM fun M4 hM4 => ?_)
  replace h := h M4 hM4
  exact kr_vret O dJ15_init_2_97 h
def vc_J15_init_2 (w : kt_W) (gr : kt_g × kt_M) (d : Nat) (P : Option Value → kt_M → Prop) (X : String → Nat → kt_M → Prop) (a0 : Nat) (r1 : Option Nat) (r2 : Option Nat) (M : kt_M) : Prop :=
  ∃ b1, r1 = some b1 ∧ (kt_co M b1 = some 19) ∧ 
  kt_Ca w gr d yJ13_getValue kc_J13_getValue [va_rf (some b1)] M (kt_pR fun p2 M3 => (kt_co M3 b1 = some 19) ∧ 
  kt_Ca w gr d yJ14_length kc_J14_length [va_rf (some b1)] M3 (kt_pI fun u4 M5 => (kt_co M5 b1 = some 19) ∧ 
  kt_Ca w gr d yJ13_isLatin1 kc_J13_isLatin1 [va_rf (some b1)] M5 (kt_pI fun u6 M7 => 
    ((u6 = 0 → 
      (((1 : Int32) = 0 → vc_J15_init_2_79 w gr d P X  a0 p2 u4 M7) ∧
      (¬ (1 : Int32) = 0 → ∃ u8, kt_gf M7 b1 112 = some (.int u8) ∧ 
        ((u8 = 0 → vc_J15_init_2_79 w gr d P X  a0 p2 u4 M7) ∧
        (¬ u8 = 0 → 
        kt_Ca w gr d yJ16_compress kc_J16_compress [va_rf p2, .int (0 : Int32), .int u4] M7 (kt_pR fun p9 M10 => kt_hf gr M10 a0 114 ∧ ∀ M11, M11 = kt_pf M10 a0 114 (va_rf p9) → ∃ p12, kt_gf M11 a0 114 = some (va_rf p12) ∧ 
        kt_Ca w gr d yJ16_coderFromArrayLen kc_J16_coderFromArrayLen [va_rf p12, .int u4] M11 (kt_pI fun u13 M14 => kt_ok 115 (.int u13) ∧ kt_hf gr M14 a0 115 ∧ ∀ M15, M15 = kt_pf M14 a0 115 (.int u13) → P none M15) X) X))))) ∧
    (¬ u6 = 0 → kt_hf gr M7 a0 115 ∧ ∀ M16, M16 = kt_pf M7 a0 115 (.int (0 : Int32)) → 
    kt_Ca w gr d yJ8_copyOfRange kc_J8_copyOfRange [va_rf p2, .int (0 : Int32), .int u4] M16 (kt_pR fun p17 M18 => kt_hf gr M18 a0 114 ∧ ∀ M19, M19 = kt_pf M18 a0 114 (va_rf p17) → P none M19) X))) X) X) X
theorem ce_J15_init_2 {w : kt_W} {g : kt_g} {d : Nat} {P : Option Value → kt_M → Prop} {X : String → Nat → kt_M → Prop} {a0 : Nat} {r1 : Option Nat} {r2 : Option Nat} {M : kt_M} (h : vc_J15_init_2 w (g, M) d P X a0 r1 r2 M) : kt_Sp w g (d + 1) yJ15_init_2 kc_J15_init_2 [va_rf (some a0), va_rf r1, va_rf r2] M P X := by
  refine kt_of (L0 := [(0, va_rf (some a0)), (1, va_rf r1), (2, va_rf r2)]) (by decide +kernel) (by simp only [kt_lgR, kt_lgI, kt_lgN] <;> exact Nat.le_of_ble_eq_true rfl) (by simp only [kt_lvR, kt_lvI, kt_lvN] <;> rfl) fun x O => ?_
  replace O : kt_O w x (g, M) (d + 1) cJ15_init_2 "java/lang/String" 5 ("<init>", "(Ljava/lang/AbstractStringBuilder;Ljava/lang/Void;)V") (Option.none : Option Jvm.ClassFile.FieldType) [] := O
  unfold vc_J15_init_2 at h
  refine kr_aload_n O dJ15_init_2_0 rfl 0 rfl ?_
  refine kr_objinit O dJ15_init_2_1 q1189 q173 q174 (Nat.le_of_ble_eq_true rfl) ?_
  refine kr_aload_n O dJ15_init_2_4 rfl 1 rfl ?_
  obtain ⟨b1, rfl, h⟩ := h
  obtain ⟨hco, h⟩ := h
  refine kr_caR (rest := []) O cd_J13_getValue h (Nat.le_of_ble_eq_true rfl) (fun ls _ => kt_ivV (ci := 19) O dJ15_init_2_5 cd_J13_getValue in_J13_getValue (Or.inl q1190) q1191 q1193 hco (by decide) hy_J13_getValue) (fun p2 M3 hq => ?_) (fun E q M9 hx => kr_out O hx)
  replace h := hq
  clear hq
  refine kr_astore_n O dJ15_init_2_8 rfl (Nat.le_of_ble_eq_true rfl) (by simp [kt_nw, kt_nrf, kt_cI, kt_cJ, kt_cF, kt_cD, kt_cR, kt_cU]) rfl ?_
  refine kr_aload_n O dJ15_init_2_9 rfl 2 rfl ?_
  obtain ⟨hco, h⟩ := h
  refine kr_caI (rest := []) O cd_J14_length h (Nat.le_of_ble_eq_true rfl) (fun ls _ => kt_ivU (ci := 19) O dJ15_init_2_10 cd_J14_length q1195 q1197 (Or.inl ⟨q1196, _, _, cd_J13_length⟩) q1199 q1198 hco (by decide) ⟨by decide, by decide, rfl⟩) (fun u4 M5 hq => ?_) (fun E q M9 hx => kr_out O hx)
  replace h := hq
  clear hq
  refine kr_istore O dJ15_init_2_13 (Nat.le_of_ble_eq_true rfl) (by simp [kt_nw, kt_nrf, kt_cI, kt_cJ, kt_cF, kt_cD, kt_cR, kt_cU]) rfl ?_
  refine kr_aload_n O dJ15_init_2_15 rfl 3 rfl ?_
  obtain ⟨hco, h⟩ := h
  refine kr_caI (rest := []) O cd_J13_isLatin1 h (Nat.le_of_ble_eq_true rfl) (fun ls _ => kt_ivV (ci := 19) O dJ15_init_2_16 cd_J13_isLatin1 in_J13_isLatin1 (Or.inl q1203) q1103 q1105 hco (by decide) hy_J13_isLatin1) (fun u6 M7 hq => ?_) (fun E q M9 hx => kr_out O hx)
  replace h := hq
  clear hq
  refine kr_if_eq (tgt := 41) O dJ15_init_2_19 rfl (fun hc => ?_) (fun hc => ?_)
  · replace h := h.1 hc
    refine kr_getsI O dJ15_init_2_41 q1141 (kt_inI 0 rfl) ?_
    refine kr_if_eq (tgt := 79) O dJ15_init_2_44 rfl (fun hc => ?_) (fun hc => ?_)
    · replace h := h.1 hc
      refine kr_sub [2, 1, 0] rfl ?_
      exact cj_J15_init_2_79 O  h
    · replace h := h.2 hc
      refine kr_aload_n O dJ15_init_2_47 rfl 3 rfl ?_
      obtain ⟨u8, eu8, h⟩ := h
      refine kr_getf O dJ15_init_2_48 fs_J15_1048 eu8 ?_
      refine kr_if_eq (tgt := 79) O dJ15_init_2_51 rfl (fun hc => ?_) (fun hc => ?_)
      · replace h := h.1 hc
        refine kr_sub [2, 1, 0] rfl ?_
        exact cj_J15_init_2_79 O  h
      · replace h := h.2 hc
        refine kr_aload_n O dJ15_init_2_54 rfl 2 rfl ?_
        refine kr_aload_n O dJ15_init_2_55 rfl 1 rfl ?_
        refine kr_iconst O dJ15_init_2_56 (v := (0 : Int32)) (by decide) ?_
        refine kr_iload O dJ15_init_2_57 0 rfl ?_
        refine kr_caR (rest := [va_rf (some a0)]) O cd_J16_compress h (Nat.le_of_ble_eq_true rfl) (fun ls _ => kt_ivS O dJ15_init_2_59 cd_J16_compress in_J16_compress q1266 q1267 hy_J16_compress) (fun p9 M10 hq => ?_) (fun E q M9 hx => kr_out O hx)
        replace h := hq
        clear hq
        obtain ⟨hw, h⟩ := h
        refine kr_putf O dJ15_init_2_62 fs_J15_9 (Or.inr ⟨rfl, rfl⟩) (kt_ok_ra _ rfl) hw (kr_nmM fun M11 hM11 => ?_)
        replace h := h M11 hM11
        refine kr_aload_n O dJ15_init_2_65 rfl 2 rfl ?_
        refine kr_aload_n O dJ15_init_2_66 rfl 2 rfl ?_
        obtain ⟨p12, ep12, h⟩ := h
        refine kr_getf O dJ15_init_2_67 fs_J15_9 ep12 ?_
        refine kr_iload O dJ15_init_2_70 0 rfl ?_
        refine kr_caI (rest := [va_rf (some a0)]) O cd_J16_coderFromArrayLen h (Nat.le_of_ble_eq_true rfl) (fun ls _ => kt_ivS O dJ15_init_2_72 cd_J16_coderFromArrayLen in_J16_coderFromArrayLen q1276 q1277 hy_J16_coderFromArrayLen) (fun u13 M14 hq => ?_) (fun E q M9 hx => kr_out O hx)
        replace h := hq
        clear hq
        obtain ⟨hok, h⟩ := h
        obtain ⟨hw, h⟩ := h
        refine kr_putf O dJ15_init_2_75 fs_J15_15 (Or.inr ⟨rfl, rfl⟩) hok hw (kr_nmM fun M15 hM15 => ?_)
        replace h := h M15 hM15
        exact kr_vret O dJ15_init_2_78 h
  · replace h := h.2 hc
    refine kr_aload_n O dJ15_init_2_22 rfl 2 rfl ?_
    refine kr_iconst O dJ15_init_2_23 (v := (0 : Int32)) (by decide) ?_
    obtain ⟨hw, h⟩ := h
    refine kr_putf O dJ15_init_2_24 fs_J15_15 (Or.inr ⟨rfl, rfl⟩) ⟨by decide, by decide⟩ hw (kr_nmM fun M16 hM16 => ?_)
    replace h := h M16 hM16
    refine kr_aload_n O dJ15_init_2_27 rfl 2 rfl ?_
    refine kr_aload_n O dJ15_init_2_28 rfl 1 rfl ?_
    refine kr_iconst O dJ15_init_2_29 (v := (0 : Int32)) (by decide) ?_
    refine kr_iload O dJ15_init_2_30 0 rfl ?_
    refine kr_caR (rest := [va_rf (some a0)]) O cd_J8_copyOfRange h (Nat.le_of_ble_eq_true rfl) (fun ls _ => kt_ivS O dJ15_init_2_32 cd_J8_copyOfRange in_J8_copyOfRange q1204 q1205 hy_J8_copyOfRange) (fun p17 M18 hq => ?_) (fun E q M9 hx => kr_out O hx)
    replace h := hq
    clear hq
    obtain ⟨hw, h⟩ := h
    refine kr_putf O dJ15_init_2_35 fs_J15_9 (Or.inr ⟨rfl, rfl⟩) (kt_ok_ra _ rfl) hw (kr_nmM fun M19 hM19 => ?_)
    replace h := h M19 hM19
    refine kr_goto (tgt := 97) O dJ15_init_2_38 rfl ?_
    exact kr_vret O dJ15_init_2_97 h
def vc_J15_charAt (w : kt_W) (gr : kt_g × kt_M) (d : Nat) (P : Option Value → kt_M → Prop) (X : String → Nat → kt_M → Prop) (a0 : Nat) (v1 : Int32) (M : kt_M) : Prop :=
  (kt_co M a0 = some 20) ∧ 
  kt_Ca w gr d yJ15_isLatin1 kc_J15_isLatin1 [va_rf (some a0)] M (kt_pI fun u1 M2 => 
    ((u1 = 0 → ∃ p3, kt_gf M2 a0 114 = some (va_rf p3) ∧ 
    kt_Ca w gr d yJ16_charAt kc_J16_charAt [va_rf p3, .int v1] M2 (kt_pI fun u4 M5 => narrow .char (.int u4) = .int u4 ∧ P (some (.int u4)) M5) X) ∧
    (¬ u1 = 0 → ∃ p6, kt_gf M2 a0 114 = some (va_rf p6) ∧ 
    kt_Ca w gr d yJ17_charAt kc_J17_charAt [va_rf p6, .int v1] M2 (kt_pI fun u7 M8 => narrow .char (.int u7) = .int u7 ∧ P (some (.int u7)) M8) X))) X
theorem ce_J15_charAt {w : kt_W} {g : kt_g} {d : Nat} {P : Option Value → kt_M → Prop} {X : String → Nat → kt_M → Prop} {a0 : Nat} {v1 : Int32} {M : kt_M} (h : vc_J15_charAt w (g, M) d P X a0 v1 M) : kt_Sp w g (d + 1) yJ15_charAt kc_J15_charAt [va_rf (some a0), .int v1] M P X := by
  refine kt_of (L0 := [(0, va_rf (some a0)), (1, .int v1)]) (by decide +kernel) (Nat.le_of_ble_eq_true rfl) rfl fun x O => ?_
  replace O : kt_O w x (g, M) (d + 1) cJ15_charAt "java/lang/String" 2 ("charAt", "(I)C") (Option.some Jvm.ClassFile.FieldType.char) [] := O
  unfold vc_J15_charAt at h
  refine kr_aload_n O dJ15_charAt_0 rfl 0 rfl ?_
  obtain ⟨hco, h⟩ := h
  refine kr_caI (rest := []) O cd_J15_isLatin1 h (Nat.le_of_ble_eq_true rfl) (fun ls _ => kt_ivV (ci := 20) O dJ15_charAt_1 cd_J15_isLatin1 in_J15_isLatin1 (Or.inl q1464) q1465 q1466 hco (by decide) hy_J15_isLatin1) (fun u1 M2 hq => ?_) (fun E q M9 hx => kr_out O hx)
  replace h := hq
  clear hq
  refine kr_if_eq (tgt := 16) O dJ15_charAt_4 rfl (fun hc => ?_) (fun hc => ?_)
  · replace h := h.1 hc
    refine kr_aload_n O dJ15_charAt_16 rfl 0 rfl ?_
    obtain ⟨p3, ep3, h⟩ := h
    refine kr_getf O dJ15_charAt_17 fs_J15_9 ep3 ?_
    refine kr_iload_n O dJ15_charAt_20 rfl 1 rfl ?_
    refine kr_caI (rest := []) O cd_J16_charAt h (Nat.le_of_ble_eq_true rfl) (fun ls _ => kt_ivS O dJ15_charAt_21 cd_J16_charAt in_J16_charAt q1475 q1476 hy_J16_charAt) (fun u4 M5 hq => ?_) (fun E q M9 hx => kr_out O hx)
    replace h := hq
    clear hq
    exact kr_iret O dJ15_charAt_24 h.1 h.2
  · replace h := h.2 hc
    refine kr_aload_n O dJ15_charAt_7 rfl 0 rfl ?_
    obtain ⟨p6, ep6, h⟩ := h
    refine kr_getf O dJ15_charAt_8 fs_J15_9 ep6 ?_
    refine kr_iload_n O dJ15_charAt_11 rfl 1 rfl ?_
    refine kr_caI (rest := []) O cd_J17_charAt h (Nat.le_of_ble_eq_true rfl) (fun ls _ => kt_ivS O dJ15_charAt_12 cd_J17_charAt in_J17_charAt q1468 q1469 hy_J17_charAt) (fun u7 M8 hq => ?_) (fun E q M9 hx => kr_out O hx)
    replace h := hq
    clear hq
    exact kr_iret O dJ15_charAt_15 h.1 h.2
def vc_J15_isLatin1 (w : kt_W) (gr : kt_g × kt_M) (d : Nat) (P : Option Value → kt_M → Prop) (X : String → Nat → kt_M → Prop) (a0 : Nat) (M : kt_M) : Prop :=
  
    (((1 : Int32) = 0 → P (some (.int (0 : Int32))) M) ∧
    (¬ (1 : Int32) = 0 → ∃ u1, kt_gf M a0 115 = some (.int u1) ∧ 
      ((¬ u1 = 0 → P (some (.int (0 : Int32))) M) ∧
      (u1 = 0 → P (some (.int (1 : Int32))) M))))
theorem ce_J15_isLatin1 {w : kt_W} {g : kt_g} {d : Nat} {P : Option Value → kt_M → Prop} {X : String → Nat → kt_M → Prop} {a0 : Nat} {M : kt_M} (h : vc_J15_isLatin1 w (g, M) d P X a0 M) : kt_Sp w g (d + 1) yJ15_isLatin1 kc_J15_isLatin1 [va_rf (some a0)] M P X := by
  refine kt_of (L0 := [(0, va_rf (some a0))]) (by decide +kernel) (Nat.le_of_ble_eq_true rfl) rfl fun x O => ?_
  replace O : kt_O w x (g, M) (d + 1) cJ15_isLatin1 "java/lang/String" 1 ("isLatin1", "()Z") (Option.some Jvm.ClassFile.FieldType.boolean) [] := O
  unfold vc_J15_isLatin1 at h
  refine kr_getsI O dJ15_isLatin1_0 q1141 (kt_inI 0 rfl) ?_
  refine kr_if_eq (tgt := 17) O dJ15_isLatin1_3 rfl (fun hc => ?_) (fun hc => ?_)
  · replace h := h.1 hc
    refine kr_iconst O dJ15_isLatin1_17 (v := (0 : Int32)) (by decide) ?_
    exact kr_iret O dJ15_isLatin1_18 (by decide) h
  · replace h := h.2 hc
    refine kr_aload_n O dJ15_isLatin1_6 rfl 0 rfl ?_
    obtain ⟨u1, eu1, h⟩ := h
    refine kr_getf O dJ15_isLatin1_7 fs_J15_15 eu1 ?_
    refine kr_if_ne (tgt := 17) O dJ15_isLatin1_10 rfl (fun hc => ?_) (fun hc => ?_)
    · replace h := h.1 hc
      refine kr_iconst O dJ15_isLatin1_17 (v := (0 : Int32)) (by decide) ?_
      exact kr_iret O dJ15_isLatin1_18 (by decide) h
    · replace h := h.2 hc
      refine kr_iconst O dJ15_isLatin1_13 (v := (1 : Int32)) (by decide) ?_
      refine kr_goto (tgt := 18) O dJ15_isLatin1_14 rfl ?_
      exact kr_iret O dJ15_isLatin1_18 (by decide) h
def vc_J15_checkIndex (w : kt_W) (gr : kt_g × kt_M) (d : Nat) (P : Option Value → kt_M → Prop) (X : String → Nat → kt_M → Prop) (v0 : Int32) (v1 : Int32) (M : kt_M) : Prop :=
  False
theorem ce_J15_checkIndex {w : kt_W} {g : kt_g} {d : Nat} {P : Option Value → kt_M → Prop} {X : String → Nat → kt_M → Prop} {v0 : Int32} {v1 : Int32} {M : kt_M} (h : vc_J15_checkIndex w (g, M) d P X v0 v1 M) : kt_Sp w g (d + 1) yJ15_checkIndex kc_J15_checkIndex [.int v0, .int v1] M P X := by
  refine kt_of (L0 := [(0, .int v0), (1, .int v1)]) (by decide +kernel) (Nat.le_of_ble_eq_true rfl) rfl fun x O => ?_
  replace O : kt_O w x (g, M) (d + 1) cJ15_checkIndex "java/lang/String" 2 ("checkIndex", "(II)V") (Option.none : Option Jvm.ClassFile.FieldType) [] := O
  unfold vc_J15_checkIndex at h
  refine kr_iload_n O dJ15_checkIndex_0 rfl 0 rfl ?_
  refine kr_iload_n O dJ15_checkIndex_1 rfl 1 rfl ?_
  exact h.elim
def vc_J15_equals_36 (w : kt_W) (gr : kt_g × kt_M) (d : Nat) (P : Option Value → kt_M → Prop) (X : String → Nat → kt_M → Prop)  (a0 : Nat) (a2 : Nat) (M : kt_M) : Prop :=
  ∃ p1, kt_gf M a0 114 = some (va_rf p1) ∧ ∃ p2, kt_gf M a2 114 = some (va_rf p2) ∧ 
  kt_Ca w gr d yJ17_equals kc_J17_equals [va_rf p1, va_rf p2] M (kt_pI fun u3 M4 => 
    ((u3 = 0 → P (some (.int (0 : Int32))) M4) ∧
    (¬ u3 = 0 → P (some (.int (1 : Int32))) M4))) X
theorem cj_J15_equals_36 {w : kt_W} {x : kt_X} {gr : kt_g × kt_M} {d : Nat} {P : Option Value → kt_M → Prop} {X : String → Nat → kt_M → Prop}  {a0 : Nat} {a2 : Nat} {M : kt_M} (O : kt_O w x gr (d + 1) cJ15_equals "java/lang/String" 3 ("equals", "(Ljava/lang/Object;)Z") (Option.some Jvm.ClassFile.FieldType.boolean) [])  (h : vc_J15_equals_36 w gr d P X  a0 a2 M) : kt_S w x 3 (kt_E w x P X) M 36 [(0, va_rf (some a0)), (2, va_rf (some a2))] [] := by
  unfold vc_J15_equals_36 at h
  refine kr_aload_n O dJ15_equals_36 rfl 0 rfl ?_
  obtain ⟨p1, ep1, h⟩ := h
  refine kr_getf O dJ15_equals_37 fs_J15_9 ep1 ?_
  refine kr_aload_n O dJ15_equals_40 rfl 1 rfl ?_
  obtain ⟨p2, ep2, h⟩ := h
  refine kr_getf O dJ15_equals_41 fs_J15_9 ep2 ?_
  refine kr_caI (rest := []) O cd_J17_equals h (Nat.le_of_ble_eq_true rfl) (fun ls _ => kt_ivS O dJ15_equals_44 cd_J17_equals in_J17_equals q1639 q1640 hy_J17_equals) (fun u3 M4 hq => ?_) (fun E q M9 hx => kr_out O hx)
  replace h := hq
  clear hq
  refine kr_if_eq (tgt := 54) O dJ15_equals_47 rfl (fun hc => ?_) (fun hc => ?_)
  · replace h := h.1 hc
    refine kr_iconst O dJ15_equals_54 (v := (0 : Int32)) (by decide) ?_
    exact kr_iret O dJ15_equals_55 (by decide) h
  · replace h := h.2 hc
    refine kr_iconst O dJ15_equals_50 (v := (1 : Int32)) (by decide) ?_
    refine kr_goto (tgt := 55) O dJ15_equals_51 rfl ?_
    exact kr_iret O dJ15_equals_55 (by decide) h
def vc_J15_equals (w : kt_W) (gr : kt_g × kt_M) (d : Nat) (P : Option Value → kt_M → Prop) (X : String → Nat → kt_M → Prop) (a0 : Nat) (r1 : Option Nat) (M : kt_M) : Prop :=
  
    ((¬ (some a0) = r1 → ∃ b1, r1 = some b1 ∧ ∃ z2, kt_io M b1 "java/lang/String" z2 ∧ 
      ((z2 = 0 → P (some (.int (0 : Int32))) M) ∧
      (¬ z2 = 0 → (∃ c, kt_co M b1 = some c ∧ kt_is c "java/lang/String") ∧ 
        (((1 : Int32) = 0 → vc_J15_equals_36 w gr d P X  a0 b1 M) ∧
        (¬ (1 : Int32) = 0 → ∃ u3, kt_gf M a0 115 = some (.int u3) ∧ ∃ u4, kt_gf M b1 115 = some (.int u4) ∧ 
          ((¬ u3 = u4 → P (some (.int (0 : Int32))) M) ∧
          (u3 = u4 → vc_J15_equals_36 w gr d P X  a0 b1 M))))))) ∧
    ((some a0) = r1 → P (some (.int (1 : Int32))) M))
theorem ce_J15_equals {w : kt_W} {g : kt_g} {d : Nat} {P : Option Value → kt_M → Prop} {X : String → Nat → kt_M → Prop} {a0 : Nat} {r1 : Option Nat} {M : kt_M} (h : vc_J15_equals w (g, M) d P X a0 r1 M) : kt_Sp w g (d + 1) yJ15_equals kc_J15_equals [va_rf (some a0), va_rf r1] M P X := by
  refine kt_of (L0 := [(0, va_rf (some a0)), (1, va_rf r1)]) (by decide +kernel) (by simp only [kt_lgR, kt_lgI, kt_lgN] <;> exact Nat.le_of_ble_eq_true rfl) (by simp only [kt_lvR, kt_lvI, kt_lvN] <;> rfl) fun x O => ?_
  replace O : kt_O w x (g, M) (d + 1) cJ15_equals "java/lang/String" 3 ("equals", "(Ljava/lang/Object;)Z") (Option.some Jvm.ClassFile.FieldType.boolean) [] := O
  unfold vc_J15_equals at h
  refine kr_aload_n O dJ15_equals_0 rfl 0 rfl ?_
  refine kr_aload_n O dJ15_equals_1 rfl 1 rfl ?_
  refine kr_acmp_ne (tgt := 7) O dJ15_equals_2 rfl (fun hc => ?_) (fun hc => ?_)
  · replace h := h.1 hc
    refine kr_aload_n O dJ15_equals_7 rfl 1 rfl ?_
    obtain ⟨b1, rfl, h⟩ := h
    obtain ⟨z2, hz2, h⟩ := h
    refine kr_inst O dJ15_equals_8 q1638 hz2 ?_
    refine kr_if_eq (tgt := 54) O dJ15_equals_11 rfl (fun hc => ?_) (fun hc => ?_)
    · replace h := h.1 hc
      refine kr_iconst O dJ15_equals_54 (v := (0 : Int32)) (by decide) ?_
      exact kr_iret O dJ15_equals_55 (by decide) h
    · replace h := h.2 hc
      refine kr_aload_n O dJ15_equals_14 rfl 1 rfl ?_
      obtain ⟨⟨cc1, hc1, hc2⟩, h⟩ := h
      refine kr_cast O dJ15_equals_15 q1638 hc1 hc2 ?_
      refine kr_astore_n O dJ15_equals_18 rfl (Nat.le_of_ble_eq_true rfl) rfl rfl ?_
      refine kr_getsI O dJ15_equals_19 q1141 (kt_inI 0 rfl) ?_
      refine kr_if_eq (tgt := 36) O dJ15_equals_22 rfl (fun hc => ?_) (fun hc => ?_)
      · replace h := h.1 hc
        refine kr_sub [1, 0] rfl ?_
        exact cj_J15_equals_36 O  h
      · replace h := h.2 hc
        refine kr_aload_n O dJ15_equals_25 rfl 1 rfl ?_
        obtain ⟨u3, eu3, h⟩ := h
        refine kr_getf O dJ15_equals_26 fs_J15_15 eu3 ?_
        refine kr_aload_n O dJ15_equals_29 rfl 0 rfl ?_
        obtain ⟨u4, eu4, h⟩ := h
        refine kr_getf O dJ15_equals_30 fs_J15_15 eu4 ?_
        refine kr_icmp_ne (tgt := 54) O dJ15_equals_33 rfl (fun hc => ?_) (fun hc => ?_)
        · replace h := h.1 hc
          refine kr_iconst O dJ15_equals_54 (v := (0 : Int32)) (by decide) ?_
          exact kr_iret O dJ15_equals_55 (by decide) h
        · replace h := h.2 hc
          refine kr_sub [1, 0] rfl ?_
          exact cj_J15_equals_36 O  h
  · replace h := h.2 hc
    refine kr_iconst O dJ15_equals_5 (v := (1 : Int32)) (by decide) ?_
    exact kr_iret O dJ15_equals_6 (by decide) h
def vc_J15_hashCode_40 (w : kt_W) (gr : kt_g × kt_M) (d : Nat) (P : Option Value → kt_M → Prop) (X : String → Nat → kt_M → Prop)  (a0 : Nat) (s0 : Int32) (M : kt_M) : Prop :=
  
    ((¬ s0 = 0 → kt_hf gr M a0 116 ∧ ∀ M1, M1 = kt_pf M a0 116 (.int s0) → P (some (.int s0)) M1) ∧
    (s0 = 0 → kt_hf gr M a0 117 ∧ ∀ M2, M2 = kt_pf M a0 117 (.int (1 : Int32)) → P (some (.int s0)) M2))
theorem cj_J15_hashCode_40 {w : kt_W} {x : kt_X} {gr : kt_g × kt_M} {d : Nat} {P : Option Value → kt_M → Prop} {X : String → Nat → kt_M → Prop}  {a0 : Nat} {s0 : Int32} {M : kt_M} (O : kt_O w x gr (d + 1) cJ15_hashCode "java/lang/String" 2 ("hashCode", "()I") (Option.some Jvm.ClassFile.FieldType.int) [])  (h : vc_J15_hashCode_40 w gr d P X  a0 s0 M) : kt_S w x 2 (kt_E w x P X) M 40 [(0, va_rf (some a0))] [.int s0] := by
  unfold vc_J15_hashCode_40 at h
  refine kr_istore_n O dJ15_hashCode_40 rfl (Nat.le_of_ble_eq_true rfl) rfl rfl ?_
  refine kr_iload_n O dJ15_hashCode_41 rfl 0 rfl ?_
  refine kr_if_ne (tgt := 53) O dJ15_hashCode_42 rfl (fun hc => ?_) (fun hc => ?_)
  · replace h := h.1 hc
    refine kr_aload_n O dJ15_hashCode_53 rfl 1 rfl ?_
    refine kr_iload_n O dJ15_hashCode_54 rfl 0 rfl ?_
    obtain ⟨hw, h⟩ := h
    refine kr_putf O dJ15_hashCode_55 fs_J15_19 (Or.inl rfl) ⟨rfl, rfl⟩ hw (kr_nmM fun M1 hM1 => ?_)
    replace h := h M1 hM1
    refine kr_iload_n O dJ15_hashCode_58 rfl 0 rfl ?_
    exact kr_iret O dJ15_hashCode_59 rfl h
  · replace h := h.2 hc
    refine kr_aload_n O dJ15_hashCode_45 rfl 1 rfl ?_
    refine kr_iconst O dJ15_hashCode_46 (v := (1 : Int32)) (by decide) ?_
    obtain ⟨hw, h⟩ := h
    refine kr_putf O dJ15_hashCode_47 fs_J15_23 (Or.inl rfl) ⟨by decide, by decide⟩ hw (kr_nmM fun M2 hM2 => ?_)
    replace h := h M2 hM2
    refine kr_goto (tgt := 58) O dJ15_hashCode_50 rfl ?_
    refine kr_iload_n O dJ15_hashCode_58 rfl 0 rfl ?_
    exact kr_iret O dJ15_hashCode_59 rfl h
def vc_J15_hashCode (w : kt_W) (gr : kt_g × kt_M) (d : Nat) (P : Option Value → kt_M → Prop) (X : String → Nat → kt_M → Prop) (a0 : Nat) (M : kt_M) : Prop :=
  ∃ u1, kt_gf M a0 116 = some (.int u1) ∧ 
    ((¬ u1 = 0 → P (some (.int u1)) M) ∧
    (u1 = 0 → ∃ u2, kt_gf M a0 117 = some (.int u2) ∧ 
      ((¬ u2 = 0 → P (some (.int u1)) M) ∧
      (u2 = 0 → (kt_co M a0 = some 20) ∧ 
      kt_Ca w gr d yJ15_isLatin1 kc_J15_isLatin1 [va_rf (some a0)] M (kt_pI fun u3 M4 => 
        ((u3 = 0 → ∃ p5, kt_gf M4 a0 114 = some (va_rf p5) ∧ 
        kt_Ca w gr d yJ16_hashCode kc_J16_hashCode [va_rf p5] M4 (kt_pI fun u6 M7 => vc_J15_hashCode_40 w gr d P X  a0 u6 M7) X) ∧
        (¬ u3 = 0 → ∃ p8, kt_gf M4 a0 114 = some (va_rf p8) ∧ 
        kt_Ca w gr d yJ17_hashCode kc_J17_hashCode [va_rf p8] M4 (kt_pI fun u9 M10 => vc_J15_hashCode_40 w gr d P X  a0 u9 M10) X))) X))))
theorem ce_J15_hashCode {w : kt_W} {g : kt_g} {d : Nat} {P : Option Value → kt_M → Prop} {X : String → Nat → kt_M → Prop} {a0 : Nat} {M : kt_M} (h : vc_J15_hashCode w (g, M) d P X a0 M) : kt_Sp w g (d + 1) yJ15_hashCode kc_J15_hashCode [va_rf (some a0)] M P X := by
  refine kt_of (L0 := [(0, va_rf (some a0))]) (by decide +kernel) (Nat.le_of_ble_eq_true rfl) rfl fun x O => ?_
  replace O : kt_O w x (g, M) (d + 1) cJ15_hashCode "java/lang/String" 2 ("hashCode", "()I") (Option.some Jvm.ClassFile.FieldType.int) [] := O
  unfold vc_J15_hashCode at h
  refine kr_aload_n O dJ15_hashCode_0 rfl 0 rfl ?_
  obtain ⟨u1, eu1, h⟩ := h
  refine kr_getf O dJ15_hashCode_1 fs_J15_19 eu1 ?_
  refine kr_istore_n O dJ15_hashCode_4 rfl (Nat.le_of_ble_eq_true rfl) rfl rfl ?_
  refine kr_iload_n O dJ15_hashCode_5 rfl 0 rfl ?_
  refine kr_if_ne (tgt := 58) O dJ15_hashCode_6 rfl (fun hc => ?_) (fun hc => ?_)
  · replace h := h.1 hc
    refine kr_iload_n O dJ15_hashCode_58 rfl 0 rfl ?_
    exact kr_iret O dJ15_hashCode_59 rfl h
  · replace h := h.2 hc
    refine kr_aload_n O dJ15_hashCode_9 rfl 1 rfl ?_
    obtain ⟨u2, eu2, h⟩ := h
    refine kr_getf O dJ15_hashCode_10 fs_J15_23 eu2 ?_
    refine kr_if_ne (tgt := 58) O dJ15_hashCode_13 rfl (fun hc => ?_) (fun hc => ?_)
    · replace h := h.1 hc
      refine kr_iload_n O dJ15_hashCode_58 rfl 0 rfl ?_
      exact kr_iret O dJ15_hashCode_59 rfl h
    · replace h := h.2 hc
      refine kr_aload_n O dJ15_hashCode_16 rfl 1 rfl ?_
      obtain ⟨hco, h⟩ := h
      refine kr_caI (rest := []) O cd_J15_isLatin1 h (Nat.le_of_ble_eq_true rfl) (fun ls _ => kt_ivV (ci := 20) O dJ15_hashCode_17 cd_J15_isLatin1 in_J15_isLatin1 (Or.inl q1464) q1465 q1466 hco (by decide) hy_J15_isLatin1) (fun u3 M4 hq => ?_) (fun E q M9 hx => kr_out O hx)
      replace h := hq
      clear hq
      refine kr_if_eq (tgt := 33) O dJ15_hashCode_20 rfl (fun hc => ?_) (fun hc => ?_)
      · replace h := h.1 hc
        refine kr_aload_n O dJ15_hashCode_33 rfl 1 rfl ?_
        obtain ⟨p5, ep5, h⟩ := h
        refine kr_getf O dJ15_hashCode_34 fs_J15_9 ep5 ?_
        refine kr_caI (rest := []) O cd_J16_hashCode h (Nat.le_of_ble_eq_true rfl) (fun ls _ => kt_ivS O dJ15_hashCode_37 cd_J16_hashCode in_J16_hashCode q1764 q1765 hy_J16_hashCode) (fun u6 M7 hq => ?_) (fun E q M9 hx => kr_out O hx)
        replace h := hq
        clear hq
        refine kr_sub [1] rfl ?_
        exact cj_J15_hashCode_40 O  h
      · replace h := h.2 hc
        refine kr_aload_n O dJ15_hashCode_23 rfl 1 rfl ?_
        obtain ⟨p8, ep8, h⟩ := h
        refine kr_getf O dJ15_hashCode_24 fs_J15_9 ep8 ?_
        refine kr_caI (rest := []) O cd_J17_hashCode h (Nat.le_of_ble_eq_true rfl) (fun ls _ => kt_ivS O dJ15_hashCode_27 cd_J17_hashCode in_J17_hashCode q1715 q1716 hy_J17_hashCode) (fun u9 M10 hq => ?_) (fun E q M9 hx => kr_out O hx)
        replace h := hq
        clear hq
        refine kr_goto (tgt := 40) O dJ15_hashCode_30 rfl ?_
        refine kr_sub [1] rfl ?_
        exact cj_J15_hashCode_40 O  h
def vc_J16_newBytesFor (w : kt_W) (gr : kt_g × kt_M) (d : Nat) (P : Option Value → kt_M → Prop) (X : String → Nat → kt_M → Prop) (v0 : Int32) (M : kt_M) : Prop :=
  
  kt_Ca w gr d yJ16_newBytesLength kc_J16_newBytesLength [.int v0] M (kt_pI fun u1 M2 => ∃ n3, u1 = nI n3 ∧ n3 < 2 ^ 31 ∧ kt_fits w M2 n3 ∧ ∃ t4, ∀ M5, M5 = kt_new M2 n3 (t4 + 2, .inl (2, kt_z 2 n3)) → P (some (va_rf (some M2.1))) M5) X
theorem ce_J16_newBytesFor {w : kt_W} {g : kt_g} {d : Nat} {P : Option Value → kt_M → Prop} {X : String → Nat → kt_M → Prop} {v0 : Int32} {M : kt_M} (h : vc_J16_newBytesFor w (g, M) d P X v0 M) : kt_Sp w g (d + 1) yJ16_newBytesFor kc_J16_newBytesFor [.int v0] M P X := by
  refine kt_of (L0 := [(0, .int v0)]) (by decide +kernel) (Nat.le_of_ble_eq_true rfl) rfl fun x O => ?_
  replace O : kt_O w x (g, M) (d + 1) cJ16_newBytesFor "java/lang/StringUTF16" 1 ("newBytesFor", "(I)[B") (Option.some (Jvm.ClassFile.FieldType.array Jvm.ClassFile.FieldType.byte)) [] := O
  unfold vc_J16_newBytesFor at h
  refine kr_iload_n O dJ16_newBytesFor_0 rfl 0 rfl ?_
  refine kr_caI (rest := []) O cd_J16_newBytesLength h (Nat.le_of_ble_eq_true rfl) (fun ls _ => kt_ivS O dJ16_newBytesFor_1 cd_J16_newBytesLength in_J16_newBytesLength q1055 q1056 hy_J16_newBytesLength) (fun u1 M2 hq => ?_) (fun E q M9 hx => kr_out O hx)
  replace h := hq
  clear hq
  obtain ⟨n3, hn, hl, hf, t4, h⟩ := h
  refine kr_newarr t4 2 O dJ16_newBytesFor_4 (by decide) rfl q236 hn hl hf (kr_nmM fun M5 hM5 => ?_)
  replace h := h M5 hM5
  exact kr_aret O dJ16_newBytesFor_6 (by first | exact Or.inl ⟨_, rfl⟩ | exact Or.inr ⟨_, rfl⟩) h
def vc_J16_newBytesLength (w : kt_W) (gr : kt_g × kt_M) (d : Nat) (P : Option Value → kt_M → Prop) (X : String → Nat → kt_M → Prop) (v0 : Int32) (M : kt_M) : Prop :=
  
    ((0 ≤ v0 → 
      ((v0 < (1073741823 : Int32) → P (some (.int (v0 <<< ((1 : Int32) &&& 31)))) M) ∧
      (¬ v0 < (1073741823 : Int32) → False))) ∧
    (¬ 0 ≤ v0 → False))
theorem ce_J16_newBytesLength {w : kt_W} {g : kt_g} {d : Nat} {P : Option Value → kt_M → Prop} {X : String → Nat → kt_M → Prop} {v0 : Int32} {M : kt_M} (h : vc_J16_newBytesLength w (g, M) d P X v0 M) : kt_Sp w g (d + 1) yJ16_newBytesLength kc_J16_newBytesLength [.int v0] M P X := by
  refine kt_of (L0 := [(0, .int v0)]) (by decide +kernel) (Nat.le_of_ble_eq_true rfl) rfl fun x O => ?_
  replace O : kt_O w x (g, M) (d + 1) cJ16_newBytesLength "java/lang/StringUTF16" 1 ("newBytesLength", "(I)I") (Option.some Jvm.ClassFile.FieldType.int) [] := O
  unfold vc_J16_newBytesLength at h
  refine kr_iload_n O dJ16_newBytesLength_0 rfl 0 rfl ?_
  refine kr_if_ge (tgt := 12) O dJ16_newBytesLength_1 rfl (fun hc => ?_) (fun hc => ?_)
  · replace h := h.1 hc
    refine kr_iload_n O dJ16_newBytesLength_12 rfl 0 rfl ?_
    refine kr_ldc O dJ16_newBytesLength_13 q1058 ?_
    refine kr_icmp_lt (tgt := 55) O dJ16_newBytesLength_15 rfl (fun hc => ?_) (fun hc => ?_)
    · replace h := h.1 hc
      refine kr_iload_n O dJ16_newBytesLength_55 rfl 0 rfl ?_
      refine kr_iconst O dJ16_newBytesLength_56 (v := (1 : Int32)) (by decide) ?_
      refine kr_ishl O dJ16_newBytesLength_57 ?_
      exact kr_iret O dJ16_newBytesLength_58 rfl h
    · replace h := h.2 hc
      exact h.elim
  · replace h := h.2 hc
    exact h.elim
def vc_J16_checkBoundsBeginEnd (w : kt_W) (gr : kt_g × kt_M) (d : Nat) (P : Option Value → kt_M → Prop) (X : String → Nat → kt_M → Prop) (v0 : Int32) (v1 : Int32) (r2 : Option Nat) (M : kt_M) : Prop :=
  
  kt_Ca w gr d yJ16_length kc_J16_length [va_rf r2] M (kt_pI fun u1 M2 => 
  kt_Ca w gr d yJ15_checkBoundsBeginEnd kc_J15_checkBoundsBeginEnd [.int v0, .int v1, .int u1] M2 (kt_pV fun M3 => P none M3) X) X
theorem ce_J16_checkBoundsBeginEnd {w : kt_W} {g : kt_g} {d : Nat} {P : Option Value → kt_M → Prop} {X : String → Nat → kt_M → Prop} {v0 : Int32} {v1 : Int32} {r2 : Option Nat} {M : kt_M} (h : vc_J16_checkBoundsBeginEnd w (g, M) d P X v0 v1 r2 M) : kt_Sp w g (d + 1) yJ16_checkBoundsBeginEnd kc_J16_checkBoundsBeginEnd [.int v0, .int v1, va_rf r2] M P X := by
  refine kt_of (L0 := [(0, .int v0), (1, .int v1), (2, va_rf r2)]) (by decide +kernel) (by simp only [kt_lgR, kt_lgI, kt_lgN] <;> exact Nat.le_of_ble_eq_true rfl) (by simp only [kt_lvR, kt_lvI, kt_lvN] <;> rfl) fun x O => ?_
  replace O : kt_O w x (g, M) (d + 1) cJ16_checkBoundsBeginEnd "java/lang/StringUTF16" 3 ("checkBoundsBeginEnd", "(II[B)V") (Option.none : Option Jvm.ClassFile.FieldType) [] := O
  unfold vc_J16_checkBoundsBeginEnd at h
  refine kr_iload_n O dJ16_checkBoundsBeginEnd_0 rfl 0 rfl ?_
  refine kr_iload_n O dJ16_checkBoundsBeginEnd_1 rfl 1 rfl ?_
  refine kr_aload_n O dJ16_checkBoundsBeginEnd_2 rfl 2 rfl ?_
  refine kr_caI (rest := [.int v1, .int v0]) O cd_J16_length h (Nat.le_of_ble_eq_true rfl) (fun ls _ => kt_ivS O dJ16_checkBoundsBeginEnd_3 cd_J16_length in_J16_length q1113 q1114 hy_J16_length) (fun u1 M2 hq => ?_) (fun E q M9 hx => kr_out O hx)
  replace h := hq
  clear hq
  refine kr_caV (rest := []) O cd_J15_checkBoundsBeginEnd h (Nat.le_of_ble_eq_true rfl) (fun ls _ => kt_ivS O dJ16_checkBoundsBeginEnd_6 cd_J15_checkBoundsBeginEnd in_J15_checkBoundsBeginEnd q1116 q1117 hy_J15_checkBoundsBeginEnd) (fun M3 hq => ?_) (fun E q M9 hx => kr_out O hx)
  replace h := hq
  clear hq
  exact kr_vret O dJ16_checkBoundsBeginEnd_9 h
def vc_J16_length (w : kt_W) (gr : kt_g × kt_M) (d : Nat) (P : Option Value → kt_M → Prop) (X : String → Nat → kt_M → Prop) (r0 : Option Nat) (M : kt_M) : Prop :=
  ∃ b1, r0 = some b1 ∧ ∃ n2, kt_len M b1 = some n2 ∧ P (some (.int ((nI n2) >>> ((1 : Int32) &&& 31)))) M
theorem ce_J16_length {w : kt_W} {g : kt_g} {d : Nat} {P : Option Value → kt_M → Prop} {X : String → Nat → kt_M → Prop} {r0 : Option Nat} {M : kt_M} (h : vc_J16_length w (g, M) d P X r0 M) : kt_Sp w g (d + 1) yJ16_length kc_J16_length [va_rf r0] M P X := by
  refine kt_of (L0 := [(0, va_rf r0)]) (by decide +kernel) (by simp only [kt_lgR, kt_lgI, kt_lgN] <;> exact Nat.le_of_ble_eq_true rfl) (by simp only [kt_lvR, kt_lvI, kt_lvN] <;> rfl) fun x O => ?_
  replace O : kt_O w x (g, M) (d + 1) cJ16_length "java/lang/StringUTF16" 1 ("length", "([B)I") (Option.some Jvm.ClassFile.FieldType.int) [] := O
  unfold vc_J16_length at h
  refine kr_aload_n O dJ16_length_0 rfl 0 rfl ?_
  obtain ⟨b1, rfl, h⟩ := h
  obtain ⟨n2, en2, h⟩ := h
  refine kr_alen O dJ16_length_1 en2 ?_
  refine kr_iconst O dJ16_length_2 (v := (1 : Int32)) (by decide) ?_
  refine kr_ishr O dJ16_length_3 ?_
  exact kr_iret O dJ16_length_4 rfl h
def vc_J16_putChar (w : kt_W) (gr : kt_g × kt_M) (d : Nat) (P : Option Value → kt_M → Prop) (X : String → Nat → kt_M → Prop) (r0 : Option Nat) (v1 : Int32) (v2 : Int32) (M : kt_M) : Prop :=
  False
theorem ce_J16_putChar {w : kt_W} {g : kt_g} {d : Nat} {P : Option Value → kt_M → Prop} {X : String → Nat → kt_M → Prop} {r0 : Option Nat} {v1 : Int32} {v2 : Int32} {M : kt_M} (h : vc_J16_putChar w (g, M) d P X r0 v1 v2 M) : kt_Sp w g (d + 1) yJ16_putChar kc_J16_putChar [va_rf r0, .int v1, .int v2] M P X := by
  refine kt_of (L0 := [(0, va_rf r0), (1, .int v1), (2, .int v2)]) (by decide +kernel) (by simp only [kt_lgR, kt_lgI, kt_lgN] <;> exact Nat.le_of_ble_eq_true rfl) (by simp only [kt_lvR, kt_lvI, kt_lvN] <;> rfl) fun x O => ?_
  replace O : kt_O w x (g, M) (d + 1) cJ16_putChar "java/lang/StringUTF16" 3 ("putChar", "([BII)V") (Option.none : Option Jvm.ClassFile.FieldType) [] := O
  unfold vc_J16_putChar at h
  exact h.elim
def vc_J16_inflate_10 (w : kt_W) (gr : kt_g × kt_M) (d : Nat) (P : Option Value → kt_M → Prop) (X : String → Nat → kt_M → Prop) (nx10 : Int32 → Int32 → Int32 → kt_M → Prop) (r0 : Option Nat) (v1 : Int32) (r2 : Option Nat) (v3 : Int32) (v4 : Int32) (v5 : Int32) (M : kt_M) : Prop :=
  
    ((v4 ≤ v5 → P none M) ∧
    (¬ v4 ≤ v5 → ∃ b1, r0 = some b1 ∧ ∃ u2, kt_el 2 M b1 v1 = some (.int u2) ∧ 
    kt_Ca w gr d yJ16_putChar kc_J16_putChar [va_rf r2, .int v3, .int (u2 &&& (255 : Int32))] M (kt_pV fun M3 => nx10 (v1 + (1 : Int32)) (v3 + (1 : Int32)) (v5 + (1 : Int32)) M3) X))
theorem cj_J16_inflate_10 {w : kt_W} {x : kt_X} {gr : kt_g × kt_M} {d : Nat} {P : Option Value → kt_M → Prop} {X : String → Nat → kt_M → Prop} {nx10 : Int32 → Int32 → Int32 → kt_M → Prop} {r0 : Option Nat} {v1 : Int32} {r2 : Option Nat} {v3 : Int32} {v4 : Int32} {v5 : Int32} {M : kt_M} (O : kt_O w x gr (d + 1) cJ16_inflate "java/lang/StringUTF16" 6 ("inflate", "([BI[BII)V") (Option.none : Option Jvm.ClassFile.FieldType) []) (hn10 : ∀ v1 v3 v5 M, nx10 v1 v3 v5 M → kt_S w x 6 (kt_E w x P X) M 10 [(0, va_rf r0), (1, .int v1), (2, va_rf r2), (3, .int v3), (4, .int v4), (5, .int v5)] []) (h : vc_J16_inflate_10 w gr d P X nx10 r0 v1 r2 v3 v4 v5 M) : kt_S w x 6 (kt_E w x P X) M 10 [(0, va_rf r0), (1, .int v1), (2, va_rf r2), (3, .int v3), (4, .int v4), (5, .int v5)] [] := by
  unfold vc_J16_inflate_10 at h
  refine kr_iload O dJ16_inflate_10 5 rfl ?_
  refine kr_iload O dJ16_inflate_12 4 rfl ?_
  refine kr_icmp_ge (tgt := 41) O dJ16_inflate_14 rfl (fun hc => ?_) (fun hc => ?_)
  · replace h := h.1 hc
    exact kr_vret O dJ16_inflate_41 h
  · replace h := h.2 hc
    refine kr_aload_n O dJ16_inflate_17 rfl 2 rfl ?_
    refine kr_iload_n O dJ16_inflate_18 rfl 3 rfl ?_
    refine kr_iinc O dJ16_inflate_19 3 rfl (v := v3 + (1 : Int32)) rfl (Nat.le_of_ble_eq_true rfl) (by simp [kt_nw, kt_nrf, kt_cI, kt_cJ, kt_cF, kt_cD, kt_cR, kt_cU]) rfl ?_
    refine kr_aload_n O dJ16_inflate_22 rfl 1 rfl ?_
    refine kr_iload_n O dJ16_inflate_23 rfl 2 rfl ?_
    refine kr_iinc O dJ16_inflate_24 2 rfl (v := v1 + (1 : Int32)) rfl (Nat.le_of_ble_eq_true rfl) (by simp [kt_nw, kt_nrf, kt_cI, kt_cJ, kt_cF, kt_cD, kt_cR, kt_cU]) rfl ?_
    obtain ⟨b1, rfl, h⟩ := h
    obtain ⟨u2, eu2, h⟩ := h
    refine kr_baload O dJ16_inflate_27 eu2 ?_
    refine kr_sipush O dJ16_inflate_28 (v := (255 : Int32)) (by decide) ?_
    refine kr_iand O dJ16_inflate_31 ?_
    refine kr_caV (rest := []) O cd_J16_putChar h (Nat.le_of_ble_eq_true rfl) (fun ls _ => kt_ivS O dJ16_inflate_32 cd_J16_putChar in_J16_putChar q1124 q1125 hy_J16_putChar) (fun M3 hq => ?_) (fun E q M9 hx => kr_out O hx)
    replace h := hq
    clear hq
    refine kr_iinc O dJ16_inflate_35 5 rfl (v := v5 + (1 : Int32)) rfl (Nat.le_of_ble_eq_true rfl) rfl rfl ?_
    refine kr_goto (tgt := 10) O dJ16_inflate_38 rfl ?_
    refine kr_sub [3, 1, 4, 2, 5, 0] rfl ?_
    exact hn10 _ _ _ _ h
def vl_J16_inflate_10 (w : kt_W) (gr : kt_g × kt_M) (d : Nat) (P : Option Value → kt_M → Prop) (X : String → Nat → kt_M → Prop)  (r0 : Option Nat) (v1 : Int32) (r2 : Option Nat) (v3 : Int32) (v4 : Int32) (v5 : Int32) (M : kt_M) : Prop :=
  ∃ Inv : Nat → Int32 → Int32 → Int32 → kt_M → Prop, (∃ k, Inv k v1 v3 v5 M) ∧ ∀ k v1 v3 v5 M, kt_le gr.1 gr.2 M → Inv k v1 v3 v5 M → vc_J16_inflate_10 w gr d P X (fun v1' v3' v5' M' => ∃ k', k' < k ∧ Inv k' v1' v3' v5' M') r0 v1 r2 v3 v4 v5 M
theorem cl_J16_inflate_10 {w : kt_W} {x : kt_X} {gr : kt_g × kt_M} {d : Nat} {P : Option Value → kt_M → Prop} {X : String → Nat → kt_M → Prop}  {r0 : Option Nat} {v1 : Int32} {r2 : Option Nat} {v3 : Int32} {v4 : Int32} {v5 : Int32} {M : kt_M} (O : kt_O w x gr (d + 1) cJ16_inflate "java/lang/StringUTF16" 6 ("inflate", "([BI[BII)V") (Option.none : Option Jvm.ClassFile.FieldType) [])  (h : vl_J16_inflate_10 w gr d P X  r0 v1 r2 v3 v4 v5 M) : kt_S w x 6 (kt_E w x P X) M 10 [(0, va_rf r0), (1, .int v1), (2, va_rf r2), (3, .int v3), (4, .int v4), (5, .int v5)] [] := by
  obtain ⟨Inv, ⟨k, hk⟩, hb⟩ := h
  induction k using Nat.strongRecOn generalizing v1 v3 v5 M with
  | ind k ih =>
    exact kr_le O fun hle => cj_J16_inflate_10 O (fun v1' v3' v5' M' hi => let ⟨k', h1, h2⟩ := hi; ih k' h1 h2) (hb k _ _ _ _ hle hk)
def vc_J16_inflate (w : kt_W) (gr : kt_g × kt_M) (d : Nat) (P : Option Value → kt_M → Prop) (X : String → Nat → kt_M → Prop) (r0 : Option Nat) (v1 : Int32) (r2 : Option Nat) (v3 : Int32) (v4 : Int32) (M : kt_M) : Prop :=
  
  kt_Ca w gr d yJ16_checkBoundsOffCount kc_J16_checkBoundsOffCount [.int v3, .int v4, va_rf r2] M (kt_pV fun M1 => vl_J16_inflate_10 w gr d P X  r0 v1 r2 v3 v4 (0 : Int32) M1) X
theorem ce_J16_inflate {w : kt_W} {g : kt_g} {d : Nat} {P : Option Value → kt_M → Prop} {X : String → Nat → kt_M → Prop} {r0 : Option Nat} {v1 : Int32} {r2 : Option Nat} {v3 : Int32} {v4 : Int32} {M : kt_M} (h : vc_J16_inflate w (g, M) d P X r0 v1 r2 v3 v4 M) : kt_Sp w g (d + 1) yJ16_inflate kc_J16_inflate [va_rf r0, .int v1, va_rf r2, .int v3, .int v4] M P X := by
  refine kt_of (L0 := [(0, va_rf r0), (1, .int v1), (2, va_rf r2), (3, .int v3), (4, .int v4)]) (by decide +kernel) (by simp only [kt_lgR, kt_lgI, kt_lgN] <;> exact Nat.le_of_ble_eq_true rfl) (by simp only [kt_lvR, kt_lvI, kt_lvN] <;> rfl) fun x O => ?_
  replace O : kt_O w x (g, M) (d + 1) cJ16_inflate "java/lang/StringUTF16" 6 ("inflate", "([BI[BII)V") (Option.none : Option Jvm.ClassFile.FieldType) [] := O
  unfold vc_J16_inflate at h
  refine kr_iload_n O dJ16_inflate_0 rfl 3 rfl ?_
  refine kr_iload O dJ16_inflate_1 4 rfl ?_
  refine kr_aload_n O dJ16_inflate_3 rfl 2 rfl ?_
  refine kr_caV (rest := []) O cd_J16_checkBoundsOffCount h (Nat.le_of_ble_eq_true rfl) (fun ls _ => kt_ivS O dJ16_inflate_4 cd_J16_checkBoundsOffCount in_J16_checkBoundsOffCount q1161 q1162 hy_J16_checkBoundsOffCount) (fun M1 hq => ?_) (fun E q M9 hx => kr_out O hx)
  replace h := hq
  clear hq
  refine kr_iconst O dJ16_inflate_7 (v := (0 : Int32)) (by decide) ?_
  refine kr_istore O dJ16_inflate_8 (Nat.le_of_ble_eq_true rfl) rfl rfl ?_
  refine kr_sub [1, 2, 3, 4, 5, 0] rfl ?_
  exact cl_J16_inflate_10 O  h
def vc_J16_checkBoundsOffCount (w : kt_W) (gr : kt_g × kt_M) (d : Nat) (P : Option Value → kt_M → Prop) (X : String → Nat → kt_M → Prop) (v0 : Int32) (v1 : Int32) (r2 : Option Nat) (M : kt_M) : Prop :=
  
  kt_Ca w gr d yJ16_length kc_J16_length [va_rf r2] M (kt_pI fun u1 M2 => 
  kt_Ca w gr d yJ15_checkBoundsOffCount kc_J15_checkBoundsOffCount [.int v0, .int v1, .int u1] M2 (kt_pI fun u3 M4 => P none M4) X) X
theorem ce_J16_checkBoundsOffCount {w : kt_W} {g : kt_g} {d : Nat} {P : Option Value → kt_M → Prop} {X : String → Nat → kt_M → Prop} {v0 : Int32} {v1 : Int32} {r2 : Option Nat} {M : kt_M} (h : vc_J16_checkBoundsOffCount w (g, M) d P X v0 v1 r2 M) : kt_Sp w g (d + 1) yJ16_checkBoundsOffCount kc_J16_checkBoundsOffCount [.int v0, .int v1, va_rf r2] M P X := by
  refine kt_of (L0 := [(0, .int v0), (1, .int v1), (2, va_rf r2)]) (by decide +kernel) (by simp only [kt_lgR, kt_lgI, kt_lgN] <;> exact Nat.le_of_ble_eq_true rfl) (by simp only [kt_lvR, kt_lvI, kt_lvN] <;> rfl) fun x O => ?_
  replace O : kt_O w x (g, M) (d + 1) cJ16_checkBoundsOffCount "java/lang/StringUTF16" 3 ("checkBoundsOffCount", "(II[B)V") (Option.none : Option Jvm.ClassFile.FieldType) [] := O
  unfold vc_J16_checkBoundsOffCount at h
  refine kr_iload_n O dJ16_checkBoundsOffCount_0 rfl 0 rfl ?_
  refine kr_iload_n O dJ16_checkBoundsOffCount_1 rfl 1 rfl ?_
  refine kr_aload_n O dJ16_checkBoundsOffCount_2 rfl 2 rfl ?_
  refine kr_caI (rest := [.int v1, .int v0]) O cd_J16_length h (Nat.le_of_ble_eq_true rfl) (fun ls _ => kt_ivS O dJ16_checkBoundsOffCount_3 cd_J16_length in_J16_length q1113 q1114 hy_J16_length) (fun u1 M2 hq => ?_) (fun E q M9 hx => kr_out O hx)
  replace h := hq
  clear hq
  refine kr_caI (rest := []) O cd_J15_checkBoundsOffCount h (Nat.le_of_ble_eq_true rfl) (fun ls _ => kt_ivS O dJ16_checkBoundsOffCount_6 cd_J15_checkBoundsOffCount in_J15_checkBoundsOffCount q1164 q1165 hy_J15_checkBoundsOffCount) (fun u3 M4 hq => ?_) (fun E q M9 hx => kr_out O hx)
  replace h := hq
  clear hq
  refine kr_pop O dJ16_checkBoundsOffCount_9 rfl ?_
  exact kr_vret O dJ16_checkBoundsOffCount_10 h
def vc_J16_getChars (w : kt_W) (gr : kt_g × kt_M) (d : Nat) (P : Option Value → kt_M → Prop) (X : String → Nat → kt_M → Prop) (v0 : Int32) (v1 : Int32) (v2 : Int32) (r3 : Option Nat) (M : kt_M) : Prop :=
  
  kt_Ca w gr d yJ16_checkBoundsBeginEnd kc_J16_checkBoundsBeginEnd [.int v1, .int v2, va_rf r3] M (kt_pV fun M1 => 
  kt_Ca w gr d yJ16_getChars_2 kc_J16_getChars_2 [.int v0, .int v2, va_rf r3] M1 (kt_pI fun u2 M3 => False) X) X
theorem ce_J16_getChars {w : kt_W} {g : kt_g} {d : Nat} {P : Option Value → kt_M → Prop} {X : String → Nat → kt_M → Prop} {v0 : Int32} {v1 : Int32} {v2 : Int32} {r3 : Option Nat} {M : kt_M} (h : vc_J16_getChars w (g, M) d P X v0 v1 v2 r3 M) : kt_Sp w g (d + 1) yJ16_getChars kc_J16_getChars [.int v0, .int v1, .int v2, va_rf r3] M P X := by
  refine kt_of (L0 := [(0, .int v0), (1, .int v1), (2, .int v2), (3, va_rf r3)]) (by decide +kernel) (by simp only [kt_lgR, kt_lgI, kt_lgN] <;> exact Nat.le_of_ble_eq_true rfl) (by simp only [kt_lvR, kt_lvI, kt_lvN] <;> rfl) fun x O => ?_
  replace O : kt_O w x (g, M) (d + 1) cJ16_getChars "java/lang/StringUTF16" 5 ("getChars", "(III[B)I") (Option.some Jvm.ClassFile.FieldType.int) [] := O
  unfold vc_J16_getChars at h
  refine kr_iload_n O dJ16_getChars_0 rfl 1 rfl ?_
  refine kr_iload_n O dJ16_getChars_1 rfl 2 rfl ?_
  refine kr_aload_n O dJ16_getChars_2 rfl 3 rfl ?_
  refine kr_caV (rest := []) O cd_J16_checkBoundsBeginEnd h (Nat.le_of_ble_eq_true rfl) (fun ls _ => kt_ivS O dJ16_getChars_3 cd_J16_checkBoundsBeginEnd in_J16_checkBoundsBeginEnd q1110 q1111 hy_J16_checkBoundsBeginEnd) (fun M1 hq => ?_) (fun E q M9 hx => kr_out O hx)
  replace h := hq
  clear hq
  refine kr_iload_n O dJ16_getChars_6 rfl 0 rfl ?_
  refine kr_iload_n O dJ16_getChars_7 rfl 2 rfl ?_
  refine kr_aload_n O dJ16_getChars_8 rfl 3 rfl ?_
  refine kr_caI (rest := []) O cd_J16_getChars_2 h (Nat.le_of_ble_eq_true rfl) (fun ls _ => kt_ivS O dJ16_getChars_9 cd_J16_getChars_2 in_J16_getChars_2 q1244 q1245 hy_J16_getChars_2) (fun u2 M3 hq => ?_) (fun E q M9 hx => kr_out O hx)
  replace h := hq
  clear hq
  refine kr_istore O dJ16_getChars_12 (Nat.le_of_ble_eq_true rfl) (by simp [kt_nw, kt_nrf, kt_cI, kt_cJ, kt_cF, kt_cD, kt_cR, kt_cU]) rfl ?_
  exact h.elim
def vc_J16_getChars_2_112 (w : kt_W) (gr : kt_g × kt_M) (d : Nat) (P : Option Value → kt_M → Prop) (X : String → Nat → kt_M → Prop)  (r2 : Option Nat) (v5 : Int32) (v6 : Int32) (M : kt_M) : Prop :=
  
    ((v6 = 0 → P (some (.int v5)) M) ∧
    (¬ v6 = 0 → 
    kt_Ca w gr d yJ16_putChar kc_J16_putChar [va_rf r2, .int (v5 + (-1 : Int32)), .int (45 : Int32)] M (kt_pV fun M1 => P (some (.int (v5 + (-1 : Int32)))) M1) X))
theorem cj_J16_getChars_2_112 {w : kt_W} {x : kt_X} {gr : kt_g × kt_M} {d : Nat} {P : Option Value → kt_M → Prop} {X : String → Nat → kt_M → Prop}  {r2 : Option Nat} {v5 : Int32} {v6 : Int32} {M : kt_M} (O : kt_O w x gr (d + 1) cJ16_getChars_2 "java/lang/StringUTF16" 7 ("getChars", "(II[B)I") (Option.some Jvm.ClassFile.FieldType.int) [])  (h : vc_J16_getChars_2_112 w gr d P X  r2 v5 v6 M) : kt_S w x 7 (kt_E w x P X) M 112 [(2, va_rf r2), (5, .int v5), (6, .int v6)] [] := by
  unfold vc_J16_getChars_2_112 at h
  refine kr_iload O dJ16_getChars_2_112 2 rfl ?_
  refine kr_if_eq (tgt := 128) O dJ16_getChars_2_114 rfl (fun hc => ?_) (fun hc => ?_)
  · replace h := h.1 hc
    refine kr_iload O dJ16_getChars_2_128 1 rfl ?_
    exact kr_iret O dJ16_getChars_2_130 rfl h
  · replace h := h.2 hc
    refine kr_aload_n O dJ16_getChars_2_117 rfl 0 rfl ?_
    refine kr_iinc O dJ16_getChars_2_118 1 rfl (v := v5 + (-1 : Int32)) rfl (Nat.le_of_ble_eq_true rfl) rfl rfl ?_
    refine kr_iload O dJ16_getChars_2_121 0 rfl ?_
    refine kr_bipush O dJ16_getChars_2_123 (v := (45 : Int32)) (by decide) ?_
    refine kr_caV (rest := []) O cd_J16_putChar h (Nat.le_of_ble_eq_true rfl) (fun ls _ => kt_ivS O dJ16_getChars_2_125 cd_J16_putChar in_J16_putChar q1124 q1125 hy_J16_putChar) (fun M1 hq => ?_) (fun E q M9 hx => kr_out O hx)
    replace h := hq
    clear hq
    refine kr_iload O dJ16_getChars_2_128 0 rfl ?_
    exact kr_iret O dJ16_getChars_2_130 rfl h
def vc_J16_getChars_2_22 (w : kt_W) (gr : kt_g × kt_M) (d : Nat) (P : Option Value → kt_M → Prop) (X : String → Nat → kt_M → Prop) (nx22 : Int32 → Int32 → kt_M → Prop) (v0 : Int32) (r2 : Option Nat) (v5 : Int32) (v6 : Int32) (M : kt_M) : Prop :=
  
    (((-100 : Int32) < v0 → ∃ u1, kt_el 2 M (kt_cA w 10) (-v0) = some (.int u1) ∧ 
    kt_Ca w gr d yJ16_putChar kc_J16_putChar [va_rf r2, .int (v5 + (-1 : Int32)), .int u1] M (kt_pV fun M2 => 
      (((-9 : Int32) ≤ v0 → vc_J16_getChars_2_112 w gr d P X  r2 (v5 + (-1 : Int32)) v6 M2) ∧
      (¬ (-9 : Int32) ≤ v0 → ∃ u3, kt_el 2 M2 (kt_cA w 11) (-v0) = some (.int u3) ∧ 
      kt_Ca w gr d yJ16_putChar kc_J16_putChar [va_rf r2, .int ((v5 + (-1 : Int32)) + (-1 : Int32)), .int u3] M2 (kt_pV fun M4 => vc_J16_getChars_2_112 w gr d P X  r2 ((v5 + (-1 : Int32)) + (-1 : Int32)) v6 M4) X))) X) ∧
    (¬ (-100 : Int32) < v0 → ¬ (100 : Int32) = 0 ∧ ∃ u5, kt_el 2 M (kt_cA w 10) (((v0 / (100 : Int32)) * (100 : Int32)) - v0) = some (.int u5) ∧ 
    kt_Ca w gr d yJ16_putChar kc_J16_putChar [va_rf r2, .int (v5 + (-1 : Int32)), .int u5] M (kt_pV fun M6 => ∃ u7, kt_el 2 M6 (kt_cA w 11) (((v0 / (100 : Int32)) * (100 : Int32)) - v0) = some (.int u7) ∧ 
    kt_Ca w gr d yJ16_putChar kc_J16_putChar [va_rf r2, .int ((v5 + (-1 : Int32)) + (-1 : Int32)), .int u7] M6 (kt_pV fun M8 => nx22 (v0 / (100 : Int32)) ((v5 + (-1 : Int32)) + (-1 : Int32)) M8) X) X))
theorem cj_J16_getChars_2_22 {w : kt_W} {x : kt_X} {gr : kt_g × kt_M} {d : Nat} {P : Option Value → kt_M → Prop} {X : String → Nat → kt_M → Prop} {nx22 : Int32 → Int32 → kt_M → Prop} {v0 : Int32} {r2 : Option Nat} {v5 : Int32} {v6 : Int32} {M : kt_M} (O : kt_O w x gr (d + 1) cJ16_getChars_2 "java/lang/StringUTF16" 7 ("getChars", "(II[B)I") (Option.some Jvm.ClassFile.FieldType.int) []) (hn22 : ∀ v0 v5 M, nx22 v0 v5 M → kt_S w x 7 (kt_E w x P X) M 22 [(0, .int v0), (2, va_rf r2), (5, .int v5), (6, .int v6)] []) (h : vc_J16_getChars_2_22 w gr d P X nx22 v0 r2 v5 v6 M) : kt_S w x 7 (kt_E w x P X) M 22 [(0, .int v0), (2, va_rf r2), (5, .int v5), (6, .int v6)] [] := by
  unfold vc_J16_getChars_2_22 at h
  refine kr_iload_n O dJ16_getChars_2_22 rfl 0 rfl ?_
  refine kr_bipush O dJ16_getChars_2_23 (v := (-100 : Int32)) (by decide) ?_
  refine kr_icmp_gt (tgt := 76) O dJ16_getChars_2_25 rfl (fun hc => ?_) (fun hc => ?_)
  · replace h := h.1 hc
    refine kr_aload_n O dJ16_getChars_2_76 rfl 1 rfl ?_
    refine kr_iinc O dJ16_getChars_2_77 2 rfl (v := v5 + (-1 : Int32)) rfl (Nat.le_of_ble_eq_true rfl) rfl rfl ?_
    refine kr_iload O dJ16_getChars_2_80 0 rfl ?_
    refine kr_gets O dJ16_getChars_2_82 q1247 (kt_inT 6 rfl) ?_
    refine kr_iload_n O dJ16_getChars_2_85 rfl 1 rfl ?_
    refine kr_ineg O dJ16_getChars_2_86 ?_
    obtain ⟨u1, eu1, h⟩ := h
    refine kr_baload O dJ16_getChars_2_87 eu1 ?_
    refine kr_caV (rest := []) O cd_J16_putChar h (Nat.le_of_ble_eq_true rfl) (fun ls _ => kt_ivS O dJ16_getChars_2_88 cd_J16_putChar in_J16_putChar q1124 q1125 hy_J16_putChar) (fun M2 hq => ?_) (fun E q M9 hx => kr_out O hx)
    replace h := hq
    clear hq
    refine kr_iload_n O dJ16_getChars_2_91 rfl 1 rfl ?_
    refine kr_bipush O dJ16_getChars_2_92 (v := (-9 : Int32)) (by decide) ?_
    refine kr_icmp_ge (tgt := 112) O dJ16_getChars_2_94 rfl (fun hc => ?_) (fun hc => ?_)
    · replace h := h.1 hc
      refine kr_sub [2, 0, 3] rfl ?_
      exact cj_J16_getChars_2_112 O  h
    · replace h := h.2 hc
      refine kr_aload_n O dJ16_getChars_2_97 rfl 2 rfl ?_
      refine kr_iinc O dJ16_getChars_2_98 0 rfl (v := (v5 + (-1 : Int32)) + (-1 : Int32)) rfl (Nat.le_of_ble_eq_true rfl) rfl rfl ?_
      refine kr_iload O dJ16_getChars_2_101 0 rfl ?_
      refine kr_gets O dJ16_getChars_2_103 q1248 (kt_inT 7 rfl) ?_
      refine kr_iload_n O dJ16_getChars_2_106 rfl 1 rfl ?_
      refine kr_ineg O dJ16_getChars_2_107 ?_
      obtain ⟨u3, eu3, h⟩ := h
      refine kr_baload O dJ16_getChars_2_108 eu3 ?_
      refine kr_caV (rest := []) O cd_J16_putChar h (Nat.le_of_ble_eq_true rfl) (fun ls _ => kt_ivS O dJ16_getChars_2_109 cd_J16_putChar in_J16_putChar q1124 q1125 hy_J16_putChar) (fun M4 hq => ?_) (fun E q M9 hx => kr_out O hx)
      replace h := hq
      clear hq
      refine kr_sub [2, 0, 3] rfl ?_
      exact cj_J16_getChars_2_112 O  h
  · replace h := h.2 hc
    refine kr_iload_n O dJ16_getChars_2_28 rfl 0 rfl ?_
    refine kr_bipush O dJ16_getChars_2_29 (v := (100 : Int32)) (by decide) ?_
    obtain ⟨hne, h⟩ := h
    refine kr_idiv O dJ16_getChars_2_31 hne ?_
    refine kr_istore_n O dJ16_getChars_2_32 rfl (Nat.le_of_ble_eq_true rfl) (by simp [kt_nw, kt_nrf, kt_cI, kt_cJ, kt_cF, kt_cD, kt_cR, kt_cU]) rfl ?_
    refine kr_iload_n O dJ16_getChars_2_33 rfl 0 rfl ?_
    refine kr_bipush O dJ16_getChars_2_34 (v := (100 : Int32)) (by decide) ?_
    refine kr_imul O dJ16_getChars_2_36 ?_
    refine kr_iload_n O dJ16_getChars_2_37 rfl 1 rfl ?_
    refine kr_isub O dJ16_getChars_2_38 ?_
    refine kr_istore O dJ16_getChars_2_39 (Nat.le_of_ble_eq_true rfl) rfl rfl ?_
    refine kr_iload_n O dJ16_getChars_2_41 rfl 1 rfl ?_
    refine kr_istore_n O dJ16_getChars_2_42 rfl (Nat.le_of_ble_eq_true rfl) rfl rfl ?_
    refine kr_aload_n O dJ16_getChars_2_43 rfl 3 rfl ?_
    refine kr_iinc O dJ16_getChars_2_44 4 rfl (v := v5 + (-1 : Int32)) rfl (Nat.le_of_ble_eq_true rfl) rfl rfl ?_
    refine kr_iload O dJ16_getChars_2_47 0 rfl ?_
    refine kr_gets O dJ16_getChars_2_49 q1247 (kt_inT 6 rfl) ?_
    refine kr_iload O dJ16_getChars_2_52 2 rfl ?_
    obtain ⟨u5, eu5, h⟩ := h
    refine kr_baload O dJ16_getChars_2_54 eu5 ?_
    refine kr_caV (rest := []) O cd_J16_putChar h (Nat.le_of_ble_eq_true rfl) (fun ls _ => kt_ivS O dJ16_getChars_2_55 cd_J16_putChar in_J16_putChar q1124 q1125 hy_J16_putChar) (fun M6 hq => ?_) (fun E q M9 hx => kr_out O hx)
    replace h := hq
    clear hq
    refine kr_aload_n O dJ16_getChars_2_58 rfl 4 rfl ?_
    refine kr_iinc O dJ16_getChars_2_59 0 rfl (v := (v5 + (-1 : Int32)) + (-1 : Int32)) rfl (Nat.le_of_ble_eq_true rfl) rfl rfl ?_
    refine kr_iload O dJ16_getChars_2_62 0 rfl ?_
    refine kr_gets O dJ16_getChars_2_64 q1248 (kt_inT 7 rfl) ?_
    refine kr_iload O dJ16_getChars_2_67 2 rfl ?_
    obtain ⟨u7, eu7, h⟩ := h
    refine kr_baload O dJ16_getChars_2_69 eu7 ?_
    refine kr_caV (rest := []) O cd_J16_putChar h (Nat.le_of_ble_eq_true rfl) (fun ls _ => kt_ivS O dJ16_getChars_2_70 cd_J16_putChar in_J16_putChar q1124 q1125 hy_J16_putChar) (fun M8 hq => ?_) (fun E q M9 hx => kr_out O hx)
    replace h := hq
    clear hq
    refine kr_goto (tgt := 22) O dJ16_getChars_2_73 rfl ?_
    refine kr_sub [1, 4, 0, 5] rfl ?_
    exact hn22 _ _ _ h
def vl_J16_getChars_2_22 (w : kt_W) (gr : kt_g × kt_M) (d : Nat) (P : Option Value → kt_M → Prop) (X : String → Nat → kt_M → Prop)  (v0 : Int32) (r2 : Option Nat) (v5 : Int32) (v6 : Int32) (M : kt_M) : Prop :=
  ∃ Inv : Nat → Int32 → Int32 → kt_M → Prop, (∃ k, Inv k v0 v5 M) ∧ ∀ k v0 v5 M, kt_le gr.1 gr.2 M → Inv k v0 v5 M → vc_J16_getChars_2_22 w gr d P X (fun v0' v5' M' => ∃ k', k' < k ∧ Inv k' v0' v5' M') v0 r2 v5 v6 M
theorem cl_J16_getChars_2_22 {w : kt_W} {x : kt_X} {gr : kt_g × kt_M} {d : Nat} {P : Option Value → kt_M → Prop} {X : String → Nat → kt_M → Prop}  {v0 : Int32} {r2 : Option Nat} {v5 : Int32} {v6 : Int32} {M : kt_M} (O : kt_O w x gr (d + 1) cJ16_getChars_2 "java/lang/StringUTF16" 7 ("getChars", "(II[B)I") (Option.some Jvm.ClassFile.FieldType.int) [])  (h : vl_J16_getChars_2_22 w gr d P X  v0 r2 v5 v6 M) : kt_S w x 7 (kt_E w x P X) M 22 [(0, .int v0), (2, va_rf r2), (5, .int v5), (6, .int v6)] [] := by
  obtain ⟨Inv, ⟨k, hk⟩, hb⟩ := h
  induction k using Nat.strongRecOn generalizing v0 v5 M with
  | ind k ih =>
    exact kr_le O fun hle => cj_J16_getChars_2_22 O (fun v0' v5' M' hi => let ⟨k', h1, h2⟩ := hi; ih k' h1 h2) (hb k _ _ _ hle hk)
def vc_J16_getChars_2_12 (w : kt_W) (gr : kt_g × kt_M) (d : Nat) (P : Option Value → kt_M → Prop) (X : String → Nat → kt_M → Prop)  (v0 : Int32) (r2 : Option Nat) (v5 : Int32) (s0 : Int32) (M : kt_M) : Prop :=
  
    ((¬ s0 = 0 → vl_J16_getChars_2_22 w gr d P X  v0 r2 v5 s0 M) ∧
    (s0 = 0 → vl_J16_getChars_2_22 w gr d P X  (-v0) r2 v5 s0 M))
theorem cj_J16_getChars_2_12 {w : kt_W} {x : kt_X} {gr : kt_g × kt_M} {d : Nat} {P : Option Value → kt_M → Prop} {X : String → Nat → kt_M → Prop}  {v0 : Int32} {r2 : Option Nat} {v5 : Int32} {s0 : Int32} {M : kt_M} (O : kt_O w x gr (d + 1) cJ16_getChars_2 "java/lang/StringUTF16" 7 ("getChars", "(II[B)I") (Option.some Jvm.ClassFile.FieldType.int) [])  (h : vc_J16_getChars_2_12 w gr d P X  v0 r2 v5 s0 M) : kt_S w x 7 (kt_E w x P X) M 12 [(0, .int v0), (2, va_rf r2), (5, .int v5)] [.int s0] := by
  unfold vc_J16_getChars_2_12 at h
  refine kr_istore O dJ16_getChars_2_12 (Nat.le_of_ble_eq_true rfl) rfl rfl ?_
  refine kr_iload O dJ16_getChars_2_14 0 rfl ?_
  refine kr_if_ne (tgt := 22) O dJ16_getChars_2_16 rfl (fun hc => ?_) (fun hc => ?_)
  · replace h := h.1 hc
    refine kr_sub [1, 2, 3, 0] rfl ?_
    exact cl_J16_getChars_2_22 O  h
  · replace h := h.2 hc
    refine kr_iload_n O dJ16_getChars_2_19 rfl 1 rfl ?_
    refine kr_ineg O dJ16_getChars_2_20 ?_
    refine kr_istore_n O dJ16_getChars_2_21 rfl (Nat.le_of_ble_eq_true rfl) rfl rfl ?_
    refine kr_sub [0, 2, 3, 1] rfl ?_
    exact cl_J16_getChars_2_22 O  h
def vc_J16_getChars_2 (w : kt_W) (gr : kt_g × kt_M) (d : Nat) (P : Option Value → kt_M → Prop) (X : String → Nat → kt_M → Prop) (v0 : Int32) (v1 : Int32) (r2 : Option Nat) (M : kt_M) : Prop :=
  
    ((0 ≤ v0 → vc_J16_getChars_2_12 w gr d P X  v0 r2 v1 (0 : Int32) M) ∧
    (¬ 0 ≤ v0 → vc_J16_getChars_2_12 w gr d P X  v0 r2 v1 (1 : Int32) M))
theorem ce_J16_getChars_2 {w : kt_W} {g : kt_g} {d : Nat} {P : Option Value → kt_M → Prop} {X : String → Nat → kt_M → Prop} {v0 : Int32} {v1 : Int32} {r2 : Option Nat} {M : kt_M} (h : vc_J16_getChars_2 w (g, M) d P X v0 v1 r2 M) : kt_Sp w g (d + 1) yJ16_getChars_2 kc_J16_getChars_2 [.int v0, .int v1, va_rf r2] M P X := by
  refine kt_of (L0 := [(0, .int v0), (1, .int v1), (2, va_rf r2)]) (by decide +kernel) (by simp only [kt_lgR, kt_lgI, kt_lgN] <;> exact Nat.le_of_ble_eq_true rfl) (by simp only [kt_lvR, kt_lvI, kt_lvN] <;> rfl) fun x O => ?_
  replace O : kt_O w x (g, M) (d + 1) cJ16_getChars_2 "java/lang/StringUTF16" 7 ("getChars", "(II[B)I") (Option.some Jvm.ClassFile.FieldType.int) [] := O
  unfold vc_J16_getChars_2 at h
  refine kr_iload_n O dJ16_getChars_2_0 rfl 1 rfl ?_
  refine kr_istore O dJ16_getChars_2_1 (Nat.le_of_ble_eq_true rfl) rfl rfl ?_
  refine kr_iload_n O dJ16_getChars_2_3 rfl 1 rfl ?_
  refine kr_if_ge (tgt := 11) O dJ16_getChars_2_4 rfl (fun hc => ?_) (fun hc => ?_)
  · replace h := h.1 hc
    refine kr_iconst O dJ16_getChars_2_11 (v := (0 : Int32)) (by decide) ?_
    refine kr_sub [1, 3, 0] rfl ?_
    exact cj_J16_getChars_2_12 O  h
  · replace h := h.2 hc
    refine kr_iconst O dJ16_getChars_2_7 (v := (1 : Int32)) (by decide) ?_
    refine kr_goto (tgt := 12) O dJ16_getChars_2_8 rfl ?_
    refine kr_sub [1, 3, 0] rfl ?_
    exact cj_J16_getChars_2_12 O  h
def vc_J16_compress (w : kt_W) (gr : kt_g × kt_M) (d : Nat) (P : Option Value → kt_M → Prop) (X : String → Nat → kt_M → Prop) (r0 : Option Nat) (v1 : Int32) (v2 : Int32) (M : kt_M) : Prop :=
  ∃ n1, v2 = nI n1 ∧ n1 < 2 ^ 31 ∧ kt_fits w M n1 ∧ ∃ t2, ∀ M3, M3 = kt_new M n1 (t2 + 2, .inl (2, kt_z 2 n1)) → 
  kt_Ca w gr d yJ16_compress_2 kc_J16_compress_2 [va_rf r0, .int v1, va_rf (some M.1), .int (0 : Int32), .int v2] M3 (kt_pI fun u4 M5 => 
    ((u4 = v2 → P (some (va_rf (some M.1))) M5) ∧
    (¬ u4 = v2 → 
    kt_Ca w gr d yJ16_newBytesLength kc_J16_newBytesLength [.int (v1 + v2)] M5 (kt_pI fun u6 M7 => 
    kt_Ca w gr d yJ8_copyOfRange kc_J8_copyOfRange [va_rf r0, .int (v1 <<< ((1 : Int32) &&& 31)), .int u6] M7 (kt_pR fun p8 M9 => 
    kt_Ca w gr d yJ16_getChar kc_J16_getChar [va_rf p8, .int u4] M9 (kt_pI fun u10 M11 => 
      (((255 : Int32) < u10 → P (some (va_rf p8)) M11) ∧
      (¬ (255 : Int32) < u10 → 
      kt_Ca w gr d yJ16_compress_2 kc_J16_compress_2 [va_rf p8, .int (0 : Int32), va_rf (some M.1), .int (0 : Int32), .int v2] M11 (kt_pI fun u12 M13 => 
        ((u12 = v2 → P (some (va_rf (some M.1))) M13) ∧
        (¬ u12 = v2 → P (some (va_rf p8)) M13))) X))) X) X) X))) X
theorem ce_J16_compress {w : kt_W} {g : kt_g} {d : Nat} {P : Option Value → kt_M → Prop} {X : String → Nat → kt_M → Prop} {r0 : Option Nat} {v1 : Int32} {v2 : Int32} {M : kt_M} (h : vc_J16_compress w (g, M) d P X r0 v1 v2 M) : kt_Sp w g (d + 1) yJ16_compress kc_J16_compress [va_rf r0, .int v1, .int v2] M P X := by
  refine kt_of (L0 := [(0, va_rf r0), (1, .int v1), (2, .int v2)]) (by decide +kernel) (by simp only [kt_lgR, kt_lgI, kt_lgN] <;> exact Nat.le_of_ble_eq_true rfl) (by simp only [kt_lvR, kt_lvI, kt_lvN] <;> rfl) fun x O => ?_
  replace O : kt_O w x (g, M) (d + 1) cJ16_compress "java/lang/StringUTF16" 6 ("compress", "([BII)[B") (Option.some (Jvm.ClassFile.FieldType.array Jvm.ClassFile.FieldType.byte)) [] := O
  unfold vc_J16_compress at h
  refine kr_iload_n O dJ16_compress_0 rfl 2 rfl ?_
  obtain ⟨n1, hn, hl, hf, t2, h⟩ := h
  refine kr_newarr t2 2 O dJ16_compress_1 (by decide) rfl q236 hn hl hf (kr_nmM fun M3 hM3 => ?_)
  replace h := h M3 hM3
  refine kr_astore_n O dJ16_compress_3 rfl (Nat.le_of_ble_eq_true rfl) rfl rfl ?_
  refine kr_aload_n O dJ16_compress_4 rfl 1 rfl ?_
  refine kr_iload_n O dJ16_compress_5 rfl 2 rfl ?_
  refine kr_aload_n O dJ16_compress_6 rfl 0 rfl ?_
  refine kr_iconst O dJ16_compress_7 (v := (0 : Int32)) (by decide) ?_
  refine kr_iload_n O dJ16_compress_8 rfl 3 rfl ?_
  refine kr_caI (rest := []) O cd_J16_compress_2 h (Nat.le_of_ble_eq_true rfl) (fun ls _ => kt_ivS O dJ16_compress_9 cd_J16_compress_2 in_J16_compress_2 q1269 q1270 hy_J16_compress_2) (fun u4 M5 hq => ?_) (fun E q M9 hx => kr_out O hx)
  replace h := hq
  clear hq
  refine kr_istore O dJ16_compress_12 (Nat.le_of_ble_eq_true rfl) rfl rfl ?_
  refine kr_iload O dJ16_compress_14 0 rfl ?_
  refine kr_iload_n O dJ16_compress_16 rfl 4 rfl ?_
  refine kr_icmp_eq (tgt := 64) O dJ16_compress_17 rfl (fun hc => ?_) (fun hc => ?_)
  · replace h := h.1 hc
    refine kr_aload_n O dJ16_compress_64 rfl 1 rfl ?_
    exact kr_aret O dJ16_compress_65 (by first | exact Or.inl ⟨_, rfl⟩ | exact Or.inr ⟨_, rfl⟩) h
  · replace h := h.2 hc
    refine kr_aload_n O dJ16_compress_20 rfl 2 rfl ?_
    refine kr_iload_n O dJ16_compress_21 rfl 3 rfl ?_
    refine kr_iconst O dJ16_compress_22 (v := (1 : Int32)) (by decide) ?_
    refine kr_ishl O dJ16_compress_23 ?_
    refine kr_iload_n O dJ16_compress_24 rfl 3 rfl ?_
    refine kr_iload_n O dJ16_compress_25 rfl 4 rfl ?_
    refine kr_iadd O dJ16_compress_26 ?_
    refine kr_caI (rest := [.int (v1 <<< ((1 : Int32) &&& 31)), va_rf r0]) O cd_J16_newBytesLength h (Nat.le_of_ble_eq_true rfl) (fun ls _ => kt_ivS O dJ16_compress_27 cd_J16_newBytesLength in_J16_newBytesLength q1055 q1056 hy_J16_newBytesLength) (fun u6 M7 hq => ?_) (fun E q M9 hx => kr_out O hx)
    replace h := hq
    clear hq
    refine kr_caR (rest := []) O cd_J8_copyOfRange h (Nat.le_of_ble_eq_true rfl) (fun ls _ => kt_ivS O dJ16_compress_30 cd_J8_copyOfRange in_J8_copyOfRange q1275 q1205 hy_J8_copyOfRange) (fun p8 M9 hq => ?_) (fun E q M9 hx => kr_out O hx)
    replace h := hq
    clear hq
    refine kr_astore O dJ16_compress_33 (Nat.le_of_ble_eq_true rfl) rfl rfl ?_
    refine kr_aload O dJ16_compress_35 0 rfl ?_
    refine kr_iload O dJ16_compress_37 1 rfl ?_
    refine kr_caI (rest := []) O cd_J16_getChar h (Nat.le_of_ble_eq_true rfl) (fun ls _ => kt_ivS O dJ16_compress_39 cd_J16_getChar in_J16_getChar q1272 q1273 hy_J16_getChar) (fun u10 M11 hq => ?_) (fun E q M9 hx => kr_out O hx)
    replace h := hq
    clear hq
    refine kr_sipush O dJ16_compress_42 (v := (255 : Int32)) (by decide) ?_
    refine kr_icmp_gt (tgt := 61) O dJ16_compress_45 rfl (fun hc => ?_) (fun hc => ?_)
    · replace h := h.1 hc
      refine kr_aload O dJ16_compress_61 0 rfl ?_
      exact kr_aret O dJ16_compress_63 (by first | exact Or.inl ⟨_, rfl⟩ | exact Or.inr ⟨_, rfl⟩) h
    · replace h := h.2 hc
      refine kr_aload O dJ16_compress_48 0 rfl ?_
      refine kr_iconst O dJ16_compress_50 (v := (0 : Int32)) (by decide) ?_
      refine kr_aload_n O dJ16_compress_51 rfl 2 rfl ?_
      refine kr_iconst O dJ16_compress_52 (v := (0 : Int32)) (by decide) ?_
      refine kr_iload_n O dJ16_compress_53 rfl 5 rfl ?_
      refine kr_caI (rest := []) O cd_J16_compress_2 h (Nat.le_of_ble_eq_true rfl) (fun ls _ => kt_ivS O dJ16_compress_54 cd_J16_compress_2 in_J16_compress_2 q1269 q1270 hy_J16_compress_2) (fun u12 M13 hq => ?_) (fun E q M9 hx => kr_out O hx)
      replace h := hq
      clear hq
      refine kr_iload_n O dJ16_compress_57 rfl 5 rfl ?_
      refine kr_icmp_eq (tgt := 64) O dJ16_compress_58 rfl (fun hc => ?_) (fun hc => ?_)
      · replace h := h.1 hc
        refine kr_aload_n O dJ16_compress_64 rfl 2 rfl ?_
        exact kr_aret O dJ16_compress_65 (by first | exact Or.inl ⟨_, rfl⟩ | exact Or.inr ⟨_, rfl⟩) h
      · replace h := h.2 hc
        refine kr_aload O dJ16_compress_61 0 rfl ?_
        exact kr_aret O dJ16_compress_63 (by first | exact Or.inl ⟨_, rfl⟩ | exact Or.inr ⟨_, rfl⟩) h
def vc_J16_compress_2_10 (w : kt_W) (gr : kt_g × kt_M) (d : Nat) (P : Option Value → kt_M → Prop) (X : String → Nat → kt_M → Prop) (nx10 : Int32 → Int32 → Int32 → kt_M → Prop) (r0 : Option Nat) (v1 : Int32) (r2 : Option Nat) (v3 : Int32) (v4 : Int32) (v5 : Int32) (M : kt_M) : Prop :=
  
    ((v4 ≤ v5 → P (some (.int v4)) M) ∧
    (¬ v4 ≤ v5 → 
    kt_Ca w gr d yJ16_getChar kc_J16_getChar [va_rf r0, .int v1] M (kt_pI fun u1 M2 => 
      ((u1 ≤ (255 : Int32) → ∃ b3, r2 = some b3 ∧ kt_hii gr 2 M2 b3 v3 ∧ ∀ M4, M4 = kt_si M2 b3 v3 u1.toInt8.toInt32.toInt8.toInt32 → nx10 (v1 + (1 : Int32)) (v3 + (1 : Int32)) (v5 + (1 : Int32)) M4) ∧
      (¬ u1 ≤ (255 : Int32) → P (some (.int v5)) M2))) X))
theorem cj_J16_compress_2_10 {w : kt_W} {x : kt_X} {gr : kt_g × kt_M} {d : Nat} {P : Option Value → kt_M → Prop} {X : String → Nat → kt_M → Prop} {nx10 : Int32 → Int32 → Int32 → kt_M → Prop} {r0 : Option Nat} {v1 : Int32} {r2 : Option Nat} {v3 : Int32} {v4 : Int32} {v5 : Int32} {M : kt_M} (O : kt_O w x gr (d + 1) cJ16_compress_2 "java/lang/StringUTF16" 7 ("compress", "([BI[BII)I") (Option.some Jvm.ClassFile.FieldType.int) []) (hn10 : ∀ v1 v3 v5 M, nx10 v1 v3 v5 M → kt_S w x 7 (kt_E w x P X) M 10 [(0, va_rf r0), (1, .int v1), (2, va_rf r2), (3, .int v3), (4, .int v4), (5, .int v5)] []) (h : vc_J16_compress_2_10 w gr d P X nx10 r0 v1 r2 v3 v4 v5 M) : kt_S w x 7 (kt_E w x P X) M 10 [(0, va_rf r0), (1, .int v1), (2, va_rf r2), (3, .int v3), (4, .int v4), (5, .int v5)] [] := by
  unfold vc_J16_compress_2_10 at h
  refine kr_iload O dJ16_compress_2_10 5 rfl ?_
  refine kr_iload O dJ16_compress_2_12 4 rfl ?_
  refine kr_icmp_ge (tgt := 53) O dJ16_compress_2_14 rfl (fun hc => ?_) (fun hc => ?_)
  · replace h := h.1 hc
    refine kr_iload O dJ16_compress_2_53 4 rfl ?_
    exact kr_iret O dJ16_compress_2_55 rfl h
  · replace h := h.2 hc
    refine kr_aload_n O dJ16_compress_2_17 rfl 0 rfl ?_
    refine kr_iload_n O dJ16_compress_2_18 rfl 1 rfl ?_
    refine kr_caI (rest := []) O cd_J16_getChar h (Nat.le_of_ble_eq_true rfl) (fun ls _ => kt_ivS O dJ16_compress_2_19 cd_J16_getChar in_J16_getChar q1272 q1273 hy_J16_getChar) (fun u1 M2 hq => ?_) (fun E q M9 hx => kr_out O hx)
    replace h := hq
    clear hq
    refine kr_istore O dJ16_compress_2_22 (Nat.le_of_ble_eq_true rfl) rfl rfl ?_
    refine kr_iload O dJ16_compress_2_24 0 rfl ?_
    refine kr_sipush O dJ16_compress_2_26 (v := (255 : Int32)) (by decide) ?_
    refine kr_icmp_le (tgt := 35) O dJ16_compress_2_29 rfl (fun hc => ?_) (fun hc => ?_)
    · replace h := h.1 hc
      refine kr_aload_n O dJ16_compress_2_35 rfl 3 rfl ?_
      refine kr_iload_n O dJ16_compress_2_36 rfl 4 rfl ?_
      refine kr_iload O dJ16_compress_2_37 0 rfl ?_
      refine kr_i2b O dJ16_compress_2_39 ?_
      obtain ⟨b3, rfl, h⟩ := h
      obtain ⟨hw, h⟩ := h
      refine kr_bastore O dJ16_compress_2_40 hw (kr_nmM fun M4 hM4 => ?_)
      replace h := h M4 hM4
      refine kr_iinc O dJ16_compress_2_41 2 rfl (v := v1 + (1 : Int32)) rfl (Nat.le_of_ble_eq_true rfl) (by simp [kt_nw, kt_nrf, kt_cI, kt_cJ, kt_cF, kt_cD, kt_cR, kt_cU]) rfl ?_
      refine kr_iinc O dJ16_compress_2_44 4 rfl (v := v3 + (1 : Int32)) rfl (Nat.le_of_ble_eq_true rfl) rfl rfl ?_
      refine kr_iinc O dJ16_compress_2_47 6 rfl (v := v5 + (1 : Int32)) rfl (Nat.le_of_ble_eq_true rfl) rfl rfl ?_
      refine kr_goto (tgt := 10) O dJ16_compress_2_50 rfl ?_
      refine kr_sub [4, 2, 5, 1, 6, 0] rfl ?_
      exact hn10 _ _ _ _ h
    · replace h := h.2 hc
      refine kr_iload O dJ16_compress_2_32 6 rfl ?_
      exact kr_iret O dJ16_compress_2_34 rfl h
def vl_J16_compress_2_10 (w : kt_W) (gr : kt_g × kt_M) (d : Nat) (P : Option Value → kt_M → Prop) (X : String → Nat → kt_M → Prop)  (r0 : Option Nat) (v1 : Int32) (r2 : Option Nat) (v3 : Int32) (v4 : Int32) (v5 : Int32) (M : kt_M) : Prop :=
  ∃ Inv : Nat → Int32 → Int32 → Int32 → kt_M → Prop, (∃ k, Inv k v1 v3 v5 M) ∧ ∀ k v1 v3 v5 M, kt_le gr.1 gr.2 M → Inv k v1 v3 v5 M → vc_J16_compress_2_10 w gr d P X (fun v1' v3' v5' M' => ∃ k', k' < k ∧ Inv k' v1' v3' v5' M') r0 v1 r2 v3 v4 v5 M
theorem cl_J16_compress_2_10 {w : kt_W} {x : kt_X} {gr : kt_g × kt_M} {d : Nat} {P : Option Value → kt_M → Prop} {X : String → Nat → kt_M → Prop}  {r0 : Option Nat} {v1 : Int32} {r2 : Option Nat} {v3 : Int32} {v4 : Int32} {v5 : Int32} {M : kt_M} (O : kt_O w x gr (d + 1) cJ16_compress_2 "java/lang/StringUTF16" 7 ("compress", "([BI[BII)I") (Option.some Jvm.ClassFile.FieldType.int) [])  (h : vl_J16_compress_2_10 w gr d P X  r0 v1 r2 v3 v4 v5 M) : kt_S w x 7 (kt_E w x P X) M 10 [(0, va_rf r0), (1, .int v1), (2, va_rf r2), (3, .int v3), (4, .int v4), (5, .int v5)] [] := by
  obtain ⟨Inv, ⟨k, hk⟩, hb⟩ := h
  induction k using Nat.strongRecOn generalizing v1 v3 v5 M with
  | ind k ih =>
    exact kr_le O fun hle => cj_J16_compress_2_10 O (fun v1' v3' v5' M' hi => let ⟨k', h1, h2⟩ := hi; ih k' h1 h2) (hb k _ _ _ _ hle hk)
def vc_J16_compress_2 (w : kt_W) (gr : kt_g × kt_M) (d : Nat) (P : Option Value → kt_M → Prop) (X : String → Nat → kt_M → Prop) (r0 : Option Nat) (v1 : Int32) (r2 : Option Nat) (v3 : Int32) (v4 : Int32) (M : kt_M) : Prop :=
  
  kt_Ca w gr d yJ16_checkBoundsOffCount kc_J16_checkBoundsOffCount [.int v1, .int v4, va_rf r0] M (kt_pV fun M1 => vl_J16_compress_2_10 w gr d P X  r0 v1 r2 v3 v4 (0 : Int32) M1) X
theorem ce_J16_compress_2 {w : kt_W} {g : kt_g} {d : Nat} {P : Option Value → kt_M → Prop} {X : String → Nat → kt_M → Prop} {r0 : Option Nat} {v1 : Int32} {r2 : Option Nat} {v3 : Int32} {v4 : Int32} {M : kt_M} (h : vc_J16_compress_2 w (g, M) d P X r0 v1 r2 v3 v4 M) : kt_Sp w g (d + 1) yJ16_compress_2 kc_J16_compress_2 [va_rf r0, .int v1, va_rf r2, .int v3, .int v4] M P X := by
  refine kt_of (L0 := [(0, va_rf r0), (1, .int v1), (2, va_rf r2), (3, .int v3), (4, .int v4)]) (by decide +kernel) (by simp only [kt_lgR, kt_lgI, kt_lgN] <;> exact Nat.le_of_ble_eq_true rfl) (by simp only [kt_lvR, kt_lvI, kt_lvN] <;> rfl) fun x O => ?_
  replace O : kt_O w x (g, M) (d + 1) cJ16_compress_2 "java/lang/StringUTF16" 7 ("compress", "([BI[BII)I") (Option.some Jvm.ClassFile.FieldType.int) [] := O
  unfold vc_J16_compress_2 at h
  refine kr_iload_n O dJ16_compress_2_0 rfl 1 rfl ?_
  refine kr_iload O dJ16_compress_2_1 4 rfl ?_
  refine kr_aload_n O dJ16_compress_2_3 rfl 0 rfl ?_
  refine kr_caV (rest := []) O cd_J16_checkBoundsOffCount h (Nat.le_of_ble_eq_true rfl) (fun ls _ => kt_ivS O dJ16_compress_2_4 cd_J16_checkBoundsOffCount in_J16_checkBoundsOffCount q1161 q1162 hy_J16_checkBoundsOffCount) (fun M1 hq => ?_) (fun E q M9 hx => kr_out O hx)
  replace h := hq
  clear hq
  refine kr_iconst O dJ16_compress_2_7 (v := (0 : Int32)) (by decide) ?_
  refine kr_istore O dJ16_compress_2_8 (Nat.le_of_ble_eq_true rfl) rfl rfl ?_
  refine kr_sub [1, 2, 3, 4, 5, 0] rfl ?_
  exact cl_J16_compress_2_10 O  h
def vc_J16_getChar (w : kt_W) (gr : kt_g × kt_M) (d : Nat) (P : Option Value → kt_M → Prop) (X : String → Nat → kt_M → Prop) (r0 : Option Nat) (v1 : Int32) (M : kt_M) : Prop :=
  False
theorem ce_J16_getChar {w : kt_W} {g : kt_g} {d : Nat} {P : Option Value → kt_M → Prop} {X : String → Nat → kt_M → Prop} {r0 : Option Nat} {v1 : Int32} {M : kt_M} (h : vc_J16_getChar w (g, M) d P X r0 v1 M) : kt_Sp w g (d + 1) yJ16_getChar kc_J16_getChar [va_rf r0, .int v1] M P X := by
  refine kt_of (L0 := [(0, va_rf r0), (1, .int v1)]) (by decide +kernel) (by simp only [kt_lgR, kt_lgI, kt_lgN] <;> exact Nat.le_of_ble_eq_true rfl) (by simp only [kt_lvR, kt_lvI, kt_lvN] <;> rfl) fun x O => ?_
  replace O : kt_O w x (g, M) (d + 1) cJ16_getChar "java/lang/StringUTF16" 2 ("getChar", "([BI)C") (Option.some Jvm.ClassFile.FieldType.char) [] := O
  unfold vc_J16_getChar at h
  exact h.elim
def vc_J16_coderFromArrayLen (w : kt_W) (gr : kt_g × kt_M) (d : Nat) (P : Option Value → kt_M → Prop) (X : String → Nat → kt_M → Prop) (r0 : Option Nat) (v1 : Int32) (M : kt_M) : Prop :=
  ∃ b1, r0 = some b1 ∧ ∃ n2, kt_len M b1 = some n2 ∧ narrow .byte (.int ((((v1 - (nI n2)).toUInt32 >>> ((31 : Int32).toUInt32 &&& Int32.toUInt32 31)).toInt32).toInt8.toInt32)) = .int ((((v1 - (nI n2)).toUInt32 >>> ((31 : Int32).toUInt32 &&& Int32.toUInt32 31)).toInt32).toInt8.toInt32) ∧ P (some (.int ((((v1 - (nI n2)).toUInt32 >>> ((31 : Int32).toUInt32 &&& Int32.toUInt32 31)).toInt32).toInt8.toInt32))) M
theorem ce_J16_coderFromArrayLen {w : kt_W} {g : kt_g} {d : Nat} {P : Option Value → kt_M → Prop} {X : String → Nat → kt_M → Prop} {r0 : Option Nat} {v1 : Int32} {M : kt_M} (h : vc_J16_coderFromArrayLen w (g, M) d P X r0 v1 M) : kt_Sp w g (d + 1) yJ16_coderFromArrayLen kc_J16_coderFromArrayLen [va_rf r0, .int v1] M P X := by
  refine kt_of (L0 := [(0, va_rf r0), (1, .int v1)]) (by decide +kernel) (by simp only [kt_lgR, kt_lgI, kt_lgN] <;> exact Nat.le_of_ble_eq_true rfl) (by simp only [kt_lvR, kt_lvI, kt_lvN] <;> rfl) fun x O => ?_
  replace O : kt_O w x (g, M) (d + 1) cJ16_coderFromArrayLen "java/lang/StringUTF16" 2 ("coderFromArrayLen", "([BI)B") (Option.some Jvm.ClassFile.FieldType.byte) [] := O
  unfold vc_J16_coderFromArrayLen at h
  refine kr_iload_n O dJ16_coderFromArrayLen_0 rfl 1 rfl ?_
  refine kr_aload_n O dJ16_coderFromArrayLen_1 rfl 0 rfl ?_
  obtain ⟨b1, rfl, h⟩ := h
  obtain ⟨n2, en2, h⟩ := h
  refine kr_alen O dJ16_coderFromArrayLen_2 en2 ?_
  refine kr_isub O dJ16_coderFromArrayLen_3 ?_
  refine kr_bipush O dJ16_coderFromArrayLen_4 (v := (31 : Int32)) (by decide) ?_
  refine kr_iushr O dJ16_coderFromArrayLen_6 ?_
  refine kr_i2b O dJ16_coderFromArrayLen_7 ?_
  exact kr_iret O dJ16_coderFromArrayLen_8 h.1 h.2
def vc_J16_charAt (w : kt_W) (gr : kt_g × kt_M) (d : Nat) (P : Option Value → kt_M → Prop) (X : String → Nat → kt_M → Prop) (r0 : Option Nat) (v1 : Int32) (M : kt_M) : Prop :=
  
  kt_Ca w gr d yJ16_checkIndex kc_J16_checkIndex [.int v1, va_rf r0] M (kt_pV fun M1 => 
  kt_Ca w gr d yJ16_getChar kc_J16_getChar [va_rf r0, .int v1] M1 (kt_pI fun u2 M3 => narrow .char (.int u2) = .int u2 ∧ P (some (.int u2)) M3) X) X
theorem ce_J16_charAt {w : kt_W} {g : kt_g} {d : Nat} {P : Option Value → kt_M → Prop} {X : String → Nat → kt_M → Prop} {r0 : Option Nat} {v1 : Int32} {M : kt_M} (h : vc_J16_charAt w (g, M) d P X r0 v1 M) : kt_Sp w g (d + 1) yJ16_charAt kc_J16_charAt [va_rf r0, .int v1] M P X := by
  refine kt_of (L0 := [(0, va_rf r0), (1, .int v1)]) (by decide +kernel) (by simp only [kt_lgR, kt_lgI, kt_lgN] <;> exact Nat.le_of_ble_eq_true rfl) (by simp only [kt_lvR, kt_lvI, kt_lvN] <;> rfl) fun x O => ?_
  replace O : kt_O w x (g, M) (d + 1) cJ16_charAt "java/lang/StringUTF16" 2 ("charAt", "([BI)C") (Option.some Jvm.ClassFile.FieldType.char) [] := O
  unfold vc_J16_charAt at h
  refine kr_iload_n O dJ16_charAt_0 rfl 1 rfl ?_
  refine kr_aload_n O dJ16_charAt_1 rfl 0 rfl ?_
  refine kr_caV (rest := []) O cd_J16_checkIndex h (Nat.le_of_ble_eq_true rfl) (fun ls _ => kt_ivS O dJ16_charAt_2 cd_J16_checkIndex in_J16_checkIndex q1478 q1479 hy_J16_checkIndex) (fun M1 hq => ?_) (fun E q M9 hx => kr_out O hx)
  replace h := hq
  clear hq
  refine kr_aload_n O dJ16_charAt_5 rfl 0 rfl ?_
  refine kr_iload_n O dJ16_charAt_6 rfl 1 rfl ?_
  refine kr_caI (rest := []) O cd_J16_getChar h (Nat.le_of_ble_eq_true rfl) (fun ls _ => kt_ivS O dJ16_charAt_7 cd_J16_getChar in_J16_getChar q1272 q1273 hy_J16_getChar) (fun u2 M3 hq => ?_) (fun E q M9 hx => kr_out O hx)
  replace h := hq
  clear hq
  exact kr_iret O dJ16_charAt_10 h.1 h.2
def vc_J16_checkIndex (w : kt_W) (gr : kt_g × kt_M) (d : Nat) (P : Option Value → kt_M → Prop) (X : String → Nat → kt_M → Prop) (v0 : Int32) (r1 : Option Nat) (M : kt_M) : Prop :=
  
  kt_Ca w gr d yJ16_length kc_J16_length [va_rf r1] M (kt_pI fun u1 M2 => 
  kt_Ca w gr d yJ15_checkIndex kc_J15_checkIndex [.int v0, .int u1] M2 (kt_pV fun M3 => P none M3) X) X
theorem ce_J16_checkIndex {w : kt_W} {g : kt_g} {d : Nat} {P : Option Value → kt_M → Prop} {X : String → Nat → kt_M → Prop} {v0 : Int32} {r1 : Option Nat} {M : kt_M} (h : vc_J16_checkIndex w (g, M) d P X v0 r1 M) : kt_Sp w g (d + 1) yJ16_checkIndex kc_J16_checkIndex [.int v0, va_rf r1] M P X := by
  refine kt_of (L0 := [(0, .int v0), (1, va_rf r1)]) (by decide +kernel) (by simp only [kt_lgR, kt_lgI, kt_lgN] <;> exact Nat.le_of_ble_eq_true rfl) (by simp only [kt_lvR, kt_lvI, kt_lvN] <;> rfl) fun x O => ?_
  replace O : kt_O w x (g, M) (d + 1) cJ16_checkIndex "java/lang/StringUTF16" 2 ("checkIndex", "(I[B)V") (Option.none : Option Jvm.ClassFile.FieldType) [] := O
  unfold vc_J16_checkIndex at h
  refine kr_iload_n O dJ16_checkIndex_0 rfl 0 rfl ?_
  refine kr_aload_n O dJ16_checkIndex_1 rfl 1 rfl ?_
  refine kr_caI (rest := [.int v0]) O cd_J16_length h (Nat.le_of_ble_eq_true rfl) (fun ls _ => kt_ivS O dJ16_checkIndex_2 cd_J16_length in_J16_length q1113 q1114 hy_J16_length) (fun u1 M2 hq => ?_) (fun E q M9 hx => kr_out O hx)
  replace h := hq
  clear hq
  refine kr_caV (rest := []) O cd_J15_checkIndex h (Nat.le_of_ble_eq_true rfl) (fun ls _ => kt_ivS O dJ16_checkIndex_5 cd_J15_checkIndex in_J15_checkIndex q1481 q1472 hy_J15_checkIndex) (fun M3 hq => ?_) (fun E q M9 hx => kr_out O hx)
  replace h := hq
  clear hq
  exact kr_vret O dJ16_checkIndex_8 h
def vc_J16_fillNull (w : kt_W) (gr : kt_g × kt_M) (d : Nat) (P : Option Value → kt_M → Prop) (X : String → Nat → kt_M → Prop) (r0 : Option Nat) (v1 : Int32) (v2 : Int32) (M : kt_M) : Prop :=
  
  kt_Ca w gr d yJ8_fill kc_J8_fill [va_rf r0, .int (v1 <<< ((1 : Int32) &&& 31)), .int (v2 <<< ((1 : Int32) &&& 31)), .int (0 : Int32)] M (kt_pV fun M1 => P none M1) X
theorem ce_J16_fillNull {w : kt_W} {g : kt_g} {d : Nat} {P : Option Value → kt_M → Prop} {X : String → Nat → kt_M → Prop} {r0 : Option Nat} {v1 : Int32} {v2 : Int32} {M : kt_M} (h : vc_J16_fillNull w (g, M) d P X r0 v1 v2 M) : kt_Sp w g (d + 1) yJ16_fillNull kc_J16_fillNull [va_rf r0, .int v1, .int v2] M P X := by
  refine kt_of (L0 := [(0, va_rf r0), (1, .int v1), (2, .int v2)]) (by decide +kernel) (by simp only [kt_lgR, kt_lgI, kt_lgN] <;> exact Nat.le_of_ble_eq_true rfl) (by simp only [kt_lvR, kt_lvI, kt_lvN] <;> rfl) fun x O => ?_
  replace O : kt_O w x (g, M) (d + 1) cJ16_fillNull "java/lang/StringUTF16" 3 ("fillNull", "([BII)V") (Option.none : Option Jvm.ClassFile.FieldType) [] := O
  unfold vc_J16_fillNull at h
  refine kr_aload_n O dJ16_fillNull_0 rfl 0 rfl ?_
  refine kr_iload_n O dJ16_fillNull_1 rfl 1 rfl ?_
  refine kr_iconst O dJ16_fillNull_2 (v := (1 : Int32)) (by decide) ?_
  refine kr_ishl O dJ16_fillNull_3 ?_
  refine kr_iload_n O dJ16_fillNull_4 rfl 2 rfl ?_
  refine kr_iconst O dJ16_fillNull_5 (v := (1 : Int32)) (by decide) ?_
  refine kr_ishl O dJ16_fillNull_6 ?_
  refine kr_iconst O dJ16_fillNull_7 (v := (0 : Int32)) (by decide) ?_
  refine kr_caV (rest := []) O cd_J8_fill h (Nat.le_of_ble_eq_true rfl) (fun ls _ => kt_ivS O dJ16_fillNull_8 cd_J8_fill in_J8_fill q1547 q1536 hy_J8_fill) (fun M1 hq => ?_) (fun E q M9 hx => kr_out O hx)
  replace h := hq
  clear hq
  exact kr_vret O dJ16_fillNull_11 h
def vc_J16_putCharSB (w : kt_W) (gr : kt_g × kt_M) (d : Nat) (P : Option Value → kt_M → Prop) (X : String → Nat → kt_M → Prop) (r0 : Option Nat) (v1 : Int32) (v2 : Int32) (M : kt_M) : Prop :=
  
  kt_Ca w gr d yJ16_checkIndex kc_J16_checkIndex [.int v1, va_rf r0] M (kt_pV fun M1 => 
  kt_Ca w gr d yJ16_putChar kc_J16_putChar [va_rf r0, .int v1, .int v2] M1 (kt_pV fun M2 => P none M2) X) X
theorem ce_J16_putCharSB {w : kt_W} {g : kt_g} {d : Nat} {P : Option Value → kt_M → Prop} {X : String → Nat → kt_M → Prop} {r0 : Option Nat} {v1 : Int32} {v2 : Int32} {M : kt_M} (h : vc_J16_putCharSB w (g, M) d P X r0 v1 v2 M) : kt_Sp w g (d + 1) yJ16_putCharSB kc_J16_putCharSB [va_rf r0, .int v1, .int v2] M P X := by
  refine kt_of (L0 := [(0, va_rf r0), (1, .int v1), (2, .int v2)]) (by decide +kernel) (by simp only [kt_lgR, kt_lgI, kt_lgN] <;> exact Nat.le_of_ble_eq_true rfl) (by simp only [kt_lvR, kt_lvI, kt_lvN] <;> rfl) fun x O => ?_
  replace O : kt_O w x (g, M) (d + 1) cJ16_putCharSB "java/lang/StringUTF16" 3 ("putCharSB", "([BII)V") (Option.none : Option Jvm.ClassFile.FieldType) [] := O
  unfold vc_J16_putCharSB at h
  refine kr_iload_n O dJ16_putCharSB_0 rfl 1 rfl ?_
  refine kr_aload_n O dJ16_putCharSB_1 rfl 0 rfl ?_
  refine kr_caV (rest := []) O cd_J16_checkIndex h (Nat.le_of_ble_eq_true rfl) (fun ls _ => kt_ivS O dJ16_putCharSB_2 cd_J16_checkIndex in_J16_checkIndex q1478 q1479 hy_J16_checkIndex) (fun M1 hq => ?_) (fun E q M9 hx => kr_out O hx)
  replace h := hq
  clear hq
  refine kr_aload_n O dJ16_putCharSB_5 rfl 0 rfl ?_
  refine kr_iload_n O dJ16_putCharSB_6 rfl 1 rfl ?_
  refine kr_iload_n O dJ16_putCharSB_7 rfl 2 rfl ?_
  refine kr_caV (rest := []) O cd_J16_putChar h (Nat.le_of_ble_eq_true rfl) (fun ls _ => kt_ivS O dJ16_putCharSB_8 cd_J16_putChar in_J16_putChar q1124 q1125 hy_J16_putChar) (fun M2 hq => ?_) (fun E q M9 hx => kr_out O hx)
  replace h := hq
  clear hq
  exact kr_vret O dJ16_putCharSB_11 h
def vc_J16_hashCode (w : kt_W) (gr : kt_g × kt_M) (d : Nat) (P : Option Value → kt_M → Prop) (X : String → Nat → kt_M → Prop) (r0 : Option Nat) (M : kt_M) : Prop :=
  ∃ b1, r0 = some b1 ∧ ∃ n2, kt_len M b1 = some n2 ∧ 
    (((nI n2).toInt = 0 → P (some (.int (0 : Int32))) M) ∧
    ((nI n2).toInt = 2 → 
    kt_Ca w gr d yJ16_getChar kc_J16_getChar [va_rf (some b1), .int (0 : Int32)] M (kt_pI fun u3 M4 => P (some (.int u3)) M4) X) ∧
    (¬ (nI n2).toInt = 0 → ¬ (nI n2).toInt = 2 → ∃ n5, kt_len M b1 = some n5 ∧ 
  kt_Ca w gr d yJ6_vectorizedHashCode kc_J6_vectorizedHashCode [va_rf (some b1), .int (0 : Int32), .int ((nI n5) >>> ((1 : Int32) &&& 31)), .int (0 : Int32), .int (5 : Int32)] M (kt_pI fun u6 M7 => P (some (.int u6)) M7) X))
theorem ce_J16_hashCode {w : kt_W} {g : kt_g} {d : Nat} {P : Option Value → kt_M → Prop} {X : String → Nat → kt_M → Prop} {r0 : Option Nat} {M : kt_M} (h : vc_J16_hashCode w (g, M) d P X r0 M) : kt_Sp w g (d + 1) yJ16_hashCode kc_J16_hashCode [va_rf r0] M P X := by
  refine kt_of (L0 := [(0, va_rf r0)]) (by decide +kernel) (by simp only [kt_lgR, kt_lgI, kt_lgN] <;> exact Nat.le_of_ble_eq_true rfl) (by simp only [kt_lvR, kt_lvI, kt_lvN] <;> rfl) fun x O => ?_
  replace O : kt_O w x (g, M) (d + 1) cJ16_hashCode "java/lang/StringUTF16" 1 ("hashCode", "([B)I") (Option.some Jvm.ClassFile.FieldType.int) [] := O
  unfold vc_J16_hashCode at h
  refine kr_aload_n O dJ16_hashCode_0 rfl 0 rfl ?_
  obtain ⟨b1, rfl, h⟩ := h
  obtain ⟨n2, en2, h⟩ := h
  refine kr_alen O dJ16_hashCode_1 en2 ?_
  by_cases hs0 : (nI n2).toInt = 0
  · refine kr_lookup (tgt := 28) O dJ16_hashCode_2 (by decide) (by rw [hs0] <;> rfl) rfl ?_
    replace h := h.1 hs0
    refine kr_iconst O dJ16_hashCode_28 (v := (0 : Int32)) (by decide) ?_
    refine kr_goto (tgt := 51) O dJ16_hashCode_29 rfl ?_
    exact kr_iret O dJ16_hashCode_51 rfl h
  by_cases hs1 : (nI n2).toInt = 2
  · refine kr_lookup (tgt := 32) O dJ16_hashCode_2 (by decide) (by rw [hs1] <;> rfl) rfl ?_
    replace h := h.2.1 hs1
    refine kr_aload_n O dJ16_hashCode_32 rfl 0 rfl ?_
    refine kr_iconst O dJ16_hashCode_33 (v := (0 : Int32)) (by decide) ?_
    refine kr_caI (rest := []) O cd_J16_getChar h (Nat.le_of_ble_eq_true rfl) (fun ls _ => kt_ivS O dJ16_hashCode_34 cd_J16_getChar in_J16_getChar q1272 q1273 hy_J16_getChar) (fun u3 M4 hq => ?_) (fun E q M9 hx => kr_out O hx)
    replace h := hq
    clear hq
    refine kr_goto (tgt := 51) O dJ16_hashCode_37 rfl ?_
    exact kr_iret O dJ16_hashCode_51 rfl h
  refine kr_lookup (tgt := 40) O dJ16_hashCode_2 (by decide) (kt_lk2 hs0 hs1) rfl ?_
  replace h := h.2.2 hs0 hs1
  refine kr_aload_n O dJ16_hashCode_40 rfl 0 rfl ?_
  refine kr_iconst O dJ16_hashCode_41 (v := (0 : Int32)) (by decide) ?_
  refine kr_aload_n O dJ16_hashCode_42 rfl 0 rfl ?_
  obtain ⟨n5, en5, h⟩ := h
  refine kr_alen O dJ16_hashCode_43 en5 ?_
  refine kr_iconst O dJ16_hashCode_44 (v := (1 : Int32)) (by decide) ?_
  refine kr_ishr O dJ16_hashCode_45 ?_
  refine kr_iconst O dJ16_hashCode_46 (v := (0 : Int32)) (by decide) ?_
  refine kr_iconst O dJ16_hashCode_47 (v := (5 : Int32)) (by decide) ?_
  refine kr_caI (rest := []) O cd_J6_vectorizedHashCode h (Nat.le_of_ble_eq_true rfl) (fun ls _ => kt_ivS O dJ16_hashCode_48 cd_J6_vectorizedHashCode in_J6_vectorizedHashCode q1767 q1719 hy_J6_vectorizedHashCode) (fun u6 M7 hq => ?_) (fun E q M9 hx => kr_out O hx)
  replace h := hq
  clear hq
  exact kr_iret O dJ16_hashCode_51 rfl h
def vc_J17_inflate (w : kt_W) (gr : kt_g × kt_M) (d : Nat) (P : Option Value → kt_M → Prop) (X : String → Nat → kt_M → Prop) (r0 : Option Nat) (v1 : Int32) (r2 : Option Nat) (v3 : Int32) (v4 : Int32) (M : kt_M) : Prop :=
  
  kt_Ca w gr d yJ16_inflate kc_J16_inflate [va_rf r0, .int v1, va_rf r2, .int v3, .int v4] M (kt_pV fun M1 => P none M1) X
theorem ce_J17_inflate {w : kt_W} {g : kt_g} {d : Nat} {P : Option Value → kt_M → Prop} {X : String → Nat → kt_M → Prop} {r0 : Option Nat} {v1 : Int32} {r2 : Option Nat} {v3 : Int32} {v4 : Int32} {M : kt_M} (h : vc_J17_inflate w (g, M) d P X r0 v1 r2 v3 v4 M) : kt_Sp w g (d + 1) yJ17_inflate kc_J17_inflate [va_rf r0, .int v1, va_rf r2, .int v3, .int v4] M P X := by
  refine kt_of (L0 := [(0, va_rf r0), (1, .int v1), (2, va_rf r2), (3, .int v3), (4, .int v4)]) (by decide +kernel) (by simp only [kt_lgR, kt_lgI, kt_lgN] <;> exact Nat.le_of_ble_eq_true rfl) (by simp only [kt_lvR, kt_lvI, kt_lvN] <;> rfl) fun x O => ?_
  replace O : kt_O w x (g, M) (d + 1) cJ17_inflate "java/lang/StringLatin1" 5 ("inflate", "([BI[BII)V") (Option.none : Option Jvm.ClassFile.FieldType) [] := O
  unfold vc_J17_inflate at h
  refine kr_aload_n O dJ17_inflate_0 rfl 0 rfl ?_
  refine kr_iload_n O dJ17_inflate_1 rfl 1 rfl ?_
  refine kr_aload_n O dJ17_inflate_2 rfl 2 rfl ?_
  refine kr_iload_n O dJ17_inflate_3 rfl 3 rfl ?_
  refine kr_iload O dJ17_inflate_4 4 rfl ?_
  refine kr_caV (rest := []) O cd_J16_inflate h (Nat.le_of_ble_eq_true rfl) (fun ls _ => kt_ivS O dJ17_inflate_6 cd_J16_inflate in_J16_inflate q1158 q1159 hy_J16_inflate) (fun M1 hq => ?_) (fun E q M9 hx => kr_out O hx)
  replace h := hq
  clear hq
  exact kr_vret O dJ17_inflate_9 h
