set_option maxRecDepth 100000
def vc_X5_expectWord (w : kt_W) (gr : kt_g × kt_M) (d : Nat) (P : Option Value → kt_M → Prop) (X : String → Nat → kt_M → Prop) (a0 : Nat) (r1 : Option Nat) (M : kt_M) : Prop :=
  (kt_co M a0 = some 12) ∧ 
  kt_Ca w gr d yX5_isWord kc_X5_isWord [va_rf (some a0), va_rf r1] M (kt_pI fun u1 M2 => (kt_co M2 a0 = some 12) ∧ 
  kt_Ca w gr d yX5_check kc_X5_check [va_rf (some a0), .int u1, .int (1 : Int32)] M2 (kt_pV fun M3 => (kt_co M3 a0 = some 12) ∧ 
  kt_Ca w gr d yX5_advance kc_X5_advance [va_rf (some a0)] M3 (kt_pV fun M4 => P none M4) X) X) X
theorem ce_X5_expectWord {w : kt_W} {g : kt_g} {d : Nat} {P : Option Value → kt_M → Prop} {X : String → Nat → kt_M → Prop} {a0 : Nat} {r1 : Option Nat} {M : kt_M} (h : vc_X5_expectWord w (g, M) d P X a0 r1 M) : kt_Sp w g (d + 1) yX5_expectWord kc_X5_expectWord [va_rf (some a0), va_rf r1] M P X := by
  refine kt_of (L0 := [(0, va_rf (some a0)), (1, va_rf r1)]) (by decide +kernel) (by simp only [kt_lgR, kt_lgI, kt_lgN] <;> exact Nat.le_of_ble_eq_true rfl) (by simp only [kt_lvR, kt_lvI, kt_lvN] <;> rfl) fun x O => ?_
  replace O : kt_O w x (g, M) (d + 1) cX5_expectWord "KeyTurnsModel" 2 ("expectWord", "(Ljava/lang/String;)V") (Option.none : Option Jvm.ClassFile.FieldType) [] := O
  unfold vc_X5_expectWord at h
  refine kr_aload_n O dX5_expectWord_0 rfl 0 rfl ?_
  refine kr_aload_n O dX5_expectWord_1 rfl 0 rfl ?_
  refine kr_aload_n O dX5_expectWord_2 rfl 1 rfl ?_
  obtain ⟨hco, h⟩ := h
  refine kr_caI (rest := [va_rf (some a0)]) O cd_X5_isWord h (Nat.le_of_ble_eq_true rfl) (fun ls _ => kt_ivV (ci := 12) O dX5_expectWord_3 cd_X5_isWord in_X5_isWord (Or.inl q2903) q2905 qs88 hco (by decide) hy_X5_isWord) (fun u1 M2 hq => ?_) (fun E q M9 hx => kr_out O hx)
  replace h := hq
  clear hq
  refine kr_iconst O dX5_expectWord_6 (v := (1 : Int32)) (by decide) ?_
  obtain ⟨hco, h⟩ := h
  refine kr_caV (rest := []) O cd_X5_check h (Nat.le_of_ble_eq_true rfl) (fun ls _ => kt_ivV (ci := 12) O dX5_expectWord_7 cd_X5_check in_X5_check (Or.inl q2909) q2911 qs89 hco (by decide) hy_X5_check) (fun M3 hq => ?_) (fun E q M9 hx => kr_out O hx)
  replace h := hq
  clear hq
  refine kr_aload_n O dX5_expectWord_10 rfl 0 rfl ?_
  obtain ⟨hco, h⟩ := h
  refine kr_caV (rest := []) O cd_X5_advance h (Nat.le_of_ble_eq_true rfl) (fun ls _ => kt_ivV (ci := 12) O dX5_expectWord_11 cd_X5_advance in_X5_advance (Or.inl q2917) q2919 qs91 hco (by decide) hy_X5_advance) (fun M4 hq => ?_) (fun E q M9 hx => kr_out O hx)
  replace h := hq
  clear hq
  exact kr_vret O dX5_expectWord_14 h
def vc_X5_isWord_39 (w : kt_W) (gr : kt_g × kt_M) (d : Nat) (P : Option Value → kt_M → Prop) (X : String → Nat → kt_M → Prop) (nx39 : Int32 → Int32 → kt_M → Prop) (a0 : Nat) (r1 : Option Nat) (v2 : Int32) (v3 : Int32) (M : kt_M) : Prop :=
  
    ((v2 = 0 → narrow .boolean (.int v2) = .int v2 ∧ P (some (.int v2)) M) ∧
    (¬ v2 = 0 → ∃ b1, r1 = some b1 ∧ (kt_co M b1 = some 20) ∧ 
    kt_Ca w gr d yJ15_length kc_J15_length [va_rf (some b1)] M (kt_pI fun u2 M3 => 
      ((u2 ≤ v3 → narrow .boolean (.int v2) = .int v2 ∧ P (some (.int v2)) M3) ∧
      (¬ u2 ≤ v3 → (kt_co M3 b1 = some 20) ∧ 
      kt_Ca w gr d yJ15_charAt kc_J15_charAt [va_rf (some b1), .int v3] M3 (kt_pI fun u4 M5 => ∃ p6, kt_gf M5 a0 76 = some (va_rf p6) ∧ ∃ u7, kt_gf M5 a0 80 = some (.int u7) ∧ ∃ b8, p6 = some b8 ∧ ∃ u9, kt_el 0 M5 b8 (u7 + v3) = some (.int u9) ∧ 
        ((¬ u4 = u9 → nx39 (0 : Int32) (v3 + (1 : Int32)) M5) ∧
        (u4 = u9 → nx39 (1 : Int32) (v3 + (1 : Int32)) M5))) X))) X))
theorem cj_X5_isWord_39 {w : kt_W} {x : kt_X} {gr : kt_g × kt_M} {d : Nat} {P : Option Value → kt_M → Prop} {X : String → Nat → kt_M → Prop} {nx39 : Int32 → Int32 → kt_M → Prop} {a0 : Nat} {r1 : Option Nat} {v2 : Int32} {v3 : Int32} {M : kt_M} (O : kt_O w x gr (d + 1) cX5_isWord "KeyTurnsModel" 4 ("isWord", "(Ljava/lang/String;)Z") (Option.some Jvm.ClassFile.FieldType.boolean) []) (hn39 : ∀ v2 v3 M, nx39 v2 v3 M → kt_S w x 4 (kt_E w x P X) M 39 [(0, va_rf (some a0)), (1, va_rf r1), (2, .int v2), (3, .int v3)] []) (h : vc_X5_isWord_39 w gr d P X nx39 a0 r1 v2 v3 M) : kt_S w x 4 (kt_E w x P X) M 39 [(0, va_rf (some a0)), (1, va_rf r1), (2, .int v2), (3, .int v3)] [] := by
  unfold vc_X5_isWord_39 at h
  refine kr_iload_n O dX5_isWord_39 rfl 2 rfl ?_
  refine kr_if_eq (tgt := 82) O dX5_isWord_40 rfl (fun hc => ?_) (fun hc => ?_)
  · replace h := h.1 hc
    refine kr_iload_n O dX5_isWord_82 rfl 2 rfl ?_
    exact kr_iret O dX5_isWord_83 h.1 h.2
  · replace h := h.2 hc
    refine kr_iload_n O dX5_isWord_43 rfl 3 rfl ?_
    refine kr_aload_n O dX5_isWord_44 rfl 1 rfl ?_
    obtain ⟨b1, rfl, h⟩ := h
    obtain ⟨hco, h⟩ := h
    refine kr_caI (rest := [.int v3]) O cd_J15_length h (Nat.le_of_ble_eq_true rfl) (fun ls _ => kt_ivV (ci := 20) O dX5_isWord_45 cd_J15_length in_J15_length (Or.inl q2907) q1134 q1135 hco (by decide) hy_J15_length) (fun u2 M3 hq => ?_) (fun E q M9 hx => kr_out O hx)
    replace h := hq
    clear hq
    refine kr_icmp_ge (tgt := 82) O dX5_isWord_48 rfl (fun hc => ?_) (fun hc => ?_)
    · replace h := h.1 hc
      refine kr_iload_n O dX5_isWord_82 rfl 2 rfl ?_
      exact kr_iret O dX5_isWord_83 h.1 h.2
    · replace h := h.2 hc
      refine kr_aload_n O dX5_isWord_51 rfl 1 rfl ?_
      refine kr_iload_n O dX5_isWord_52 rfl 3 rfl ?_
      obtain ⟨hco, h⟩ := h
      refine kr_caI (rest := []) O cd_J15_charAt h (Nat.le_of_ble_eq_true rfl) (fun ls _ => kt_ivV (ci := 20) O dX5_isWord_53 cd_J15_charAt in_J15_charAt (Or.inl q2908) q1461 q1462 hco (by decide) hy_J15_charAt) (fun u4 M5 hq => ?_) (fun E q M9 hx => kr_out O hx)
      replace h := hq
      clear hq
      refine kr_aload_n O dX5_isWord_56 rfl 0 rfl ?_
      obtain ⟨p6, ep6, h⟩ := h
      refine kr_getf O dX5_isWord_57 fs_X5_31 ep6 ?_
      refine kr_aload_n O dX5_isWord_60 rfl 0 rfl ?_
      obtain ⟨u7, eu7, h⟩ := h
      refine kr_getf O dX5_isWord_61 fs_X5_270 eu7 ?_
      refine kr_iload_n O dX5_isWord_64 rfl 3 rfl ?_
      refine kr_iadd O dX5_isWord_65 ?_
      obtain ⟨b8, rfl, h⟩ := h
      obtain ⟨u9, eu9, h⟩ := h
      refine kr_iaload O dX5_isWord_66 eu9 ?_
      refine kr_icmp_ne (tgt := 74) O dX5_isWord_67 rfl (fun hc => ?_) (fun hc => ?_)
      · replace h := h.1 hc
        refine kr_iconst O dX5_isWord_74 (v := (0 : Int32)) (by decide) ?_
        refine kr_istore_n O dX5_isWord_75 rfl (Nat.le_of_ble_eq_true rfl) rfl rfl ?_
        refine kr_iinc O dX5_isWord_76 3 rfl (v := v3 + (1 : Int32)) rfl (Nat.le_of_ble_eq_true rfl) rfl rfl ?_
        refine kr_goto (tgt := 39) O dX5_isWord_79 rfl ?_
        refine kr_sub [2, 3, 1, 0] rfl ?_
        exact hn39 _ _ _ h
      · replace h := h.2 hc
        refine kr_iconst O dX5_isWord_70 (v := (1 : Int32)) (by decide) ?_
        refine kr_goto (tgt := 75) O dX5_isWord_71 rfl ?_
        refine kr_istore_n O dX5_isWord_75 rfl (Nat.le_of_ble_eq_true rfl) rfl rfl ?_
        refine kr_iinc O dX5_isWord_76 3 rfl (v := v3 + (1 : Int32)) rfl (Nat.le_of_ble_eq_true rfl) rfl rfl ?_
        refine kr_goto (tgt := 39) O dX5_isWord_79 rfl ?_
        refine kr_sub [2, 3, 1, 0] rfl ?_
        exact hn39 _ _ _ h
def vl_X5_isWord_39 (w : kt_W) (gr : kt_g × kt_M) (d : Nat) (P : Option Value → kt_M → Prop) (X : String → Nat → kt_M → Prop)  (a0 : Nat) (r1 : Option Nat) (v2 : Int32) (v3 : Int32) (M : kt_M) : Prop :=
  ∃ Inv : Nat → Int32 → Int32 → kt_M → Prop, (∃ k, Inv k v2 v3 M) ∧ ∀ k v2 v3 M, kt_le gr.1 gr.2 M → Inv k v2 v3 M → vc_X5_isWord_39 w gr d P X (fun v2' v3' M' => ∃ k', k' < k ∧ Inv k' v2' v3' M') a0 r1 v2 v3 M
theorem cl_X5_isWord_39 {w : kt_W} {x : kt_X} {gr : kt_g × kt_M} {d : Nat} {P : Option Value → kt_M → Prop} {X : String → Nat → kt_M → Prop}  {a0 : Nat} {r1 : Option Nat} {v2 : Int32} {v3 : Int32} {M : kt_M} (O : kt_O w x gr (d + 1) cX5_isWord "KeyTurnsModel" 4 ("isWord", "(Ljava/lang/String;)Z") (Option.some Jvm.ClassFile.FieldType.boolean) [])  (h : vl_X5_isWord_39 w gr d P X  a0 r1 v2 v3 M) : kt_S w x 4 (kt_E w x P X) M 39 [(0, va_rf (some a0)), (1, va_rf r1), (2, .int v2), (3, .int v3)] [] := by
  obtain ⟨Inv, ⟨k, hk⟩, hb⟩ := h
  induction k using Nat.strongRecOn generalizing v2 v3 M with
  | ind k ih =>
    exact kr_le O fun hle => cj_X5_isWord_39 O (fun v2' v3' M' hi => let ⟨k', h1, h2⟩ := hi; ih k' h1 h2) (hb k _ _ _ hle hk)
def vc_X5_isWord (w : kt_W) (gr : kt_g × kt_M) (d : Nat) (P : Option Value → kt_M → Prop) (X : String → Nat → kt_M → Prop) (a0 : Nat) (r1 : Option Nat) (M : kt_M) : Prop :=
  ∃ u1, kt_gf M a0 82 = some (.int u1) ∧ 
    ((¬ u1 = 0 → vl_X5_isWord_39 w gr d P X  a0 r1 (0 : Int32) (0 : Int32) M) ∧
    (u1 = 0 → ∃ u2, kt_gf M a0 81 = some (.int u2) ∧ 
      ((¬ u2 = (1 : Int32) → vl_X5_isWord_39 w gr d P X  a0 r1 (0 : Int32) (0 : Int32) M) ∧
      (u2 = (1 : Int32) → ∃ b3, r1 = some b3 ∧ (kt_co M b3 = some 20) ∧ 
      kt_Ca w gr d yJ15_length kc_J15_length [va_rf (some b3)] M (kt_pI fun u4 M5 => ∃ u6, kt_gf M5 a0 79 = some (.int u6) ∧ ∃ u7, kt_gf M5 a0 80 = some (.int u7) ∧ 
        ((¬ u4 = (u6 - u7) → vl_X5_isWord_39 w gr d P X  a0 (some b3) (0 : Int32) (0 : Int32) M5) ∧
        (u4 = (u6 - u7) → vl_X5_isWord_39 w gr d P X  a0 (some b3) (1 : Int32) (0 : Int32) M5))) X))))
theorem ce_X5_isWord {w : kt_W} {g : kt_g} {d : Nat} {P : Option Value → kt_M → Prop} {X : String → Nat → kt_M → Prop} {a0 : Nat} {r1 : Option Nat} {M : kt_M} (h : vc_X5_isWord w (g, M) d P X a0 r1 M) : kt_Sp w g (d + 1) yX5_isWord kc_X5_isWord [va_rf (some a0), va_rf r1] M P X := by
  refine kt_of (L0 := [(0, va_rf (some a0)), (1, va_rf r1)]) (by decide +kernel) (by simp only [kt_lgR, kt_lgI, kt_lgN] <;> exact Nat.le_of_ble_eq_true rfl) (by simp only [kt_lvR, kt_lvI, kt_lvN] <;> rfl) fun x O => ?_
  replace O : kt_O w x (g, M) (d + 1) cX5_isWord "KeyTurnsModel" 4 ("isWord", "(Ljava/lang/String;)Z") (Option.some Jvm.ClassFile.FieldType.boolean) [] := O
  unfold vc_X5_isWord at h
  refine kr_aload_n O dX5_isWord_0 rfl 0 rfl ?_
  obtain ⟨u1, eu1, h⟩ := h
  refine kr_getf O dX5_isWord_1 fs_X5_282 eu1 ?_
  refine kr_if_ne (tgt := 35) O dX5_isWord_4 rfl (fun hc => ?_) (fun hc => ?_)
  · replace h := h.1 hc
    refine kr_iconst O dX5_isWord_35 (v := (0 : Int32)) (by decide) ?_
    refine kr_istore_n O dX5_isWord_36 rfl (Nat.le_of_ble_eq_true rfl) (by simp [kt_nw, kt_nrf, kt_cI, kt_cJ, kt_cF, kt_cD, kt_cR, kt_cU]) rfl ?_
    refine kr_iconst O dX5_isWord_37 (v := (0 : Int32)) (by decide) ?_
    refine kr_istore_n O dX5_isWord_38 rfl (Nat.le_of_ble_eq_true rfl) rfl rfl ?_
    refine kr_sub [2, 3, 1, 0] rfl ?_
    exact cl_X5_isWord_39 O  h
  · replace h := h.2 hc
    refine kr_aload_n O dX5_isWord_7 rfl 0 rfl ?_
    obtain ⟨u2, eu2, h⟩ := h
    refine kr_getf O dX5_isWord_8 fs_X5_273 eu2 ?_
    refine kr_iconst O dX5_isWord_11 (v := (1 : Int32)) (by decide) ?_
    refine kr_icmp_ne (tgt := 35) O dX5_isWord_12 rfl (fun hc => ?_) (fun hc => ?_)
    · replace h := h.1 hc
      refine kr_iconst O dX5_isWord_35 (v := (0 : Int32)) (by decide) ?_
      refine kr_istore_n O dX5_isWord_36 rfl (Nat.le_of_ble_eq_true rfl) (by simp [kt_nw, kt_nrf, kt_cI, kt_cJ, kt_cF, kt_cD, kt_cR, kt_cU]) rfl ?_
      refine kr_iconst O dX5_isWord_37 (v := (0 : Int32)) (by decide) ?_
      refine kr_istore_n O dX5_isWord_38 rfl (Nat.le_of_ble_eq_true rfl) rfl rfl ?_
      refine kr_sub [2, 3, 1, 0] rfl ?_
      exact cl_X5_isWord_39 O  h
    · replace h := h.2 hc
      refine kr_aload_n O dX5_isWord_15 rfl 1 rfl ?_
      obtain ⟨b3, rfl, h⟩ := h
      obtain ⟨hco, h⟩ := h
      refine kr_caI (rest := []) O cd_J15_length h (Nat.le_of_ble_eq_true rfl) (fun ls _ => kt_ivV (ci := 20) O dX5_isWord_16 cd_J15_length in_J15_length (Or.inl q2907) q1134 q1135 hco (by decide) hy_J15_length) (fun u4 M5 hq => ?_) (fun E q M9 hx => kr_out O hx)
      replace h := hq
      clear hq
      refine kr_aload_n O dX5_isWord_19 rfl 0 rfl ?_
      obtain ⟨u6, eu6, h⟩ := h
      refine kr_getf O dX5_isWord_20 fs_X5_267 eu6 ?_
      refine kr_aload_n O dX5_isWord_23 rfl 0 rfl ?_
      obtain ⟨u7, eu7, h⟩ := h
      refine kr_getf O dX5_isWord_24 fs_X5_270 eu7 ?_
      refine kr_isub O dX5_isWord_27 ?_
      refine kr_icmp_ne (tgt := 35) O dX5_isWord_28 rfl (fun hc => ?_) (fun hc => ?_)
      · replace h := h.1 hc
        refine kr_iconst O dX5_isWord_35 (v := (0 : Int32)) (by decide) ?_
        refine kr_istore_n O dX5_isWord_36 rfl (Nat.le_of_ble_eq_true rfl) rfl rfl ?_
        refine kr_iconst O dX5_isWord_37 (v := (0 : Int32)) (by decide) ?_
        refine kr_istore_n O dX5_isWord_38 rfl (Nat.le_of_ble_eq_true rfl) rfl rfl ?_
        refine kr_sub [2, 3, 1, 0] rfl ?_
        exact cl_X5_isWord_39 O  h
      · replace h := h.2 hc
        refine kr_iconst O dX5_isWord_31 (v := (1 : Int32)) (by decide) ?_
        refine kr_goto (tgt := 36) O dX5_isWord_32 rfl ?_
        refine kr_istore_n O dX5_isWord_36 rfl (Nat.le_of_ble_eq_true rfl) rfl rfl ?_
        refine kr_iconst O dX5_isWord_37 (v := (0 : Int32)) (by decide) ?_
        refine kr_istore_n O dX5_isWord_38 rfl (Nat.le_of_ble_eq_true rfl) rfl rfl ?_
        refine kr_sub [2, 3, 1, 0] rfl ?_
        exact cl_X5_isWord_39 O  h
def vc_X5_check (w : kt_W) (gr : kt_g × kt_M) (d : Nat) (P : Option Value → kt_M → Prop) (X : String → Nat → kt_M → Prop) (a0 : Nat) (v1 : Int32) (v2 : Int32) (M : kt_M) : Prop :=
  
    ((¬ v1 = 0 → P none M) ∧
    (v1 = 0 → (kt_co M a0 = some 12) ∧ 
    kt_Ca w gr d yX5_flaw kc_X5_flaw [va_rf (some a0), .int v2] M (kt_pV fun M1 => P none M1) X))
theorem ce_X5_check {w : kt_W} {g : kt_g} {d : Nat} {P : Option Value → kt_M → Prop} {X : String → Nat → kt_M → Prop} {a0 : Nat} {v1 : Int32} {v2 : Int32} {M : kt_M} (h : vc_X5_check w (g, M) d P X a0 v1 v2 M) : kt_Sp w g (d + 1) yX5_check kc_X5_check [va_rf (some a0), .int v1, .int v2] M P X := by
  refine kt_of (L0 := [(0, va_rf (some a0)), (1, .int v1), (2, .int v2)]) (by decide +kernel) (Nat.le_of_ble_eq_true rfl) rfl fun x O => ?_
  replace O : kt_O w x (g, M) (d + 1) cX5_check "KeyTurnsModel" 3 ("check", "(ZI)V") (Option.none : Option Jvm.ClassFile.FieldType) [] := O
  unfold vc_X5_check at h
  refine kr_iload_n O dX5_check_0 rfl 1 rfl ?_
  refine kr_if_ne (tgt := 9) O dX5_check_1 rfl (fun hc => ?_) (fun hc => ?_)
  · replace h := h.1 hc
    exact kr_vret O dX5_check_9 h
  · replace h := h.2 hc
    refine kr_aload_n O dX5_check_4 rfl 0 rfl ?_
    refine kr_iload_n O dX5_check_5 rfl 2 rfl ?_
    obtain ⟨hco, h⟩ := h
    refine kr_caV (rest := []) O cd_X5_flaw h (Nat.le_of_ble_eq_true rfl) (fun ls _ => kt_ivV (ci := 12) O dX5_check_6 cd_X5_flaw in_X5_flaw (Or.inl q2913) q2915 qs90 hco (by decide) hy_X5_flaw) (fun M1 hq => ?_) (fun E q M9 hx => kr_out O hx)
    replace h := hq
    clear hq
    exact kr_vret O dX5_check_9 h
def vc_X5_flaw (w : kt_W) (gr : kt_g × kt_M) (d : Nat) (P : Option Value → kt_M → Prop) (X : String → Nat → kt_M → Prop) (a0 : Nat) (v1 : Int32) (M : kt_M) : Prop :=
  ∃ u1, kt_gf M a0 82 = some (.int u1) ∧ 
    ((¬ u1 = 0 → P none M) ∧
    (u1 = 0 → kt_hf gr M a0 82 ∧ ∀ M2, M2 = kt_pf M a0 82 (.int v1) → ∃ u3, kt_gf M2 a0 80 = some (.int u3) ∧ kt_hf gr M2 a0 83 ∧ ∀ M4, M4 = kt_pf M2 a0 83 (.int u3) → P none M4))
theorem ce_X5_flaw {w : kt_W} {g : kt_g} {d : Nat} {P : Option Value → kt_M → Prop} {X : String → Nat → kt_M → Prop} {a0 : Nat} {v1 : Int32} {M : kt_M} (h : vc_X5_flaw w (g, M) d P X a0 v1 M) : kt_Sp w g (d + 1) yX5_flaw kc_X5_flaw [va_rf (some a0), .int v1] M P X := by
  refine kt_of (L0 := [(0, va_rf (some a0)), (1, .int v1)]) (by decide +kernel) (Nat.le_of_ble_eq_true rfl) rfl fun x O => ?_
  replace O : kt_O w x (g, M) (d + 1) cX5_flaw "KeyTurnsModel" 2 ("flaw", "(I)V") (Option.none : Option Jvm.ClassFile.FieldType) [] := O
  unfold vc_X5_flaw at h
  refine kr_aload_n O dX5_flaw_0 rfl 0 rfl ?_
  obtain ⟨u1, eu1, h⟩ := h
  refine kr_getf O dX5_flaw_1 fs_X5_282 eu1 ?_
  refine kr_if_ne (tgt := 20) O dX5_flaw_4 rfl (fun hc => ?_) (fun hc => ?_)
  · replace h := h.1 hc
    exact kr_vret O dX5_flaw_20 h
  · replace h := h.2 hc
    refine kr_aload_n O dX5_flaw_7 rfl 0 rfl ?_
    refine kr_iload_n O dX5_flaw_8 rfl 1 rfl ?_
    obtain ⟨hw, h⟩ := h
    refine kr_putf O dX5_flaw_9 fs_X5_282 (Or.inl rfl) ⟨rfl, rfl⟩ hw (kr_nmM fun M2 hM2 => ?_)
    replace h := h M2 hM2
    refine kr_aload_n O dX5_flaw_12 rfl 0 rfl ?_
    refine kr_aload_n O dX5_flaw_13 rfl 0 rfl ?_
    obtain ⟨u3, eu3, h⟩ := h
    refine kr_getf O dX5_flaw_14 fs_X5_270 eu3 ?_
    obtain ⟨hw, h⟩ := h
    refine kr_putf O dX5_flaw_17 fs_X5_291 (Or.inl rfl) ⟨rfl, rfl⟩ hw (kr_nmM fun M4 hM4 => ?_)
    replace h := h M4 hM4
    exact kr_vret O dX5_flaw_20 h
def vc_X5_advance (w : kt_W) (gr : kt_g × kt_M) (d : Nat) (P : Option Value → kt_M → Prop) (X : String → Nat → kt_M → Prop) (a0 : Nat) (M : kt_M) : Prop :=
  ∃ u1, kt_gf M a0 82 = some (.int u1) ∧ 
    ((¬ u1 = 0 → P none M) ∧
    (u1 = 0 → (kt_co M a0 = some 12) ∧ 
    kt_Ca w gr d yX5_scan kc_X5_scan [va_rf (some a0)] M (kt_pV fun M2 => P none M2) X))
theorem ce_X5_advance {w : kt_W} {g : kt_g} {d : Nat} {P : Option Value → kt_M → Prop} {X : String → Nat → kt_M → Prop} {a0 : Nat} {M : kt_M} (h : vc_X5_advance w (g, M) d P X a0 M) : kt_Sp w g (d + 1) yX5_advance kc_X5_advance [va_rf (some a0)] M P X := by
  refine kt_of (L0 := [(0, va_rf (some a0))]) (by decide +kernel) (Nat.le_of_ble_eq_true rfl) rfl fun x O => ?_
  replace O : kt_O w x (g, M) (d + 1) cX5_advance "KeyTurnsModel" 1 ("advance", "()V") (Option.none : Option Jvm.ClassFile.FieldType) [] := O
  unfold vc_X5_advance at h
  refine kr_aload_n O dX5_advance_0 rfl 0 rfl ?_
  obtain ⟨u1, eu1, h⟩ := h
  refine kr_getf O dX5_advance_1 fs_X5_282 eu1 ?_
  refine kr_if_ne (tgt := 11) O dX5_advance_4 rfl (fun hc => ?_) (fun hc => ?_)
  · replace h := h.1 hc
    exact kr_vret O dX5_advance_11 h
  · replace h := h.2 hc
    refine kr_aload_n O dX5_advance_7 rfl 0 rfl ?_
    obtain ⟨hco, h⟩ := h
    refine kr_caV (rest := []) O cd_X5_scan h (Nat.le_of_ble_eq_true rfl) (fun ls _ => kt_ivV (ci := 12) O dX5_advance_8 cd_X5_scan in_X5_scan (Or.inl q2878) q2880 qs82 hco (by decide) hy_X5_scan) (fun M2 hq => ?_) (fun E q M9 hx => kr_out O hx)
    replace h := hq
    clear hq
    exact kr_vret O dX5_advance_11 h
def vc_X5_readNumber_52 (w : kt_W) (gr : kt_g × kt_M) (d : Nat) (P : Option Value → kt_M → Prop) (X : String → Nat → kt_M → Prop)  (a0 : Nat) (v1 : Int32) (v3 : Int32) (s0 : Int32) (sa1 : Nat) (M : kt_M) : Prop :=
  (kt_co M sa1 = some 12) ∧ 
  kt_Ca w gr d yX5_check kc_X5_check [va_rf (some sa1), .int s0, .int (2 : Int32)] M (kt_pV fun M1 => (kt_co M1 a0 = some 12) ∧ 
  kt_Ca w gr d yX5_advance kc_X5_advance [va_rf (some a0)] M1 (kt_pV fun M2 => ∃ u3, kt_gf M2 a0 82 = some (.int u3) ∧ 
    ((¬ u3 = 0 → P (some (.int v1)) M2) ∧
    (u3 = 0 → P (some (.int v3)) M2))) X) X
theorem cj_X5_readNumber_52 {w : kt_W} {x : kt_X} {gr : kt_g × kt_M} {d : Nat} {P : Option Value → kt_M → Prop} {X : String → Nat → kt_M → Prop}  {a0 : Nat} {v1 : Int32} {v3 : Int32} {s0 : Int32} {sa1 : Nat} {M : kt_M} (O : kt_O w x gr (d + 1) cX5_readNumber "KeyTurnsModel" 4 ("readNumber", "(II)I") (Option.some Jvm.ClassFile.FieldType.int) [])  (h : vc_X5_readNumber_52 w gr d P X  a0 v1 v3 s0 sa1 M) : kt_S w x 4 (kt_E w x P X) M 52 [(0, va_rf (some a0)), (1, .int v1), (3, .int v3)] [.int s0, va_rf (some sa1)] := by
  unfold vc_X5_readNumber_52 at h
  refine kr_iconst O dX5_readNumber_52 (v := (2 : Int32)) (by decide) ?_
  obtain ⟨hco, h⟩ := h
  refine kr_caV (rest := []) O cd_X5_check h (Nat.le_of_ble_eq_true rfl) (fun ls _ => kt_ivV (ci := 12) O dX5_readNumber_53 cd_X5_check in_X5_check (Or.inl q2909) q2911 qs89 hco (by decide) hy_X5_check) (fun M1 hq => ?_) (fun E q M9 hx => kr_out O hx)
  replace h := hq
  clear hq
  refine kr_aload_n O dX5_readNumber_56 rfl 0 rfl ?_
  obtain ⟨hco, h⟩ := h
  refine kr_caV (rest := []) O cd_X5_advance h (Nat.le_of_ble_eq_true rfl) (fun ls _ => kt_ivV (ci := 12) O dX5_readNumber_57 cd_X5_advance in_X5_advance (Or.inl q2917) q2919 qs91 hco (by decide) hy_X5_advance) (fun M2 hq => ?_) (fun E q M9 hx => kr_out O hx)
  replace h := hq
  clear hq
  refine kr_aload_n O dX5_readNumber_60 rfl 0 rfl ?_
  obtain ⟨u3, eu3, h⟩ := h
  refine kr_getf O dX5_readNumber_61 fs_X5_282 eu3 ?_
  refine kr_if_ne (tgt := 71) O dX5_readNumber_64 rfl (fun hc => ?_) (fun hc => ?_)
  · replace h := h.1 hc
    refine kr_iload_n O dX5_readNumber_71 rfl 1 rfl ?_
    exact kr_iret O dX5_readNumber_72 rfl h
  · replace h := h.2 hc
    refine kr_iload_n O dX5_readNumber_67 rfl 2 rfl ?_
    refine kr_goto (tgt := 72) O dX5_readNumber_68 rfl ?_
    exact kr_iret O dX5_readNumber_72 rfl h
def vc_X5_readNumber_47 (w : kt_W) (gr : kt_g × kt_M) (d : Nat) (P : Option Value → kt_M → Prop) (X : String → Nat → kt_M → Prop)  (a0 : Nat) (v1 : Int32) (v3 : Int32) (sa0 : Nat) (M : kt_M) : Prop :=
  vc_X5_readNumber_52 w gr d P X  a0 v1 v3 (1 : Int32) sa0 M
theorem cj_X5_readNumber_47 {w : kt_W} {x : kt_X} {gr : kt_g × kt_M} {d : Nat} {P : Option Value → kt_M → Prop} {X : String → Nat → kt_M → Prop}  {a0 : Nat} {v1 : Int32} {v3 : Int32} {sa0 : Nat} {M : kt_M} (O : kt_O w x gr (d + 1) cX5_readNumber "KeyTurnsModel" 4 ("readNumber", "(II)I") (Option.some Jvm.ClassFile.FieldType.int) [])  (h : vc_X5_readNumber_47 w gr d P X  a0 v1 v3 sa0 M) : kt_S w x 4 (kt_E w x P X) M 47 [(0, va_rf (some a0)), (1, .int v1), (3, .int v3)] [va_rf (some sa0)] := by
  unfold vc_X5_readNumber_47 at h
  refine kr_iconst O dX5_readNumber_47 (v := (1 : Int32)) (by decide) ?_
  refine kr_goto (tgt := 52) O dX5_readNumber_48 rfl ?_
  exact cj_X5_readNumber_52 O  h
def vc_X5_readNumber_21 (w : kt_W) (gr : kt_g × kt_M) (d : Nat) (P : Option Value → kt_M → Prop) (X : String → Nat → kt_M → Prop)  (a0 : Nat) (v1 : Int32) (v2 : Int32) (s0 : Int32) (sa1 : Nat) (M : kt_M) : Prop :=
  (kt_co M sa1 = some 12) ∧ 
  kt_Ca w gr d yX5_check kc_X5_check [va_rf (some sa1), .int s0, .int (1 : Int32)] M (kt_pV fun M1 => (kt_co M1 a0 = some 12) ∧ 
  kt_Ca w gr d yX5_value kc_X5_value [va_rf (some a0)] M1 (kt_pI fun u2 M3 => ∃ u4, kt_gf M3 a0 82 = some (.int u4) ∧ 
    ((¬ u4 = 0 → vc_X5_readNumber_47 w gr d P X  a0 v1 u2 a0 M3) ∧
    (u4 = 0 → 
    kt_Ca w gr d yX5_inRange kc_X5_inRange [.int u2, .int v1, .int v2] M3 (kt_pI fun u5 M6 => 
      ((u5 = 0 → vc_X5_readNumber_52 w gr d P X  a0 v1 u2 (0 : Int32) a0 M6) ∧
      (¬ u5 = 0 → vc_X5_readNumber_47 w gr d P X  a0 v1 u2 a0 M6))) X))) X) X
theorem cj_X5_readNumber_21 {w : kt_W} {x : kt_X} {gr : kt_g × kt_M} {d : Nat} {P : Option Value → kt_M → Prop} {X : String → Nat → kt_M → Prop}  {a0 : Nat} {v1 : Int32} {v2 : Int32} {s0 : Int32} {sa1 : Nat} {M : kt_M} (O : kt_O w x gr (d + 1) cX5_readNumber "KeyTurnsModel" 4 ("readNumber", "(II)I") (Option.some Jvm.ClassFile.FieldType.int) [])  (h : vc_X5_readNumber_21 w gr d P X  a0 v1 v2 s0 sa1 M) : kt_S w x 4 (kt_E w x P X) M 21 [(0, va_rf (some a0)), (1, .int v1), (2, .int v2)] [.int s0, va_rf (some sa1)] := by
  unfold vc_X5_readNumber_21 at h
  refine kr_iconst O dX5_readNumber_21 (v := (1 : Int32)) (by decide) ?_
  obtain ⟨hco, h⟩ := h
  refine kr_caV (rest := []) O cd_X5_check h (Nat.le_of_ble_eq_true rfl) (fun ls _ => kt_ivV (ci := 12) O dX5_readNumber_22 cd_X5_check in_X5_check (Or.inl q2909) q2911 qs89 hco (by decide) hy_X5_check) (fun M1 hq => ?_) (fun E q M9 hx => kr_out O hx)
  replace h := hq
  clear hq
  refine kr_aload_n O dX5_readNumber_25 rfl 0 rfl ?_
  obtain ⟨hco, h⟩ := h
  refine kr_caI (rest := []) O cd_X5_value h (Nat.le_of_ble_eq_true rfl) (fun ls _ => kt_ivV (ci := 12) O dX5_readNumber_26 cd_X5_value in_X5_value (Or.inl q2925) q2927 qs93 hco (by decide) hy_X5_value) (fun u2 M3 hq => ?_) (fun E q M9 hx => kr_out O hx)
  replace h := hq
  clear hq
  refine kr_istore_n O dX5_readNumber_29 rfl (Nat.le_of_ble_eq_true rfl) rfl rfl ?_
  refine kr_aload_n O dX5_readNumber_30 rfl 1 rfl ?_
  refine kr_aload_n O dX5_readNumber_31 rfl 1 rfl ?_
  obtain ⟨u4, eu4, h⟩ := h
  refine kr_getf O dX5_readNumber_32 fs_X5_282 eu4 ?_
  refine kr_if_ne (tgt := 47) O dX5_readNumber_35 rfl (fun hc => ?_) (fun hc => ?_)
  · replace h := h.1 hc
    refine kr_sub [1, 2, 0] rfl ?_
    exact cj_X5_readNumber_47 O  h
  · replace h := h.2 hc
    refine kr_iload_n O dX5_readNumber_38 rfl 0 rfl ?_
    refine kr_iload_n O dX5_readNumber_39 rfl 2 rfl ?_
    refine kr_iload_n O dX5_readNumber_40 rfl 3 rfl ?_
    refine kr_caI (rest := [va_rf (some a0)]) O cd_X5_inRange h (Nat.le_of_ble_eq_true rfl) (fun ls _ => kt_ivS O dX5_readNumber_41 cd_X5_inRange in_X5_inRange q2586 q2587 hy_X5_inRange) (fun u5 M6 hq => ?_) (fun E q M9 hx => kr_out O hx)
    replace h := hq
    clear hq
    refine kr_if_eq (tgt := 51) O dX5_readNumber_44 rfl (fun hc => ?_) (fun hc => ?_)
    · replace h := h.1 hc
      refine kr_iconst O dX5_readNumber_51 (v := (0 : Int32)) (by decide) ?_
      refine kr_sub [1, 2, 0] rfl ?_
      exact cj_X5_readNumber_52 O  h
    · replace h := h.2 hc
      refine kr_sub [1, 2, 0] rfl ?_
      exact cj_X5_readNumber_47 O  h
def vc_X5_readNumber_16 (w : kt_W) (gr : kt_g × kt_M) (d : Nat) (P : Option Value → kt_M → Prop) (X : String → Nat → kt_M → Prop)  (a0 : Nat) (v1 : Int32) (v2 : Int32) (sa0 : Nat) (M : kt_M) : Prop :=
  vc_X5_readNumber_21 w gr d P X  a0 v1 v2 (1 : Int32) sa0 M
theorem cj_X5_readNumber_16 {w : kt_W} {x : kt_X} {gr : kt_g × kt_M} {d : Nat} {P : Option Value → kt_M → Prop} {X : String → Nat → kt_M → Prop}  {a0 : Nat} {v1 : Int32} {v2 : Int32} {sa0 : Nat} {M : kt_M} (O : kt_O w x gr (d + 1) cX5_readNumber "KeyTurnsModel" 4 ("readNumber", "(II)I") (Option.some Jvm.ClassFile.FieldType.int) [])  (h : vc_X5_readNumber_16 w gr d P X  a0 v1 v2 sa0 M) : kt_S w x 4 (kt_E w x P X) M 16 [(0, va_rf (some a0)), (1, .int v1), (2, .int v2)] [va_rf (some sa0)] := by
  unfold vc_X5_readNumber_16 at h
  refine kr_iconst O dX5_readNumber_16 (v := (1 : Int32)) (by decide) ?_
  refine kr_goto (tgt := 21) O dX5_readNumber_17 rfl ?_
  exact cj_X5_readNumber_21 O  h
def vc_X5_readNumber (w : kt_W) (gr : kt_g × kt_M) (d : Nat) (P : Option Value → kt_M → Prop) (X : String → Nat → kt_M → Prop) (a0 : Nat) (v1 : Int32) (v2 : Int32) (M : kt_M) : Prop :=
  ∃ u1, kt_gf M a0 82 = some (.int u1) ∧ 
    ((¬ u1 = 0 → vc_X5_readNumber_16 w gr d P X  a0 v1 v2 a0 M) ∧
    (u1 = 0 → ∃ u2, kt_gf M a0 81 = some (.int u2) ∧ 
      ((¬ u2 = (2 : Int32) → vc_X5_readNumber_21 w gr d P X  a0 v1 v2 (0 : Int32) a0 M) ∧
      (u2 = (2 : Int32) → vc_X5_readNumber_16 w gr d P X  a0 v1 v2 a0 M))))
theorem ce_X5_readNumber {w : kt_W} {g : kt_g} {d : Nat} {P : Option Value → kt_M → Prop} {X : String → Nat → kt_M → Prop} {a0 : Nat} {v1 : Int32} {v2 : Int32} {M : kt_M} (h : vc_X5_readNumber w (g, M) d P X a0 v1 v2 M) : kt_Sp w g (d + 1) yX5_readNumber kc_X5_readNumber [va_rf (some a0), .int v1, .int v2] M P X := by
  refine kt_of (L0 := [(0, va_rf (some a0)), (1, .int v1), (2, .int v2)]) (by decide +kernel) (Nat.le_of_ble_eq_true rfl) rfl fun x O => ?_
  replace O : kt_O w x (g, M) (d + 1) cX5_readNumber "KeyTurnsModel" 4 ("readNumber", "(II)I") (Option.some Jvm.ClassFile.FieldType.int) [] := O
  unfold vc_X5_readNumber at h
  refine kr_aload_n O dX5_readNumber_0 rfl 0 rfl ?_
  refine kr_aload_n O dX5_readNumber_1 rfl 0 rfl ?_
  obtain ⟨u1, eu1, h⟩ := h
  refine kr_getf O dX5_readNumber_2 fs_X5_282 eu1 ?_
  refine kr_if_ne (tgt := 16) O dX5_readNumber_5 rfl (fun hc => ?_) (fun hc => ?_)
  · replace h := h.1 hc
    exact cj_X5_readNumber_16 O  h
  · replace h := h.2 hc
    refine kr_aload_n O dX5_readNumber_8 rfl 0 rfl ?_
    obtain ⟨u2, eu2, h⟩ := h
    refine kr_getf O dX5_readNumber_9 fs_X5_273 eu2 ?_
    refine kr_iconst O dX5_readNumber_12 (v := (2 : Int32)) (by decide) ?_
    refine kr_icmp_ne (tgt := 20) O dX5_readNumber_13 rfl (fun hc => ?_) (fun hc => ?_)
    · replace h := h.1 hc
      refine kr_iconst O dX5_readNumber_20 (v := (0 : Int32)) (by decide) ?_
      exact cj_X5_readNumber_21 O  h
    · replace h := h.2 hc
      exact cj_X5_readNumber_16 O  h
def vc_X5_value_7 (w : kt_W) (gr : kt_g × kt_M) (d : Nat) (P : Option Value → kt_M → Prop) (X : String → Nat → kt_M → Prop) (nx7 : Int32 → Int32 → kt_M → Prop) (a0 : Nat) (v1 : Int32) (v2 : Int32) (M : kt_M) : Prop :=
  ∃ u1, kt_gf M a0 79 = some (.int u1) ∧ 
    ((u1 ≤ v2 → P (some (.int v1)) M) ∧
    (¬ u1 ≤ v2 → ∃ u2, kt_gf M a0 81 = some (.int u2) ∧ 
      ((¬ u2 = (2 : Int32) → P (some (.int v1)) M) ∧
      (u2 = (2 : Int32) → ∃ p3, kt_gf M a0 76 = some (va_rf p3) ∧ ∃ b4, p3 = some b4 ∧ ∃ u5, kt_el 0 M b4 v2 = some (.int u5) ∧ 
      kt_Ca w gr d yJ7_min_2 kc_J7_min_2 [.long (2000000000 : Int64), .long ((((10 : Int64) * v1.toInt64) + u5.toInt64) - (48 : Int64))] M (kt_pJ fun u6 M7 => nx7 u6.toInt32 (v2 + (1 : Int32)) M7) X))))
theorem cj_X5_value_7 {w : kt_W} {x : kt_X} {gr : kt_g × kt_M} {d : Nat} {P : Option Value → kt_M → Prop} {X : String → Nat → kt_M → Prop} {nx7 : Int32 → Int32 → kt_M → Prop} {a0 : Nat} {v1 : Int32} {v2 : Int32} {M : kt_M} (O : kt_O w x gr (d + 1) cX5_value "KeyTurnsModel" 3 ("value", "()I") (Option.some Jvm.ClassFile.FieldType.int) []) (hn7 : ∀ v1 v2 M, nx7 v1 v2 M → kt_S w x 3 (kt_E w x P X) M 7 [(0, va_rf (some a0)), (1, .int v1), (2, .int v2)] []) (h : vc_X5_value_7 w gr d P X nx7 a0 v1 v2 M) : kt_S w x 3 (kt_E w x P X) M 7 [(0, va_rf (some a0)), (1, .int v1), (2, .int v2)] [] := by
  unfold vc_X5_value_7 at h
  refine kr_iload_n O dX5_value_7 rfl 2 rfl ?_
  refine kr_aload_n O dX5_value_8 rfl 0 rfl ?_
  obtain ⟨u1, eu1, h⟩ := h
  refine kr_getf O dX5_value_9 fs_X5_267 eu1 ?_
  refine kr_icmp_ge (tgt := 55) O dX5_value_12 rfl (fun hc => ?_) (fun hc => ?_)
  · replace h := h.1 hc
    refine kr_iload_n O dX5_value_55 rfl 1 rfl ?_
    exact kr_iret O dX5_value_56 rfl h
  · replace h := h.2 hc
    refine kr_aload_n O dX5_value_15 rfl 0 rfl ?_
    obtain ⟨u2, eu2, h⟩ := h
    refine kr_getf O dX5_value_16 fs_X5_273 eu2 ?_
    refine kr_iconst O dX5_value_19 (v := (2 : Int32)) (by decide) ?_
    refine kr_icmp_ne (tgt := 55) O dX5_value_20 rfl (fun hc => ?_) (fun hc => ?_)
    · replace h := h.1 hc
      refine kr_iload_n O dX5_value_55 rfl 1 rfl ?_
      exact kr_iret O dX5_value_56 rfl h
    · replace h := h.2 hc
      refine kr_ldc2 O dX5_value_23 q2929 ?_
      refine kr_ldc2 O dX5_value_26 q2930 ?_
      refine kr_iload_n O dX5_value_29 rfl 1 rfl ?_
      refine kr_i2l O dX5_value_30 ?_
      refine kr_lmul O dX5_value_31 ?_
      refine kr_aload_n O dX5_value_32 rfl 0 rfl ?_
      obtain ⟨p3, ep3, h⟩ := h
      refine kr_getf O dX5_value_33 fs_X5_31 ep3 ?_
      refine kr_iload_n O dX5_value_36 rfl 2 rfl ?_
      obtain ⟨b4, rfl, h⟩ := h
      obtain ⟨u5, eu5, h⟩ := h
      refine kr_iaload O dX5_value_37 eu5 ?_
      refine kr_i2l O dX5_value_38 ?_
      refine kr_ladd O dX5_value_39 ?_
      refine kr_ldc2 O dX5_value_40 q2931 ?_
      refine kr_lsub O dX5_value_43 ?_
      refine kr_caJ (rest := []) O cd_J7_min_2 h (Nat.le_of_ble_eq_true rfl) (fun ls _ => kt_ivS O dX5_value_44 cd_J7_min_2 in_J7_min_2 q2932 q2933 hy_J7_min_2) (fun u6 M7 hq => ?_) (fun E q M9 hx => kr_out O hx)
      replace h := hq
      clear hq
      refine kr_l2i O dX5_value_47 ?_
      refine kr_istore_n O dX5_value_48 rfl (Nat.le_of_ble_eq_true rfl) rfl rfl ?_
      refine kr_iinc O dX5_value_49 2 rfl (v := v2 + (1 : Int32)) rfl (Nat.le_of_ble_eq_true rfl) rfl rfl ?_
      refine kr_goto (tgt := 7) O dX5_value_52 rfl ?_
      refine kr_sub [2, 1, 0] rfl ?_
      exact hn7 _ _ _ h
def vl_X5_value_7 (w : kt_W) (gr : kt_g × kt_M) (d : Nat) (P : Option Value → kt_M → Prop) (X : String → Nat → kt_M → Prop)  (a0 : Nat) (v1 : Int32) (v2 : Int32) (M : kt_M) : Prop :=
  ∃ Inv : Nat → Int32 → Int32 → kt_M → Prop, (∃ k, Inv k v1 v2 M) ∧ ∀ k v1 v2 M, kt_le gr.1 gr.2 M → Inv k v1 v2 M → vc_X5_value_7 w gr d P X (fun v1' v2' M' => ∃ k', k' < k ∧ Inv k' v1' v2' M') a0 v1 v2 M
theorem cl_X5_value_7 {w : kt_W} {x : kt_X} {gr : kt_g × kt_M} {d : Nat} {P : Option Value → kt_M → Prop} {X : String → Nat → kt_M → Prop}  {a0 : Nat} {v1 : Int32} {v2 : Int32} {M : kt_M} (O : kt_O w x gr (d + 1) cX5_value "KeyTurnsModel" 3 ("value", "()I") (Option.some Jvm.ClassFile.FieldType.int) [])  (h : vl_X5_value_7 w gr d P X  a0 v1 v2 M) : kt_S w x 3 (kt_E w x P X) M 7 [(0, va_rf (some a0)), (1, .int v1), (2, .int v2)] [] := by
  obtain ⟨Inv, ⟨k, hk⟩, hb⟩ := h
  induction k using Nat.strongRecOn generalizing v1 v2 M with
  | ind k ih =>
    exact kr_le O fun hle => cj_X5_value_7 O (fun v1' v2' M' hi => let ⟨k', h1, h2⟩ := hi; ih k' h1 h2) (hb k _ _ _ hle hk)
def vc_X5_value (w : kt_W) (gr : kt_g × kt_M) (d : Nat) (P : Option Value → kt_M → Prop) (X : String → Nat → kt_M → Prop) (a0 : Nat) (M : kt_M) : Prop :=
  ∃ u1, kt_gf M a0 80 = some (.int u1) ∧ vl_X5_value_7 w gr d P X  a0 (0 : Int32) u1 M
theorem ce_X5_value {w : kt_W} {g : kt_g} {d : Nat} {P : Option Value → kt_M → Prop} {X : String → Nat → kt_M → Prop} {a0 : Nat} {M : kt_M} (h : vc_X5_value w (g, M) d P X a0 M) : kt_Sp w g (d + 1) yX5_value kc_X5_value [va_rf (some a0)] M P X := by
  refine kt_of (L0 := [(0, va_rf (some a0))]) (by decide +kernel) (Nat.le_of_ble_eq_true rfl) rfl fun x O => ?_
  replace O : kt_O w x (g, M) (d + 1) cX5_value "KeyTurnsModel" 3 ("value", "()I") (Option.some Jvm.ClassFile.FieldType.int) [] := O
  unfold vc_X5_value at h
  refine kr_iconst O dX5_value_0 (v := (0 : Int32)) (by decide) ?_
  refine kr_istore_n O dX5_value_1 rfl (Nat.le_of_ble_eq_true rfl) rfl rfl ?_
  refine kr_aload_n O dX5_value_2 rfl 1 rfl ?_
  obtain ⟨u1, eu1, h⟩ := h
  refine kr_getf O dX5_value_3 fs_X5_270 eu1 ?_
  refine kr_istore_n O dX5_value_6 rfl (Nat.le_of_ble_eq_true rfl) rfl rfl ?_
  refine kr_sub [2, 1, 0] rfl ?_
  exact cl_X5_value_7 O  h
def vc_X5_expect (w : kt_W) (gr : kt_g × kt_M) (d : Nat) (P : Option Value → kt_M → Prop) (X : String → Nat → kt_M → Prop) (a0 : Nat) (v1 : Int32) (M : kt_M) : Prop :=
  (kt_co M a0 = some 12) ∧ 
  kt_Ca w gr d yX5_isSymbol kc_X5_isSymbol [va_rf (some a0), .int v1] M (kt_pI fun u1 M2 => (kt_co M2 a0 = some 12) ∧ 
  kt_Ca w gr d yX5_check kc_X5_check [va_rf (some a0), .int u1, .int (1 : Int32)] M2 (kt_pV fun M3 => (kt_co M3 a0 = some 12) ∧ 
  kt_Ca w gr d yX5_advance kc_X5_advance [va_rf (some a0)] M3 (kt_pV fun M4 => P none M4) X) X) X
theorem ce_X5_expect {w : kt_W} {g : kt_g} {d : Nat} {P : Option Value → kt_M → Prop} {X : String → Nat → kt_M → Prop} {a0 : Nat} {v1 : Int32} {M : kt_M} (h : vc_X5_expect w (g, M) d P X a0 v1 M) : kt_Sp w g (d + 1) yX5_expect kc_X5_expect [va_rf (some a0), .int v1] M P X := by
  refine kt_of (L0 := [(0, va_rf (some a0)), (1, .int v1)]) (by decide +kernel) (Nat.le_of_ble_eq_true rfl) rfl fun x O => ?_
  replace O : kt_O w x (g, M) (d + 1) cX5_expect "KeyTurnsModel" 2 ("expect", "(I)V") (Option.none : Option Jvm.ClassFile.FieldType) [] := O
  unfold vc_X5_expect at h
  refine kr_aload_n O dX5_expect_0 rfl 0 rfl ?_
  refine kr_aload_n O dX5_expect_1 rfl 0 rfl ?_
  refine kr_iload_n O dX5_expect_2 rfl 1 rfl ?_
  obtain ⟨hco, h⟩ := h
  refine kr_caI (rest := [va_rf (some a0)]) O cd_X5_isSymbol h (Nat.le_of_ble_eq_true rfl) (fun ls _ => kt_ivV (ci := 12) O dX5_expect_3 cd_X5_isSymbol in_X5_isSymbol (Or.inl q2939) q2941 qs95 hco (by decide) hy_X5_isSymbol) (fun u1 M2 hq => ?_) (fun E q M9 hx => kr_out O hx)
  replace h := hq
  clear hq
  refine kr_iconst O dX5_expect_6 (v := (1 : Int32)) (by decide) ?_
  obtain ⟨hco, h⟩ := h
  refine kr_caV (rest := []) O cd_X5_check h (Nat.le_of_ble_eq_true rfl) (fun ls _ => kt_ivV (ci := 12) O dX5_expect_7 cd_X5_check in_X5_check (Or.inl q2909) q2911 qs89 hco (by decide) hy_X5_check) (fun M3 hq => ?_) (fun E q M9 hx => kr_out O hx)
  replace h := hq
  clear hq
  refine kr_aload_n O dX5_expect_10 rfl 0 rfl ?_
  obtain ⟨hco, h⟩ := h
  refine kr_caV (rest := []) O cd_X5_advance h (Nat.le_of_ble_eq_true rfl) (fun ls _ => kt_ivV (ci := 12) O dX5_expect_11 cd_X5_advance in_X5_advance (Or.inl q2917) q2919 qs91 hco (by decide) hy_X5_advance) (fun M4 hq => ?_) (fun E q M9 hx => kr_out O hx)
  replace h := hq
  clear hq
  exact kr_vret O dX5_expect_14 h
def vc_X5_isSymbol (w : kt_W) (gr : kt_g × kt_M) (d : Nat) (P : Option Value → kt_M → Prop) (X : String → Nat → kt_M → Prop) (a0 : Nat) (v1 : Int32) (M : kt_M) : Prop :=
  ∃ u1, kt_gf M a0 82 = some (.int u1) ∧ 
    ((¬ u1 = 0 → P (some (.int (0 : Int32))) M) ∧
    (u1 = 0 → ∃ u2, kt_gf M a0 81 = some (.int u2) ∧ 
      ((¬ u2 = (3 : Int32) → P (some (.int (0 : Int32))) M) ∧
      (u2 = (3 : Int32) → ∃ p3, kt_gf M a0 76 = some (va_rf p3) ∧ ∃ u4, kt_gf M a0 80 = some (.int u4) ∧ ∃ b5, p3 = some b5 ∧ ∃ u6, kt_el 0 M b5 u4 = some (.int u6) ∧ 
        ((¬ u6 = v1 → P (some (.int (0 : Int32))) M) ∧
        (u6 = v1 → P (some (.int (1 : Int32))) M))))))
theorem ce_X5_isSymbol {w : kt_W} {g : kt_g} {d : Nat} {P : Option Value → kt_M → Prop} {X : String → Nat → kt_M → Prop} {a0 : Nat} {v1 : Int32} {M : kt_M} (h : vc_X5_isSymbol w (g, M) d P X a0 v1 M) : kt_Sp w g (d + 1) yX5_isSymbol kc_X5_isSymbol [va_rf (some a0), .int v1] M P X := by
  refine kt_of (L0 := [(0, va_rf (some a0)), (1, .int v1)]) (by decide +kernel) (Nat.le_of_ble_eq_true rfl) rfl fun x O => ?_
  replace O : kt_O w x (g, M) (d + 1) cX5_isSymbol "KeyTurnsModel" 2 ("isSymbol", "(I)Z") (Option.some Jvm.ClassFile.FieldType.boolean) [] := O
  unfold vc_X5_isSymbol at h
  refine kr_aload_n O dX5_isSymbol_0 rfl 0 rfl ?_
  obtain ⟨u1, eu1, h⟩ := h
  refine kr_getf O dX5_isSymbol_1 fs_X5_282 eu1 ?_
  refine kr_if_ne (tgt := 32) O dX5_isSymbol_4 rfl (fun hc => ?_) (fun hc => ?_)
  · replace h := h.1 hc
    refine kr_iconst O dX5_isSymbol_32 (v := (0 : Int32)) (by decide) ?_
    exact kr_iret O dX5_isSymbol_33 (by decide) h
  · replace h := h.2 hc
    refine kr_aload_n O dX5_isSymbol_7 rfl 0 rfl ?_
    obtain ⟨u2, eu2, h⟩ := h
    refine kr_getf O dX5_isSymbol_8 fs_X5_273 eu2 ?_
    refine kr_iconst O dX5_isSymbol_11 (v := (3 : Int32)) (by decide) ?_
    refine kr_icmp_ne (tgt := 32) O dX5_isSymbol_12 rfl (fun hc => ?_) (fun hc => ?_)
    · replace h := h.1 hc
      refine kr_iconst O dX5_isSymbol_32 (v := (0 : Int32)) (by decide) ?_
      exact kr_iret O dX5_isSymbol_33 (by decide) h
    · replace h := h.2 hc
      refine kr_aload_n O dX5_isSymbol_15 rfl 0 rfl ?_
      obtain ⟨p3, ep3, h⟩ := h
      refine kr_getf O dX5_isSymbol_16 fs_X5_31 ep3 ?_
      refine kr_aload_n O dX5_isSymbol_19 rfl 0 rfl ?_
      obtain ⟨u4, eu4, h⟩ := h
      refine kr_getf O dX5_isSymbol_20 fs_X5_270 eu4 ?_
      obtain ⟨b5, rfl, h⟩ := h
      obtain ⟨u6, eu6, h⟩ := h
      refine kr_iaload O dX5_isSymbol_23 eu6 ?_
      refine kr_iload_n O dX5_isSymbol_24 rfl 1 rfl ?_
      refine kr_icmp_ne (tgt := 32) O dX5_isSymbol_25 rfl (fun hc => ?_) (fun hc => ?_)
      · replace h := h.1 hc
        refine kr_iconst O dX5_isSymbol_32 (v := (0 : Int32)) (by decide) ?_
        exact kr_iret O dX5_isSymbol_33 (by decide) h
      · replace h := h.2 hc
        refine kr_iconst O dX5_isSymbol_28 (v := (1 : Int32)) (by decide) ?_
        refine kr_goto (tgt := 33) O dX5_isSymbol_29 rfl ?_
        exact kr_iret O dX5_isSymbol_33 (by decide) h
def vc_X5_readClient_17 (w : kt_W) (gr : kt_g × kt_M) (d : Nat) (P : Option Value → kt_M → Prop) (X : String → Nat → kt_M → Prop)  (a0 : Nat) (s0 : Int32) (sa1 : Nat) (M : kt_M) : Prop :=
  (kt_co M sa1 = some 12) ∧ 
  kt_Ca w gr d yX5_check kc_X5_check [va_rf (some sa1), .int s0, .int (3 : Int32)] M (kt_pV fun M1 => (kt_co M1 a0 = some 12) ∧ 
  kt_Ca w gr d yX5_advance kc_X5_advance [va_rf (some a0)] M1 (kt_pV fun M2 => (kt_co M2 a0 = some 12) ∧ 
  kt_Ca w gr d yX5_readNumber kc_X5_readNumber [va_rf (some a0), .int (1 : Int32), .int (48 : Int32)] M2 (kt_pI fun u3 M4 => (kt_co M4 a0 = some 12) ∧ 
  kt_Ca w gr d yX5_readNumber kc_X5_readNumber [va_rf (some a0), .int (0 : Int32), .int (u3 - (1 : Int32))] M4 (kt_pI fun u5 M6 => ∃ u7, kt_gf M6 a0 82 = some (.int u7) ∧ 
    ((¬ u7 = 0 → P none M6) ∧
    (u7 = 0 → ∃ p8, kt_gf M6 a0 66 = some (va_rf p8) ∧ ∃ b9, p8 = some b9 ∧ ∃ u10, kt_el 0 M6 b9 (3 : Int32) = some (.int u10) ∧ ∃ p11, kt_gf M6 a0 66 = some (va_rf p11) ∧ 
    kt_Ca w gr d yX5_clientAt kc_X5_clientAt [.int u10, .int (0 : Int32)] M6 (kt_pI fun u12 M13 => ∃ b14, p11 = some b14 ∧ kt_hii gr 0 M13 b14 u12 ∧ ∀ M15, M15 = kt_si M13 b14 u12 u3 → ∃ p16, kt_gf M15 a0 66 = some (va_rf p16) ∧ 
    kt_Ca w gr d yX5_clientAt kc_X5_clientAt [.int u10, .int (1 : Int32)] M15 (kt_pI fun u17 M18 => ∃ b19, p16 = some b19 ∧ kt_hii gr 0 M18 b19 u17 ∧ ∀ M20, M20 = kt_si M18 b19 u17 u5 → ∃ p21, kt_gf M20 a0 66 = some (va_rf p21) ∧ ∃ b22, p21 = some b22 ∧ ∃ u23, kt_el 0 M20 b22 (3 : Int32) = some (.int u23) ∧ kt_hii gr 0 M20 b22 (3 : Int32) ∧ ∀ M24, M24 = kt_si M20 b22 (3 : Int32) (u23 + (1 : Int32)) → (kt_co M24 a0 = some 12) ∧ 
    kt_Ca w gr d yX5_learn kc_X5_learn [va_rf (some a0), .int u10] M24 (kt_pI fun u25 M26 => P none M26) X) X) X))) X) X) X) X
theorem cj_X5_readClient_17 {w : kt_W} {x : kt_X} {gr : kt_g × kt_M} {d : Nat} {P : Option Value → kt_M → Prop} {X : String → Nat → kt_M → Prop}  {a0 : Nat} {s0 : Int32} {sa1 : Nat} {M : kt_M} (O : kt_O w x gr (d + 1) cX5_readClient "KeyTurnsModel" 5 ("readClient", "()V") (Option.none : Option Jvm.ClassFile.FieldType) [])  (h : vc_X5_readClient_17 w gr d P X  a0 s0 sa1 M) : kt_S w x 5 (kt_E w x P X) M 17 [(0, va_rf (some a0))] [.int s0, va_rf (some sa1)] := by
  unfold vc_X5_readClient_17 at h
  refine kr_iconst O dX5_readClient_17 (v := (3 : Int32)) (by decide) ?_
  obtain ⟨hco, h⟩ := h
  refine kr_caV (rest := []) O cd_X5_check h (Nat.le_of_ble_eq_true rfl) (fun ls _ => kt_ivV (ci := 12) O dX5_readClient_18 cd_X5_check in_X5_check (Or.inl q2909) q2911 qs89 hco (by decide) hy_X5_check) (fun M1 hq => ?_) (fun E q M9 hx => kr_out O hx)
  replace h := hq
  clear hq
  refine kr_aload_n O dX5_readClient_21 rfl 0 rfl ?_
  obtain ⟨hco, h⟩ := h
  refine kr_caV (rest := []) O cd_X5_advance h (Nat.le_of_ble_eq_true rfl) (fun ls _ => kt_ivV (ci := 12) O dX5_readClient_22 cd_X5_advance in_X5_advance (Or.inl q2917) q2919 qs91 hco (by decide) hy_X5_advance) (fun M2 hq => ?_) (fun E q M9 hx => kr_out O hx)
  replace h := hq
  clear hq
  refine kr_aload_n O dX5_readClient_25 rfl 0 rfl ?_
  refine kr_iconst O dX5_readClient_26 (v := (1 : Int32)) (by decide) ?_
  refine kr_bipush O dX5_readClient_27 (v := (48 : Int32)) (by decide) ?_
  obtain ⟨hco, h⟩ := h
  refine kr_caI (rest := []) O cd_X5_readNumber h (Nat.le_of_ble_eq_true rfl) (fun ls _ => kt_ivV (ci := 12) O dX5_readClient_29 cd_X5_readNumber in_X5_readNumber (Or.inl q2921) q2923 qs92 hco (by decide) hy_X5_readNumber) (fun u3 M4 hq => ?_) (fun E q M9 hx => kr_out O hx)
  replace h := hq
  clear hq
  refine kr_istore_n O dX5_readClient_32 rfl (Nat.le_of_ble_eq_true rfl) rfl rfl ?_
  refine kr_aload_n O dX5_readClient_33 rfl 1 rfl ?_
  refine kr_iconst O dX5_readClient_34 (v := (0 : Int32)) (by decide) ?_
  refine kr_iload_n O dX5_readClient_35 rfl 0 rfl ?_
  refine kr_iconst O dX5_readClient_36 (v := (1 : Int32)) (by decide) ?_
  refine kr_isub O dX5_readClient_37 ?_
  obtain ⟨hco, h⟩ := h
  refine kr_caI (rest := []) O cd_X5_readNumber h (Nat.le_of_ble_eq_true rfl) (fun ls _ => kt_ivV (ci := 12) O dX5_readClient_38 cd_X5_readNumber in_X5_readNumber (Or.inl q2921) q2923 qs92 hco (by decide) hy_X5_readNumber) (fun u5 M6 hq => ?_) (fun E q M9 hx => kr_out O hx)
  replace h := hq
  clear hq
  refine kr_istore_n O dX5_readClient_41 rfl (Nat.le_of_ble_eq_true rfl) rfl rfl ?_
  refine kr_aload_n O dX5_readClient_42 rfl 2 rfl ?_
  obtain ⟨u7, eu7, h⟩ := h
  refine kr_getf O dX5_readClient_43 fs_X5_282 eu7 ?_
  refine kr_if_ne (tgt := 95) O dX5_readClient_46 rfl (fun hc => ?_) (fun hc => ?_)
  · replace h := h.1 hc
    exact kr_vret O dX5_readClient_95 h
  · replace h := h.2 hc
    refine kr_aload_n O dX5_readClient_49 rfl 2 rfl ?_
    obtain ⟨p8, ep8, h⟩ := h
    refine kr_getf O dX5_readClient_50 fs_X5_13 ep8 ?_
    refine kr_iconst O dX5_readClient_53 (v := (3 : Int32)) (by decide) ?_
    obtain ⟨b9, rfl, h⟩ := h
    obtain ⟨u10, eu10, h⟩ := h
    refine kr_iaload O dX5_readClient_54 eu10 ?_
    refine kr_istore_n O dX5_readClient_55 rfl (Nat.le_of_ble_eq_true rfl) rfl rfl ?_
    refine kr_aload_n O dX5_readClient_56 rfl 3 rfl ?_
    obtain ⟨p11, ep11, h⟩ := h
    refine kr_getf O dX5_readClient_57 fs_X5_13 ep11 ?_
    refine kr_iload_n O dX5_readClient_60 rfl 0 rfl ?_
    refine kr_iconst O dX5_readClient_61 (v := (0 : Int32)) (by decide) ?_
    refine kr_caI (rest := [va_rf p11]) O cd_X5_clientAt h (Nat.le_of_ble_eq_true rfl) (fun ls _ => kt_ivS O dX5_readClient_62 cd_X5_clientAt in_X5_clientAt q2654 q2655 hy_X5_clientAt) (fun u12 M13 hq => ?_) (fun E q M9 hx => kr_out O hx)
    replace h := hq
    clear hq
    refine kr_iload_n O dX5_readClient_65 rfl 2 rfl ?_
    obtain ⟨b14, rfl, h⟩ := h
    obtain ⟨hw, h⟩ := h
    refine kr_iastore O dX5_readClient_66 hw (kr_nmM fun M15 hM15 => ?_)
    replace h := h M15 hM15
    refine kr_aload_n O dX5_readClient_67 rfl 3 rfl ?_
    obtain ⟨p16, ep16, h⟩ := h
    refine kr_getf O dX5_readClient_68 fs_X5_13 ep16 ?_
    refine kr_iload_n O dX5_readClient_71 rfl 0 rfl ?_
    refine kr_iconst O dX5_readClient_72 (v := (1 : Int32)) (by decide) ?_
    refine kr_caI (rest := [va_rf p16]) O cd_X5_clientAt h (Nat.le_of_ble_eq_true rfl) (fun ls _ => kt_ivS O dX5_readClient_73 cd_X5_clientAt in_X5_clientAt q2654 q2655 hy_X5_clientAt) (fun u17 M18 hq => ?_) (fun E q M9 hx => kr_out O hx)
    replace h := hq
    clear hq
    refine kr_iload_n O dX5_readClient_76 rfl 1 rfl ?_
    obtain ⟨b19, rfl, h⟩ := h
    obtain ⟨hw, h⟩ := h
    refine kr_iastore O dX5_readClient_77 hw (kr_nmM fun M20 hM20 => ?_)
    replace h := h M20 hM20
    refine kr_aload_n O dX5_readClient_78 rfl 3 rfl ?_
    obtain ⟨p21, ep21, h⟩ := h
    refine kr_getf O dX5_readClient_79 fs_X5_13 ep21 ?_
    refine kr_iconst O dX5_readClient_82 (v := (3 : Int32)) (by decide) ?_
    refine kr_dup2 O dX5_readClient_83 rfl (kt_nrf _) ?_
    obtain ⟨b22, rfl, h⟩ := h
    obtain ⟨u23, eu23, h⟩ := h
    refine kr_iaload O dX5_readClient_84 eu23 ?_
    refine kr_iconst O dX5_readClient_85 (v := (1 : Int32)) (by decide) ?_
    refine kr_iadd O dX5_readClient_86 ?_
    obtain ⟨hw, h⟩ := h
    refine kr_iastore O dX5_readClient_87 hw (kr_nmM fun M24 hM24 => ?_)
    replace h := h M24 hM24
    refine kr_aload_n O dX5_readClient_88 rfl 3 rfl ?_
    refine kr_iload_n O dX5_readClient_89 rfl 0 rfl ?_
    obtain ⟨hco, h⟩ := h
    refine kr_caI (rest := []) O cd_X5_learn h (Nat.le_of_ble_eq_true rfl) (fun ls _ => kt_ivV (ci := 12) O dX5_readClient_90 cd_X5_learn in_X5_learn (Or.inl q2746) q2748 qs71 hco (by decide) hy_X5_learn) (fun u25 M26 hq => ?_) (fun E q M9 hx => kr_out O hx)
    replace h := hq
    clear hq
    refine kr_istore O dX5_readClient_93 (Nat.le_of_ble_eq_true rfl) rfl rfl ?_
    exact kr_vret O dX5_readClient_95 h
def vc_X5_readClient (w : kt_W) (gr : kt_g × kt_M) (d : Nat) (P : Option Value → kt_M → Prop) (X : String → Nat → kt_M → Prop) (a0 : Nat) (M : kt_M) : Prop :=
  ∃ p1, kt_gf M a0 66 = some (va_rf p1) ∧ ∃ b2, p1 = some b2 ∧ ∃ u3, kt_el 0 M b2 (3 : Int32) = some (.int u3) ∧ 
    (((8 : Int32) ≤ u3 → vc_X5_readClient_17 w gr d P X  a0 (0 : Int32) a0 M) ∧
    (¬ (8 : Int32) ≤ u3 → vc_X5_readClient_17 w gr d P X  a0 (1 : Int32) a0 M))
theorem ce_X5_readClient {w : kt_W} {g : kt_g} {d : Nat} {P : Option Value → kt_M → Prop} {X : String → Nat → kt_M → Prop} {a0 : Nat} {M : kt_M} (h : vc_X5_readClient w (g, M) d P X a0 M) : kt_Sp w g (d + 1) yX5_readClient kc_X5_readClient [va_rf (some a0)] M P X := by
  refine kt_of (L0 := [(0, va_rf (some a0))]) (by decide +kernel) (Nat.le_of_ble_eq_true rfl) rfl fun x O => ?_
  replace O : kt_O w x (g, M) (d + 1) cX5_readClient "KeyTurnsModel" 5 ("readClient", "()V") (Option.none : Option Jvm.ClassFile.FieldType) [] := O
  unfold vc_X5_readClient at h
  refine kr_aload_n O dX5_readClient_0 rfl 0 rfl ?_
  refine kr_aload_n O dX5_readClient_1 rfl 0 rfl ?_
  obtain ⟨p1, ep1, h⟩ := h
  refine kr_getf O dX5_readClient_2 fs_X5_13 ep1 ?_
  refine kr_iconst O dX5_readClient_5 (v := (3 : Int32)) (by decide) ?_
  obtain ⟨b2, rfl, h⟩ := h
  obtain ⟨u3, eu3, h⟩ := h
  refine kr_iaload O dX5_readClient_6 eu3 ?_
  refine kr_bipush O dX5_readClient_7 (v := (8 : Int32)) (by decide) ?_
  refine kr_icmp_ge (tgt := 16) O dX5_readClient_9 rfl (fun hc => ?_) (fun hc => ?_)
  · replace h := h.1 hc
    refine kr_iconst O dX5_readClient_16 (v := (0 : Int32)) (by decide) ?_
    exact cj_X5_readClient_17 O  h
  · replace h := h.2 hc
    refine kr_iconst O dX5_readClient_12 (v := (1 : Int32)) (by decide) ?_
    refine kr_goto (tgt := 17) O dX5_readClient_13 rfl ?_
    exact cj_X5_readClient_17 O  h
def vc_X5_readRecords_106 (w : kt_W) (gr : kt_g × kt_M) (d : Nat) (P : Option Value → kt_M → Prop) (X : String → Nat → kt_M → Prop) (nx106 : Int32 → kt_M → Prop) (a0 : Nat) (v1 : Int32) (v2 : Int32) (M : kt_M) : Prop :=
  
    ((v1 ≤ v2 → (kt_co M a0 = some 12) ∧ 
    kt_Ca w gr d yX5_advance kc_X5_advance [va_rf (some a0)] M (kt_pV fun M1 => P none M1) X) ∧
    (¬ v1 ≤ v2 → (kt_co M a0 = some 12) ∧ 
    kt_Ca w gr d yX5_makeRecord kc_X5_makeRecord [va_rf (some a0)] M (kt_pV fun M2 => nx106 (v2 + (1 : Int32)) M2) X))
theorem cj_X5_readRecords_106 {w : kt_W} {x : kt_X} {gr : kt_g × kt_M} {d : Nat} {P : Option Value → kt_M → Prop} {X : String → Nat → kt_M → Prop} {nx106 : Int32 → kt_M → Prop} {a0 : Nat} {v1 : Int32} {v2 : Int32} {M : kt_M} (O : kt_O w x gr (d + 1) cX5_readRecords "KeyTurnsModel" 3 ("readRecords", "()V") (Option.none : Option Jvm.ClassFile.FieldType) []) (hn106 : ∀ v2 M, nx106 v2 M → kt_S w x 3 (kt_E w x P X) M 106 [(0, va_rf (some a0)), (1, .int v1), (2, .int v2)] []) (h : vc_X5_readRecords_106 w gr d P X nx106 a0 v1 v2 M) : kt_S w x 3 (kt_E w x P X) M 106 [(0, va_rf (some a0)), (1, .int v1), (2, .int v2)] [] := by
  unfold vc_X5_readRecords_106 at h
  refine kr_iload_n O dX5_readRecords_106 rfl 2 rfl ?_
  refine kr_iload_n O dX5_readRecords_107 rfl 1 rfl ?_
  refine kr_icmp_ge (tgt := 121) O dX5_readRecords_108 rfl (fun hc => ?_) (fun hc => ?_)
  · replace h := h.1 hc
    refine kr_aload_n O dX5_readRecords_121 rfl 0 rfl ?_
    obtain ⟨hco, h⟩ := h
    refine kr_caV (rest := []) O cd_X5_advance h (Nat.le_of_ble_eq_true rfl) (fun ls _ => kt_ivV (ci := 12) O dX5_readRecords_122 cd_X5_advance in_X5_advance (Or.inl q2917) q2919 qs91 hco (by decide) hy_X5_advance) (fun M1 hq => ?_) (fun E q M9 hx => kr_out O hx)
    replace h := hq
    clear hq
    exact kr_vret O dX5_readRecords_125 h
  · replace h := h.2 hc
    refine kr_aload_n O dX5_readRecords_111 rfl 0 rfl ?_
    obtain ⟨hco, h⟩ := h
    refine kr_caV (rest := []) O cd_X5_makeRecord h (Nat.le_of_ble_eq_true rfl) (fun ls _ => kt_ivV (ci := 12) O dX5_readRecords_112 cd_X5_makeRecord in_X5_makeRecord (Or.inl q2810) q2812 qs78 hco (by decide) hy_X5_makeRecord) (fun M2 hq => ?_) (fun E q M9 hx => kr_out O hx)
    replace h := hq
    clear hq
    refine kr_iinc O dX5_readRecords_115 2 rfl (v := v2 + (1 : Int32)) rfl (Nat.le_of_ble_eq_true rfl) rfl rfl ?_
    refine kr_goto (tgt := 106) O dX5_readRecords_118 rfl ?_
    refine kr_sub [1, 2, 0] rfl ?_
    exact hn106 _ _ h
def vl_X5_readRecords_106 (w : kt_W) (gr : kt_g × kt_M) (d : Nat) (P : Option Value → kt_M → Prop) (X : String → Nat → kt_M → Prop)  (a0 : Nat) (v1 : Int32) (v2 : Int32) (M : kt_M) : Prop :=
  ∃ Inv : Nat → Int32 → kt_M → Prop, (∃ k, Inv k v2 M) ∧ ∀ k v2 M, kt_le gr.1 gr.2 M → Inv k v2 M → vc_X5_readRecords_106 w gr d P X (fun v2' M' => ∃ k', k' < k ∧ Inv k' v2' M') a0 v1 v2 M
theorem cl_X5_readRecords_106 {w : kt_W} {x : kt_X} {gr : kt_g × kt_M} {d : Nat} {P : Option Value → kt_M → Prop} {X : String → Nat → kt_M → Prop}  {a0 : Nat} {v1 : Int32} {v2 : Int32} {M : kt_M} (O : kt_O w x gr (d + 1) cX5_readRecords "KeyTurnsModel" 3 ("readRecords", "()V") (Option.none : Option Jvm.ClassFile.FieldType) [])  (h : vl_X5_readRecords_106 w gr d P X  a0 v1 v2 M) : kt_S w x 3 (kt_E w x P X) M 106 [(0, va_rf (some a0)), (1, .int v1), (2, .int v2)] [] := by
  obtain ⟨Inv, ⟨k, hk⟩, hb⟩ := h
  induction k using Nat.strongRecOn generalizing v2 M with
  | ind k ih =>
    exact kr_le O fun hle => cj_X5_readRecords_106 O (fun v2' M' hi => let ⟨k', h1, h2⟩ := hi; ih k' h1 h2) (hb k _ _ hle hk)
def vc_X5_readRecords_84 (w : kt_W) (gr : kt_g × kt_M) (d : Nat) (P : Option Value → kt_M → Prop) (X : String → Nat → kt_M → Prop)  (a0 : Nat) (s0 : Int32) (sa1 : Nat) (M : kt_M) : Prop :=
  (kt_co M sa1 = some 12) ∧ 
  kt_Ca w gr d yX5_check kc_X5_check [va_rf (some sa1), .int s0, .int (3 : Int32)] M (kt_pV fun M1 => ∃ u2, kt_gf M1 a0 82 = some (.int u2) ∧ 
    ((u2 = 0 → (kt_co M1 a0 = some 12) ∧ 
    kt_Ca w gr d yX5_value kc_X5_value [va_rf (some a0)] M1 (kt_pI fun u3 M4 => vl_X5_readRecords_106 w gr d P X  a0 u3 (0 : Int32) M4) X) ∧
    (¬ u2 = 0 → vl_X5_readRecords_106 w gr d P X  a0 (0 : Int32) (0 : Int32) M1))) X
theorem cj_X5_readRecords_84 {w : kt_W} {x : kt_X} {gr : kt_g × kt_M} {d : Nat} {P : Option Value → kt_M → Prop} {X : String → Nat → kt_M → Prop}  {a0 : Nat} {s0 : Int32} {sa1 : Nat} {M : kt_M} (O : kt_O w x gr (d + 1) cX5_readRecords "KeyTurnsModel" 3 ("readRecords", "()V") (Option.none : Option Jvm.ClassFile.FieldType) [])  (h : vc_X5_readRecords_84 w gr d P X  a0 s0 sa1 M) : kt_S w x 3 (kt_E w x P X) M 84 [(0, va_rf (some a0))] [.int s0, va_rf (some sa1)] := by
  unfold vc_X5_readRecords_84 at h
  refine kr_iconst O dX5_readRecords_84 (v := (3 : Int32)) (by decide) ?_
  obtain ⟨hco, h⟩ := h
  refine kr_caV (rest := []) O cd_X5_check h (Nat.le_of_ble_eq_true rfl) (fun ls _ => kt_ivV (ci := 12) O dX5_readRecords_85 cd_X5_check in_X5_check (Or.inl q2909) q2911 qs89 hco (by decide) hy_X5_check) (fun M1 hq => ?_) (fun E q M9 hx => kr_out O hx)
  replace h := hq
  clear hq
  refine kr_aload_n O dX5_readRecords_88 rfl 0 rfl ?_
  obtain ⟨u2, eu2, h⟩ := h
  refine kr_getf O dX5_readRecords_89 fs_X5_282 eu2 ?_
  refine kr_if_eq (tgt := 99) O dX5_readRecords_92 rfl (fun hc => ?_) (fun hc => ?_)
  · replace h := h.1 hc
    refine kr_aload_n O dX5_readRecords_99 rfl 0 rfl ?_
    obtain ⟨hco, h⟩ := h
    refine kr_caI (rest := []) O cd_X5_value h (Nat.le_of_ble_eq_true rfl) (fun ls _ => kt_ivV (ci := 12) O dX5_readRecords_100 cd_X5_value in_X5_value (Or.inl q2925) q2927 qs93 hco (by decide) hy_X5_value) (fun u3 M4 hq => ?_) (fun E q M9 hx => kr_out O hx)
    replace h := hq
    clear hq
    refine kr_istore_n O dX5_readRecords_103 rfl (Nat.le_of_ble_eq_true rfl) rfl rfl ?_
    refine kr_iconst O dX5_readRecords_104 (v := (0 : Int32)) (by decide) ?_
    refine kr_istore_n O dX5_readRecords_105 rfl (Nat.le_of_ble_eq_true rfl) rfl rfl ?_
    refine kr_sub [2, 1, 0] rfl ?_
    exact cl_X5_readRecords_106 O  h
  · replace h := h.2 hc
    refine kr_iconst O dX5_readRecords_95 (v := (0 : Int32)) (by decide) ?_
    refine kr_goto (tgt := 103) O dX5_readRecords_96 rfl ?_
    refine kr_istore_n O dX5_readRecords_103 rfl (Nat.le_of_ble_eq_true rfl) rfl rfl ?_
    refine kr_iconst O dX5_readRecords_104 (v := (0 : Int32)) (by decide) ?_
    refine kr_istore_n O dX5_readRecords_105 rfl (Nat.le_of_ble_eq_true rfl) rfl rfl ?_
    refine kr_sub [2, 1, 0] rfl ?_
    exact cl_X5_readRecords_106 O  h
def vc_X5_readRecords_79 (w : kt_W) (gr : kt_g × kt_M) (d : Nat) (P : Option Value → kt_M → Prop) (X : String → Nat → kt_M → Prop)  (a0 : Nat) (sa0 : Nat) (M : kt_M) : Prop :=
  vc_X5_readRecords_84 w gr d P X  a0 (1 : Int32) sa0 M
theorem cj_X5_readRecords_79 {w : kt_W} {x : kt_X} {gr : kt_g × kt_M} {d : Nat} {P : Option Value → kt_M → Prop} {X : String → Nat → kt_M → Prop}  {a0 : Nat} {sa0 : Nat} {M : kt_M} (O : kt_O w x gr (d + 1) cX5_readRecords "KeyTurnsModel" 3 ("readRecords", "()V") (Option.none : Option Jvm.ClassFile.FieldType) [])  (h : vc_X5_readRecords_79 w gr d P X  a0 sa0 M) : kt_S w x 3 (kt_E w x P X) M 79 [(0, va_rf (some a0))] [va_rf (some sa0)] := by
  unfold vc_X5_readRecords_79 at h
  refine kr_iconst O dX5_readRecords_79 (v := (1 : Int32)) (by decide) ?_
  refine kr_goto (tgt := 84) O dX5_readRecords_80 rfl ?_
  exact cj_X5_readRecords_84 O  h
def vc_X5_readRecords_51 (w : kt_W) (gr : kt_g × kt_M) (d : Nat) (P : Option Value → kt_M → Prop) (X : String → Nat → kt_M → Prop)  (a0 : Nat) (s0 : Int32) (sa1 : Nat) (M : kt_M) : Prop :=
  (kt_co M sa1 = some 12) ∧ 
  kt_Ca w gr d yX5_check kc_X5_check [va_rf (some sa1), .int s0, .int (2 : Int32)] M (kt_pV fun M1 => ∃ u2, kt_gf M1 a0 82 = some (.int u2) ∧ 
    ((¬ u2 = 0 → vc_X5_readRecords_79 w gr d P X  a0 a0 M1) ∧
    (u2 = 0 → ∃ p3, kt_gf M1 a0 66 = some (va_rf p3) ∧ ∃ b4, p3 = some b4 ∧ ∃ u5, kt_el 0 M1 b4 (2 : Int32) = some (.int u5) ∧ (kt_co M1 a0 = some 12) ∧ 
    kt_Ca w gr d yX5_value kc_X5_value [va_rf (some a0)] M1 (kt_pI fun u6 M7 => 
      (((30 : Int32) < (u5 + u6) → vc_X5_readRecords_84 w gr d P X  a0 (0 : Int32) a0 M7) ∧
      (¬ (30 : Int32) < (u5 + u6) → vc_X5_readRecords_79 w gr d P X  a0 a0 M7))) X))) X
theorem cj_X5_readRecords_51 {w : kt_W} {x : kt_X} {gr : kt_g × kt_M} {d : Nat} {P : Option Value → kt_M → Prop} {X : String → Nat → kt_M → Prop}  {a0 : Nat} {s0 : Int32} {sa1 : Nat} {M : kt_M} (O : kt_O w x gr (d + 1) cX5_readRecords "KeyTurnsModel" 3 ("readRecords", "()V") (Option.none : Option Jvm.ClassFile.FieldType) [])  (h : vc_X5_readRecords_51 w gr d P X  a0 s0 sa1 M) : kt_S w x 3 (kt_E w x P X) M 51 [(0, va_rf (some a0))] [.int s0, va_rf (some sa1)] := by
  unfold vc_X5_readRecords_51 at h
  refine kr_iconst O dX5_readRecords_51 (v := (2 : Int32)) (by decide) ?_
  obtain ⟨hco, h⟩ := h
  refine kr_caV (rest := []) O cd_X5_check h (Nat.le_of_ble_eq_true rfl) (fun ls _ => kt_ivV (ci := 12) O dX5_readRecords_52 cd_X5_check in_X5_check (Or.inl q2909) q2911 qs89 hco (by decide) hy_X5_check) (fun M1 hq => ?_) (fun E q M9 hx => kr_out O hx)
  replace h := hq
  clear hq
  refine kr_aload_n O dX5_readRecords_55 rfl 0 rfl ?_
  refine kr_aload_n O dX5_readRecords_56 rfl 0 rfl ?_
  obtain ⟨u2, eu2, h⟩ := h
  refine kr_getf O dX5_readRecords_57 fs_X5_282 eu2 ?_
  refine kr_if_ne (tgt := 79) O dX5_readRecords_60 rfl (fun hc => ?_) (fun hc => ?_)
  · replace h := h.1 hc
    exact cj_X5_readRecords_79 O  h
  · replace h := h.2 hc
    refine kr_aload_n O dX5_readRecords_63 rfl 0 rfl ?_
    obtain ⟨p3, ep3, h⟩ := h
    refine kr_getf O dX5_readRecords_64 fs_X5_13 ep3 ?_
    refine kr_iconst O dX5_readRecords_67 (v := (2 : Int32)) (by decide) ?_
    obtain ⟨b4, rfl, h⟩ := h
    obtain ⟨u5, eu5, h⟩ := h
    refine kr_iaload O dX5_readRecords_68 eu5 ?_
    refine kr_aload_n O dX5_readRecords_69 rfl 0 rfl ?_
    obtain ⟨hco, h⟩ := h
    refine kr_caI (rest := [.int u5, va_rf (some a0)]) O cd_X5_value h (Nat.le_of_ble_eq_true rfl) (fun ls _ => kt_ivV (ci := 12) O dX5_readRecords_70 cd_X5_value in_X5_value (Or.inl q2925) q2927 qs93 hco (by decide) hy_X5_value) (fun u6 M7 hq => ?_) (fun E q M9 hx => kr_out O hx)
    replace h := hq
    clear hq
    refine kr_iadd O dX5_readRecords_73 ?_
    refine kr_bipush O dX5_readRecords_74 (v := (30 : Int32)) (by decide) ?_
    refine kr_icmp_gt (tgt := 83) O dX5_readRecords_76 rfl (fun hc => ?_) (fun hc => ?_)
    · replace h := h.1 hc
      refine kr_iconst O dX5_readRecords_83 (v := (0 : Int32)) (by decide) ?_
      exact cj_X5_readRecords_84 O  h
    · replace h := h.2 hc
      exact cj_X5_readRecords_79 O  h
def vc_X5_readRecords_46 (w : kt_W) (gr : kt_g × kt_M) (d : Nat) (P : Option Value → kt_M → Prop) (X : String → Nat → kt_M → Prop)  (a0 : Nat) (sa0 : Nat) (M : kt_M) : Prop :=
  vc_X5_readRecords_51 w gr d P X  a0 (1 : Int32) sa0 M
theorem cj_X5_readRecords_46 {w : kt_W} {x : kt_X} {gr : kt_g × kt_M} {d : Nat} {P : Option Value → kt_M → Prop} {X : String → Nat → kt_M → Prop}  {a0 : Nat} {sa0 : Nat} {M : kt_M} (O : kt_O w x gr (d + 1) cX5_readRecords "KeyTurnsModel" 3 ("readRecords", "()V") (Option.none : Option Jvm.ClassFile.FieldType) [])  (h : vc_X5_readRecords_46 w gr d P X  a0 sa0 M) : kt_S w x 3 (kt_E w x P X) M 46 [(0, va_rf (some a0))] [va_rf (some sa0)] := by
  unfold vc_X5_readRecords_46 at h
  refine kr_iconst O dX5_readRecords_46 (v := (1 : Int32)) (by decide) ?_
  refine kr_goto (tgt := 51) O dX5_readRecords_47 rfl ?_
  exact cj_X5_readRecords_51 O  h
def vc_X5_readRecords_21 (w : kt_W) (gr : kt_g × kt_M) (d : Nat) (P : Option Value → kt_M → Prop) (X : String → Nat → kt_M → Prop)  (a0 : Nat) (s0 : Int32) (sa1 : Nat) (M : kt_M) : Prop :=
  (kt_co M sa1 = some 12) ∧ 
  kt_Ca w gr d yX5_check kc_X5_check [va_rf (some sa1), .int s0, .int (1 : Int32)] M (kt_pV fun M1 => ∃ u2, kt_gf M1 a0 82 = some (.int u2) ∧ 
    ((¬ u2 = 0 → vc_X5_readRecords_46 w gr d P X  a0 a0 M1) ∧
    (u2 = 0 → (kt_co M1 a0 = some 12) ∧ 
    kt_Ca w gr d yX5_value kc_X5_value [va_rf (some a0)] M1 (kt_pI fun u3 M4 => 
    kt_Ca w gr d yX5_inRange kc_X5_inRange [.int u3, .int (1 : Int32), .int (30 : Int32)] M4 (kt_pI fun u5 M6 => 
      ((u5 = 0 → vc_X5_readRecords_51 w gr d P X  a0 (0 : Int32) a0 M6) ∧
      (¬ u5 = 0 → vc_X5_readRecords_46 w gr d P X  a0 a0 M6))) X) X))) X
theorem cj_X5_readRecords_21 {w : kt_W} {x : kt_X} {gr : kt_g × kt_M} {d : Nat} {P : Option Value → kt_M → Prop} {X : String → Nat → kt_M → Prop}  {a0 : Nat} {s0 : Int32} {sa1 : Nat} {M : kt_M} (O : kt_O w x gr (d + 1) cX5_readRecords "KeyTurnsModel" 3 ("readRecords", "()V") (Option.none : Option Jvm.ClassFile.FieldType) [])  (h : vc_X5_readRecords_21 w gr d P X  a0 s0 sa1 M) : kt_S w x 3 (kt_E w x P X) M 21 [(0, va_rf (some a0))] [.int s0, va_rf (some sa1)] := by
  unfold vc_X5_readRecords_21 at h
  refine kr_iconst O dX5_readRecords_21 (v := (1 : Int32)) (by decide) ?_
  obtain ⟨hco, h⟩ := h
  refine kr_caV (rest := []) O cd_X5_check h (Nat.le_of_ble_eq_true rfl) (fun ls _ => kt_ivV (ci := 12) O dX5_readRecords_22 cd_X5_check in_X5_check (Or.inl q2909) q2911 qs89 hco (by decide) hy_X5_check) (fun M1 hq => ?_) (fun E q M9 hx => kr_out O hx)
  replace h := hq
  clear hq
  refine kr_aload_n O dX5_readRecords_25 rfl 0 rfl ?_
  refine kr_aload_n O dX5_readRecords_26 rfl 0 rfl ?_
  obtain ⟨u2, eu2, h⟩ := h
  refine kr_getf O dX5_readRecords_27 fs_X5_282 eu2 ?_
  refine kr_if_ne (tgt := 46) O dX5_readRecords_30 rfl (fun hc => ?_) (fun hc => ?_)
  · replace h := h.1 hc
    exact cj_X5_readRecords_46 O  h
  · replace h := h.2 hc
    refine kr_aload_n O dX5_readRecords_33 rfl 0 rfl ?_
    obtain ⟨hco, h⟩ := h
    refine kr_caI (rest := [va_rf (some a0)]) O cd_X5_value h (Nat.le_of_ble_eq_true rfl) (fun ls _ => kt_ivV (ci := 12) O dX5_readRecords_34 cd_X5_value in_X5_value (Or.inl q2925) q2927 qs93 hco (by decide) hy_X5_value) (fun u3 M4 hq => ?_) (fun E q M9 hx => kr_out O hx)
    replace h := hq
    clear hq
    refine kr_iconst O dX5_readRecords_37 (v := (1 : Int32)) (by decide) ?_
    refine kr_bipush O dX5_readRecords_38 (v := (30 : Int32)) (by decide) ?_
    refine kr_caI (rest := [va_rf (some a0)]) O cd_X5_inRange h (Nat.le_of_ble_eq_true rfl) (fun ls _ => kt_ivS O dX5_readRecords_40 cd_X5_inRange in_X5_inRange q2586 q2587 hy_X5_inRange) (fun u5 M6 hq => ?_) (fun E q M9 hx => kr_out O hx)
    replace h := hq
    clear hq
    refine kr_if_eq (tgt := 50) O dX5_readRecords_43 rfl (fun hc => ?_) (fun hc => ?_)
    · replace h := h.1 hc
      refine kr_iconst O dX5_readRecords_50 (v := (0 : Int32)) (by decide) ?_
      exact cj_X5_readRecords_51 O  h
    · replace h := h.2 hc
      exact cj_X5_readRecords_46 O  h
def vc_X5_readRecords_16 (w : kt_W) (gr : kt_g × kt_M) (d : Nat) (P : Option Value → kt_M → Prop) (X : String → Nat → kt_M → Prop)  (a0 : Nat) (sa0 : Nat) (M : kt_M) : Prop :=
  vc_X5_readRecords_21 w gr d P X  a0 (1 : Int32) sa0 M
theorem cj_X5_readRecords_16 {w : kt_W} {x : kt_X} {gr : kt_g × kt_M} {d : Nat} {P : Option Value → kt_M → Prop} {X : String → Nat → kt_M → Prop}  {a0 : Nat} {sa0 : Nat} {M : kt_M} (O : kt_O w x gr (d + 1) cX5_readRecords "KeyTurnsModel" 3 ("readRecords", "()V") (Option.none : Option Jvm.ClassFile.FieldType) [])  (h : vc_X5_readRecords_16 w gr d P X  a0 sa0 M) : kt_S w x 3 (kt_E w x P X) M 16 [(0, va_rf (some a0))] [va_rf (some sa0)] := by
  unfold vc_X5_readRecords_16 at h
  refine kr_iconst O dX5_readRecords_16 (v := (1 : Int32)) (by decide) ?_
  refine kr_goto (tgt := 21) O dX5_readRecords_17 rfl ?_
  exact cj_X5_readRecords_21 O  h
def vc_X5_readRecords (w : kt_W) (gr : kt_g × kt_M) (d : Nat) (P : Option Value → kt_M → Prop) (X : String → Nat → kt_M → Prop) (a0 : Nat) (M : kt_M) : Prop :=
  ∃ u1, kt_gf M a0 82 = some (.int u1) ∧ 
    ((¬ u1 = 0 → vc_X5_readRecords_16 w gr d P X  a0 a0 M) ∧
    (u1 = 0 → ∃ u2, kt_gf M a0 81 = some (.int u2) ∧ 
      ((¬ u2 = (2 : Int32) → vc_X5_readRecords_21 w gr d P X  a0 (0 : Int32) a0 M) ∧
      (u2 = (2 : Int32) → vc_X5_readRecords_16 w gr d P X  a0 a0 M))))
theorem ce_X5_readRecords {w : kt_W} {g : kt_g} {d : Nat} {P : Option Value → kt_M → Prop} {X : String → Nat → kt_M → Prop} {a0 : Nat} {M : kt_M} (h : vc_X5_readRecords w (g, M) d P X a0 M) : kt_Sp w g (d + 1) yX5_readRecords kc_X5_readRecords [va_rf (some a0)] M P X := by
  refine kt_of (L0 := [(0, va_rf (some a0))]) (by decide +kernel) (Nat.le_of_ble_eq_true rfl) rfl fun x O => ?_
  replace O : kt_O w x (g, M) (d + 1) cX5_readRecords "KeyTurnsModel" 3 ("readRecords", "()V") (Option.none : Option Jvm.ClassFile.FieldType) [] := O
  unfold vc_X5_readRecords at h
  refine kr_aload_n O dX5_readRecords_0 rfl 0 rfl ?_
  refine kr_aload_n O dX5_readRecords_1 rfl 0 rfl ?_
  obtain ⟨u1, eu1, h⟩ := h
  refine kr_getf O dX5_readRecords_2 fs_X5_282 eu1 ?_
  refine kr_if_ne (tgt := 16) O dX5_readRecords_5 rfl (fun hc => ?_) (fun hc => ?_)
  · replace h := h.1 hc
    exact cj_X5_readRecords_16 O  h
  · replace h := h.2 hc
    refine kr_aload_n O dX5_readRecords_8 rfl 0 rfl ?_
    obtain ⟨u2, eu2, h⟩ := h
    refine kr_getf O dX5_readRecords_9 fs_X5_273 eu2 ?_
    refine kr_iconst O dX5_readRecords_12 (v := (2 : Int32)) (by decide) ?_
    refine kr_icmp_ne (tgt := 20) O dX5_readRecords_13 rfl (fun hc => ?_) (fun hc => ?_)
    · replace h := h.1 hc
      refine kr_iconst O dX5_readRecords_20 (v := (0 : Int32)) (by decide) ?_
      exact cj_X5_readRecords_21 O  h
    · replace h := h.2 hc
      exact cj_X5_readRecords_16 O  h
def vc_X5_finish_21 (w : kt_W) (gr : kt_g × kt_M) (d : Nat) (P : Option Value → kt_M → Prop) (X : String → Nat → kt_M → Prop)  (a0 : Nat) (s0 : Int32) (sa1 : Nat) (M : kt_M) : Prop :=
  kt_hf gr M sa1 84 ∧ ∀ M1, M1 = kt_pf M sa1 84 (.int s0) → ∃ u2, kt_gf M1 a0 82 = some (.int u2) ∧ P (some (.int u2)) M1
theorem cj_X5_finish_21 {w : kt_W} {x : kt_X} {gr : kt_g × kt_M} {d : Nat} {P : Option Value → kt_M → Prop} {X : String → Nat → kt_M → Prop}  {a0 : Nat} {s0 : Int32} {sa1 : Nat} {M : kt_M} (O : kt_O w x gr (d + 1) cX5_finish "KeyTurnsModel" 1 ("finish", "()I") (Option.some Jvm.ClassFile.FieldType.int) [])  (h : vc_X5_finish_21 w gr d P X  a0 s0 sa1 M) : kt_S w x 1 (kt_E w x P X) M 21 [(0, va_rf (some a0))] [.int s0, va_rf (some sa1)] := by
  unfold vc_X5_finish_21 at h
  obtain ⟨hw, h⟩ := h
  refine kr_putf O dX5_finish_21 fs_X5_34 (Or.inl rfl) ⟨rfl, rfl⟩ hw (kr_nmM fun M1 hM1 => ?_)
  replace h := h M1 hM1
  refine kr_aload_n O dX5_finish_24 rfl 0 rfl ?_
  obtain ⟨u2, eu2, h⟩ := h
  refine kr_getf O dX5_finish_25 fs_X5_282 eu2 ?_
  exact kr_iret O dX5_finish_28 rfl h
def vc_X5_finish (w : kt_W) (gr : kt_g × kt_M) (d : Nat) (P : Option Value → kt_M → Prop) (X : String → Nat → kt_M → Prop) (a0 : Nat) (M : kt_M) : Prop :=
  kt_hf gr M a0 77 ∧ ∀ M1, M1 = kt_pf M a0 77 (.int (0 : Int32)) → ∃ u2, kt_gf M1 a0 82 = some (.int u2) ∧ 
    ((¬ u2 = 0 → ∃ u3, kt_gf M1 a0 83 = some (.int u3) ∧ vc_X5_finish_21 w gr d P X  a0 u3 a0 M1) ∧
    (u2 = 0 → vc_X5_finish_21 w gr d P X  a0 (-1 : Int32) a0 M1))
theorem ce_X5_finish {w : kt_W} {g : kt_g} {d : Nat} {P : Option Value → kt_M → Prop} {X : String → Nat → kt_M → Prop} {a0 : Nat} {M : kt_M} (h : vc_X5_finish w (g, M) d P X a0 M) : kt_Sp w g (d + 1) yX5_finish kc_X5_finish [va_rf (some a0)] M P X := by
  refine kt_of (L0 := [(0, va_rf (some a0))]) (by decide +kernel) (Nat.le_of_ble_eq_true rfl) rfl fun x O => ?_
  replace O : kt_O w x (g, M) (d + 1) cX5_finish "KeyTurnsModel" 1 ("finish", "()I") (Option.some Jvm.ClassFile.FieldType.int) [] := O
  unfold vc_X5_finish at h
  refine kr_aload_n O dX5_finish_0 rfl 0 rfl ?_
  refine kr_iconst O dX5_finish_1 (v := (0 : Int32)) (by decide) ?_
  obtain ⟨hw, h⟩ := h
  refine kr_putf O dX5_finish_2 fs_X5_258 (Or.inl rfl) ⟨rfl, rfl⟩ hw (kr_nmM fun M1 hM1 => ?_)
  replace h := h M1 hM1
  refine kr_aload_n O dX5_finish_5 rfl 0 rfl ?_
  refine kr_aload_n O dX5_finish_6 rfl 0 rfl ?_
  obtain ⟨u2, eu2, h⟩ := h
  refine kr_getf O dX5_finish_7 fs_X5_282 eu2 ?_
  refine kr_if_ne (tgt := 17) O dX5_finish_10 rfl (fun hc => ?_) (fun hc => ?_)
  · replace h := h.1 hc
    refine kr_aload_n O dX5_finish_17 rfl 0 rfl ?_
    obtain ⟨u3, eu3, h⟩ := h
    refine kr_getf O dX5_finish_18 fs_X5_291 eu3 ?_
    exact cj_X5_finish_21 O  h
  · replace h := h.2 hc
    refine kr_iconst O dX5_finish_13 (v := (-1 : Int32)) (by decide) ?_
    refine kr_goto (tgt := 21) O dX5_finish_14 rfl ?_
    exact cj_X5_finish_21 O  h
def vc_X5_query_124 (w : kt_W) (gr : kt_g × kt_M) (d : Nat) (P : Option Value → kt_M → Prop) (X : String → Nat → kt_M → Prop) (nx124 : Int32 → Int32 → kt_M → Prop) (a0 : Nat) (v2 : Int32) (v3 : Int32) (v4 : Int32) (M : kt_M) : Prop :=
  ∃ p1, kt_gf M a0 65 = some (va_rf p1) ∧ ∃ b2, p1 = some b2 ∧ ∃ u3, kt_el 0 M b2 (2 : Int32) = some (.int u3) ∧ 
    ((u3 ≤ v4 → 
      ((v2 = 0 → P (some (.int v3)) M) ∧
      (¬ v2 = 0 → P (some (.int (-1 : Int32))) M))) ∧
    (¬ u3 ≤ v4 → (kt_co M a0 = some 12) ∧ 
    kt_Ca w gr d yX5_isRecord kc_X5_isRecord [va_rf (some a0), .int v4] M (kt_pI fun u4 M5 => 
      ((¬ u4 = 0 → (kt_co M5 a0 = some 12) ∧ 
      kt_Ca w gr d yX5_holdsFor kc_X5_holdsFor [va_rf (some a0), .int v4] M5 (kt_pI fun u6 M7 => 
        ((¬ u6 = 0 → 
          ((v2 = 0 → nx124 (v3 + (1 : Int32)) (v4 + (1 : Int32)) M7) ∧
          (¬ v2 = 0 → P (some (.int v4)) M7))) ∧
        (u6 = 0 → nx124 v3 (v4 + (1 : Int32)) M7))) X) ∧
      (u4 = 0 → nx124 v3 (v4 + (1 : Int32)) M5))) X))
theorem cj_X5_query_124 {w : kt_W} {x : kt_X} {gr : kt_g × kt_M} {d : Nat} {P : Option Value → kt_M → Prop} {X : String → Nat → kt_M → Prop} {nx124 : Int32 → Int32 → kt_M → Prop} {a0 : Nat} {v2 : Int32} {v3 : Int32} {v4 : Int32} {M : kt_M} (O : kt_O w x gr (d + 1) cX5_query "KeyTurnsModel" 5 ("query", "(I)I") (Option.some Jvm.ClassFile.FieldType.int) []) (hn124 : ∀ v3 v4 M, nx124 v3 v4 M → kt_S w x 5 (kt_E w x P X) M 124 [(0, va_rf (some a0)), (2, .int v2), (3, .int v3), (4, .int v4)] []) (h : vc_X5_query_124 w gr d P X nx124 a0 v2 v3 v4 M) : kt_S w x 5 (kt_E w x P X) M 124 [(0, va_rf (some a0)), (2, .int v2), (3, .int v3), (4, .int v4)] [] := by
  unfold vc_X5_query_124 at h
  refine kr_iload O dX5_query_124 3 rfl ?_
  refine kr_aload_n O dX5_query_126 rfl 0 rfl ?_
  obtain ⟨p1, ep1, h⟩ := h
  refine kr_getf O dX5_query_127 fs_X5_9 ep1 ?_
  refine kr_iconst O dX5_query_130 (v := (2 : Int32)) (by decide) ?_
  obtain ⟨b2, rfl, h⟩ := h
  obtain ⟨u3, eu3, h⟩ := h
  refine kr_iaload O dX5_query_131 eu3 ?_
  refine kr_icmp_ge (tgt := 175) O dX5_query_132 rfl (fun hc => ?_) (fun hc => ?_)
  · replace h := h.1 hc
    refine kr_iload_n O dX5_query_175 rfl 1 rfl ?_
    refine kr_if_eq (tgt := 183) O dX5_query_176 rfl (fun hc => ?_) (fun hc => ?_)
    · replace h := h.1 hc
      refine kr_iload_n O dX5_query_183 rfl 2 rfl ?_
      exact kr_iret O dX5_query_184 rfl h
    · replace h := h.2 hc
      refine kr_iconst O dX5_query_179 (v := (-1 : Int32)) (by decide) ?_
      refine kr_goto (tgt := 184) O dX5_query_180 rfl ?_
      exact kr_iret O dX5_query_184 rfl h
  · replace h := h.2 hc
    refine kr_aload_n O dX5_query_135 rfl 0 rfl ?_
    refine kr_iload O dX5_query_136 3 rfl ?_
    obtain ⟨hco, h⟩ := h
    refine kr_caI (rest := []) O cd_X5_isRecord h (Nat.le_of_ble_eq_true rfl) (fun ls _ => kt_ivV (ci := 12) O dX5_query_138 cd_X5_isRecord in_X5_isRecord (Or.inl q2597) q2599 qs48 hco (by decide) hy_X5_isRecord) (fun u4 M5 hq => ?_) (fun E q M9 hx => kr_out O hx)
    replace h := hq
    clear hq
    refine kr_if_ne (tgt := 147) O dX5_query_141 rfl (fun hc => ?_) (fun hc => ?_)
    · replace h := h.1 hc
      refine kr_aload_n O dX5_query_147 rfl 0 rfl ?_
      refine kr_iload O dX5_query_148 3 rfl ?_
      obtain ⟨hco, h⟩ := h
      refine kr_caI (rest := []) O cd_X5_holdsFor h (Nat.le_of_ble_eq_true rfl) (fun ls _ => kt_ivV (ci := 12) O dX5_query_150 cd_X5_holdsFor in_X5_holdsFor (Or.inl q2995) q2997 qs106 hco (by decide) hy_X5_holdsFor) (fun u6 M7 hq => ?_) (fun E q M9 hx => kr_out O hx)
      replace h := hq
      clear hq
      refine kr_if_ne (tgt := 159) O dX5_query_153 rfl (fun hc => ?_) (fun hc => ?_)
      · replace h := h.1 hc
        refine kr_iload_n O dX5_query_159 rfl 1 rfl ?_
        refine kr_if_eq (tgt := 166) O dX5_query_160 rfl (fun hc => ?_) (fun hc => ?_)
        · replace h := h.1 hc
          refine kr_iinc O dX5_query_166 2 rfl (v := v3 + (1 : Int32)) rfl (Nat.le_of_ble_eq_true rfl) rfl rfl ?_
          refine kr_iinc O dX5_query_169 3 rfl (v := v4 + (1 : Int32)) rfl (Nat.le_of_ble_eq_true rfl) rfl rfl ?_
          refine kr_goto (tgt := 124) O dX5_query_172 rfl ?_
          refine kr_sub [2, 3, 1, 0] rfl ?_
          exact hn124 _ _ _ h
        · replace h := h.2 hc
          refine kr_iload O dX5_query_163 3 rfl ?_
          exact kr_iret O dX5_query_165 rfl h
      · replace h := h.2 hc
        refine kr_goto (tgt := 169) O dX5_query_156 rfl ?_
        refine kr_iinc O dX5_query_169 3 rfl (v := v4 + (1 : Int32)) rfl (Nat.le_of_ble_eq_true rfl) rfl rfl ?_
        refine kr_goto (tgt := 124) O dX5_query_172 rfl ?_
        refine kr_sub [1, 2, 3, 0] rfl ?_
        exact hn124 _ _ _ h
    · replace h := h.2 hc
      refine kr_goto (tgt := 169) O dX5_query_144 rfl ?_
      refine kr_iinc O dX5_query_169 3 rfl (v := v4 + (1 : Int32)) rfl (Nat.le_of_ble_eq_true rfl) rfl rfl ?_
      refine kr_goto (tgt := 124) O dX5_query_172 rfl ?_
      refine kr_sub [1, 2, 3, 0] rfl ?_
      exact hn124 _ _ _ h
def vl_X5_query_124 (w : kt_W) (gr : kt_g × kt_M) (d : Nat) (P : Option Value → kt_M → Prop) (X : String → Nat → kt_M → Prop)  (a0 : Nat) (v2 : Int32) (v3 : Int32) (v4 : Int32) (M : kt_M) : Prop :=
  ∃ Inv : Nat → Int32 → Int32 → kt_M → Prop, (∃ k, Inv k v3 v4 M) ∧ ∀ k v3 v4 M, kt_le gr.1 gr.2 M → Inv k v3 v4 M → vc_X5_query_124 w gr d P X (fun v3' v4' M' => ∃ k', k' < k ∧ Inv k' v3' v4' M') a0 v2 v3 v4 M
theorem cl_X5_query_124 {w : kt_W} {x : kt_X} {gr : kt_g × kt_M} {d : Nat} {P : Option Value → kt_M → Prop} {X : String → Nat → kt_M → Prop}  {a0 : Nat} {v2 : Int32} {v3 : Int32} {v4 : Int32} {M : kt_M} (O : kt_O w x gr (d + 1) cX5_query "KeyTurnsModel" 5 ("query", "(I)I") (Option.some Jvm.ClassFile.FieldType.int) [])  (h : vl_X5_query_124 w gr d P X  a0 v2 v3 v4 M) : kt_S w x 5 (kt_E w x P X) M 124 [(0, va_rf (some a0)), (2, .int v2), (3, .int v3), (4, .int v4)] [] := by
  obtain ⟨Inv, ⟨k, hk⟩, hb⟩ := h
  induction k using Nat.strongRecOn generalizing v3 v4 M with
  | ind k ih =>
    exact kr_le O fun hle => cj_X5_query_124 O (fun v3' v4' M' hi => let ⟨k', h1, h2⟩ := hi; ih k' h1 h2) (hb k _ _ _ hle hk)
def vc_X5_query_99 (w : kt_W) (gr : kt_g × kt_M) (d : Nat) (P : Option Value → kt_M → Prop) (X : String → Nat → kt_M → Prop)  (a0 : Nat) (v2 : Int32) (s0 : Int32) (sa1 : Nat) (M : kt_M) : Prop :=
  (kt_co M sa1 = some 12) ∧ 
  kt_Ca w gr d yX5_check kc_X5_check [va_rf (some sa1), .int s0, .int (1 : Int32)] M (kt_pV fun M1 => (kt_co M1 a0 = some 12) ∧ 
  kt_Ca w gr d yX5_finish kc_X5_finish [va_rf (some a0)] M1 (kt_pI fun u2 M3 => 
    ((u2 = 0 → vl_X5_query_124 w gr d P X  a0 v2 (0 : Int32) (0 : Int32) M3) ∧
    (¬ u2 = 0 → ∃ u4, kt_gf M3 a0 82 = some (.int u4) ∧ P (some (.int ((-1000000000 : Int32) - u4))) M3))) X) X
theorem cj_X5_query_99 {w : kt_W} {x : kt_X} {gr : kt_g × kt_M} {d : Nat} {P : Option Value → kt_M → Prop} {X : String → Nat → kt_M → Prop}  {a0 : Nat} {v2 : Int32} {s0 : Int32} {sa1 : Nat} {M : kt_M} (O : kt_O w x gr (d + 1) cX5_query "KeyTurnsModel" 5 ("query", "(I)I") (Option.some Jvm.ClassFile.FieldType.int) [])  (h : vc_X5_query_99 w gr d P X  a0 v2 s0 sa1 M) : kt_S w x 5 (kt_E w x P X) M 99 [(0, va_rf (some a0)), (2, .int v2)] [.int s0, va_rf (some sa1)] := by
  unfold vc_X5_query_99 at h
  refine kr_iconst O dX5_query_99 (v := (1 : Int32)) (by decide) ?_
  obtain ⟨hco, h⟩ := h
  refine kr_caV (rest := []) O cd_X5_check h (Nat.le_of_ble_eq_true rfl) (fun ls _ => kt_ivV (ci := 12) O dX5_query_100 cd_X5_check in_X5_check (Or.inl q2909) q2911 qs89 hco (by decide) hy_X5_check) (fun M1 hq => ?_) (fun E q M9 hx => kr_out O hx)
  replace h := hq
  clear hq
  refine kr_aload_n O dX5_query_103 rfl 0 rfl ?_
  obtain ⟨hco, h⟩ := h
  refine kr_caI (rest := []) O cd_X5_finish h (Nat.le_of_ble_eq_true rfl) (fun ls _ => kt_ivV (ci := 12) O dX5_query_104 cd_X5_finish in_X5_finish (Or.inl q2953) q2955 qs98 hco (by decide) hy_X5_finish) (fun u2 M3 hq => ?_) (fun E q M9 hx => kr_out O hx)
  replace h := hq
  clear hq
  refine kr_if_eq (tgt := 119) O dX5_query_107 rfl (fun hc => ?_) (fun hc => ?_)
  · replace h := h.1 hc
    refine kr_iconst O dX5_query_119 (v := (0 : Int32)) (by decide) ?_
    refine kr_istore_n O dX5_query_120 rfl (Nat.le_of_ble_eq_true rfl) rfl rfl ?_
    refine kr_iconst O dX5_query_121 (v := (0 : Int32)) (by decide) ?_
    refine kr_istore O dX5_query_122 (Nat.le_of_ble_eq_true rfl) rfl rfl ?_
    refine kr_sub [2, 3, 1, 0] rfl ?_
    exact cl_X5_query_124 O  h
  · replace h := h.2 hc
    refine kr_ldcw O dX5_query_110 q2994 ?_
    refine kr_aload_n O dX5_query_113 rfl 0 rfl ?_
    obtain ⟨u4, eu4, h⟩ := h
    refine kr_getf O dX5_query_114 fs_X5_282 eu4 ?_
    refine kr_isub O dX5_query_117 ?_
    exact kr_iret O dX5_query_118 rfl h
def vc_X5_query_94 (w : kt_W) (gr : kt_g × kt_M) (d : Nat) (P : Option Value → kt_M → Prop) (X : String → Nat → kt_M → Prop)  (a0 : Nat) (v2 : Int32) (sa0 : Nat) (M : kt_M) : Prop :=
  vc_X5_query_99 w gr d P X  a0 v2 (1 : Int32) sa0 M
theorem cj_X5_query_94 {w : kt_W} {x : kt_X} {gr : kt_g × kt_M} {d : Nat} {P : Option Value → kt_M → Prop} {X : String → Nat → kt_M → Prop}  {a0 : Nat} {v2 : Int32} {sa0 : Nat} {M : kt_M} (O : kt_O w x gr (d + 1) cX5_query "KeyTurnsModel" 5 ("query", "(I)I") (Option.some Jvm.ClassFile.FieldType.int) [])  (h : vc_X5_query_94 w gr d P X  a0 v2 sa0 M) : kt_S w x 5 (kt_E w x P X) M 94 [(0, va_rf (some a0)), (2, .int v2)] [va_rf (some sa0)] := by
  unfold vc_X5_query_94 at h
  refine kr_iconst O dX5_query_94 (v := (1 : Int32)) (by decide) ?_
  refine kr_goto (tgt := 99) O dX5_query_95 rfl ?_
  exact cj_X5_query_99 O  h
def vc_X5_query_67 (w : kt_W) (gr : kt_g × kt_M) (d : Nat) (P : Option Value → kt_M → Prop) (X : String → Nat → kt_M → Prop)  (a0 : Nat) (v2 : Int32) (s0 : Int32) (sa1 : Nat) (M : kt_M) : Prop :=
  (kt_co M sa1 = some 12) ∧ 
  kt_Ca w gr d yX5_check kc_X5_check [va_rf (some sa1), .int s0, .int (1 : Int32)] M (kt_pV fun M1 => (kt_co M1 a0 = some 12) ∧ 
  kt_Ca w gr d yX5_advance kc_X5_advance [va_rf (some a0)] M1 (kt_pV fun M2 => (kt_co M2 a0 = some 12) ∧ 
  kt_Ca w gr d yX5_compileTest kc_X5_compileTest [va_rf (some a0)] M2 (kt_pV fun M3 => ∃ u4, kt_gf M3 a0 82 = some (.int u4) ∧ 
    ((¬ u4 = 0 → vc_X5_query_94 w gr d P X  a0 v2 a0 M3) ∧
    (u4 = 0 → ∃ u5, kt_gf M3 a0 81 = some (.int u5) ∧ 
      ((¬ u5 = 0 → vc_X5_query_99 w gr d P X  a0 v2 (0 : Int32) a0 M3) ∧
      (u5 = 0 → vc_X5_query_94 w gr d P X  a0 v2 a0 M3))))) X) X) X
theorem cj_X5_query_67 {w : kt_W} {x : kt_X} {gr : kt_g × kt_M} {d : Nat} {P : Option Value → kt_M → Prop} {X : String → Nat → kt_M → Prop}  {a0 : Nat} {v2 : Int32} {s0 : Int32} {sa1 : Nat} {M : kt_M} (O : kt_O w x gr (d + 1) cX5_query "KeyTurnsModel" 5 ("query", "(I)I") (Option.some Jvm.ClassFile.FieldType.int) [])  (h : vc_X5_query_67 w gr d P X  a0 v2 s0 sa1 M) : kt_S w x 5 (kt_E w x P X) M 67 [(0, va_rf (some a0)), (2, .int v2)] [.int s0, va_rf (some sa1)] := by
  unfold vc_X5_query_67 at h
  refine kr_iconst O dX5_query_67 (v := (1 : Int32)) (by decide) ?_
  obtain ⟨hco, h⟩ := h
  refine kr_caV (rest := []) O cd_X5_check h (Nat.le_of_ble_eq_true rfl) (fun ls _ => kt_ivV (ci := 12) O dX5_query_68 cd_X5_check in_X5_check (Or.inl q2909) q2911 qs89 hco (by decide) hy_X5_check) (fun M1 hq => ?_) (fun E q M9 hx => kr_out O hx)
  replace h := hq
  clear hq
  refine kr_aload_n O dX5_query_71 rfl 0 rfl ?_
  obtain ⟨hco, h⟩ := h
  refine kr_caV (rest := []) O cd_X5_advance h (Nat.le_of_ble_eq_true rfl) (fun ls _ => kt_ivV (ci := 12) O dX5_query_72 cd_X5_advance in_X5_advance (Or.inl q2917) q2919 qs91 hco (by decide) hy_X5_advance) (fun M2 hq => ?_) (fun E q M9 hx => kr_out O hx)
  replace h := hq
  clear hq
  refine kr_aload_n O dX5_query_75 rfl 0 rfl ?_
  obtain ⟨hco, h⟩ := h
  refine kr_caV (rest := []) O cd_X5_compileTest h (Nat.le_of_ble_eq_true rfl) (fun ls _ => kt_ivV (ci := 12) O dX5_query_76 cd_X5_compileTest in_X5_compileTest (Or.inl q2963) q2965 qs99 hco (by decide) hy_X5_compileTest) (fun M3 hq => ?_) (fun E q M9 hx => kr_out O hx)
  replace h := hq
  clear hq
  refine kr_aload_n O dX5_query_79 rfl 0 rfl ?_
  refine kr_aload_n O dX5_query_80 rfl 0 rfl ?_
  obtain ⟨u4, eu4, h⟩ := h
  refine kr_getf O dX5_query_81 fs_X5_282 eu4 ?_
  refine kr_if_ne (tgt := 94) O dX5_query_84 rfl (fun hc => ?_) (fun hc => ?_)
  · replace h := h.1 hc
    exact cj_X5_query_94 O  h
  · replace h := h.2 hc
    refine kr_aload_n O dX5_query_87 rfl 0 rfl ?_
    obtain ⟨u5, eu5, h⟩ := h
    refine kr_getf O dX5_query_88 fs_X5_273 eu5 ?_
    refine kr_if_ne (tgt := 98) O dX5_query_91 rfl (fun hc => ?_) (fun hc => ?_)
    · replace h := h.1 hc
      refine kr_iconst O dX5_query_98 (v := (0 : Int32)) (by decide) ?_
      exact cj_X5_query_99 O  h
    · replace h := h.2 hc
      exact cj_X5_query_94 O  h
def vc_X5_query_62 (w : kt_W) (gr : kt_g × kt_M) (d : Nat) (P : Option Value → kt_M → Prop) (X : String → Nat → kt_M → Prop)  (a0 : Nat) (v2 : Int32) (sa0 : Nat) (M : kt_M) : Prop :=
  vc_X5_query_67 w gr d P X  a0 v2 (1 : Int32) sa0 M
theorem cj_X5_query_62 {w : kt_W} {x : kt_X} {gr : kt_g × kt_M} {d : Nat} {P : Option Value → kt_M → Prop} {X : String → Nat → kt_M → Prop}  {a0 : Nat} {v2 : Int32} {sa0 : Nat} {M : kt_M} (O : kt_O w x gr (d + 1) cX5_query "KeyTurnsModel" 5 ("query", "(I)I") (Option.some Jvm.ClassFile.FieldType.int) [])  (h : vc_X5_query_62 w gr d P X  a0 v2 sa0 M) : kt_S w x 5 (kt_E w x P X) M 62 [(0, va_rf (some a0)), (2, .int v2)] [va_rf (some sa0)] := by
  unfold vc_X5_query_62 at h
  refine kr_iconst O dX5_query_62 (v := (1 : Int32)) (by decide) ?_
  refine kr_goto (tgt := 67) O dX5_query_63 rfl ?_
  exact cj_X5_query_67 O  h
def vc_X5_query (w : kt_W) (gr : kt_g × kt_M) (d : Nat) (P : Option Value → kt_M → Prop) (X : String → Nat → kt_M → Prop) (a0 : Nat) (v1 : Int32) (M : kt_M) : Prop :=
  kt_hf gr M a0 71 ∧ ∀ M1, M1 = kt_pf M a0 71 (.int (0 : Int32)) → ∃ u2, kt_gf M1 a0 77 = some (.int u2) ∧ 
  kt_Ca w gr d yJ7_min kc_J7_min [.int u2, .int (200 : Int32)] M1 (kt_pI fun u3 M4 => 
  kt_Ca w gr d yX5_inRange kc_X5_inRange [.int v1, .int (0 : Int32), .int u3] M4 (kt_pI fun u5 M6 => 
    ((¬ u5 = 0 → kt_hf gr M6 a0 89 ∧ ∀ M7, M7 = kt_pf M6 a0 89 (.int (0 : Int32)) → (kt_co M7 a0 = some 12) ∧ 
    kt_Ca w gr d yX5_startText kc_X5_startText [va_rf (some a0), .int v1] M7 (kt_pV fun M8 => (kt_co M8 a0 = some 12) ∧ 
    kt_Ca w gr d yX5_isWord kc_X5_isWord [va_rf (some a0), va_rf (some (kt_cA w 30))] M8 (kt_pI fun u9 M10 => 
      ((¬ u9 = 0 → vc_X5_query_62 w gr d P X  a0 u9 a0 M10) ∧
      (u9 = 0 → (kt_co M10 a0 = some 12) ∧ 
      kt_Ca w gr d yX5_isWord kc_X5_isWord [va_rf (some a0), va_rf (some (kt_cA w 31))] M10 (kt_pI fun u11 M12 => 
        ((u11 = 0 → vc_X5_query_67 w gr d P X  a0 u9 (0 : Int32) a0 M12) ∧
        (¬ u11 = 0 → vc_X5_query_62 w gr d P X  a0 u9 a0 M12))) X))) X) X) ∧
    (u5 = 0 → (kt_co M6 a0 = some 12) ∧ 
    kt_Ca w gr d yX5_raise kc_X5_raise [va_rf (some a0), .int (1 : Int32)] M6 (kt_pI fun u13 M14 => P (some (.int u13)) M14) X))) X) X
theorem ce_X5_query {w : kt_W} {g : kt_g} {d : Nat} {P : Option Value → kt_M → Prop} {X : String → Nat → kt_M → Prop} {a0 : Nat} {v1 : Int32} {M : kt_M} (h : vc_X5_query w (g, M) d P X a0 v1 M) : kt_Sp w g (d + 1) yX5_query kc_X5_query [va_rf (some a0), .int v1] M P X := by
  refine kt_of (L0 := [(0, va_rf (some a0)), (1, .int v1)]) (by decide +kernel) (Nat.le_of_ble_eq_true rfl) rfl fun x O => ?_
  replace O : kt_O w x (g, M) (d + 1) cX5_query "KeyTurnsModel" 5 ("query", "(I)I") (Option.some Jvm.ClassFile.FieldType.int) [] := O
  unfold vc_X5_query at h
  refine kr_aload_n O dX5_query_0 rfl 0 rfl ?_
  refine kr_iconst O dX5_query_1 (v := (0 : Int32)) (by decide) ?_
  obtain ⟨hw, h⟩ := h
  refine kr_putf O dX5_query_2 fs_X5_71 (Or.inl rfl) ⟨rfl, rfl⟩ hw (kr_nmM fun M1 hM1 => ?_)
  replace h := h M1 hM1
  refine kr_iload_n O dX5_query_5 rfl 1 rfl ?_
  refine kr_iconst O dX5_query_6 (v := (0 : Int32)) (by decide) ?_
  refine kr_aload_n O dX5_query_7 rfl 0 rfl ?_
  obtain ⟨u2, eu2, h⟩ := h
  refine kr_getf O dX5_query_8 fs_X5_258 eu2 ?_
  refine kr_sipush O dX5_query_11 (v := (200 : Int32)) (by decide) ?_
  refine kr_caI (rest := [.int (0 : Int32), .int v1]) O cd_J7_min h (Nat.le_of_ble_eq_true rfl) (fun ls _ => kt_ivS O dX5_query_14 cd_J7_min in_J7_min q2474 q419 hy_J7_min) (fun u3 M4 hq => ?_) (fun E q M9 hx => kr_out O hx)
  replace h := hq
  clear hq
  refine kr_caI (rest := []) O cd_X5_inRange h (Nat.le_of_ble_eq_true rfl) (fun ls _ => kt_ivS O dX5_query_17 cd_X5_inRange in_X5_inRange q2586 q2587 hy_X5_inRange) (fun u5 M6 hq => ?_) (fun E q M9 hx => kr_out O hx)
  replace h := hq
  clear hq
  refine kr_if_ne (tgt := 29) O dX5_query_20 rfl (fun hc => ?_) (fun hc => ?_)
  · replace h := h.1 hc
    refine kr_aload_n O dX5_query_29 rfl 0 rfl ?_
    refine kr_iconst O dX5_query_30 (v := (0 : Int32)) (by decide) ?_
    obtain ⟨hw, h⟩ := h
    refine kr_putf O dX5_query_31 fs_X5_360 (Or.inl rfl) ⟨rfl, rfl⟩ hw (kr_nmM fun M7 hM7 => ?_)
    replace h := h M7 hM7
    refine kr_aload_n O dX5_query_34 rfl 0 rfl ?_
    refine kr_iload_n O dX5_query_35 rfl 1 rfl ?_
    obtain ⟨hco, h⟩ := h
    refine kr_caV (rest := []) O cd_X5_startText h (Nat.le_of_ble_eq_true rfl) (fun ls _ => kt_ivV (ci := 12) O dX5_query_36 cd_X5_startText in_X5_startText (Or.inl q2874) q2876 qs81 hco (by decide) hy_X5_startText) (fun M8 hq => ?_) (fun E q M9 hx => kr_out O hx)
    replace h := hq
    clear hq
    refine kr_aload_n O dX5_query_39 rfl 0 rfl ?_
    refine kr_ldcwS O dX5_query_40 st_X5_397 ?_
    obtain ⟨hco, h⟩ := h
    refine kr_caI (rest := []) O cd_X5_isWord h (Nat.le_of_ble_eq_true rfl) (fun ls _ => kt_ivV (ci := 12) O dX5_query_43 cd_X5_isWord in_X5_isWord (Or.inl q2903) q2905 qs88 hco (by decide) hy_X5_isWord) (fun u9 M10 hq => ?_) (fun E q M9 hx => kr_out O hx)
    replace h := hq
    clear hq
    refine kr_istore_n O dX5_query_46 rfl (Nat.le_of_ble_eq_true rfl) rfl rfl ?_
    refine kr_aload_n O dX5_query_47 rfl 1 rfl ?_
    refine kr_iload_n O dX5_query_48 rfl 0 rfl ?_
    refine kr_if_ne (tgt := 62) O dX5_query_49 rfl (fun hc => ?_) (fun hc => ?_)
    · replace h := h.1 hc
      refine kr_sub [1, 0] rfl ?_
      exact cj_X5_query_62 O  h
    · replace h := h.2 hc
      refine kr_aload_n O dX5_query_52 rfl 1 rfl ?_
      refine kr_ldcwS O dX5_query_53 st_X5_399 ?_
      obtain ⟨hco, h⟩ := h
      refine kr_caI (rest := [va_rf (some a0)]) O cd_X5_isWord h (Nat.le_of_ble_eq_true rfl) (fun ls _ => kt_ivV (ci := 12) O dX5_query_56 cd_X5_isWord in_X5_isWord (Or.inl q2903) q2905 qs88 hco (by decide) hy_X5_isWord) (fun u11 M12 hq => ?_) (fun E q M9 hx => kr_out O hx)
      replace h := hq
      clear hq
      refine kr_if_eq (tgt := 66) O dX5_query_59 rfl (fun hc => ?_) (fun hc => ?_)
      · replace h := h.1 hc
        refine kr_iconst O dX5_query_66 (v := (0 : Int32)) (by decide) ?_
        refine kr_sub [1, 0] rfl ?_
        exact cj_X5_query_67 O  h
      · replace h := h.2 hc
        refine kr_sub [1, 0] rfl ?_
        exact cj_X5_query_62 O  h
  · replace h := h.2 hc
    refine kr_aload_n O dX5_query_23 rfl 0 rfl ?_
    refine kr_iconst O dX5_query_24 (v := (1 : Int32)) (by decide) ?_
    obtain ⟨hco, h⟩ := h
    refine kr_caI (rest := []) O cd_X5_raise h (Nat.le_of_ble_eq_true rfl) (fun ls _ => kt_ivV (ci := 12) O dX5_query_25 cd_X5_raise in_X5_raise (Or.inl q2606) q2608 qs50 hco (by decide) hy_X5_raise) (fun u13 M14 hq => ?_) (fun E q M9 hx => kr_out O hx)
    replace h := hq
    clear hq
    exact kr_iret O dX5_query_28 rfl h
def vc_X5_compileTest_4 (w : kt_W) (gr : kt_g × kt_M) (d : Nat) (P : Option Value → kt_M → Prop) (X : String → Nat → kt_M → Prop) (nx4 : kt_M → Prop) (a0 : Nat) (M : kt_M) : Prop :=
  (kt_co M a0 = some 12) ∧ 
  kt_Ca w gr d yX5_accept kc_X5_accept [va_rf (some a0), va_rf (some (kt_cA w 42))] M (kt_pI fun u1 M2 => 
    ((u1 = 0 → P none M2) ∧
    (¬ u1 = 0 → (kt_co M2 a0 = some 12) ∧ 
    kt_Ca w gr d yX5_compileConjunction kc_X5_compileConjunction [va_rf (some a0)] M2 (kt_pV fun M3 => (kt_co M3 a0 = some 12) ∧ 
    kt_Ca w gr d yX5_emit kc_X5_emit [va_rf (some a0), .int (-25 : Int32)] M3 (kt_pV fun M4 => nx4  M4) X) X))) X
theorem cj_X5_compileTest_4 {w : kt_W} {x : kt_X} {gr : kt_g × kt_M} {d : Nat} {P : Option Value → kt_M → Prop} {X : String → Nat → kt_M → Prop} {nx4 : kt_M → Prop} {a0 : Nat} {M : kt_M} (O : kt_O w x gr (d + 1) cX5_compileTest "KeyTurnsModel" 1 ("compileTest", "()V") (Option.none : Option Jvm.ClassFile.FieldType) []) (hn4 : ∀ M, nx4  M → kt_S w x 1 (kt_E w x P X) M 4 [(0, va_rf (some a0))] []) (h : vc_X5_compileTest_4 w gr d P X nx4 a0 M) : kt_S w x 1 (kt_E w x P X) M 4 [(0, va_rf (some a0))] [] := by
  unfold vc_X5_compileTest_4 at h
  refine kr_aload_n O dX5_compileTest_4 rfl 0 rfl ?_
  refine kr_ldcwS O dX5_compileTest_5 st_X5_388 ?_
  obtain ⟨hco, h⟩ := h
  refine kr_caI (rest := []) O cd_X5_accept h (Nat.le_of_ble_eq_true rfl) (fun ls _ => kt_ivV (ci := 12) O dX5_compileTest_8 cd_X5_accept in_X5_accept (Or.inl q2989) q2991 qs105 hco (by decide) hy_X5_accept) (fun u1 M2 hq => ?_) (fun E q M9 hx => kr_out O hx)
  replace h := hq
  clear hq
  refine kr_if_eq (tgt := 27) O dX5_compileTest_11 rfl (fun hc => ?_) (fun hc => ?_)
  · replace h := h.1 hc
    exact kr_vret O dX5_compileTest_27 h
  · replace h := h.2 hc
    refine kr_aload_n O dX5_compileTest_14 rfl 0 rfl ?_
    obtain ⟨hco, h⟩ := h
    refine kr_caV (rest := []) O cd_X5_compileConjunction h (Nat.le_of_ble_eq_true rfl) (fun ls _ => kt_ivV (ci := 12) O dX5_compileTest_15 cd_X5_compileConjunction in_X5_compileConjunction (Or.inl q2967) q2969 qs100 hco (by decide) hy_X5_compileConjunction) (fun M3 hq => ?_) (fun E q M9 hx => kr_out O hx)
    replace h := hq
    clear hq
    refine kr_aload_n O dX5_compileTest_18 rfl 0 rfl ?_
    refine kr_bipush O dX5_compileTest_19 (v := (-25 : Int32)) (by decide) ?_
    obtain ⟨hco, h⟩ := h
    refine kr_caV (rest := []) O cd_X5_emit h (Nat.le_of_ble_eq_true rfl) (fun ls _ => kt_ivV (ci := 12) O dX5_compileTest_21 cd_X5_emit in_X5_emit (Or.inl q2980) q2982 qs103 hco (by decide) hy_X5_emit) (fun M4 hq => ?_) (fun E q M9 hx => kr_out O hx)
    replace h := hq
    clear hq
    refine kr_goto (tgt := 4) O dX5_compileTest_24 rfl ?_
    exact hn4  _ h
def vl_X5_compileTest_4 (w : kt_W) (gr : kt_g × kt_M) (d : Nat) (P : Option Value → kt_M → Prop) (X : String → Nat → kt_M → Prop)  (a0 : Nat) (M : kt_M) : Prop :=
  ∃ Inv : Nat → kt_M → Prop, (∃ k, Inv k  M) ∧ ∀ k  M, kt_le gr.1 gr.2 M → Inv k  M → vc_X5_compileTest_4 w gr d P X (fun M' => ∃ k', k' < k ∧ Inv k'  M') a0 M
theorem cl_X5_compileTest_4 {w : kt_W} {x : kt_X} {gr : kt_g × kt_M} {d : Nat} {P : Option Value → kt_M → Prop} {X : String → Nat → kt_M → Prop}  {a0 : Nat} {M : kt_M} (O : kt_O w x gr (d + 1) cX5_compileTest "KeyTurnsModel" 1 ("compileTest", "()V") (Option.none : Option Jvm.ClassFile.FieldType) [])  (h : vl_X5_compileTest_4 w gr d P X  a0 M) : kt_S w x 1 (kt_E w x P X) M 4 [(0, va_rf (some a0))] [] := by
  obtain ⟨Inv, ⟨k, hk⟩, hb⟩ := h
  induction k using Nat.strongRecOn generalizing  M with
  | ind k ih =>
    exact kr_le O fun hle => cj_X5_compileTest_4 O (fun  M' hi => let ⟨k', h1, h2⟩ := hi; ih k' h1 h2) (hb k  _ hle hk)
def vc_X5_compileTest (w : kt_W) (gr : kt_g × kt_M) (d : Nat) (P : Option Value → kt_M → Prop) (X : String → Nat → kt_M → Prop) (a0 : Nat) (M : kt_M) : Prop :=
  (kt_co M a0 = some 12) ∧ 
  kt_Ca w gr d yX5_compileConjunction kc_X5_compileConjunction [va_rf (some a0)] M (kt_pV fun M1 => vl_X5_compileTest_4 w gr d P X  a0 M1) X
theorem ce_X5_compileTest {w : kt_W} {g : kt_g} {d : Nat} {P : Option Value → kt_M → Prop} {X : String → Nat → kt_M → Prop} {a0 : Nat} {M : kt_M} (h : vc_X5_compileTest w (g, M) d P X a0 M) : kt_Sp w g (d + 1) yX5_compileTest kc_X5_compileTest [va_rf (some a0)] M P X := by
  refine kt_of (L0 := [(0, va_rf (some a0))]) (by decide +kernel) (Nat.le_of_ble_eq_true rfl) rfl fun x O => ?_
  replace O : kt_O w x (g, M) (d + 1) cX5_compileTest "KeyTurnsModel" 1 ("compileTest", "()V") (Option.none : Option Jvm.ClassFile.FieldType) [] := O
  unfold vc_X5_compileTest at h
  refine kr_aload_n O dX5_compileTest_0 rfl 0 rfl ?_
  obtain ⟨hco, h⟩ := h
  refine kr_caV (rest := []) O cd_X5_compileConjunction h (Nat.le_of_ble_eq_true rfl) (fun ls _ => kt_ivV (ci := 12) O dX5_compileTest_1 cd_X5_compileConjunction in_X5_compileConjunction (Or.inl q2967) q2969 qs100 hco (by decide) hy_X5_compileConjunction) (fun M1 hq => ?_) (fun E q M9 hx => kr_out O hx)
  replace h := hq
  clear hq
  exact cl_X5_compileTest_4 O  h
def vc_X5_compileConjunction_4 (w : kt_W) (gr : kt_g × kt_M) (d : Nat) (P : Option Value → kt_M → Prop) (X : String → Nat → kt_M → Prop) (nx4 : kt_M → Prop) (a0 : Nat) (M : kt_M) : Prop :=
  (kt_co M a0 = some 12) ∧ 
  kt_Ca w gr d yX5_accept kc_X5_accept [va_rf (some a0), va_rf (some (kt_cA w 41))] M (kt_pI fun u1 M2 => 
    ((u1 = 0 → P none M2) ∧
    (¬ u1 = 0 → (kt_co M2 a0 = some 12) ∧ 
    kt_Ca w gr d yX5_compileFactor kc_X5_compileFactor [va_rf (some a0)] M2 (kt_pV fun M3 => (kt_co M3 a0 = some 12) ∧ 
    kt_Ca w gr d yX5_emit kc_X5_emit [va_rf (some a0), .int (-24 : Int32)] M3 (kt_pV fun M4 => nx4  M4) X) X))) X
theorem cj_X5_compileConjunction_4 {w : kt_W} {x : kt_X} {gr : kt_g × kt_M} {d : Nat} {P : Option Value → kt_M → Prop} {X : String → Nat → kt_M → Prop} {nx4 : kt_M → Prop} {a0 : Nat} {M : kt_M} (O : kt_O w x gr (d + 1) cX5_compileConjunction "KeyTurnsModel" 1 ("compileConjunction", "()V") (Option.none : Option Jvm.ClassFile.FieldType) []) (hn4 : ∀ M, nx4  M → kt_S w x 1 (kt_E w x P X) M 4 [(0, va_rf (some a0))] []) (h : vc_X5_compileConjunction_4 w gr d P X nx4 a0 M) : kt_S w x 1 (kt_E w x P X) M 4 [(0, va_rf (some a0))] [] := by
  unfold vc_X5_compileConjunction_4 at h
  refine kr_aload_n O dX5_compileConjunction_4 rfl 0 rfl ?_
  refine kr_ldcwS O dX5_compileConjunction_5 st_X5_380 ?_
  obtain ⟨hco, h⟩ := h
  refine kr_caI (rest := []) O cd_X5_accept h (Nat.le_of_ble_eq_true rfl) (fun ls _ => kt_ivV (ci := 12) O dX5_compileConjunction_8 cd_X5_accept in_X5_accept (Or.inl q2989) q2991 qs105 hco (by decide) hy_X5_accept) (fun u1 M2 hq => ?_) (fun E q M9 hx => kr_out O hx)
  replace h := hq
  clear hq
  refine kr_if_eq (tgt := 27) O dX5_compileConjunction_11 rfl (fun hc => ?_) (fun hc => ?_)
  · replace h := h.1 hc
    exact kr_vret O dX5_compileConjunction_27 h
  · replace h := h.2 hc
    refine kr_aload_n O dX5_compileConjunction_14 rfl 0 rfl ?_
    obtain ⟨hco, h⟩ := h
    refine kr_caV (rest := []) O cd_X5_compileFactor h (Nat.le_of_ble_eq_true rfl) (fun ls _ => kt_ivV (ci := 12) O dX5_compileConjunction_15 cd_X5_compileFactor in_X5_compileFactor (Or.inl q2971) q2973 qs101 hco (by decide) hy_X5_compileFactor) (fun M3 hq => ?_) (fun E q M9 hx => kr_out O hx)
    replace h := hq
    clear hq
    refine kr_aload_n O dX5_compileConjunction_18 rfl 0 rfl ?_
    refine kr_bipush O dX5_compileConjunction_19 (v := (-24 : Int32)) (by decide) ?_
    obtain ⟨hco, h⟩ := h
    refine kr_caV (rest := []) O cd_X5_emit h (Nat.le_of_ble_eq_true rfl) (fun ls _ => kt_ivV (ci := 12) O dX5_compileConjunction_21 cd_X5_emit in_X5_emit (Or.inl q2980) q2982 qs103 hco (by decide) hy_X5_emit) (fun M4 hq => ?_) (fun E q M9 hx => kr_out O hx)
    replace h := hq
    clear hq
    refine kr_goto (tgt := 4) O dX5_compileConjunction_24 rfl ?_
    exact hn4  _ h
def vl_X5_compileConjunction_4 (w : kt_W) (gr : kt_g × kt_M) (d : Nat) (P : Option Value → kt_M → Prop) (X : String → Nat → kt_M → Prop)  (a0 : Nat) (M : kt_M) : Prop :=
  ∃ Inv : Nat → kt_M → Prop, (∃ k, Inv k  M) ∧ ∀ k  M, kt_le gr.1 gr.2 M → Inv k  M → vc_X5_compileConjunction_4 w gr d P X (fun M' => ∃ k', k' < k ∧ Inv k'  M') a0 M
theorem cl_X5_compileConjunction_4 {w : kt_W} {x : kt_X} {gr : kt_g × kt_M} {d : Nat} {P : Option Value → kt_M → Prop} {X : String → Nat → kt_M → Prop}  {a0 : Nat} {M : kt_M} (O : kt_O w x gr (d + 1) cX5_compileConjunction "KeyTurnsModel" 1 ("compileConjunction", "()V") (Option.none : Option Jvm.ClassFile.FieldType) [])  (h : vl_X5_compileConjunction_4 w gr d P X  a0 M) : kt_S w x 1 (kt_E w x P X) M 4 [(0, va_rf (some a0))] [] := by
  obtain ⟨Inv, ⟨k, hk⟩, hb⟩ := h
  induction k using Nat.strongRecOn generalizing  M with
  | ind k ih =>
    exact kr_le O fun hle => cj_X5_compileConjunction_4 O (fun  M' hi => let ⟨k', h1, h2⟩ := hi; ih k' h1 h2) (hb k  _ hle hk)
def vc_X5_compileConjunction (w : kt_W) (gr : kt_g × kt_M) (d : Nat) (P : Option Value → kt_M → Prop) (X : String → Nat → kt_M → Prop) (a0 : Nat) (M : kt_M) : Prop :=
  (kt_co M a0 = some 12) ∧ 
  kt_Ca w gr d yX5_compileFactor kc_X5_compileFactor [va_rf (some a0)] M (kt_pV fun M1 => vl_X5_compileConjunction_4 w gr d P X  a0 M1) X
theorem ce_X5_compileConjunction {w : kt_W} {g : kt_g} {d : Nat} {P : Option Value → kt_M → Prop} {X : String → Nat → kt_M → Prop} {a0 : Nat} {M : kt_M} (h : vc_X5_compileConjunction w (g, M) d P X a0 M) : kt_Sp w g (d + 1) yX5_compileConjunction kc_X5_compileConjunction [va_rf (some a0)] M P X := by
  refine kt_of (L0 := [(0, va_rf (some a0))]) (by decide +kernel) (Nat.le_of_ble_eq_true rfl) rfl fun x O => ?_
  replace O : kt_O w x (g, M) (d + 1) cX5_compileConjunction "KeyTurnsModel" 1 ("compileConjunction", "()V") (Option.none : Option Jvm.ClassFile.FieldType) [] := O
  unfold vc_X5_compileConjunction at h
  refine kr_aload_n O dX5_compileConjunction_0 rfl 0 rfl ?_
  obtain ⟨hco, h⟩ := h
  refine kr_caV (rest := []) O cd_X5_compileFactor h (Nat.le_of_ble_eq_true rfl) (fun ls _ => kt_ivV (ci := 12) O dX5_compileConjunction_1 cd_X5_compileFactor in_X5_compileFactor (Or.inl q2971) q2973 qs101 hco (by decide) hy_X5_compileFactor) (fun M1 hq => ?_) (fun E q M9 hx => kr_out O hx)
  replace h := hq
  clear hq
  exact cl_X5_compileConjunction_4 O  h
def vc_X5_compileFactor_143 (w : kt_W) (gr : kt_g × kt_M) (d : Nat) (P : Option Value → kt_M → Prop) (X : String → Nat → kt_M → Prop)  (a0 : Nat) (v1 : Int32) (s0 : Int32) (sa1 : Nat) (M : kt_M) : Prop :=
  (kt_co M sa1 = some 12) ∧ 
  kt_Ca w gr d yX5_check kc_X5_check [va_rf (some sa1), .int s0, .int (1 : Int32)] M (kt_pV fun M1 => (kt_co M1 a0 = some 12) ∧ 
  kt_Ca w gr d yX5_advance kc_X5_advance [va_rf (some a0)] M1 (kt_pV fun M2 => (kt_co M2 a0 = some 12) ∧ 
  kt_Ca w gr d yX5_compileValue kc_X5_compileValue [va_rf (some a0)] M2 (kt_pV fun M3 => (kt_co M3 a0 = some 12) ∧ 
  kt_Ca w gr d yX5_emit kc_X5_emit [va_rf (some a0), .int v1] M3 (kt_pV fun M4 => P none M4) X) X) X) X
theorem cj_X5_compileFactor_143 {w : kt_W} {x : kt_X} {gr : kt_g × kt_M} {d : Nat} {P : Option Value → kt_M → Prop} {X : String → Nat → kt_M → Prop}  {a0 : Nat} {v1 : Int32} {s0 : Int32} {sa1 : Nat} {M : kt_M} (O : kt_O w x gr (d + 1) cX5_compileFactor "KeyTurnsModel" 2 ("compileFactor", "()V") (Option.none : Option Jvm.ClassFile.FieldType) [])  (h : vc_X5_compileFactor_143 w gr d P X  a0 v1 s0 sa1 M) : kt_S w x 2 (kt_E w x P X) M 143 [(0, va_rf (some a0)), (1, .int v1)] [.int s0, va_rf (some sa1)] := by
  unfold vc_X5_compileFactor_143 at h
  refine kr_iconst O dX5_compileFactor_143 (v := (1 : Int32)) (by decide) ?_
  obtain ⟨hco, h⟩ := h
  refine kr_caV (rest := []) O cd_X5_check h (Nat.le_of_ble_eq_true rfl) (fun ls _ => kt_ivV (ci := 12) O dX5_compileFactor_144 cd_X5_check in_X5_check (Or.inl q2909) q2911 qs89 hco (by decide) hy_X5_check) (fun M1 hq => ?_) (fun E q M9 hx => kr_out O hx)
  replace h := hq
  clear hq
  refine kr_aload_n O dX5_compileFactor_147 rfl 0 rfl ?_
  obtain ⟨hco, h⟩ := h
  refine kr_caV (rest := []) O cd_X5_advance h (Nat.le_of_ble_eq_true rfl) (fun ls _ => kt_ivV (ci := 12) O dX5_compileFactor_148 cd_X5_advance in_X5_advance (Or.inl q2917) q2919 qs91 hco (by decide) hy_X5_advance) (fun M2 hq => ?_) (fun E q M9 hx => kr_out O hx)
  replace h := hq
  clear hq
  refine kr_aload_n O dX5_compileFactor_151 rfl 0 rfl ?_
  obtain ⟨hco, h⟩ := h
  refine kr_caV (rest := []) O cd_X5_compileValue h (Nat.le_of_ble_eq_true rfl) (fun ls _ => kt_ivV (ci := 12) O dX5_compileFactor_152 cd_X5_compileValue in_X5_compileValue (Or.inl q2984) q2986 qs104 hco (by decide) hy_X5_compileValue) (fun M3 hq => ?_) (fun E q M9 hx => kr_out O hx)
  replace h := hq
  clear hq
  refine kr_aload_n O dX5_compileFactor_155 rfl 0 rfl ?_
  refine kr_iload_n O dX5_compileFactor_156 rfl 1 rfl ?_
  obtain ⟨hco, h⟩ := h
  refine kr_caV (rest := []) O cd_X5_emit h (Nat.le_of_ble_eq_true rfl) (fun ls _ => kt_ivV (ci := 12) O dX5_compileFactor_157 cd_X5_emit in_X5_emit (Or.inl q2980) q2982 qs103 hco (by decide) hy_X5_emit) (fun M4 hq => ?_) (fun E q M9 hx => kr_out O hx)
  replace h := hq
  clear hq
  exact kr_vret O dX5_compileFactor_160 h
def vc_X5_compileFactor_138 (w : kt_W) (gr : kt_g × kt_M) (d : Nat) (P : Option Value → kt_M → Prop) (X : String → Nat → kt_M → Prop)  (a0 : Nat) (v1 : Int32) (sa0 : Nat) (M : kt_M) : Prop :=
  vc_X5_compileFactor_143 w gr d P X  a0 v1 (1 : Int32) sa0 M
theorem cj_X5_compileFactor_138 {w : kt_W} {x : kt_X} {gr : kt_g × kt_M} {d : Nat} {P : Option Value → kt_M → Prop} {X : String → Nat → kt_M → Prop}  {a0 : Nat} {v1 : Int32} {sa0 : Nat} {M : kt_M} (O : kt_O w x gr (d + 1) cX5_compileFactor "KeyTurnsModel" 2 ("compileFactor", "()V") (Option.none : Option Jvm.ClassFile.FieldType) [])  (h : vc_X5_compileFactor_138 w gr d P X  a0 v1 sa0 M) : kt_S w x 2 (kt_E w x P X) M 138 [(0, va_rf (some a0)), (1, .int v1)] [va_rf (some sa0)] := by
  unfold vc_X5_compileFactor_138 at h
  refine kr_iconst O dX5_compileFactor_138 (v := (1 : Int32)) (by decide) ?_
  refine kr_goto (tgt := 143) O dX5_compileFactor_139 rfl ?_
  exact cj_X5_compileFactor_143 O  h
def vc_X5_compileFactor_121 (w : kt_W) (gr : kt_g × kt_M) (d : Nat) (P : Option Value → kt_M → Prop) (X : String → Nat → kt_M → Prop)  (a0 : Nat) (s0 : Int32) (M : kt_M) : Prop :=
  
    ((¬ s0 = (-22 : Int32) → vc_X5_compileFactor_138 w gr d P X  a0 s0 a0 M) ∧
    (s0 = (-22 : Int32) → (kt_co M a0 = some 12) ∧ 
    kt_Ca w gr d yX5_isSymbol kc_X5_isSymbol [va_rf (some a0), .int (62 : Int32)] M (kt_pI fun u1 M2 => 
      ((u1 = 0 → vc_X5_compileFactor_143 w gr d P X  a0 s0 (0 : Int32) a0 M2) ∧
      (¬ u1 = 0 → vc_X5_compileFactor_138 w gr d P X  a0 s0 a0 M2))) X))
theorem cj_X5_compileFactor_121 {w : kt_W} {x : kt_X} {gr : kt_g × kt_M} {d : Nat} {P : Option Value → kt_M → Prop} {X : String → Nat → kt_M → Prop}  {a0 : Nat} {s0 : Int32} {M : kt_M} (O : kt_O w x gr (d + 1) cX5_compileFactor "KeyTurnsModel" 2 ("compileFactor", "()V") (Option.none : Option Jvm.ClassFile.FieldType) [])  (h : vc_X5_compileFactor_121 w gr d P X  a0 s0 M) : kt_S w x 2 (kt_E w x P X) M 121 [(0, va_rf (some a0))] [.int s0] := by
  unfold vc_X5_compileFactor_121 at h
  refine kr_istore_n O dX5_compileFactor_121 rfl (Nat.le_of_ble_eq_true rfl) rfl rfl ?_
  refine kr_aload_n O dX5_compileFactor_122 rfl 1 rfl ?_
  refine kr_iload_n O dX5_compileFactor_123 rfl 0 rfl ?_
  refine kr_bipush O dX5_compileFactor_124 (v := (-22 : Int32)) (by decide) ?_
  refine kr_icmp_ne (tgt := 138) O dX5_compileFactor_126 rfl (fun hc => ?_) (fun hc => ?_)
  · replace h := h.1 hc
    refine kr_sub [1, 0] rfl ?_
    exact cj_X5_compileFactor_138 O  h
  · replace h := h.2 hc
    refine kr_aload_n O dX5_compileFactor_129 rfl 1 rfl ?_
    refine kr_bipush O dX5_compileFactor_130 (v := (62 : Int32)) (by decide) ?_
    obtain ⟨hco, h⟩ := h
    refine kr_caI (rest := [va_rf (some a0)]) O cd_X5_isSymbol h (Nat.le_of_ble_eq_true rfl) (fun ls _ => kt_ivV (ci := 12) O dX5_compileFactor_132 cd_X5_isSymbol in_X5_isSymbol (Or.inl q2939) q2941 qs95 hco (by decide) hy_X5_isSymbol) (fun u1 M2 hq => ?_) (fun E q M9 hx => kr_out O hx)
    replace h := hq
    clear hq
    refine kr_if_eq (tgt := 142) O dX5_compileFactor_135 rfl (fun hc => ?_) (fun hc => ?_)
    · replace h := h.1 hc
      refine kr_iconst O dX5_compileFactor_142 (v := (0 : Int32)) (by decide) ?_
      refine kr_sub [1, 0] rfl ?_
      exact cj_X5_compileFactor_143 O  h
    · replace h := h.2 hc
      refine kr_sub [1, 0] rfl ?_
      exact cj_X5_compileFactor_138 O  h
def vc_X5_compileFactor_68 (w : kt_W) (gr : kt_g × kt_M) (d : Nat) (P : Option Value → kt_M → Prop) (X : String → Nat → kt_M → Prop)  (a0 : Nat) (M : kt_M) : Prop :=
  (kt_co M a0 = some 12) ∧ 
  kt_Ca w gr d yX5_expect kc_X5_expect [va_rf (some a0), .int (41 : Int32)] M (kt_pV fun M1 => ∃ u2, kt_gf M1 a0 85 = some (.int u2) ∧ kt_hf gr M1 a0 85 ∧ ∀ M3, M3 = kt_pf M1 a0 85 (.int (u2 - (1 : Int32))) → P none M3) X
theorem cj_X5_compileFactor_68 {w : kt_W} {x : kt_X} {gr : kt_g × kt_M} {d : Nat} {P : Option Value → kt_M → Prop} {X : String → Nat → kt_M → Prop}  {a0 : Nat} {M : kt_M} (O : kt_O w x gr (d + 1) cX5_compileFactor "KeyTurnsModel" 2 ("compileFactor", "()V") (Option.none : Option Jvm.ClassFile.FieldType) [])  (h : vc_X5_compileFactor_68 w gr d P X  a0 M) : kt_S w x 2 (kt_E w x P X) M 68 [(0, va_rf (some a0))] [] := by
  unfold vc_X5_compileFactor_68 at h
  refine kr_aload_n O dX5_compileFactor_68 rfl 0 rfl ?_
  refine kr_bipush O dX5_compileFactor_69 (v := (41 : Int32)) (by decide) ?_
  obtain ⟨hco, h⟩ := h
  refine kr_caV (rest := []) O cd_X5_expect h (Nat.le_of_ble_eq_true rfl) (fun ls _ => kt_ivV (ci := 12) O dX5_compileFactor_71 cd_X5_expect in_X5_expect (Or.inl q2935) q2937 qs94 hco (by decide) hy_X5_expect) (fun M1 hq => ?_) (fun E q M9 hx => kr_out O hx)
  replace h := hq
  clear hq
  refine kr_aload_n O dX5_compileFactor_74 rfl 0 rfl ?_
  refine kr_dup O dX5_compileFactor_75 (kt_nrf _) ?_
  obtain ⟨u2, eu2, h⟩ := h
  refine kr_getf O dX5_compileFactor_76 fs_X5_285 eu2 ?_
  refine kr_iconst O dX5_compileFactor_79 (v := (1 : Int32)) (by decide) ?_
  refine kr_isub O dX5_compileFactor_80 ?_
  obtain ⟨hw, h⟩ := h
  refine kr_putf O dX5_compileFactor_81 fs_X5_285 (Or.inl rfl) ⟨rfl, rfl⟩ hw (kr_nmM fun M3 hM3 => ?_)
  replace h := h M3 hM3
  refine kr_goto (tgt := 160) O dX5_compileFactor_84 rfl ?_
  exact kr_vret O dX5_compileFactor_160 h
def vc_X5_compileFactor_25 (w : kt_W) (gr : kt_g × kt_M) (d : Nat) (P : Option Value → kt_M → Prop) (X : String → Nat → kt_M → Prop)  (a0 : Nat) (M : kt_M) : Prop :=
  (kt_co M a0 = some 12) ∧ 
  kt_Ca w gr d yX5_emit kc_X5_emit [va_rf (some a0), .int (-23 : Int32)] M (kt_pV fun M1 => ∃ u2, kt_gf M1 a0 85 = some (.int u2) ∧ kt_hf gr M1 a0 85 ∧ ∀ M3, M3 = kt_pf M1 a0 85 (.int (u2 - (1 : Int32))) → P none M3) X
theorem cj_X5_compileFactor_25 {w : kt_W} {x : kt_X} {gr : kt_g × kt_M} {d : Nat} {P : Option Value → kt_M → Prop} {X : String → Nat → kt_M → Prop}  {a0 : Nat} {M : kt_M} (O : kt_O w x gr (d + 1) cX5_compileFactor "KeyTurnsModel" 2 ("compileFactor", "()V") (Option.none : Option Jvm.ClassFile.FieldType) [])  (h : vc_X5_compileFactor_25 w gr d P X  a0 M) : kt_S w x 2 (kt_E w x P X) M 25 [(0, va_rf (some a0))] [] := by
  unfold vc_X5_compileFactor_25 at h
  refine kr_aload_n O dX5_compileFactor_25 rfl 0 rfl ?_
  refine kr_bipush O dX5_compileFactor_26 (v := (-23 : Int32)) (by decide) ?_
  obtain ⟨hco, h⟩ := h
  refine kr_caV (rest := []) O cd_X5_emit h (Nat.le_of_ble_eq_true rfl) (fun ls _ => kt_ivV (ci := 12) O dX5_compileFactor_28 cd_X5_emit in_X5_emit (Or.inl q2980) q2982 qs103 hco (by decide) hy_X5_emit) (fun M1 hq => ?_) (fun E q M9 hx => kr_out O hx)
  replace h := hq
  clear hq
  refine kr_aload_n O dX5_compileFactor_31 rfl 0 rfl ?_
  refine kr_dup O dX5_compileFactor_32 (kt_nrf _) ?_
  obtain ⟨u2, eu2, h⟩ := h
  refine kr_getf O dX5_compileFactor_33 fs_X5_285 eu2 ?_
  refine kr_iconst O dX5_compileFactor_36 (v := (1 : Int32)) (by decide) ?_
  refine kr_isub O dX5_compileFactor_37 ?_
  obtain ⟨hw, h⟩ := h
  refine kr_putf O dX5_compileFactor_38 fs_X5_285 (Or.inl rfl) ⟨rfl, rfl⟩ hw (kr_nmM fun M3 hM3 => ?_)
  replace h := h M3 hM3
  refine kr_goto (tgt := 160) O dX5_compileFactor_41 rfl ?_
  exact kr_vret O dX5_compileFactor_160 h
def vc_X5_compileFactor (w : kt_W) (gr : kt_g × kt_M) (d : Nat) (P : Option Value → kt_M → Prop) (X : String → Nat → kt_M → Prop) (a0 : Nat) (M : kt_M) : Prop :=
  (kt_co M a0 = some 12) ∧ 
  kt_Ca w gr d yX5_isWord kc_X5_isWord [va_rf (some a0), va_rf (some (kt_cA w 32))] M (kt_pI fun u1 M2 => 
    ((u1 = 0 → (kt_co M2 a0 = some 12) ∧ 
    kt_Ca w gr d yX5_isSymbol kc_X5_isSymbol [va_rf (some a0), .int (40 : Int32)] M2 (kt_pI fun u3 M4 => 
      ((u3 = 0 → (kt_co M4 a0 = some 12) ∧ 
      kt_Ca w gr d yX5_compileValue kc_X5_compileValue [va_rf (some a0)] M4 (kt_pV fun M5 => (kt_co M5 a0 = some 12) ∧ 
      kt_Ca w gr d yX5_isSymbol kc_X5_isSymbol [va_rf (some a0), .int (60 : Int32)] M5 (kt_pI fun u6 M7 => 
        ((u6 = 0 → (kt_co M7 a0 = some 12) ∧ 
        kt_Ca w gr d yX5_isSymbol kc_X5_isSymbol [va_rf (some a0), .int (61 : Int32)] M7 (kt_pI fun u8 M9 => 
          ((u8 = 0 → vc_X5_compileFactor_121 w gr d P X  a0 (-22 : Int32) M9) ∧
          (¬ u8 = 0 → vc_X5_compileFactor_121 w gr d P X  a0 (-21 : Int32) M9))) X) ∧
        (¬ u6 = 0 → vc_X5_compileFactor_121 w gr d P X  a0 (-20 : Int32) M7))) X) X) ∧
      (¬ u3 = 0 → (kt_co M4 a0 = some 12) ∧ 
      kt_Ca w gr d yX5_enter kc_X5_enter [va_rf (some a0)] M4 (kt_pV fun M10 => ∃ u11, kt_gf M10 a0 82 = some (.int u11) ∧ 
        ((¬ u11 = 0 → vc_X5_compileFactor_68 w gr d P X  a0 M10) ∧
        (u11 = 0 → (kt_co M10 a0 = some 12) ∧ 
        kt_Ca w gr d yX5_compileTest kc_X5_compileTest [va_rf (some a0)] M10 (kt_pV fun M12 => vc_X5_compileFactor_68 w gr d P X  a0 M12) X))) X))) X) ∧
    (¬ u1 = 0 → (kt_co M2 a0 = some 12) ∧ 
    kt_Ca w gr d yX5_enter kc_X5_enter [va_rf (some a0)] M2 (kt_pV fun M13 => ∃ u14, kt_gf M13 a0 82 = some (.int u14) ∧ 
      ((¬ u14 = 0 → vc_X5_compileFactor_25 w gr d P X  a0 M13) ∧
      (u14 = 0 → (kt_co M13 a0 = some 12) ∧ 
      kt_Ca w gr d yX5_compileFactor kc_X5_compileFactor [va_rf (some a0)] M13 (kt_pV fun M15 => vc_X5_compileFactor_25 w gr d P X  a0 M15) X))) X))) X
theorem ce_X5_compileFactor {w : kt_W} {g : kt_g} {d : Nat} {P : Option Value → kt_M → Prop} {X : String → Nat → kt_M → Prop} {a0 : Nat} {M : kt_M} (h : vc_X5_compileFactor w (g, M) d P X a0 M) : kt_Sp w g (d + 1) yX5_compileFactor kc_X5_compileFactor [va_rf (some a0)] M P X := by
  refine kt_of (L0 := [(0, va_rf (some a0))]) (by decide +kernel) (Nat.le_of_ble_eq_true rfl) rfl fun x O => ?_
  replace O : kt_O w x (g, M) (d + 1) cX5_compileFactor "KeyTurnsModel" 2 ("compileFactor", "()V") (Option.none : Option Jvm.ClassFile.FieldType) [] := O
  unfold vc_X5_compileFactor at h
  refine kr_aload_n O dX5_compileFactor_0 rfl 0 rfl ?_
  refine kr_ldcwS O dX5_compileFactor_1 st_X5_366 ?_
  obtain ⟨hco, h⟩ := h
  refine kr_caI (rest := []) O cd_X5_isWord h (Nat.le_of_ble_eq_true rfl) (fun ls _ => kt_ivV (ci := 12) O dX5_compileFactor_4 cd_X5_isWord in_X5_isWord (Or.inl q2903) q2905 qs88 hco (by decide) hy_X5_isWord) (fun u1 M2 hq => ?_) (fun E q M9 hx => kr_out O hx)
  replace h := hq
  clear hq
  refine kr_if_eq (tgt := 44) O dX5_compileFactor_7 rfl (fun hc => ?_) (fun hc => ?_)
  · replace h := h.1 hc
    refine kr_aload_n O dX5_compileFactor_44 rfl 0 rfl ?_
    refine kr_bipush O dX5_compileFactor_45 (v := (40 : Int32)) (by decide) ?_
    obtain ⟨hco, h⟩ := h
    refine kr_caI (rest := []) O cd_X5_isSymbol h (Nat.le_of_ble_eq_true rfl) (fun ls _ => kt_ivV (ci := 12) O dX5_compileFactor_47 cd_X5_isSymbol in_X5_isSymbol (Or.inl q2939) q2941 qs95 hco (by decide) hy_X5_isSymbol) (fun u3 M4 hq => ?_) (fun E q M9 hx => kr_out O hx)
    replace h := hq
    clear hq
    refine kr_if_eq (tgt := 87) O dX5_compileFactor_50 rfl (fun hc => ?_) (fun hc => ?_)
    · replace h := h.1 hc
      refine kr_aload_n O dX5_compileFactor_87 rfl 0 rfl ?_
      obtain ⟨hco, h⟩ := h
      refine kr_caV (rest := []) O cd_X5_compileValue h (Nat.le_of_ble_eq_true rfl) (fun ls _ => kt_ivV (ci := 12) O dX5_compileFactor_88 cd_X5_compileValue in_X5_compileValue (Or.inl q2984) q2986 qs104 hco (by decide) hy_X5_compileValue) (fun M5 hq => ?_) (fun E q M9 hx => kr_out O hx)
      replace h := hq
      clear hq
      refine kr_aload_n O dX5_compileFactor_91 rfl 0 rfl ?_
      refine kr_bipush O dX5_compileFactor_92 (v := (60 : Int32)) (by decide) ?_
      obtain ⟨hco, h⟩ := h
      refine kr_caI (rest := []) O cd_X5_isSymbol h (Nat.le_of_ble_eq_true rfl) (fun ls _ => kt_ivV (ci := 12) O dX5_compileFactor_94 cd_X5_isSymbol in_X5_isSymbol (Or.inl q2939) q2941 qs95 hco (by decide) hy_X5_isSymbol) (fun u6 M7 hq => ?_) (fun E q M9 hx => kr_out O hx)
      replace h := hq
      clear hq
      refine kr_if_eq (tgt := 105) O dX5_compileFactor_97 rfl (fun hc => ?_) (fun hc => ?_)
      · replace h := h.1 hc
        refine kr_aload_n O dX5_compileFactor_105 rfl 0 rfl ?_
        refine kr_bipush O dX5_compileFactor_106 (v := (61 : Int32)) (by decide) ?_
        obtain ⟨hco, h⟩ := h
        refine kr_caI (rest := []) O cd_X5_isSymbol h (Nat.le_of_ble_eq_true rfl) (fun ls _ => kt_ivV (ci := 12) O dX5_compileFactor_108 cd_X5_isSymbol in_X5_isSymbol (Or.inl q2939) q2941 qs95 hco (by decide) hy_X5_isSymbol) (fun u8 M9 hq => ?_) (fun E q M9 hx => kr_out O hx)
        replace h := hq
        clear hq
        refine kr_if_eq (tgt := 119) O dX5_compileFactor_111 rfl (fun hc => ?_) (fun hc => ?_)
        · replace h := h.1 hc
          refine kr_bipush O dX5_compileFactor_119 (v := (-22 : Int32)) (by decide) ?_
          exact cj_X5_compileFactor_121 O  h
        · replace h := h.2 hc
          refine kr_bipush O dX5_compileFactor_114 (v := (-21 : Int32)) (by decide) ?_
          refine kr_goto (tgt := 121) O dX5_compileFactor_116 rfl ?_
          exact cj_X5_compileFactor_121 O  h
      · replace h := h.2 hc
        refine kr_bipush O dX5_compileFactor_100 (v := (-20 : Int32)) (by decide) ?_
        refine kr_goto (tgt := 121) O dX5_compileFactor_102 rfl ?_
        exact cj_X5_compileFactor_121 O  h
    · replace h := h.2 hc
      refine kr_aload_n O dX5_compileFactor_53 rfl 0 rfl ?_
      obtain ⟨hco, h⟩ := h
      refine kr_caV (rest := []) O cd_X5_enter h (Nat.le_of_ble_eq_true rfl) (fun ls _ => kt_ivV (ci := 12) O dX5_compileFactor_54 cd_X5_enter in_X5_enter (Or.inl q2976) q2978 qs102 hco (by decide) hy_X5_enter) (fun M10 hq => ?_) (fun E q M9 hx => kr_out O hx)
      replace h := hq
      clear hq
      refine kr_aload_n O dX5_compileFactor_57 rfl 0 rfl ?_
      obtain ⟨u11, eu11, h⟩ := h
      refine kr_getf O dX5_compileFactor_58 fs_X5_282 eu11 ?_
      refine kr_if_ne (tgt := 68) O dX5_compileFactor_61 rfl (fun hc => ?_) (fun hc => ?_)
      · replace h := h.1 hc
        exact cj_X5_compileFactor_68 O  h
      · replace h := h.2 hc
        refine kr_aload_n O dX5_compileFactor_64 rfl 0 rfl ?_
        obtain ⟨hco, h⟩ := h
        refine kr_caV (rest := []) O cd_X5_compileTest h (Nat.le_of_ble_eq_true rfl) (fun ls _ => kt_ivV (ci := 12) O dX5_compileFactor_65 cd_X5_compileTest in_X5_compileTest (Or.inl q2963) q2965 qs99 hco (by decide) hy_X5_compileTest) (fun M12 hq => ?_) (fun E q M9 hx => kr_out O hx)
        replace h := hq
        clear hq
        exact cj_X5_compileFactor_68 O  h
  · replace h := h.2 hc
    refine kr_aload_n O dX5_compileFactor_10 rfl 0 rfl ?_
    obtain ⟨hco, h⟩ := h
    refine kr_caV (rest := []) O cd_X5_enter h (Nat.le_of_ble_eq_true rfl) (fun ls _ => kt_ivV (ci := 12) O dX5_compileFactor_11 cd_X5_enter in_X5_enter (Or.inl q2976) q2978 qs102 hco (by decide) hy_X5_enter) (fun M13 hq => ?_) (fun E q M9 hx => kr_out O hx)
    replace h := hq
    clear hq
    refine kr_aload_n O dX5_compileFactor_14 rfl 0 rfl ?_
    obtain ⟨u14, eu14, h⟩ := h
    refine kr_getf O dX5_compileFactor_15 fs_X5_282 eu14 ?_
    refine kr_if_ne (tgt := 25) O dX5_compileFactor_18 rfl (fun hc => ?_) (fun hc => ?_)
    · replace h := h.1 hc
      exact cj_X5_compileFactor_25 O  h
    · replace h := h.2 hc
      refine kr_aload_n O dX5_compileFactor_21 rfl 0 rfl ?_
      obtain ⟨hco, h⟩ := h
      refine kr_caV (rest := []) O cd_X5_compileFactor h (Nat.le_of_ble_eq_true rfl) (fun ls _ => kt_ivV (ci := 12) O dX5_compileFactor_22 cd_X5_compileFactor in_X5_compileFactor (Or.inl q2971) q2973 qs101 hco (by decide) hy_X5_compileFactor) (fun M15 hq => ?_) (fun E q M9 hx => kr_out O hx)
      replace h := hq
      clear hq
      exact cj_X5_compileFactor_25 O  h
def vc_X5_enter_15 (w : kt_W) (gr : kt_g × kt_M) (d : Nat) (P : Option Value → kt_M → Prop) (X : String → Nat → kt_M → Prop)  (a0 : Nat) (s0 : Int32) (sa1 : Nat) (M : kt_M) : Prop :=
  (kt_co M sa1 = some 12) ∧ 
  kt_Ca w gr d yX5_check kc_X5_check [va_rf (some sa1), .int s0, .int (3 : Int32)] M (kt_pV fun M1 => ∃ u2, kt_gf M1 a0 85 = some (.int u2) ∧ kt_hf gr M1 a0 85 ∧ ∀ M3, M3 = kt_pf M1 a0 85 (.int (u2 + (1 : Int32))) → (kt_co M3 a0 = some 12) ∧ 
  kt_Ca w gr d yX5_advance kc_X5_advance [va_rf (some a0)] M3 (kt_pV fun M4 => P none M4) X) X
theorem cj_X5_enter_15 {w : kt_W} {x : kt_X} {gr : kt_g × kt_M} {d : Nat} {P : Option Value → kt_M → Prop} {X : String → Nat → kt_M → Prop}  {a0 : Nat} {s0 : Int32} {sa1 : Nat} {M : kt_M} (O : kt_O w x gr (d + 1) cX5_enter "KeyTurnsModel" 1 ("enter", "()V") (Option.none : Option Jvm.ClassFile.FieldType) [])  (h : vc_X5_enter_15 w gr d P X  a0 s0 sa1 M) : kt_S w x 1 (kt_E w x P X) M 15 [(0, va_rf (some a0))] [.int s0, va_rf (some sa1)] := by
  unfold vc_X5_enter_15 at h
  refine kr_iconst O dX5_enter_15 (v := (3 : Int32)) (by decide) ?_
  obtain ⟨hco, h⟩ := h
  refine kr_caV (rest := []) O cd_X5_check h (Nat.le_of_ble_eq_true rfl) (fun ls _ => kt_ivV (ci := 12) O dX5_enter_16 cd_X5_check in_X5_check (Or.inl q2909) q2911 qs89 hco (by decide) hy_X5_check) (fun M1 hq => ?_) (fun E q M9 hx => kr_out O hx)
  replace h := hq
  clear hq
  refine kr_aload_n O dX5_enter_19 rfl 0 rfl ?_
  refine kr_dup O dX5_enter_20 (kt_nrf _) ?_
  obtain ⟨u2, eu2, h⟩ := h
  refine kr_getf O dX5_enter_21 fs_X5_285 eu2 ?_
  refine kr_iconst O dX5_enter_24 (v := (1 : Int32)) (by decide) ?_
  refine kr_iadd O dX5_enter_25 ?_
  obtain ⟨hw, h⟩ := h
  refine kr_putf O dX5_enter_26 fs_X5_285 (Or.inl rfl) ⟨rfl, rfl⟩ hw (kr_nmM fun M3 hM3 => ?_)
  replace h := h M3 hM3
  refine kr_aload_n O dX5_enter_29 rfl 0 rfl ?_
  obtain ⟨hco, h⟩ := h
  refine kr_caV (rest := []) O cd_X5_advance h (Nat.le_of_ble_eq_true rfl) (fun ls _ => kt_ivV (ci := 12) O dX5_enter_30 cd_X5_advance in_X5_advance (Or.inl q2917) q2919 qs91 hco (by decide) hy_X5_advance) (fun M4 hq => ?_) (fun E q M9 hx => kr_out O hx)
  replace h := hq
  clear hq
  exact kr_vret O dX5_enter_33 h
def vc_X5_enter (w : kt_W) (gr : kt_g × kt_M) (d : Nat) (P : Option Value → kt_M → Prop) (X : String → Nat → kt_M → Prop) (a0 : Nat) (M : kt_M) : Prop :=
  ∃ u1, kt_gf M a0 85 = some (.int u1) ∧ 
    (((6 : Int32) ≤ u1 → vc_X5_enter_15 w gr d P X  a0 (0 : Int32) a0 M) ∧
    (¬ (6 : Int32) ≤ u1 → vc_X5_enter_15 w gr d P X  a0 (1 : Int32) a0 M))
theorem ce_X5_enter {w : kt_W} {g : kt_g} {d : Nat} {P : Option Value → kt_M → Prop} {X : String → Nat → kt_M → Prop} {a0 : Nat} {M : kt_M} (h : vc_X5_enter w (g, M) d P X a0 M) : kt_Sp w g (d + 1) yX5_enter kc_X5_enter [va_rf (some a0)] M P X := by
  refine kt_of (L0 := [(0, va_rf (some a0))]) (by decide +kernel) (Nat.le_of_ble_eq_true rfl) rfl fun x O => ?_
  replace O : kt_O w x (g, M) (d + 1) cX5_enter "KeyTurnsModel" 1 ("enter", "()V") (Option.none : Option Jvm.ClassFile.FieldType) [] := O
  unfold vc_X5_enter at h
  refine kr_aload_n O dX5_enter_0 rfl 0 rfl ?_
  refine kr_aload_n O dX5_enter_1 rfl 0 rfl ?_
  obtain ⟨u1, eu1, h⟩ := h
  refine kr_getf O dX5_enter_2 fs_X5_285 eu1 ?_
  refine kr_bipush O dX5_enter_5 (v := (6 : Int32)) (by decide) ?_
  refine kr_icmp_ge (tgt := 14) O dX5_enter_7 rfl (fun hc => ?_) (fun hc => ?_)
  · replace h := h.1 hc
    refine kr_iconst O dX5_enter_14 (v := (0 : Int32)) (by decide) ?_
    exact cj_X5_enter_15 O  h
  · replace h := h.2 hc
    refine kr_iconst O dX5_enter_10 (v := (1 : Int32)) (by decide) ?_
    refine kr_goto (tgt := 15) O dX5_enter_11 rfl ?_
    exact cj_X5_enter_15 O  h
def vc_X5_emit (w : kt_W) (gr : kt_g × kt_M) (d : Nat) (P : Option Value → kt_M → Prop) (X : String → Nat → kt_M → Prop) (a0 : Nat) (v1 : Int32) (M : kt_M) : Prop :=
  ∃ u1, kt_gf M a0 82 = some (.int u1) ∧ 
    ((¬ u1 = 0 → P none M) ∧
    (u1 = 0 → ∃ p2, kt_gf M a0 87 = some (va_rf p2) ∧ ∃ u3, kt_gf M a0 89 = some (.int u3) ∧ ∃ b4, p2 = some b4 ∧ kt_hii gr 0 M b4 u3 ∧ ∀ M5, M5 = kt_si M b4 u3 v1 → ∃ u6, kt_gf M5 a0 89 = some (.int u6) ∧ kt_hf gr M5 a0 89 ∧ ∀ M7, M7 = kt_pf M5 a0 89 (.int (u6 + (1 : Int32))) → P none M7))
theorem ce_X5_emit {w : kt_W} {g : kt_g} {d : Nat} {P : Option Value → kt_M → Prop} {X : String → Nat → kt_M → Prop} {a0 : Nat} {v1 : Int32} {M : kt_M} (h : vc_X5_emit w (g, M) d P X a0 v1 M) : kt_Sp w g (d + 1) yX5_emit kc_X5_emit [va_rf (some a0), .int v1] M P X := by
  refine kt_of (L0 := [(0, va_rf (some a0)), (1, .int v1)]) (by decide +kernel) (Nat.le_of_ble_eq_true rfl) rfl fun x O => ?_
  replace O : kt_O w x (g, M) (d + 1) cX5_emit "KeyTurnsModel" 2 ("emit", "(I)V") (Option.none : Option Jvm.ClassFile.FieldType) [] := O
  unfold vc_X5_emit at h
  refine kr_aload_n O dX5_emit_0 rfl 0 rfl ?_
  obtain ⟨u1, eu1, h⟩ := h
  refine kr_getf O dX5_emit_1 fs_X5_282 eu1 ?_
  refine kr_if_ne (tgt := 27) O dX5_emit_4 rfl (fun hc => ?_) (fun hc => ?_)
  · replace h := h.1 hc
    exact kr_vret O dX5_emit_27 h
  · replace h := h.2 hc
    refine kr_aload_n O dX5_emit_7 rfl 0 rfl ?_
    obtain ⟨p2, ep2, h⟩ := h
    refine kr_getf O dX5_emit_8 fs_X5_60 ep2 ?_
    refine kr_aload_n O dX5_emit_11 rfl 0 rfl ?_
    obtain ⟨u3, eu3, h⟩ := h
    refine kr_getf O dX5_emit_12 fs_X5_360 eu3 ?_
    refine kr_iload_n O dX5_emit_15 rfl 1 rfl ?_
    obtain ⟨b4, rfl, h⟩ := h
    obtain ⟨hw, h⟩ := h
    refine kr_iastore O dX5_emit_16 hw (kr_nmM fun M5 hM5 => ?_)
    replace h := h M5 hM5
    refine kr_aload_n O dX5_emit_17 rfl 0 rfl ?_
    refine kr_dup O dX5_emit_18 (kt_nrf _) ?_
    obtain ⟨u6, eu6, h⟩ := h
    refine kr_getf O dX5_emit_19 fs_X5_360 eu6 ?_
    refine kr_iconst O dX5_emit_22 (v := (1 : Int32)) (by decide) ?_
    refine kr_iadd O dX5_emit_23 ?_
    obtain ⟨hw, h⟩ := h
    refine kr_putf O dX5_emit_24 fs_X5_360 (Or.inl rfl) ⟨rfl, rfl⟩ hw (kr_nmM fun M7 hM7 => ?_)
    replace h := h M7 hM7
    exact kr_vret O dX5_emit_27 h
def vc_X5_compileValue_15 (w : kt_W) (gr : kt_g × kt_M) (d : Nat) (P : Option Value → kt_M → Prop) (X : String → Nat → kt_M → Prop)  (a0 : Nat) (M : kt_M) : Prop :=
  (kt_co M a0 = some 12) ∧ 
  kt_Ca w gr d yX5_readNumber kc_X5_readNumber [va_rf (some a0), .int (0 : Int32), .int (9999 : Int32)] M (kt_pI fun u1 M2 => (kt_co M2 a0 = some 12) ∧ 
  kt_Ca w gr d yX5_emit kc_X5_emit [va_rf (some a0), .int u1] M2 (kt_pV fun M3 => P none M3) X) X
theorem cj_X5_compileValue_15 {w : kt_W} {x : kt_X} {gr : kt_g × kt_M} {d : Nat} {P : Option Value → kt_M → Prop} {X : String → Nat → kt_M → Prop}  {a0 : Nat} {M : kt_M} (O : kt_O w x gr (d + 1) cX5_compileValue "KeyTurnsModel" 2 ("compileValue", "()V") (Option.none : Option Jvm.ClassFile.FieldType) [])  (h : vc_X5_compileValue_15 w gr d P X  a0 M) : kt_S w x 2 (kt_E w x P X) M 15 [(0, va_rf (some a0))] [] := by
  unfold vc_X5_compileValue_15 at h
  refine kr_aload_n O dX5_compileValue_15 rfl 0 rfl ?_
  refine kr_aload_n O dX5_compileValue_16 rfl 0 rfl ?_
  refine kr_iconst O dX5_compileValue_17 (v := (0 : Int32)) (by decide) ?_
  refine kr_sipush O dX5_compileValue_18 (v := (9999 : Int32)) (by decide) ?_
  obtain ⟨hco, h⟩ := h
  refine kr_caI (rest := [va_rf (some a0)]) O cd_X5_readNumber h (Nat.le_of_ble_eq_true rfl) (fun ls _ => kt_ivV (ci := 12) O dX5_compileValue_21 cd_X5_readNumber in_X5_readNumber (Or.inl q2921) q2923 qs92 hco (by decide) hy_X5_readNumber) (fun u1 M2 hq => ?_) (fun E q M9 hx => kr_out O hx)
  replace h := hq
  clear hq
  obtain ⟨hco, h⟩ := h
  refine kr_caV (rest := []) O cd_X5_emit h (Nat.le_of_ble_eq_true rfl) (fun ls _ => kt_ivV (ci := 12) O dX5_compileValue_24 cd_X5_emit in_X5_emit (Or.inl q2980) q2982 qs103 hco (by decide) hy_X5_emit) (fun M3 hq => ?_) (fun E q M9 hx => kr_out O hx)
  replace h := hq
  clear hq
  exact kr_vret O dX5_compileValue_27 h
def vc_X5_compileValue_73 (w : kt_W) (gr : kt_g × kt_M) (d : Nat) (P : Option Value → kt_M → Prop) (X : String → Nat → kt_M → Prop)  (a0 : Nat) (v1 : Int32) (s0 : Int32) (sa1 : Nat) (M : kt_M) : Prop :=
  (kt_co M sa1 = some 12) ∧ 
  kt_Ca w gr d yX5_check kc_X5_check [va_rf (some sa1), .int s0, .int (1 : Int32)] M (kt_pV fun M1 => (kt_co M1 a0 = some 12) ∧ 
  kt_Ca w gr d yX5_emit kc_X5_emit [va_rf (some a0), .int ((-1 : Int32) - v1)] M1 (kt_pV fun M2 => (kt_co M2 a0 = some 12) ∧ 
  kt_Ca w gr d yX5_advance kc_X5_advance [va_rf (some a0)] M2 (kt_pV fun M3 => P none M3) X) X) X
theorem cj_X5_compileValue_73 {w : kt_W} {x : kt_X} {gr : kt_g × kt_M} {d : Nat} {P : Option Value → kt_M → Prop} {X : String → Nat → kt_M → Prop}  {a0 : Nat} {v1 : Int32} {s0 : Int32} {sa1 : Nat} {M : kt_M} (O : kt_O w x gr (d + 1) cX5_compileValue "KeyTurnsModel" 2 ("compileValue", "()V") (Option.none : Option Jvm.ClassFile.FieldType) [])  (h : vc_X5_compileValue_73 w gr d P X  a0 v1 s0 sa1 M) : kt_S w x 2 (kt_E w x P X) M 73 [(0, va_rf (some a0)), (1, .int v1)] [.int s0, va_rf (some sa1)] := by
  unfold vc_X5_compileValue_73 at h
  refine kr_iconst O dX5_compileValue_73 (v := (1 : Int32)) (by decide) ?_
  obtain ⟨hco, h⟩ := h
  refine kr_caV (rest := []) O cd_X5_check h (Nat.le_of_ble_eq_true rfl) (fun ls _ => kt_ivV (ci := 12) O dX5_compileValue_74 cd_X5_check in_X5_check (Or.inl q2909) q2911 qs89 hco (by decide) hy_X5_check) (fun M1 hq => ?_) (fun E q M9 hx => kr_out O hx)
  replace h := hq
  clear hq
  refine kr_aload_n O dX5_compileValue_77 rfl 0 rfl ?_
  refine kr_iconst O dX5_compileValue_78 (v := (-1 : Int32)) (by decide) ?_
  refine kr_iload_n O dX5_compileValue_79 rfl 1 rfl ?_
  refine kr_isub O dX5_compileValue_80 ?_
  obtain ⟨hco, h⟩ := h
  refine kr_caV (rest := []) O cd_X5_emit h (Nat.le_of_ble_eq_true rfl) (fun ls _ => kt_ivV (ci := 12) O dX5_compileValue_81 cd_X5_emit in_X5_emit (Or.inl q2980) q2982 qs103 hco (by decide) hy_X5_emit) (fun M2 hq => ?_) (fun E q M9 hx => kr_out O hx)
  replace h := hq
  clear hq
  refine kr_aload_n O dX5_compileValue_84 rfl 0 rfl ?_
  obtain ⟨hco, h⟩ := h
  refine kr_caV (rest := []) O cd_X5_advance h (Nat.le_of_ble_eq_true rfl) (fun ls _ => kt_ivV (ci := 12) O dX5_compileValue_85 cd_X5_advance in_X5_advance (Or.inl q2917) q2919 qs91 hco (by decide) hy_X5_advance) (fun M3 hq => ?_) (fun E q M9 hx => kr_out O hx)
  replace h := hq
  clear hq
  exact kr_vret O dX5_compileValue_88 h
def vc_X5_compileValue_58 (w : kt_W) (gr : kt_g × kt_M) (d : Nat) (P : Option Value → kt_M → Prop) (X : String → Nat → kt_M → Prop)  (a0 : Nat) (v1 : Int32) (M : kt_M) : Prop :=
  ∃ p1, kt_gf M a0 86 = some (va_rf p1) ∧ ∃ b2, p1 = some b2 ∧ ∃ n3, kt_len M b2 = some n3 ∧ 
    (((nI n3) ≤ v1 → vc_X5_compileValue_73 w gr d P X  a0 v1 (0 : Int32) a0 M) ∧
    (¬ (nI n3) ≤ v1 → vc_X5_compileValue_73 w gr d P X  a0 v1 (1 : Int32) a0 M))
theorem cj_X5_compileValue_58 {w : kt_W} {x : kt_X} {gr : kt_g × kt_M} {d : Nat} {P : Option Value → kt_M → Prop} {X : String → Nat → kt_M → Prop}  {a0 : Nat} {v1 : Int32} {M : kt_M} (O : kt_O w x gr (d + 1) cX5_compileValue "KeyTurnsModel" 2 ("compileValue", "()V") (Option.none : Option Jvm.ClassFile.FieldType) [])  (h : vc_X5_compileValue_58 w gr d P X  a0 v1 M) : kt_S w x 2 (kt_E w x P X) M 58 [(0, va_rf (some a0)), (1, .int v1)] [] := by
  unfold vc_X5_compileValue_58 at h
  refine kr_aload_n O dX5_compileValue_58 rfl 0 rfl ?_
  refine kr_iload_n O dX5_compileValue_59 rfl 1 rfl ?_
  refine kr_aload_n O dX5_compileValue_60 rfl 0 rfl ?_
  obtain ⟨p1, ep1, h⟩ := h
  refine kr_getf O dX5_compileValue_61 fs_X5_56 ep1 ?_
  obtain ⟨b2, rfl, h⟩ := h
  obtain ⟨n3, en3, h⟩ := h
  refine kr_alen O dX5_compileValue_64 en3 ?_
  refine kr_icmp_ge (tgt := 72) O dX5_compileValue_65 rfl (fun hc => ?_) (fun hc => ?_)
  · replace h := h.1 hc
    refine kr_iconst O dX5_compileValue_72 (v := (0 : Int32)) (by decide) ?_
    exact cj_X5_compileValue_73 O  h
  · replace h := h.2 hc
    refine kr_iconst O dX5_compileValue_68 (v := (1 : Int32)) (by decide) ?_
    refine kr_goto (tgt := 73) O dX5_compileValue_69 rfl ?_
    exact cj_X5_compileValue_73 O  h
def vc_X5_compileValue_30 (w : kt_W) (gr : kt_g × kt_M) (d : Nat) (P : Option Value → kt_M → Prop) (X : String → Nat → kt_M → Prop) (nx30 : Int32 → kt_M → Prop) (a0 : Nat) (v1 : Int32) (M : kt_M) : Prop :=
  ∃ p1, kt_gf M a0 86 = some (va_rf p1) ∧ ∃ b2, p1 = some b2 ∧ ∃ n3, kt_len M b2 = some n3 ∧ 
    (((nI n3) ≤ v1 → vc_X5_compileValue_58 w gr d P X  a0 v1 M) ∧
    (¬ (nI n3) ≤ v1 → ∃ p4, kt_gf M a0 86 = some (va_rf p4) ∧ ∃ b5, p4 = some b5 ∧ ∃ k7, 3 ≤ k7 ∧ ∃ p6, kt_el k7 M b5 v1 = some (va_rf p6) ∧ (kt_co M a0 = some 12) ∧ 
    kt_Ca w gr d yX5_isWord kc_X5_isWord [va_rf (some a0), va_rf p6] M (kt_pI fun u8 M9 => 
      ((¬ u8 = 0 → vc_X5_compileValue_58 w gr d P X  a0 v1 M9) ∧
      (u8 = 0 → nx30 (v1 + (1 : Int32)) M9))) X))
theorem cj_X5_compileValue_30 {w : kt_W} {x : kt_X} {gr : kt_g × kt_M} {d : Nat} {P : Option Value → kt_M → Prop} {X : String → Nat → kt_M → Prop} {nx30 : Int32 → kt_M → Prop} {a0 : Nat} {v1 : Int32} {M : kt_M} (O : kt_O w x gr (d + 1) cX5_compileValue "KeyTurnsModel" 2 ("compileValue", "()V") (Option.none : Option Jvm.ClassFile.FieldType) []) (hn30 : ∀ v1 M, nx30 v1 M → kt_S w x 2 (kt_E w x P X) M 30 [(0, va_rf (some a0)), (1, .int v1)] []) (h : vc_X5_compileValue_30 w gr d P X nx30 a0 v1 M) : kt_S w x 2 (kt_E w x P X) M 30 [(0, va_rf (some a0)), (1, .int v1)] [] := by
  unfold vc_X5_compileValue_30 at h
  refine kr_iload_n O dX5_compileValue_30 rfl 1 rfl ?_
  refine kr_aload_n O dX5_compileValue_31 rfl 0 rfl ?_
  obtain ⟨p1, ep1, h⟩ := h
  refine kr_getf O dX5_compileValue_32 fs_X5_56 ep1 ?_
  obtain ⟨b2, rfl, h⟩ := h
  obtain ⟨n3, en3, h⟩ := h
  refine kr_alen O dX5_compileValue_35 en3 ?_
  refine kr_icmp_ge (tgt := 58) O dX5_compileValue_36 rfl (fun hc => ?_) (fun hc => ?_)
  · replace h := h.1 hc
    exact cj_X5_compileValue_58 O  h
  · replace h := h.2 hc
    refine kr_aload_n O dX5_compileValue_39 rfl 0 rfl ?_
    refine kr_aload_n O dX5_compileValue_40 rfl 0 rfl ?_
    obtain ⟨p4, ep4, h⟩ := h
    refine kr_getf O dX5_compileValue_41 fs_X5_56 ep4 ?_
    refine kr_iload_n O dX5_compileValue_44 rfl 1 rfl ?_
    obtain ⟨b5, rfl, h⟩ := h
    obtain ⟨k7, hk7, p6, ep6, h⟩ := h
    refine kr_aaload k7 hk7 O dX5_compileValue_45 ep6 ?_
    obtain ⟨hco, h⟩ := h
    refine kr_caI (rest := []) O cd_X5_isWord h (Nat.le_of_ble_eq_true rfl) (fun ls _ => kt_ivV (ci := 12) O dX5_compileValue_46 cd_X5_isWord in_X5_isWord (Or.inl q2903) q2905 qs88 hco (by decide) hy_X5_isWord) (fun u8 M9 hq => ?_) (fun E q M9 hx => kr_out O hx)
    replace h := hq
    clear hq
    refine kr_if_ne (tgt := 58) O dX5_compileValue_49 rfl (fun hc => ?_) (fun hc => ?_)
    · replace h := h.1 hc
      exact cj_X5_compileValue_58 O  h
    · replace h := h.2 hc
      refine kr_iinc O dX5_compileValue_52 1 rfl (v := v1 + (1 : Int32)) rfl (Nat.le_of_ble_eq_true rfl) rfl rfl ?_
      refine kr_goto (tgt := 30) O dX5_compileValue_55 rfl ?_
      refine kr_sub [1, 0] rfl ?_
      exact hn30 _ _ h
def vl_X5_compileValue_30 (w : kt_W) (gr : kt_g × kt_M) (d : Nat) (P : Option Value → kt_M → Prop) (X : String → Nat → kt_M → Prop)  (a0 : Nat) (v1 : Int32) (M : kt_M) : Prop :=
  ∃ Inv : Nat → Int32 → kt_M → Prop, (∃ k, Inv k v1 M) ∧ ∀ k v1 M, kt_le gr.1 gr.2 M → Inv k v1 M → vc_X5_compileValue_30 w gr d P X (fun v1' M' => ∃ k', k' < k ∧ Inv k' v1' M') a0 v1 M
theorem cl_X5_compileValue_30 {w : kt_W} {x : kt_X} {gr : kt_g × kt_M} {d : Nat} {P : Option Value → kt_M → Prop} {X : String → Nat → kt_M → Prop}  {a0 : Nat} {v1 : Int32} {M : kt_M} (O : kt_O w x gr (d + 1) cX5_compileValue "KeyTurnsModel" 2 ("compileValue", "()V") (Option.none : Option Jvm.ClassFile.FieldType) [])  (h : vl_X5_compileValue_30 w gr d P X  a0 v1 M) : kt_S w x 2 (kt_E w x P X) M 30 [(0, va_rf (some a0)), (1, .int v1)] [] := by
  obtain ⟨Inv, ⟨k, hk⟩, hb⟩ := h
  induction k using Nat.strongRecOn generalizing v1 M with
  | ind k ih =>
    exact kr_le O fun hle => cj_X5_compileValue_30 O (fun v1' M' hi => let ⟨k', h1, h2⟩ := hi; ih k' h1 h2) (hb k _ _ hle hk)
def vc_X5_compileValue (w : kt_W) (gr : kt_g × kt_M) (d : Nat) (P : Option Value → kt_M → Prop) (X : String → Nat → kt_M → Prop) (a0 : Nat) (M : kt_M) : Prop :=
  ∃ u1, kt_gf M a0 82 = some (.int u1) ∧ 
    ((¬ u1 = 0 → vc_X5_compileValue_15 w gr d P X  a0 M) ∧
    (u1 = 0 → ∃ u2, kt_gf M a0 81 = some (.int u2) ∧ 
      ((¬ u2 = (2 : Int32) → vl_X5_compileValue_30 w gr d P X  a0 (0 : Int32) M) ∧
      (u2 = (2 : Int32) → vc_X5_compileValue_15 w gr d P X  a0 M))))
theorem ce_X5_compileValue {w : kt_W} {g : kt_g} {d : Nat} {P : Option Value → kt_M → Prop} {X : String → Nat → kt_M → Prop} {a0 : Nat} {M : kt_M} (h : vc_X5_compileValue w (g, M) d P X a0 M) : kt_Sp w g (d + 1) yX5_compileValue kc_X5_compileValue [va_rf (some a0)] M P X := by
  refine kt_of (L0 := [(0, va_rf (some a0))]) (by decide +kernel) (Nat.le_of_ble_eq_true rfl) rfl fun x O => ?_
  replace O : kt_O w x (g, M) (d + 1) cX5_compileValue "KeyTurnsModel" 2 ("compileValue", "()V") (Option.none : Option Jvm.ClassFile.FieldType) [] := O
  unfold vc_X5_compileValue at h
  refine kr_aload_n O dX5_compileValue_0 rfl 0 rfl ?_
  obtain ⟨u1, eu1, h⟩ := h
  refine kr_getf O dX5_compileValue_1 fs_X5_282 eu1 ?_
  refine kr_if_ne (tgt := 15) O dX5_compileValue_4 rfl (fun hc => ?_) (fun hc => ?_)
  · replace h := h.1 hc
    exact cj_X5_compileValue_15 O  h
  · replace h := h.2 hc
    refine kr_aload_n O dX5_compileValue_7 rfl 0 rfl ?_
    obtain ⟨u2, eu2, h⟩ := h
    refine kr_getf O dX5_compileValue_8 fs_X5_273 eu2 ?_
    refine kr_iconst O dX5_compileValue_11 (v := (2 : Int32)) (by decide) ?_
    refine kr_icmp_ne (tgt := 28) O dX5_compileValue_12 rfl (fun hc => ?_) (fun hc => ?_)
    · replace h := h.1 hc
      refine kr_iconst O dX5_compileValue_28 (v := (0 : Int32)) (by decide) ?_
      refine kr_istore_n O dX5_compileValue_29 rfl (Nat.le_of_ble_eq_true rfl) rfl rfl ?_
      refine kr_sub [1, 0] rfl ?_
      exact cl_X5_compileValue_30 O  h
    · replace h := h.2 hc
      exact cj_X5_compileValue_15 O  h
def vc_X5_accept (w : kt_W) (gr : kt_g × kt_M) (d : Nat) (P : Option Value → kt_M → Prop) (X : String → Nat → kt_M → Prop) (a0 : Nat) (r1 : Option Nat) (M : kt_M) : Prop :=
  (kt_co M a0 = some 12) ∧ 
  kt_Ca w gr d yX5_isWord kc_X5_isWord [va_rf (some a0), va_rf r1] M (kt_pI fun u1 M2 => 
    ((u1 = 0 → narrow .boolean (.int u1) = .int u1 ∧ P (some (.int u1)) M2) ∧
    (¬ u1 = 0 → (kt_co M2 a0 = some 12) ∧ 
    kt_Ca w gr d yX5_scan kc_X5_scan [va_rf (some a0)] M2 (kt_pV fun M3 => narrow .boolean (.int u1) = .int u1 ∧ P (some (.int u1)) M3) X))) X
theorem ce_X5_accept {w : kt_W} {g : kt_g} {d : Nat} {P : Option Value → kt_M → Prop} {X : String → Nat → kt_M → Prop} {a0 : Nat} {r1 : Option Nat} {M : kt_M} (h : vc_X5_accept w (g, M) d P X a0 r1 M) : kt_Sp w g (d + 1) yX5_accept kc_X5_accept [va_rf (some a0), va_rf r1] M P X := by
  refine kt_of (L0 := [(0, va_rf (some a0)), (1, va_rf r1)]) (by decide +kernel) (by simp only [kt_lgR, kt_lgI, kt_lgN] <;> exact Nat.le_of_ble_eq_true rfl) (by simp only [kt_lvR, kt_lvI, kt_lvN] <;> rfl) fun x O => ?_
  replace O : kt_O w x (g, M) (d + 1) cX5_accept "KeyTurnsModel" 3 ("accept", "(Ljava/lang/String;)Z") (Option.some Jvm.ClassFile.FieldType.boolean) [] := O
  unfold vc_X5_accept at h
  refine kr_aload_n O dX5_accept_0 rfl 0 rfl ?_
  refine kr_aload_n O dX5_accept_1 rfl 1 rfl ?_
  obtain ⟨hco, h⟩ := h
  refine kr_caI (rest := []) O cd_X5_isWord h (Nat.le_of_ble_eq_true rfl) (fun ls _ => kt_ivV (ci := 12) O dX5_accept_2 cd_X5_isWord in_X5_isWord (Or.inl q2903) q2905 qs88 hco (by decide) hy_X5_isWord) (fun u1 M2 hq => ?_) (fun E q M9 hx => kr_out O hx)
  replace h := hq
  clear hq
  refine kr_istore_n O dX5_accept_5 rfl (Nat.le_of_ble_eq_true rfl) (by simp [kt_nw, kt_nrf, kt_cI, kt_cJ, kt_cF, kt_cD, kt_cR, kt_cU]) rfl ?_
  refine kr_iload_n O dX5_accept_6 rfl 0 rfl ?_
  refine kr_if_eq (tgt := 14) O dX5_accept_7 rfl (fun hc => ?_) (fun hc => ?_)
  · replace h := h.1 hc
    refine kr_iload_n O dX5_accept_14 rfl 0 rfl ?_
    exact kr_iret O dX5_accept_15 h.1 h.2
  · replace h := h.2 hc
    refine kr_aload_n O dX5_accept_10 rfl 1 rfl ?_
    obtain ⟨hco, h⟩ := h
    refine kr_caV (rest := []) O cd_X5_scan h (Nat.le_of_ble_eq_true rfl) (fun ls _ => kt_ivV (ci := 12) O dX5_accept_11 cd_X5_scan in_X5_scan (Or.inl q2878) q2880 qs82 hco (by decide) hy_X5_scan) (fun M3 hq => ?_) (fun E q M9 hx => kr_out O hx)
    replace h := hq
    clear hq
    refine kr_iload_n O dX5_accept_14 rfl 0 rfl ?_
    exact kr_iret O dX5_accept_15 h.1 h.2
def vc_X5_holdsFor_81 (w : kt_W) (gr : kt_g × kt_M) (d : Nat) (P : Option Value → kt_M → Prop) (X : String → Nat → kt_M → Prop) (nx4 : Int32 → Int32 → kt_M → Prop) (a0 : Nat) (v1 : Int32) (v2 : Int32) (v3 : Int32) (s0 : Int64) (s1 : Int32) (sr2 : Option Nat) (M : kt_M) : Prop :=
  ∃ b1, sr2 = some b1 ∧ kt_hil gr 1 M b1 s1 ∧ ∀ M2, M2 = kt_sl M b1 s1 s0 → nx4 (v2 + (1 : Int32)) (v3 + (1 : Int32)) M2
theorem cj_X5_holdsFor_81 {w : kt_W} {x : kt_X} {gr : kt_g × kt_M} {d : Nat} {P : Option Value → kt_M → Prop} {X : String → Nat → kt_M → Prop} {nx4 : Int32 → Int32 → kt_M → Prop} {a0 : Nat} {v1 : Int32} {v2 : Int32} {v3 : Int32} {s0 : Int64} {s1 : Int32} {sr2 : Option Nat} {M : kt_M} (O : kt_O w x gr (d + 1) cX5_holdsFor "KeyTurnsModel" 5 ("holdsFor", "(I)Z") (Option.some Jvm.ClassFile.FieldType.boolean) []) (hn4 : ∀ v2 v3 M, nx4 v2 v3 M → kt_S w x 5 (kt_E w x P X) M 4 [(0, va_rf (some a0)), (1, .int v1), (2, .int v2), (3, .int v3)] []) (h : vc_X5_holdsFor_81 w gr d P X nx4 a0 v1 v2 v3 s0 s1 sr2 M) : kt_S w x 5 (kt_E w x P X) M 81 [(0, va_rf (some a0)), (1, .int v1), (2, .int v2), (3, .int v3)] [.long s0, .int s1, va_rf sr2] := by
  unfold vc_X5_holdsFor_81 at h
  obtain ⟨b1, rfl, h⟩ := h
  obtain ⟨hw, h⟩ := h
  refine kr_lastore O dX5_holdsFor_81 hw (kr_nmM fun M2 hM2 => ?_)
  replace h := h M2 hM2
  refine kr_iinc O dX5_holdsFor_82 2 rfl (v := v2 + (1 : Int32)) rfl (Nat.le_of_ble_eq_true rfl) rfl rfl ?_
  refine kr_goto (tgt := 118) O dX5_holdsFor_85 rfl ?_
  refine kr_iinc O dX5_holdsFor_118 3 rfl (v := v3 + (1 : Int32)) rfl (Nat.le_of_ble_eq_true rfl) rfl rfl ?_
  refine kr_goto (tgt := 4) O dX5_holdsFor_121 rfl ?_
  refine kr_sub [2, 3, 1, 0] rfl ?_
  exact hn4 _ _ _ h
def vc_X5_holdsFor_4 (w : kt_W) (gr : kt_g × kt_M) (d : Nat) (P : Option Value → kt_M → Prop) (X : String → Nat → kt_M → Prop) (nx4 : Int32 → Int32 → kt_M → Prop) (a0 : Nat) (v1 : Int32) (v2 : Int32) (v3 : Int32) (M : kt_M) : Prop :=
  ∃ u1, kt_gf M a0 89 = some (.int u1) ∧ 
    ((u1 ≤ v3 → ∃ p2, kt_gf M a0 88 = some (va_rf p2) ∧ ∃ b3, p2 = some b3 ∧ ∃ u4, kt_el 1 M b3 (0 : Int32) = some (.long u4) ∧ 
      ((¬ (lg_cmp u4 (1 : Int64)) = 0 → P (some (.int (0 : Int32))) M) ∧
      ((lg_cmp u4 (1 : Int64)) = 0 → P (some (.int (1 : Int32))) M))) ∧
    (¬ u1 ≤ v3 → ∃ p5, kt_gf M a0 87 = some (va_rf p5) ∧ ∃ b6, p5 = some b6 ∧ ∃ u7, kt_el 0 M b6 v3 = some (.int u7) ∧ 
      ((¬ u7 = (-23 : Int32) → 
        ((u7 ≤ (-20 : Int32) → ∃ p8, kt_gf M a0 88 = some (va_rf p8) ∧ ∃ p9, kt_gf M a0 88 = some (va_rf p9) ∧ ∃ b10, p9 = some b10 ∧ ∃ u11, kt_el 1 M b10 ((v2 + (-1 : Int32)) - (1 : Int32)) = some (.long u11) ∧ ∃ p12, kt_gf M a0 88 = some (va_rf p12) ∧ ∃ b13, p12 = some b13 ∧ ∃ u14, kt_el 1 M b13 (v2 + (-1 : Int32)) = some (.long u14) ∧ 
        kt_Ca w gr d yX5_operate kc_X5_operate [.int u7, .long u11, .long u14] M (kt_pJ fun u15 M16 => ∃ b17, p8 = some b17 ∧ kt_hil gr 1 M16 b17 ((v2 + (-1 : Int32)) - (1 : Int32)) ∧ ∀ M18, M18 = kt_sl M16 b17 ((v2 + (-1 : Int32)) - (1 : Int32)) u15 → nx4 (v2 + (-1 : Int32)) (v3 + (1 : Int32)) M18) X) ∧
        (¬ u7 ≤ (-20 : Int32) → ∃ p19, kt_gf M a0 88 = some (va_rf p19) ∧ 
          ((u7 < 0 → (kt_co M a0 = some 12) ∧ 
          kt_Ca w gr d yX5_property kc_X5_property [va_rf (some a0), .int v1, .int ((-1 : Int32) - u7)] M (kt_pI fun u20 M21 => vc_X5_holdsFor_81 w gr d P X nx4 a0 v1 v2 v3 u20.toInt64 v2 p19 M21) X) ∧
          (¬ u7 < 0 → vc_X5_holdsFor_81 w gr d P X nx4 a0 v1 v2 v3 u7.toInt64 v2 p19 M))))) ∧
      (u7 = (-23 : Int32) → ∃ p22, kt_gf M a0 88 = some (va_rf p22) ∧ ∃ p23, kt_gf M a0 88 = some (va_rf p23) ∧ ∃ b24, p23 = some b24 ∧ ∃ u25, kt_el 1 M b24 (v2 - (1 : Int32)) = some (.long u25) ∧ ∃ b26, p22 = some b26 ∧ kt_hil gr 1 M b26 (v2 - (1 : Int32)) ∧ ∀ M27, M27 = kt_sl M b26 (v2 - (1 : Int32)) ((1 : Int64) - u25) → nx4 v2 (v3 + (1 : Int32)) M27))))
theorem cj_X5_holdsFor_4 {w : kt_W} {x : kt_X} {gr : kt_g × kt_M} {d : Nat} {P : Option Value → kt_M → Prop} {X : String → Nat → kt_M → Prop} {nx4 : Int32 → Int32 → kt_M → Prop} {a0 : Nat} {v1 : Int32} {v2 : Int32} {v3 : Int32} {M : kt_M} (O : kt_O w x gr (d + 1) cX5_holdsFor "KeyTurnsModel" 5 ("holdsFor", "(I)Z") (Option.some Jvm.ClassFile.FieldType.boolean) []) (hn4 : ∀ v2 v3 M, nx4 v2 v3 M → kt_S w x 5 (kt_E w x P X) M 4 [(0, va_rf (some a0)), (1, .int v1), (2, .int v2), (3, .int v3)] []) (h : vc_X5_holdsFor_4 w gr d P X nx4 a0 v1 v2 v3 M) : kt_S w x 5 (kt_E w x P X) M 4 [(0, va_rf (some a0)), (1, .int v1), (2, .int v2), (3, .int v3)] [] := by
  unfold vc_X5_holdsFor_4 at h
  refine kr_iload_n O dX5_holdsFor_4 rfl 3 rfl ?_
  refine kr_aload_n O dX5_holdsFor_5 rfl 0 rfl ?_
  obtain ⟨u1, eu1, h⟩ := h
  refine kr_getf O dX5_holdsFor_6 fs_X5_360 eu1 ?_
  refine kr_icmp_ge (tgt := 124) O dX5_holdsFor_9 rfl (fun hc => ?_) (fun hc => ?_)
  · replace h := h.1 hc
    refine kr_aload_n O dX5_holdsFor_124 rfl 0 rfl ?_
    obtain ⟨p2, ep2, h⟩ := h
    refine kr_getf O dX5_holdsFor_125 fs_X5_63 ep2 ?_
    refine kr_iconst O dX5_holdsFor_128 (v := (0 : Int32)) (by decide) ?_
    obtain ⟨b3, rfl, h⟩ := h
    obtain ⟨u4, eu4, h⟩ := h
    refine kr_laload O dX5_holdsFor_129 eu4 ?_
    refine kr_lconst O dX5_holdsFor_130 (v := (1 : Int64)) (by decide) ?_
    refine kr_lcmp O dX5_holdsFor_131 ?_
    refine kr_if_ne (tgt := 139) O dX5_holdsFor_132 rfl (fun hc => ?_) (fun hc => ?_)
    · replace h := h.1 hc
      refine kr_iconst O dX5_holdsFor_139 (v := (0 : Int32)) (by decide) ?_
      exact kr_iret O dX5_holdsFor_140 (by decide) h
    · replace h := h.2 hc
      refine kr_iconst O dX5_holdsFor_135 (v := (1 : Int32)) (by decide) ?_
      refine kr_goto (tgt := 140) O dX5_holdsFor_136 rfl ?_
      exact kr_iret O dX5_holdsFor_140 (by decide) h
  · replace h := h.2 hc
    refine kr_aload_n O dX5_holdsFor_12 rfl 0 rfl ?_
    obtain ⟨p5, ep5, h⟩ := h
    refine kr_getf O dX5_holdsFor_13 fs_X5_60 ep5 ?_
    refine kr_iload_n O dX5_holdsFor_16 rfl 3 rfl ?_
    obtain ⟨b6, rfl, h⟩ := h
    obtain ⟨u7, eu7, h⟩ := h
    refine kr_iaload O dX5_holdsFor_17 eu7 ?_
    refine kr_istore O dX5_holdsFor_18 (Nat.le_of_ble_eq_true rfl) rfl rfl ?_
    refine kr_iload O dX5_holdsFor_20 0 rfl ?_
    refine kr_bipush O dX5_holdsFor_22 (v := (-23 : Int32)) (by decide) ?_
    refine kr_icmp_ne (tgt := 48) O dX5_holdsFor_24 rfl (fun hc => ?_) (fun hc => ?_)
    · replace h := h.1 hc
      refine kr_iload O dX5_holdsFor_48 0 rfl ?_
      refine kr_bipush O dX5_holdsFor_50 (v := (-20 : Int32)) (by decide) ?_
      refine kr_icmp_le (tgt := 88) O dX5_holdsFor_52 rfl (fun hc => ?_) (fun hc => ?_)
      · replace h := h.1 hc
        refine kr_iinc O dX5_holdsFor_88 3 rfl (v := v2 + (-1 : Int32)) rfl (Nat.le_of_ble_eq_true rfl) rfl rfl ?_
        refine kr_aload_n O dX5_holdsFor_91 rfl 2 rfl ?_
        obtain ⟨p8, ep8, h⟩ := h
        refine kr_getf O dX5_holdsFor_92 fs_X5_63 ep8 ?_
        refine kr_iload_n O dX5_holdsFor_95 rfl 0 rfl ?_
        refine kr_iconst O dX5_holdsFor_96 (v := (1 : Int32)) (by decide) ?_
        refine kr_isub O dX5_holdsFor_97 ?_
        refine kr_iload O dX5_holdsFor_98 1 rfl ?_
        refine kr_aload_n O dX5_holdsFor_100 rfl 2 rfl ?_
        obtain ⟨p9, ep9, h⟩ := h
        refine kr_getf O dX5_holdsFor_101 fs_X5_63 ep9 ?_
        refine kr_iload_n O dX5_holdsFor_104 rfl 0 rfl ?_
        refine kr_iconst O dX5_holdsFor_105 (v := (1 : Int32)) (by decide) ?_
        refine kr_isub O dX5_holdsFor_106 ?_
        obtain ⟨b10, rfl, h⟩ := h
        obtain ⟨u11, eu11, h⟩ := h
        refine kr_laload O dX5_holdsFor_107 eu11 ?_
        refine kr_aload_n O dX5_holdsFor_108 rfl 2 rfl ?_
        obtain ⟨p12, ep12, h⟩ := h
        refine kr_getf O dX5_holdsFor_109 fs_X5_63 ep12 ?_
        refine kr_iload_n O dX5_holdsFor_112 rfl 0 rfl ?_
        obtain ⟨b13, rfl, h⟩ := h
        obtain ⟨u14, eu14, h⟩ := h
        refine kr_laload O dX5_holdsFor_113 eu14 ?_
        refine kr_caJ (rest := [.int ((v2 + (-1 : Int32)) - (1 : Int32)), va_rf p8]) O cd_X5_operate h (Nat.le_of_ble_eq_true rfl) (fun ls _ => kt_ivS O dX5_holdsFor_114 cd_X5_operate in_X5_operate q3003 q3004 hy_X5_operate) (fun u15 M16 hq => ?_) (fun E q M9 hx => kr_out O hx)
        replace h := hq
        clear hq
        obtain ⟨b17, rfl, h⟩ := h
        obtain ⟨hw, h⟩ := h
        refine kr_lastore O dX5_holdsFor_117 hw (kr_nmM fun M18 hM18 => ?_)
        replace h := h M18 hM18
        refine kr_iinc O dX5_holdsFor_118 4 rfl (v := v3 + (1 : Int32)) rfl (Nat.le_of_ble_eq_true rfl) rfl rfl ?_
        refine kr_goto (tgt := 4) O dX5_holdsFor_121 rfl ?_
        refine kr_sub [3, 4, 1, 0] rfl ?_
        exact hn4 _ _ _ h
      · replace h := h.2 hc
        refine kr_aload_n O dX5_holdsFor_55 rfl 1 rfl ?_
        obtain ⟨p19, ep19, h⟩ := h
        refine kr_getf O dX5_holdsFor_56 fs_X5_63 ep19 ?_
        refine kr_iload_n O dX5_holdsFor_59 rfl 3 rfl ?_
        refine kr_iload O dX5_holdsFor_60 0 rfl ?_
        refine kr_if_lt (tgt := 71) O dX5_holdsFor_62 rfl (fun hc => ?_) (fun hc => ?_)
        · replace h := h.1 hc
          refine kr_aload_n O dX5_holdsFor_71 rfl 1 rfl ?_
          refine kr_iload_n O dX5_holdsFor_72 rfl 2 rfl ?_
          refine kr_iconst O dX5_holdsFor_73 (v := (-1 : Int32)) (by decide) ?_
          refine kr_iload O dX5_holdsFor_74 0 rfl ?_
          refine kr_isub O dX5_holdsFor_76 ?_
          obtain ⟨hco, h⟩ := h
          refine kr_caI (rest := [.int v2, va_rf p19]) O cd_X5_property h (Nat.le_of_ble_eq_true rfl) (fun ls _ => kt_ivV (ci := 12) O dX5_holdsFor_77 cd_X5_property in_X5_property (Or.inl q2999) q3001 qs107 hco (by decide) hy_X5_property) (fun u20 M21 hq => ?_) (fun E q M9 hx => kr_out O hx)
          replace h := hq
          clear hq
          refine kr_i2l O dX5_holdsFor_80 ?_
          refine kr_sub [1, 2, 3, 4] rfl ?_
          exact cj_X5_holdsFor_81 O hn4 h
        · replace h := h.2 hc
          refine kr_iload O dX5_holdsFor_65 0 rfl ?_
          refine kr_i2l O dX5_holdsFor_67 ?_
          refine kr_goto (tgt := 81) O dX5_holdsFor_68 rfl ?_
          refine kr_sub [1, 2, 3, 4] rfl ?_
          exact cj_X5_holdsFor_81 O hn4 h
    · replace h := h.2 hc
      refine kr_aload_n O dX5_holdsFor_27 rfl 1 rfl ?_
      obtain ⟨p22, ep22, h⟩ := h
      refine kr_getf O dX5_holdsFor_28 fs_X5_63 ep22 ?_
      refine kr_iload_n O dX5_holdsFor_31 rfl 3 rfl ?_
      refine kr_iconst O dX5_holdsFor_32 (v := (1 : Int32)) (by decide) ?_
      refine kr_isub O dX5_holdsFor_33 ?_
      refine kr_lconst O dX5_holdsFor_34 (v := (1 : Int64)) (by decide) ?_
      refine kr_aload_n O dX5_holdsFor_35 rfl 1 rfl ?_
      obtain ⟨p23, ep23, h⟩ := h
      refine kr_getf O dX5_holdsFor_36 fs_X5_63 ep23 ?_
      refine kr_iload_n O dX5_holdsFor_39 rfl 3 rfl ?_
      refine kr_iconst O dX5_holdsFor_40 (v := (1 : Int32)) (by decide) ?_
      refine kr_isub O dX5_holdsFor_41 ?_
      obtain ⟨b24, rfl, h⟩ := h
      obtain ⟨u25, eu25, h⟩ := h
      refine kr_laload O dX5_holdsFor_42 eu25 ?_
      refine kr_lsub O dX5_holdsFor_43 ?_
      obtain ⟨b26, rfl, h⟩ := h
      obtain ⟨hw, h⟩ := h
      refine kr_lastore O dX5_holdsFor_44 hw (kr_nmM fun M27 hM27 => ?_)
      replace h := h M27 hM27
      refine kr_goto (tgt := 118) O dX5_holdsFor_45 rfl ?_
      refine kr_iinc O dX5_holdsFor_118 4 rfl (v := v3 + (1 : Int32)) rfl (Nat.le_of_ble_eq_true rfl) rfl rfl ?_
      refine kr_goto (tgt := 4) O dX5_holdsFor_121 rfl ?_
      refine kr_sub [2, 3, 4, 0] rfl ?_
      exact hn4 _ _ _ h
def vl_X5_holdsFor_4 (w : kt_W) (gr : kt_g × kt_M) (d : Nat) (P : Option Value → kt_M → Prop) (X : String → Nat → kt_M → Prop)  (a0 : Nat) (v1 : Int32) (v2 : Int32) (v3 : Int32) (M : kt_M) : Prop :=
  ∃ Inv : Nat → Int32 → Int32 → kt_M → Prop, (∃ k, Inv k v2 v3 M) ∧ ∀ k v2 v3 M, kt_le gr.1 gr.2 M → Inv k v2 v3 M → vc_X5_holdsFor_4 w gr d P X (fun v2' v3' M' => ∃ k', k' < k ∧ Inv k' v2' v3' M') a0 v1 v2 v3 M
theorem cl_X5_holdsFor_4 {w : kt_W} {x : kt_X} {gr : kt_g × kt_M} {d : Nat} {P : Option Value → kt_M → Prop} {X : String → Nat → kt_M → Prop}  {a0 : Nat} {v1 : Int32} {v2 : Int32} {v3 : Int32} {M : kt_M} (O : kt_O w x gr (d + 1) cX5_holdsFor "KeyTurnsModel" 5 ("holdsFor", "(I)Z") (Option.some Jvm.ClassFile.FieldType.boolean) [])  (h : vl_X5_holdsFor_4 w gr d P X  a0 v1 v2 v3 M) : kt_S w x 5 (kt_E w x P X) M 4 [(0, va_rf (some a0)), (1, .int v1), (2, .int v2), (3, .int v3)] [] := by
  obtain ⟨Inv, ⟨k, hk⟩, hb⟩ := h
  induction k using Nat.strongRecOn generalizing v2 v3 M with
  | ind k ih =>
    exact kr_le O fun hle => cj_X5_holdsFor_4 O (fun v2' v3' M' hi => let ⟨k', h1, h2⟩ := hi; ih k' h1 h2) (hb k _ _ _ hle hk)
def vc_X5_holdsFor (w : kt_W) (gr : kt_g × kt_M) (d : Nat) (P : Option Value → kt_M → Prop) (X : String → Nat → kt_M → Prop) (a0 : Nat) (v1 : Int32) (M : kt_M) : Prop :=
  vl_X5_holdsFor_4 w gr d P X  a0 v1 (0 : Int32) (0 : Int32) M
theorem ce_X5_holdsFor {w : kt_W} {g : kt_g} {d : Nat} {P : Option Value → kt_M → Prop} {X : String → Nat → kt_M → Prop} {a0 : Nat} {v1 : Int32} {M : kt_M} (h : vc_X5_holdsFor w (g, M) d P X a0 v1 M) : kt_Sp w g (d + 1) yX5_holdsFor kc_X5_holdsFor [va_rf (some a0), .int v1] M P X := by
  refine kt_of (L0 := [(0, va_rf (some a0)), (1, .int v1)]) (by decide +kernel) (Nat.le_of_ble_eq_true rfl) rfl fun x O => ?_
  replace O : kt_O w x (g, M) (d + 1) cX5_holdsFor "KeyTurnsModel" 5 ("holdsFor", "(I)Z") (Option.some Jvm.ClassFile.FieldType.boolean) [] := O
  unfold vc_X5_holdsFor at h
  refine kr_iconst O dX5_holdsFor_0 (v := (0 : Int32)) (by decide) ?_
  refine kr_istore_n O dX5_holdsFor_1 rfl (Nat.le_of_ble_eq_true rfl) rfl rfl ?_
  refine kr_iconst O dX5_holdsFor_2 (v := (0 : Int32)) (by decide) ?_
  refine kr_istore_n O dX5_holdsFor_3 rfl (Nat.le_of_ble_eq_true rfl) rfl rfl ?_
  refine kr_sub [2, 3, 1, 0] rfl ?_
  exact cl_X5_holdsFor_4 O  h
def vc_X5_property (w : kt_W) (gr : kt_g × kt_M) (d : Nat) (P : Option Value → kt_M → Prop) (X : String → Nat → kt_M → Prop) (a0 : Nat) (v1 : Int32) (v2 : Int32) (M : kt_M) : Prop :=
  
    ((v2.toInt < 0 ∨ 6 < v2.toInt → (kt_co M a0 = some 12) ∧ 
    kt_Ca w gr d yX5_ofRecord kc_X5_ofRecord [va_rf (some a0), .int v1, .int (2 : Int32)] M (kt_pI fun u1 M2 => P (some (.int u1)) M2) X) ∧
    (v2.toInt = 0 → P (some (.int v1)) M) ∧
    (v2.toInt = 1 → (kt_co M a0 = some 12) ∧ 
    kt_Ca w gr d yX5_ofRecord kc_X5_ofRecord [va_rf (some a0), .int v1, .int (0 : Int32)] M (kt_pI fun u3 M4 => P (some (.int u3)) M4) X) ∧
    (v2.toInt = 2 → (kt_co M a0 = some 12) ∧ 
    kt_Ca w gr d yX5_ofRecord kc_X5_ofRecord [va_rf (some a0), .int v1, .int (1 : Int32)] M (kt_pI fun u5 M6 => 
    kt_Ca w gr d yJ19_bitCount kc_J19_bitCount [.int u5] M6 (kt_pI fun u7 M8 => P (some (.int u7)) M8) X) X) ∧
    (v2.toInt = 3 → (kt_co M a0 = some 12) ∧ 
    kt_Ca w gr d yX5_ofRecord kc_X5_ofRecord [va_rf (some a0), .int v1, .int (1 : Int32)] M (kt_pI fun u9 M10 => 
    kt_Ca w gr d yX5_greatestOf kc_X5_greatestOf [.int u9] M10 (kt_pI fun u11 M12 => P (some (.int u11)) M12) X) X) ∧
    (v2.toInt = 4 → (kt_co M a0 = some 12) ∧ 
    kt_Ca w gr d yX5_endOf kc_X5_endOf [va_rf (some a0), .int v1] M (kt_pI fun u13 M14 => P (some (.int u13)) M14) X) ∧
    (v2.toInt = 5 → (kt_co M a0 = some 12) ∧ 
    kt_Ca w gr d yX5_writing kc_X5_writing [va_rf (some a0)] M (kt_pI fun u15 M16 => 
      ((u15 = (-1 : Int32) → P (some (.int (0 : Int32))) M16) ∧
      (¬ u15 = (-1 : Int32) → (kt_co M16 a0 = some 12) ∧ 
      kt_Ca w gr d yX5_ofRecord kc_X5_ofRecord [va_rf (some a0), .int v1, .int (1 : Int32)] M16 (kt_pI fun u17 M18 => (kt_co M18 a0 = some 12) ∧ 
      kt_Ca w gr d yX5_writing kc_X5_writing [va_rf (some a0)] M18 (kt_pI fun u19 M20 => 
      kt_Ca w gr d yX5_has kc_X5_has [.int u17, .int u19] M20 (kt_pI fun u21 M22 => 
        ((u21 = 0 → P (some (.int (0 : Int32))) M22) ∧
        (¬ u21 = 0 → P (some (.int (1 : Int32))) M22))) X) X) X))) X) ∧
    (v2.toInt = 6 → (kt_co M a0 = some 12) ∧ 
    kt_Ca w gr d yX5_readers kc_X5_readers [va_rf (some a0), .int v1] M (kt_pI fun u23 M24 => 
    kt_Ca w gr d yJ19_bitCount kc_J19_bitCount [.int u23] M24 (kt_pI fun u25 M26 => P (some (.int u25)) M26) X) X))
theorem ce_X5_property {w : kt_W} {g : kt_g} {d : Nat} {P : Option Value → kt_M → Prop} {X : String → Nat → kt_M → Prop} {a0 : Nat} {v1 : Int32} {v2 : Int32} {M : kt_M} (h : vc_X5_property w (g, M) d P X a0 v1 v2 M) : kt_Sp w g (d + 1) yX5_property kc_X5_property [va_rf (some a0), .int v1, .int v2] M P X := by
  refine kt_of (L0 := [(0, va_rf (some a0)), (1, .int v1), (2, .int v2)]) (by decide +kernel) (Nat.le_of_ble_eq_true rfl) rfl fun x O => ?_
  replace O : kt_O w x (g, M) (d + 1) cX5_property "KeyTurnsModel" 3 ("property", "(II)I") (Option.some Jvm.ClassFile.FieldType.int) [] := O
  unfold vc_X5_property at h
  refine kr_iload_n O dX5_property_0 rfl 2 rfl ?_
  by_cases hs : v2.toInt < 0 ∨ 6 < v2.toInt
  · refine kr_tableOut (tgt := 118) O dX5_property_1 hs rfl ?_
    replace h := h.1 hs
    refine kr_aload_n O dX5_property_118 rfl 0 rfl ?_
    refine kr_iload_n O dX5_property_119 rfl 1 rfl ?_
    refine kr_iconst O dX5_property_120 (v := (2 : Int32)) (by decide) ?_
    obtain ⟨hco, h⟩ := h
    refine kr_caI (rest := []) O cd_X5_ofRecord h (Nat.le_of_ble_eq_true rfl) (fun ls _ => kt_ivV (ci := 12) O dX5_property_121 cd_X5_ofRecord in_X5_ofRecord (Or.inl q2563) q2565 qs41 hco (by decide) hy_X5_ofRecord) (fun u1 M2 hq => ?_) (fun E q M9 hx => kr_out O hx)
    replace h := hq
    clear hq
    exact kr_iret O dX5_property_124 rfl h
  replace h := h.2
  have hs2 : v2.toInt = 0 ∨ v2.toInt = 1 ∨ v2.toInt = 2 ∨ v2.toInt = 3 ∨ v2.toInt = 4 ∨ v2.toInt = 5 ∨ v2.toInt = 6 := by omega
  rcases hs2 with hs2 | hs2 | hs2 | hs2 | hs2 | hs2 | hs2
  · refine kr_tableIn (tgt := 44) O dX5_property_1 (0) hs2 (by decide) (by decide) rfl rfl ?_
    replace h := h.1 hs2
    refine kr_iload_n O dX5_property_44 rfl 1 rfl ?_
    exact kr_iret O dX5_property_45 rfl h
  · refine kr_tableIn (tgt := 46) O dX5_property_1 (1) hs2 (by decide) (by decide) rfl rfl ?_
    replace h := h.2.1 hs2
    refine kr_aload_n O dX5_property_46 rfl 0 rfl ?_
    refine kr_iload_n O dX5_property_47 rfl 1 rfl ?_
    refine kr_iconst O dX5_property_48 (v := (0 : Int32)) (by decide) ?_
    obtain ⟨hco, h⟩ := h
    refine kr_caI (rest := []) O cd_X5_ofRecord h (Nat.le_of_ble_eq_true rfl) (fun ls _ => kt_ivV (ci := 12) O dX5_property_49 cd_X5_ofRecord in_X5_ofRecord (Or.inl q2563) q2565 qs41 hco (by decide) hy_X5_ofRecord) (fun u3 M4 hq => ?_) (fun E q M9 hx => kr_out O hx)
    replace h := hq
    clear hq
    exact kr_iret O dX5_property_52 rfl h
  · refine kr_tableIn (tgt := 53) O dX5_property_1 (2) hs2 (by decide) (by decide) rfl rfl ?_
    replace h := h.2.2.1 hs2
    refine kr_aload_n O dX5_property_53 rfl 0 rfl ?_
    refine kr_iload_n O dX5_property_54 rfl 1 rfl ?_
    refine kr_iconst O dX5_property_55 (v := (1 : Int32)) (by decide) ?_
    obtain ⟨hco, h⟩ := h
    refine kr_caI (rest := []) O cd_X5_ofRecord h (Nat.le_of_ble_eq_true rfl) (fun ls _ => kt_ivV (ci := 12) O dX5_property_56 cd_X5_ofRecord in_X5_ofRecord (Or.inl q2563) q2565 qs41 hco (by decide) hy_X5_ofRecord) (fun u5 M6 hq => ?_) (fun E q M9 hx => kr_out O hx)
    replace h := hq
    clear hq
    refine kr_caI (rest := []) O cd_J19_bitCount h (Nat.le_of_ble_eq_true rfl) (fun ls _ => kt_ivS O dX5_property_59 cd_J19_bitCount in_J19_bitCount q2605 q1921 hy_J19_bitCount) (fun u7 M8 hq => ?_) (fun E q M9 hx => kr_out O hx)
    replace h := hq
    clear hq
    exact kr_iret O dX5_property_62 rfl h
  · refine kr_tableIn (tgt := 63) O dX5_property_1 (3) hs2 (by decide) (by decide) rfl rfl ?_
    replace h := h.2.2.2.1 hs2
    refine kr_aload_n O dX5_property_63 rfl 0 rfl ?_
    refine kr_iload_n O dX5_property_64 rfl 1 rfl ?_
    refine kr_iconst O dX5_property_65 (v := (1 : Int32)) (by decide) ?_
    obtain ⟨hco, h⟩ := h
    refine kr_caI (rest := []) O cd_X5_ofRecord h (Nat.le_of_ble_eq_true rfl) (fun ls _ => kt_ivV (ci := 12) O dX5_property_66 cd_X5_ofRecord in_X5_ofRecord (Or.inl q2563) q2565 qs41 hco (by decide) hy_X5_ofRecord) (fun u9 M10 hq => ?_) (fun E q M9 hx => kr_out O hx)
    replace h := hq
    clear hq
    refine kr_caI (rest := []) O cd_X5_greatestOf h (Nat.le_of_ble_eq_true rfl) (fun ls _ => kt_ivS O dX5_property_69 cd_X5_greatestOf in_X5_greatestOf q2673 q2674 hy_X5_greatestOf) (fun u11 M12 hq => ?_) (fun E q M9 hx => kr_out O hx)
    replace h := hq
    clear hq
    exact kr_iret O dX5_property_72 rfl h
  · refine kr_tableIn (tgt := 73) O dX5_property_1 (4) hs2 (by decide) (by decide) rfl rfl ?_
    replace h := h.2.2.2.2.1 hs2
    refine kr_aload_n O dX5_property_73 rfl 0 rfl ?_
    refine kr_iload_n O dX5_property_74 rfl 1 rfl ?_
    obtain ⟨hco, h⟩ := h
    refine kr_caI (rest := []) O cd_X5_endOf h (Nat.le_of_ble_eq_true rfl) (fun ls _ => kt_ivV (ci := 12) O dX5_property_75 cd_X5_endOf in_X5_endOf (Or.inl q2633) q2635 qs54 hco (by decide) hy_X5_endOf) (fun u13 M14 hq => ?_) (fun E q M9 hx => kr_out O hx)
    replace h := hq
    clear hq
    exact kr_iret O dX5_property_78 rfl h
  · refine kr_tableIn (tgt := 79) O dX5_property_1 (5) hs2 (by decide) (by decide) rfl rfl ?_
    replace h := h.2.2.2.2.2.1 hs2
    refine kr_aload_n O dX5_property_79 rfl 0 rfl ?_
    obtain ⟨hco, h⟩ := h
    refine kr_caI (rest := []) O cd_X5_writing h (Nat.le_of_ble_eq_true rfl) (fun ls _ => kt_ivV (ci := 12) O dX5_property_80 cd_X5_writing in_X5_writing (Or.inl q2570) q2572 qs42 hco (by decide) hy_X5_writing) (fun u15 M16 hq => ?_) (fun E q M9 hx => kr_out O hx)
    replace h := hq
    clear hq
    refine kr_iconst O dX5_property_83 (v := (-1 : Int32)) (by decide) ?_
    refine kr_icmp_eq (tgt := 107) O dX5_property_84 rfl (fun hc => ?_) (fun hc => ?_)
    · replace h := h.1 hc
      refine kr_iconst O dX5_property_107 (v := (0 : Int32)) (by decide) ?_
      exact kr_iret O dX5_property_108 rfl h
    · replace h := h.2 hc
      refine kr_aload_n O dX5_property_87 rfl 0 rfl ?_
      refine kr_iload_n O dX5_property_88 rfl 1 rfl ?_
      refine kr_iconst O dX5_property_89 (v := (1 : Int32)) (by decide) ?_
      obtain ⟨hco, h⟩ := h
      refine kr_caI (rest := []) O cd_X5_ofRecord h (Nat.le_of_ble_eq_true rfl) (fun ls _ => kt_ivV (ci := 12) O dX5_property_90 cd_X5_ofRecord in_X5_ofRecord (Or.inl q2563) q2565 qs41 hco (by decide) hy_X5_ofRecord) (fun u17 M18 hq => ?_) (fun E q M9 hx => kr_out O hx)
      replace h := hq
      clear hq
      refine kr_aload_n O dX5_property_93 rfl 0 rfl ?_
      obtain ⟨hco, h⟩ := h
      refine kr_caI (rest := [.int u17]) O cd_X5_writing h (Nat.le_of_ble_eq_true rfl) (fun ls _ => kt_ivV (ci := 12) O dX5_property_94 cd_X5_writing in_X5_writing (Or.inl q2570) q2572 qs42 hco (by decide) hy_X5_writing) (fun u19 M20 hq => ?_) (fun E q M9 hx => kr_out O hx)
      replace h := hq
      clear hq
      refine kr_caI (rest := []) O cd_X5_has h (Nat.le_of_ble_eq_true rfl) (fun ls _ => kt_ivS O dX5_property_97 cd_X5_has in_X5_has q2626 q2627 hy_X5_has) (fun u21 M22 hq => ?_) (fun E q M9 hx => kr_out O hx)
      replace h := hq
      clear hq
      refine kr_if_eq (tgt := 107) O dX5_property_100 rfl (fun hc => ?_) (fun hc => ?_)
      · replace h := h.1 hc
        refine kr_iconst O dX5_property_107 (v := (0 : Int32)) (by decide) ?_
        exact kr_iret O dX5_property_108 rfl h
      · replace h := h.2 hc
        refine kr_iconst O dX5_property_103 (v := (1 : Int32)) (by decide) ?_
        refine kr_goto (tgt := 108) O dX5_property_104 rfl ?_
        exact kr_iret O dX5_property_108 rfl h
  · refine kr_tableIn (tgt := 109) O dX5_property_1 (6) hs2 (by decide) (by decide) rfl rfl ?_
    replace h := h.2.2.2.2.2.2 hs2
    refine kr_aload_n O dX5_property_109 rfl 0 rfl ?_
    refine kr_iload_n O dX5_property_110 rfl 1 rfl ?_
    obtain ⟨hco, h⟩ := h
    refine kr_caI (rest := []) O cd_X5_readers h (Nat.le_of_ble_eq_true rfl) (fun ls _ => kt_ivV (ci := 12) O dX5_property_111 cd_X5_readers in_X5_readers (Or.inl q2638) q2640 qs55 hco (by decide) hy_X5_readers) (fun u23 M24 hq => ?_) (fun E q M9 hx => kr_out O hx)
    replace h := hq
    clear hq
    refine kr_caI (rest := []) O cd_J19_bitCount h (Nat.le_of_ble_eq_true rfl) (fun ls _ => kt_ivS O dX5_property_114 cd_J19_bitCount in_J19_bitCount q2605 q1921 hy_J19_bitCount) (fun u25 M26 hq => ?_) (fun E q M9 hx => kr_out O hx)
    replace h := hq
    clear hq
    exact kr_iret O dX5_property_117 rfl h
def vc_X5_operate_76 (w : kt_W) (gr : kt_g × kt_M) (d : Nat) (P : Option Value → kt_M → Prop) (X : String → Nat → kt_M → Prop)  (v1 : Int64) (v3 : Int64) (M : kt_M) : Prop :=
  P (some (.long (v1 ||| v3))) M
theorem cj_X5_operate_76 {w : kt_W} {x : kt_X} {gr : kt_g × kt_M} {d : Nat} {P : Option Value → kt_M → Prop} {X : String → Nat → kt_M → Prop}  {v1 : Int64} {v3 : Int64} {M : kt_M} (O : kt_O w x gr (d + 1) cX5_operate "KeyTurnsModel" 5 ("operate", "(IJJ)J") (Option.some Jvm.ClassFile.FieldType.long) [])  (h : vc_X5_operate_76 w gr d P X  v1 v3 M) : kt_S w x 5 (kt_E w x P X) M 76 [(1, .long v1), (3, .long v3)] [] := by
  unfold vc_X5_operate_76 at h
  refine kr_lload_n O dX5_operate_76 rfl 0 rfl ?_
  refine kr_lload_n O dX5_operate_77 rfl 1 rfl ?_
  refine kr_lor O dX5_operate_78 ?_
  exact kr_lret O dX5_operate_79 h
def vc_X5_operate (w : kt_W) (gr : kt_g × kt_M) (d : Nat) (P : Option Value → kt_M → Prop) (X : String → Nat → kt_M → Prop) (v0 : Int32) (v1 : Int64) (v3 : Int64) (M : kt_M) : Prop :=
  
    ((v0.toInt < -24 ∨ -20 < v0.toInt → vc_X5_operate_76 w gr d P X  v1 v3 M) ∧
    (v0.toInt = -24 → P (some (.long (v1 &&& v3))) M) ∧
    (v0.toInt = -23 → vc_X5_operate_76 w gr d P X  v1 v3 M) ∧
    (v0.toInt = -22 → 
      (((lg_cmp v1 v3) ≤ 0 → P (some (.long (0 : Int64))) M) ∧
      (¬ (lg_cmp v1 v3) ≤ 0 → P (some (.long (1 : Int64))) M))) ∧
    (v0.toInt = -21 → 
      ((¬ (lg_cmp v1 v3) = 0 → P (some (.long (0 : Int64))) M) ∧
      ((lg_cmp v1 v3) = 0 → P (some (.long (1 : Int64))) M))) ∧
    (v0.toInt = -20 → 
      ((0 ≤ (lg_cmp v1 v3) → P (some (.long (0 : Int64))) M) ∧
      (¬ 0 ≤ (lg_cmp v1 v3) → P (some (.long (1 : Int64))) M))))
theorem ce_X5_operate {w : kt_W} {g : kt_g} {d : Nat} {P : Option Value → kt_M → Prop} {X : String → Nat → kt_M → Prop} {v0 : Int32} {v1 : Int64} {v3 : Int64} {M : kt_M} (h : vc_X5_operate w (g, M) d P X v0 v1 v3 M) : kt_Sp w g (d + 1) yX5_operate kc_X5_operate [.int v0, .long v1, .long v3] M P X := by
  refine kt_of (L0 := [(0, .int v0), (1, .long v1), (3, .long v3)]) (by decide +kernel) (Nat.le_of_ble_eq_true rfl) rfl fun x O => ?_
  replace O : kt_O w x (g, M) (d + 1) cX5_operate "KeyTurnsModel" 5 ("operate", "(IJJ)J") (Option.some Jvm.ClassFile.FieldType.long) [] := O
  unfold vc_X5_operate at h
  refine kr_iload_n O dX5_operate_0 rfl 0 rfl ?_
  by_cases hs : v0.toInt < -24 ∨ -20 < v0.toInt
  · refine kr_tableOut (tgt := 76) O dX5_operate_1 hs rfl ?_
    replace h := h.1 hs
    refine kr_sub [1, 2] rfl ?_
    exact cj_X5_operate_76 O  h
  replace h := h.2
  have hs2 : v0.toInt = -24 ∨ v0.toInt = -23 ∨ v0.toInt = -22 ∨ v0.toInt = -21 ∨ v0.toInt = -20 := by omega
  rcases hs2 with hs2 | hs2 | hs2 | hs2 | hs2
  · refine kr_tableIn (tgt := 72) O dX5_operate_1 (-24) hs2 (by decide) (by decide) rfl rfl ?_
    replace h := h.1 hs2
    refine kr_lload_n O dX5_operate_72 rfl 1 rfl ?_
    refine kr_lload_n O dX5_operate_73 rfl 2 rfl ?_
    refine kr_land O dX5_operate_74 ?_
    exact kr_lret O dX5_operate_75 h
  · refine kr_tableIn (tgt := 76) O dX5_operate_1 (-23) hs2 (by decide) (by decide) rfl rfl ?_
    replace h := h.2.1 hs2
    refine kr_sub [1, 2] rfl ?_
    exact cj_X5_operate_76 O  h
  · refine kr_tableIn (tgt := 60) O dX5_operate_1 (-22) hs2 (by decide) (by decide) rfl rfl ?_
    replace h := h.2.2.1 hs2
    refine kr_lload_n O dX5_operate_60 rfl 1 rfl ?_
    refine kr_lload_n O dX5_operate_61 rfl 2 rfl ?_
    refine kr_lcmp O dX5_operate_62 ?_
    refine kr_if_le (tgt := 70) O dX5_operate_63 rfl (fun hc => ?_) (fun hc => ?_)
    · replace h := h.1 hc
      refine kr_lconst O dX5_operate_70 (v := (0 : Int64)) (by decide) ?_
      exact kr_lret O dX5_operate_71 h
    · replace h := h.2 hc
      refine kr_lconst O dX5_operate_66 (v := (1 : Int64)) (by decide) ?_
      refine kr_goto (tgt := 71) O dX5_operate_67 rfl ?_
      exact kr_lret O dX5_operate_71 h
  · refine kr_tableIn (tgt := 48) O dX5_operate_1 (-21) hs2 (by decide) (by decide) rfl rfl ?_
    replace h := h.2.2.2.1 hs2
    refine kr_lload_n O dX5_operate_48 rfl 1 rfl ?_
    refine kr_lload_n O dX5_operate_49 rfl 2 rfl ?_
    refine kr_lcmp O dX5_operate_50 ?_
    refine kr_if_ne (tgt := 58) O dX5_operate_51 rfl (fun hc => ?_) (fun hc => ?_)
    · replace h := h.1 hc
      refine kr_lconst O dX5_operate_58 (v := (0 : Int64)) (by decide) ?_
      exact kr_lret O dX5_operate_59 h
    · replace h := h.2 hc
      refine kr_lconst O dX5_operate_54 (v := (1 : Int64)) (by decide) ?_
      refine kr_goto (tgt := 59) O dX5_operate_55 rfl ?_
      exact kr_lret O dX5_operate_59 h
  · refine kr_tableIn (tgt := 36) O dX5_operate_1 (-20) hs2 (by decide) (by decide) rfl rfl ?_
    replace h := h.2.2.2.2 hs2
    refine kr_lload_n O dX5_operate_36 rfl 1 rfl ?_
    refine kr_lload_n O dX5_operate_37 rfl 2 rfl ?_
    refine kr_lcmp O dX5_operate_38 ?_
    refine kr_if_ge (tgt := 46) O dX5_operate_39 rfl (fun hc => ?_) (fun hc => ?_)
    · replace h := h.1 hc
      refine kr_lconst O dX5_operate_46 (v := (0 : Int64)) (by decide) ?_
      exact kr_lret O dX5_operate_47 h
    · replace h := h.2 hc
      refine kr_lconst O dX5_operate_42 (v := (1 : Int64)) (by decide) ?_
      refine kr_goto (tgt := 47) O dX5_operate_43 rfl ?_
      exact kr_lret O dX5_operate_47 h
