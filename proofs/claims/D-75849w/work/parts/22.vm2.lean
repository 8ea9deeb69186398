set_option maxRecDepth 100000
def vc_X5_takeBack_55 (w : kt_W) (gr : kt_g × kt_M) (d : Nat) (P : Option Value → kt_M → Prop) (X : String → Nat → kt_M → Prop)  (a0 : Nat) (M : kt_M) : Prop :=
  (kt_co M a0 = some 12) ∧ 
  kt_Ca w gr d yX5_writing kc_X5_writing [va_rf (some a0)] M (kt_pI fun u1 M2 => 
    ((u1 = (-1 : Int32) → P (some (.int (0 : Int32))) M2) ∧
    (¬ u1 = (-1 : Int32) → P (some (.int (1 : Int32))) M2))) X
theorem cj_X5_takeBack_55 {w : kt_W} {x : kt_X} {gr : kt_g × kt_M} {d : Nat} {P : Option Value → kt_M → Prop} {X : String → Nat → kt_M → Prop}  {a0 : Nat} {M : kt_M} (O : kt_O w x gr (d + 1) cX5_takeBack "KeyTurnsModel" 4 ("takeBack", "(I)Z") (Option.some Jvm.ClassFile.FieldType.boolean) [])  (h : vc_X5_takeBack_55 w gr d P X  a0 M) : kt_S w x 4 (kt_E w x P X) M 55 [(0, va_rf (some a0))] [] := by
  unfold vc_X5_takeBack_55 at h
  refine kr_aload_n O dX5_takeBack_55 rfl 0 rfl ?_
  obtain ⟨hco, h⟩ := h
  refine kr_caI (rest := []) O cd_X5_writing h (Nat.le_of_ble_eq_true rfl) (fun ls _ => kt_ivV (ci := 12) O dX5_takeBack_56 cd_X5_writing in_X5_writing (Or.inl q2570) q2572 qs42 hco (by decide) hy_X5_writing) (fun u1 M2 hq => ?_) (fun E q M9 hx => kr_out O hx)
  replace h := hq
  clear hq
  refine kr_iconst O dX5_takeBack_59 (v := (-1 : Int32)) (by decide) ?_
  refine kr_icmp_eq (tgt := 67) O dX5_takeBack_60 rfl (fun hc => ?_) (fun hc => ?_)
  · replace h := h.1 hc
    refine kr_iconst O dX5_takeBack_67 (v := (0 : Int32)) (by decide) ?_
    exact kr_iret O dX5_takeBack_68 (by decide) h
  · replace h := h.2 hc
    refine kr_iconst O dX5_takeBack_63 (v := (1 : Int32)) (by decide) ?_
    refine kr_goto (tgt := 68) O dX5_takeBack_64 rfl ?_
    exact kr_iret O dX5_takeBack_68 (by decide) h
def vc_X5_takeBack_13 (w : kt_W) (gr : kt_g × kt_M) (d : Nat) (P : Option Value → kt_M → Prop) (X : String → Nat → kt_M → Prop)  (a0 : Nat) (v1 : Int32) (s0 : Int32) (M : kt_M) : Prop :=
  ∃ p1, kt_gf M a0 73 = some (va_rf p1) ∧ 
  kt_Ca w gr d yX5_versionAt kc_X5_versionAt [.int v1, .int (2 : Int32)] M (kt_pI fun u2 M3 => (kt_co M3 a0 = some 12) ∧ 
  kt_Ca w gr d yX5_hour kc_X5_hour [va_rf (some a0)] M3 (kt_pI fun u4 M5 => ∃ b6, p1 = some b6 ∧ kt_hii gr 0 M5 b6 u2 ∧ ∀ M7, M7 = kt_si M5 b6 u2 u4 → (kt_co M7 a0 = some 12) ∧ 
  kt_Ca w gr d yX5_greatestOpen kc_X5_greatestOpen [va_rf (some a0)] M7 (kt_pI fun u8 M9 => 
    ((s0 = 0 → vc_X5_takeBack_55 w gr d P X  a0 M9) ∧
    (¬ s0 = 0 → 
      ((u8 = (-1 : Int32) → vc_X5_takeBack_55 w gr d P X  a0 M9) ∧
      (¬ u8 = (-1 : Int32) → ∃ p10, kt_gf M9 a0 73 = some (va_rf p10) ∧ 
      kt_Ca w gr d yX5_versionAt kc_X5_versionAt [.int u8, .int (1 : Int32)] M9 (kt_pI fun u11 M12 => ∃ b13, p10 = some b13 ∧ kt_hii gr 0 M12 b13 u11 ∧ ∀ M14, M14 = kt_si M12 b13 u11 (9999 : Int32) → vc_X5_takeBack_55 w gr d P X  a0 M14) X))))) X) X) X
theorem cj_X5_takeBack_13 {w : kt_W} {x : kt_X} {gr : kt_g × kt_M} {d : Nat} {P : Option Value → kt_M → Prop} {X : String → Nat → kt_M → Prop}  {a0 : Nat} {v1 : Int32} {s0 : Int32} {M : kt_M} (O : kt_O w x gr (d + 1) cX5_takeBack "KeyTurnsModel" 4 ("takeBack", "(I)Z") (Option.some Jvm.ClassFile.FieldType.boolean) [])  (h : vc_X5_takeBack_13 w gr d P X  a0 v1 s0 M) : kt_S w x 4 (kt_E w x P X) M 13 [(0, va_rf (some a0)), (1, .int v1)] [.int s0] := by
  unfold vc_X5_takeBack_13 at h
  refine kr_istore_n O dX5_takeBack_13 rfl (Nat.le_of_ble_eq_true rfl) rfl rfl ?_
  refine kr_aload_n O dX5_takeBack_14 rfl 1 rfl ?_
  obtain ⟨p1, ep1, h⟩ := h
  refine kr_getf O dX5_takeBack_15 fs_X5_25 ep1 ?_
  refine kr_iload_n O dX5_takeBack_18 rfl 2 rfl ?_
  refine kr_iconst O dX5_takeBack_19 (v := (2 : Int32)) (by decide) ?_
  refine kr_caI (rest := [va_rf p1]) O cd_X5_versionAt h (Nat.le_of_ble_eq_true rfl) (fun ls _ => kt_ivS O dX5_takeBack_20 cd_X5_versionAt in_X5_versionAt q2467 q2468 hy_X5_versionAt) (fun u2 M3 hq => ?_) (fun E q M9 hx => kr_out O hx)
  replace h := hq
  clear hq
  refine kr_aload_n O dX5_takeBack_23 rfl 1 rfl ?_
  obtain ⟨hco, h⟩ := h
  refine kr_caI (rest := [.int u2, va_rf p1]) O cd_X5_hour h (Nat.le_of_ble_eq_true rfl) (fun ls _ => kt_ivV (ci := 12) O dX5_takeBack_24 cd_X5_hour in_X5_hour (Or.inl q2582) q2584 qs45 hco (by decide) hy_X5_hour) (fun u4 M5 hq => ?_) (fun E q M9 hx => kr_out O hx)
  replace h := hq
  clear hq
  obtain ⟨b6, rfl, h⟩ := h
  obtain ⟨hw, h⟩ := h
  refine kr_iastore O dX5_takeBack_27 hw (kr_nmM fun M7 hM7 => ?_)
  replace h := h M7 hM7
  refine kr_aload_n O dX5_takeBack_28 rfl 1 rfl ?_
  obtain ⟨hco, h⟩ := h
  refine kr_caI (rest := []) O cd_X5_greatestOpen h (Nat.le_of_ble_eq_true rfl) (fun ls _ => kt_ivV (ci := 12) O dX5_takeBack_29 cd_X5_greatestOpen in_X5_greatestOpen (Or.inl q2778) q2780 qs76 hco (by decide) hy_X5_greatestOpen) (fun u8 M9 hq => ?_) (fun E q M9 hx => kr_out O hx)
  replace h := hq
  clear hq
  refine kr_istore_n O dX5_takeBack_32 rfl (Nat.le_of_ble_eq_true rfl) rfl rfl ?_
  refine kr_iload_n O dX5_takeBack_33 rfl 1 rfl ?_
  refine kr_if_eq (tgt := 55) O dX5_takeBack_34 rfl (fun hc => ?_) (fun hc => ?_)
  · replace h := h.1 hc
    refine kr_sub [2] rfl ?_
    exact cj_X5_takeBack_55 O  h
  · replace h := h.2 hc
    refine kr_iload_n O dX5_takeBack_37 rfl 0 rfl ?_
    refine kr_iconst O dX5_takeBack_38 (v := (-1 : Int32)) (by decide) ?_
    refine kr_icmp_eq (tgt := 55) O dX5_takeBack_39 rfl (fun hc => ?_) (fun hc => ?_)
    · replace h := h.1 hc
      refine kr_sub [2] rfl ?_
      exact cj_X5_takeBack_55 O  h
    · replace h := h.2 hc
      refine kr_aload_n O dX5_takeBack_42 rfl 2 rfl ?_
      obtain ⟨p10, ep10, h⟩ := h
      refine kr_getf O dX5_takeBack_43 fs_X5_25 ep10 ?_
      refine kr_iload_n O dX5_takeBack_46 rfl 0 rfl ?_
      refine kr_iconst O dX5_takeBack_47 (v := (1 : Int32)) (by decide) ?_
      refine kr_caI (rest := [va_rf p10]) O cd_X5_versionAt h (Nat.le_of_ble_eq_true rfl) (fun ls _ => kt_ivS O dX5_takeBack_48 cd_X5_versionAt in_X5_versionAt q2467 q2468 hy_X5_versionAt) (fun u11 M12 hq => ?_) (fun E q M9 hx => kr_out O hx)
      replace h := hq
      clear hq
      refine kr_sipush O dX5_takeBack_51 (v := (9999 : Int32)) (by decide) ?_
      obtain ⟨b13, rfl, h⟩ := h
      obtain ⟨hw, h⟩ := h
      refine kr_iastore O dX5_takeBack_54 hw (kr_nmM fun M14 hM14 => ?_)
      replace h := h M14 hM14
      refine kr_sub [2] rfl ?_
      exact cj_X5_takeBack_55 O  h
def vc_X5_takeBack (w : kt_W) (gr : kt_g × kt_M) (d : Nat) (P : Option Value → kt_M → Prop) (X : String → Nat → kt_M → Prop) (a0 : Nat) (v1 : Int32) (M : kt_M) : Prop :=
  (kt_co M a0 = some 12) ∧ 
  kt_Ca w gr d yX5_greatestLeft kc_X5_greatestLeft [va_rf (some a0)] M (kt_pI fun u1 M2 => 
    ((¬ u1 = v1 → vc_X5_takeBack_13 w gr d P X  a0 v1 (0 : Int32) M2) ∧
    (u1 = v1 → vc_X5_takeBack_13 w gr d P X  a0 v1 (1 : Int32) M2))) X
theorem ce_X5_takeBack {w : kt_W} {g : kt_g} {d : Nat} {P : Option Value → kt_M → Prop} {X : String → Nat → kt_M → Prop} {a0 : Nat} {v1 : Int32} {M : kt_M} (h : vc_X5_takeBack w (g, M) d P X a0 v1 M) : kt_Sp w g (d + 1) yX5_takeBack kc_X5_takeBack [va_rf (some a0), .int v1] M P X := by
  refine kt_of (L0 := [(0, va_rf (some a0)), (1, .int v1)]) (by decide +kernel) (Nat.le_of_ble_eq_true rfl) rfl fun x O => ?_
  replace O : kt_O w x (g, M) (d + 1) cX5_takeBack "KeyTurnsModel" 4 ("takeBack", "(I)Z") (Option.some Jvm.ClassFile.FieldType.boolean) [] := O
  unfold vc_X5_takeBack at h
  refine kr_aload_n O dX5_takeBack_0 rfl 0 rfl ?_
  obtain ⟨hco, h⟩ := h
  refine kr_caI (rest := []) O cd_X5_greatestLeft h (Nat.le_of_ble_eq_true rfl) (fun ls _ => kt_ivV (ci := 12) O dX5_takeBack_1 cd_X5_greatestLeft in_X5_greatestLeft (Or.inl q2774) q2776 qs75 hco (by decide) hy_X5_greatestLeft) (fun u1 M2 hq => ?_) (fun E q M9 hx => kr_out O hx)
  replace h := hq
  clear hq
  refine kr_iload_n O dX5_takeBack_4 rfl 1 rfl ?_
  refine kr_icmp_ne (tgt := 12) O dX5_takeBack_5 rfl (fun hc => ?_) (fun hc => ?_)
  · replace h := h.1 hc
    refine kr_iconst O dX5_takeBack_12 (v := (0 : Int32)) (by decide) ?_
    exact cj_X5_takeBack_13 O  h
  · replace h := h.2 hc
    refine kr_iconst O dX5_takeBack_8 (v := (1 : Int32)) (by decide) ?_
    refine kr_goto (tgt := 13) O dX5_takeBack_9 rfl ?_
    exact cj_X5_takeBack_13 O  h
def vc_X5_greatestLeft_4 (w : kt_W) (gr : kt_g × kt_M) (d : Nat) (P : Option Value → kt_M → Prop) (X : String → Nat → kt_M → Prop) (nx4 : Int32 → Int32 → kt_M → Prop) (a0 : Nat) (v1 : Int32) (v2 : Int32) (M : kt_M) : Prop :=
  ∃ p1, kt_gf M a0 73 = some (va_rf p1) ∧ ∃ b2, p1 = some b2 ∧ ∃ u3, kt_el 0 M b2 (1 : Int32) = some (.int u3) ∧ 
    ((u3 ≤ v2 → P (some (.int v1)) M) ∧
    (¬ u3 ≤ v2 → (kt_co M a0 = some 12) ∧ 
    kt_Ca w gr d yX5_isGone kc_X5_isGone [va_rf (some a0), .int v2] M (kt_pI fun u4 M5 => 
      ((u4 = 0 → nx4 v2 (v2 + (1 : Int32)) M5) ∧
      (¬ u4 = 0 → nx4 v1 (v2 + (1 : Int32)) M5))) X))
theorem cj_X5_greatestLeft_4 {w : kt_W} {x : kt_X} {gr : kt_g × kt_M} {d : Nat} {P : Option Value → kt_M → Prop} {X : String → Nat → kt_M → Prop} {nx4 : Int32 → Int32 → kt_M → Prop} {a0 : Nat} {v1 : Int32} {v2 : Int32} {M : kt_M} (O : kt_O w x gr (d + 1) cX5_greatestLeft "KeyTurnsModel" 3 ("greatestLeft", "()I") (Option.some Jvm.ClassFile.FieldType.int) []) (hn4 : ∀ v1 v2 M, nx4 v1 v2 M → kt_S w x 3 (kt_E w x P X) M 4 [(0, va_rf (some a0)), (1, .int v1), (2, .int v2)] []) (h : vc_X5_greatestLeft_4 w gr d P X nx4 a0 v1 v2 M) : kt_S w x 3 (kt_E w x P X) M 4 [(0, va_rf (some a0)), (1, .int v1), (2, .int v2)] [] := by
  unfold vc_X5_greatestLeft_4 at h
  refine kr_iload_n O dX5_greatestLeft_4 rfl 2 rfl ?_
  refine kr_aload_n O dX5_greatestLeft_5 rfl 0 rfl ?_
  obtain ⟨p1, ep1, h⟩ := h
  refine kr_getf O dX5_greatestLeft_6 fs_X5_25 ep1 ?_
  refine kr_iconst O dX5_greatestLeft_9 (v := (1 : Int32)) (by decide) ?_
  obtain ⟨b2, rfl, h⟩ := h
  obtain ⟨u3, eu3, h⟩ := h
  refine kr_iaload O dX5_greatestLeft_10 eu3 ?_
  refine kr_icmp_ge (tgt := 34) O dX5_greatestLeft_11 rfl (fun hc => ?_) (fun hc => ?_)
  · replace h := h.1 hc
    refine kr_iload_n O dX5_greatestLeft_34 rfl 1 rfl ?_
    exact kr_iret O dX5_greatestLeft_35 rfl h
  · replace h := h.2 hc
    refine kr_aload_n O dX5_greatestLeft_14 rfl 0 rfl ?_
    refine kr_iload_n O dX5_greatestLeft_15 rfl 2 rfl ?_
    obtain ⟨hco, h⟩ := h
    refine kr_caI (rest := []) O cd_X5_isGone h (Nat.le_of_ble_eq_true rfl) (fun ls _ => kt_ivV (ci := 12) O dX5_greatestLeft_16 cd_X5_isGone in_X5_isGone (Or.inl q2578) q2580 qs44 hco (by decide) hy_X5_isGone) (fun u4 M5 hq => ?_) (fun E q M9 hx => kr_out O hx)
    replace h := hq
    clear hq
    refine kr_if_eq (tgt := 26) O dX5_greatestLeft_19 rfl (fun hc => ?_) (fun hc => ?_)
    · replace h := h.1 hc
      refine kr_iload_n O dX5_greatestLeft_26 rfl 2 rfl ?_
      refine kr_istore_n O dX5_greatestLeft_27 rfl (Nat.le_of_ble_eq_true rfl) rfl rfl ?_
      refine kr_iinc O dX5_greatestLeft_28 2 rfl (v := v2 + (1 : Int32)) rfl (Nat.le_of_ble_eq_true rfl) rfl rfl ?_
      refine kr_goto (tgt := 4) O dX5_greatestLeft_31 rfl ?_
      refine kr_sub [2, 1, 0] rfl ?_
      exact hn4 _ _ _ h
    · replace h := h.2 hc
      refine kr_iload_n O dX5_greatestLeft_22 rfl 1 rfl ?_
      refine kr_goto (tgt := 27) O dX5_greatestLeft_23 rfl ?_
      refine kr_istore_n O dX5_greatestLeft_27 rfl (Nat.le_of_ble_eq_true rfl) rfl rfl ?_
      refine kr_iinc O dX5_greatestLeft_28 2 rfl (v := v2 + (1 : Int32)) rfl (Nat.le_of_ble_eq_true rfl) rfl rfl ?_
      refine kr_goto (tgt := 4) O dX5_greatestLeft_31 rfl ?_
      refine kr_sub [2, 1, 0] rfl ?_
      exact hn4 _ _ _ h
def vl_X5_greatestLeft_4 (w : kt_W) (gr : kt_g × kt_M) (d : Nat) (P : Option Value → kt_M → Prop) (X : String → Nat → kt_M → Prop)  (a0 : Nat) (v1 : Int32) (v2 : Int32) (M : kt_M) : Prop :=
  ∃ Inv : Nat → Int32 → Int32 → kt_M → Prop, (∃ k, Inv k v1 v2 M) ∧ ∀ k v1 v2 M, kt_le gr.1 gr.2 M → Inv k v1 v2 M → vc_X5_greatestLeft_4 w gr d P X (fun v1' v2' M' => ∃ k', k' < k ∧ Inv k' v1' v2' M') a0 v1 v2 M
theorem cl_X5_greatestLeft_4 {w : kt_W} {x : kt_X} {gr : kt_g × kt_M} {d : Nat} {P : Option Value → kt_M → Prop} {X : String → Nat → kt_M → Prop}  {a0 : Nat} {v1 : Int32} {v2 : Int32} {M : kt_M} (O : kt_O w x gr (d + 1) cX5_greatestLeft "KeyTurnsModel" 3 ("greatestLeft", "()I") (Option.some Jvm.ClassFile.FieldType.int) [])  (h : vl_X5_greatestLeft_4 w gr d P X  a0 v1 v2 M) : kt_S w x 3 (kt_E w x P X) M 4 [(0, va_rf (some a0)), (1, .int v1), (2, .int v2)] [] := by
  obtain ⟨Inv, ⟨k, hk⟩, hb⟩ := h
  induction k using Nat.strongRecOn generalizing v1 v2 M with
  | ind k ih =>
    exact kr_le O fun hle => cj_X5_greatestLeft_4 O (fun v1' v2' M' hi => let ⟨k', h1, h2⟩ := hi; ih k' h1 h2) (hb k _ _ _ hle hk)
def vc_X5_greatestLeft (w : kt_W) (gr : kt_g × kt_M) (d : Nat) (P : Option Value → kt_M → Prop) (X : String → Nat → kt_M → Prop) (a0 : Nat) (M : kt_M) : Prop :=
  vl_X5_greatestLeft_4 w gr d P X  a0 (-1 : Int32) (0 : Int32) M
theorem ce_X5_greatestLeft {w : kt_W} {g : kt_g} {d : Nat} {P : Option Value → kt_M → Prop} {X : String → Nat → kt_M → Prop} {a0 : Nat} {M : kt_M} (h : vc_X5_greatestLeft w (g, M) d P X a0 M) : kt_Sp w g (d + 1) yX5_greatestLeft kc_X5_greatestLeft [va_rf (some a0)] M P X := by
  refine kt_of (L0 := [(0, va_rf (some a0))]) (by decide +kernel) (Nat.le_of_ble_eq_true rfl) rfl fun x O => ?_
  replace O : kt_O w x (g, M) (d + 1) cX5_greatestLeft "KeyTurnsModel" 3 ("greatestLeft", "()I") (Option.some Jvm.ClassFile.FieldType.int) [] := O
  unfold vc_X5_greatestLeft at h
  refine kr_iconst O dX5_greatestLeft_0 (v := (-1 : Int32)) (by decide) ?_
  refine kr_istore_n O dX5_greatestLeft_1 rfl (Nat.le_of_ble_eq_true rfl) rfl rfl ?_
  refine kr_iconst O dX5_greatestLeft_2 (v := (0 : Int32)) (by decide) ?_
  refine kr_istore_n O dX5_greatestLeft_3 rfl (Nat.le_of_ble_eq_true rfl) rfl rfl ?_
  refine kr_sub [2, 1, 0] rfl ?_
  exact cl_X5_greatestLeft_4 O  h
def vc_X5_greatestOpen_4 (w : kt_W) (gr : kt_g × kt_M) (d : Nat) (P : Option Value → kt_M → Prop) (X : String → Nat → kt_M → Prop) (nx4 : Int32 → Int32 → kt_M → Prop) (a0 : Nat) (v1 : Int32) (v2 : Int32) (M : kt_M) : Prop :=
  ∃ p1, kt_gf M a0 73 = some (va_rf p1) ∧ ∃ b2, p1 = some b2 ∧ ∃ u3, kt_el 0 M b2 (1 : Int32) = some (.int u3) ∧ 
    ((u3 ≤ v2 → P (some (.int v1)) M) ∧
    (¬ u3 ≤ v2 → (kt_co M a0 = some 12) ∧ 
    kt_Ca w gr d yX5_stateOf kc_X5_stateOf [va_rf (some a0), .int v2] M (kt_pI fun u4 M5 => 
      (((1 : Int32) < u4 → nx4 v1 (v2 + (1 : Int32)) M5) ∧
      (¬ (1 : Int32) < u4 → nx4 v2 (v2 + (1 : Int32)) M5))) X))
theorem cj_X5_greatestOpen_4 {w : kt_W} {x : kt_X} {gr : kt_g × kt_M} {d : Nat} {P : Option Value → kt_M → Prop} {X : String → Nat → kt_M → Prop} {nx4 : Int32 → Int32 → kt_M → Prop} {a0 : Nat} {v1 : Int32} {v2 : Int32} {M : kt_M} (O : kt_O w x gr (d + 1) cX5_greatestOpen "KeyTurnsModel" 3 ("greatestOpen", "()I") (Option.some Jvm.ClassFile.FieldType.int) []) (hn4 : ∀ v1 v2 M, nx4 v1 v2 M → kt_S w x 3 (kt_E w x P X) M 4 [(0, va_rf (some a0)), (1, .int v1), (2, .int v2)] []) (h : vc_X5_greatestOpen_4 w gr d P X nx4 a0 v1 v2 M) : kt_S w x 3 (kt_E w x P X) M 4 [(0, va_rf (some a0)), (1, .int v1), (2, .int v2)] [] := by
  unfold vc_X5_greatestOpen_4 at h
  refine kr_iload_n O dX5_greatestOpen_4 rfl 2 rfl ?_
  refine kr_aload_n O dX5_greatestOpen_5 rfl 0 rfl ?_
  obtain ⟨p1, ep1, h⟩ := h
  refine kr_getf O dX5_greatestOpen_6 fs_X5_25 ep1 ?_
  refine kr_iconst O dX5_greatestOpen_9 (v := (1 : Int32)) (by decide) ?_
  obtain ⟨b2, rfl, h⟩ := h
  obtain ⟨u3, eu3, h⟩ := h
  refine kr_iaload O dX5_greatestOpen_10 eu3 ?_
  refine kr_icmp_ge (tgt := 35) O dX5_greatestOpen_11 rfl (fun hc => ?_) (fun hc => ?_)
  · replace h := h.1 hc
    refine kr_iload_n O dX5_greatestOpen_35 rfl 1 rfl ?_
    exact kr_iret O dX5_greatestOpen_36 rfl h
  · replace h := h.2 hc
    refine kr_aload_n O dX5_greatestOpen_14 rfl 0 rfl ?_
    refine kr_iload_n O dX5_greatestOpen_15 rfl 2 rfl ?_
    obtain ⟨hco, h⟩ := h
    refine kr_caI (rest := []) O cd_X5_stateOf h (Nat.le_of_ble_eq_true rfl) (fun ls _ => kt_ivV (ci := 12) O dX5_greatestOpen_16 cd_X5_stateOf in_X5_stateOf (Or.inl q2618) q2620 qs52 hco (by decide) hy_X5_stateOf) (fun u4 M5 hq => ?_) (fun E q M9 hx => kr_out O hx)
    replace h := hq
    clear hq
    refine kr_iconst O dX5_greatestOpen_19 (v := (1 : Int32)) (by decide) ?_
    refine kr_icmp_gt (tgt := 27) O dX5_greatestOpen_20 rfl (fun hc => ?_) (fun hc => ?_)
    · replace h := h.1 hc
      refine kr_iload_n O dX5_greatestOpen_27 rfl 1 rfl ?_
      refine kr_istore_n O dX5_greatestOpen_28 rfl (Nat.le_of_ble_eq_true rfl) rfl rfl ?_
      refine kr_iinc O dX5_greatestOpen_29 2 rfl (v := v2 + (1 : Int32)) rfl (Nat.le_of_ble_eq_true rfl) rfl rfl ?_
      refine kr_goto (tgt := 4) O dX5_greatestOpen_32 rfl ?_
      refine kr_sub [2, 1, 0] rfl ?_
      exact hn4 _ _ _ h
    · replace h := h.2 hc
      refine kr_iload_n O dX5_greatestOpen_23 rfl 2 rfl ?_
      refine kr_goto (tgt := 28) O dX5_greatestOpen_24 rfl ?_
      refine kr_istore_n O dX5_greatestOpen_28 rfl (Nat.le_of_ble_eq_true rfl) rfl rfl ?_
      refine kr_iinc O dX5_greatestOpen_29 2 rfl (v := v2 + (1 : Int32)) rfl (Nat.le_of_ble_eq_true rfl) rfl rfl ?_
      refine kr_goto (tgt := 4) O dX5_greatestOpen_32 rfl ?_
      refine kr_sub [2, 1, 0] rfl ?_
      exact hn4 _ _ _ h
def vl_X5_greatestOpen_4 (w : kt_W) (gr : kt_g × kt_M) (d : Nat) (P : Option Value → kt_M → Prop) (X : String → Nat → kt_M → Prop)  (a0 : Nat) (v1 : Int32) (v2 : Int32) (M : kt_M) : Prop :=
  ∃ Inv : Nat → Int32 → Int32 → kt_M → Prop, (∃ k, Inv k v1 v2 M) ∧ ∀ k v1 v2 M, kt_le gr.1 gr.2 M → Inv k v1 v2 M → vc_X5_greatestOpen_4 w gr d P X (fun v1' v2' M' => ∃ k', k' < k ∧ Inv k' v1' v2' M') a0 v1 v2 M
theorem cl_X5_greatestOpen_4 {w : kt_W} {x : kt_X} {gr : kt_g × kt_M} {d : Nat} {P : Option Value → kt_M → Prop} {X : String → Nat → kt_M → Prop}  {a0 : Nat} {v1 : Int32} {v2 : Int32} {M : kt_M} (O : kt_O w x gr (d + 1) cX5_greatestOpen "KeyTurnsModel" 3 ("greatestOpen", "()I") (Option.some Jvm.ClassFile.FieldType.int) [])  (h : vl_X5_greatestOpen_4 w gr d P X  a0 v1 v2 M) : kt_S w x 3 (kt_E w x P X) M 4 [(0, va_rf (some a0)), (1, .int v1), (2, .int v2)] [] := by
  obtain ⟨Inv, ⟨k, hk⟩, hb⟩ := h
  induction k using Nat.strongRecOn generalizing v1 v2 M with
  | ind k ih =>
    exact kr_le O fun hle => cj_X5_greatestOpen_4 O (fun v1' v2' M' hi => let ⟨k', h1, h2⟩ := hi; ih k' h1 h2) (hb k _ _ _ hle hk)
def vc_X5_greatestOpen (w : kt_W) (gr : kt_g × kt_M) (d : Nat) (P : Option Value → kt_M → Prop) (X : String → Nat → kt_M → Prop) (a0 : Nat) (M : kt_M) : Prop :=
  vl_X5_greatestOpen_4 w gr d P X  a0 (-1 : Int32) (0 : Int32) M
theorem ce_X5_greatestOpen {w : kt_W} {g : kt_g} {d : Nat} {P : Option Value → kt_M → Prop} {X : String → Nat → kt_M → Prop} {a0 : Nat} {M : kt_M} (h : vc_X5_greatestOpen w (g, M) d P X a0 M) : kt_Sp w g (d + 1) yX5_greatestOpen kc_X5_greatestOpen [va_rf (some a0)] M P X := by
  refine kt_of (L0 := [(0, va_rf (some a0))]) (by decide +kernel) (Nat.le_of_ble_eq_true rfl) rfl fun x O => ?_
  replace O : kt_O w x (g, M) (d + 1) cX5_greatestOpen "KeyTurnsModel" 3 ("greatestOpen", "()I") (Option.some Jvm.ClassFile.FieldType.int) [] := O
  unfold vc_X5_greatestOpen at h
  refine kr_iconst O dX5_greatestOpen_0 (v := (-1 : Int32)) (by decide) ?_
  refine kr_istore_n O dX5_greatestOpen_1 rfl (Nat.le_of_ble_eq_true rfl) rfl rfl ?_
  refine kr_iconst O dX5_greatestOpen_2 (v := (0 : Int32)) (by decide) ?_
  refine kr_istore_n O dX5_greatestOpen_3 rfl (Nat.le_of_ble_eq_true rfl) rfl rfl ?_
  refine kr_sub [2, 1, 0] rfl ?_
  exact cl_X5_greatestOpen_4 O  h
def vc_X5_meanWraps (w : kt_W) (gr : kt_g × kt_M) (d : Nat) (P : Option Value → kt_M → Prop) (X : String → Nat → kt_M → Prop) (a0 : Nat) (M : kt_M) : Prop :=
  kt_hf gr M a0 71 ∧ ∀ M1, M1 = kt_pf M a0 71 (.int (0 : Int32)) → (kt_co M1 a0 = some 12) ∧ 
  kt_Ca w gr d yX5_present kc_X5_present [va_rf (some a0)] M1 (kt_pI fun u2 M3 => 
    ((¬ u2 = 0 → (kt_co M3 a0 = some 12) ∧ 
    kt_Ca w gr d yX5_allWraps kc_X5_allWraps [va_rf (some a0)] M3 (kt_pI fun u4 M5 => (kt_co M5 a0 = some 12) ∧ 
    kt_Ca w gr d yX5_present kc_X5_present [va_rf (some a0)] M5 (kt_pI fun u6 M7 => vf_n64 (FP.ddiv (FP.i2d u4) (FP.i2d u6)) ∧ P (some (.double (FP.ddiv (FP.i2d u4) (FP.i2d u6)))) M7) X) X) ∧
    (u2 = 0 → P (some (.double FP.dconst0)) M3))) X
theorem ce_X5_meanWraps {w : kt_W} {g : kt_g} {d : Nat} {P : Option Value → kt_M → Prop} {X : String → Nat → kt_M → Prop} {a0 : Nat} {M : kt_M} (h : vc_X5_meanWraps w (g, M) d P X a0 M) : kt_Sp w g (d + 1) yX5_meanWraps kc_X5_meanWraps [va_rf (some a0)] M P X := by
  refine kt_of (L0 := [(0, va_rf (some a0))]) (by decide +kernel) (Nat.le_of_ble_eq_true rfl) rfl fun x O => ?_
  replace O : kt_O w x (g, M) (d + 1) cX5_meanWraps "KeyTurnsModel" 1 ("meanWraps", "()D") (Option.some Jvm.ClassFile.FieldType.double) [] := O
  unfold vc_X5_meanWraps at h
  refine kr_aload_n O dX5_meanWraps_0 rfl 0 rfl ?_
  refine kr_iconst O dX5_meanWraps_1 (v := (0 : Int32)) (by decide) ?_
  obtain ⟨hw, h⟩ := h
  refine kr_putf O dX5_meanWraps_2 fs_X5_71 (Or.inl rfl) ⟨rfl, rfl⟩ hw (kr_nmM fun M1 hM1 => ?_)
  replace h := h M1 hM1
  refine kr_aload_n O dX5_meanWraps_5 rfl 0 rfl ?_
  obtain ⟨hco, h⟩ := h
  refine kr_caI (rest := []) O cd_X5_present h (Nat.le_of_ble_eq_true rfl) (fun ls _ => kt_ivV (ci := 12) O dX5_meanWraps_6 cd_X5_present in_X5_present (Or.inl q2559) q2561 qs40 hco (by decide) hy_X5_present) (fun u2 M3 hq => ?_) (fun E q M9 hx => kr_out O hx)
  replace h := hq
  clear hq
  refine kr_if_ne (tgt := 16) O dX5_meanWraps_9 rfl (fun hc => ?_) (fun hc => ?_)
  · replace h := h.1 hc
    refine kr_aload_n O dX5_meanWraps_16 rfl 0 rfl ?_
    obtain ⟨hco, h⟩ := h
    refine kr_caI (rest := []) O cd_X5_allWraps h (Nat.le_of_ble_eq_true rfl) (fun ls _ => kt_ivV (ci := 12) O dX5_meanWraps_17 cd_X5_allWraps in_X5_allWraps (Or.inl q2593) q2595 qs47 hco (by decide) hy_X5_allWraps) (fun u4 M5 hq => ?_) (fun E q M9 hx => kr_out O hx)
    replace h := hq
    clear hq
    refine kr_i2d O dX5_meanWraps_20 ?_
    refine kr_aload_n O dX5_meanWraps_21 rfl 0 rfl ?_
    obtain ⟨hco, h⟩ := h
    refine kr_caI (rest := [.double (FP.i2d u4)]) O cd_X5_present h (Nat.le_of_ble_eq_true rfl) (fun ls _ => kt_ivV (ci := 12) O dX5_meanWraps_22 cd_X5_present in_X5_present (Or.inl q2559) q2561 qs40 hco (by decide) hy_X5_present) (fun u6 M7 hq => ?_) (fun E q M9 hx => kr_out O hx)
    replace h := hq
    clear hq
    refine kr_i2d O dX5_meanWraps_25 ?_
    obtain ⟨hne, h⟩ := h
    refine kr_ddiv O dX5_meanWraps_26 hne ?_
    exact kr_dret O dX5_meanWraps_27 h
  · replace h := h.2 hc
    refine kr_dconst0 O dX5_meanWraps_12 ?_
    refine kr_goto (tgt := 27) O dX5_meanWraps_13 rfl ?_
    exact kr_dret O dX5_meanWraps_27 h
def vc_X5_readable_9 (w : kt_W) (gr : kt_g × kt_M) (d : Nat) (P : Option Value → kt_M → Prop) (X : String → Nat → kt_M → Prop) (nx9 : Int32 → Int32 → kt_M → Prop) (a0 : Nat) (v1 : Int32) (v2 : Int32) (M : kt_M) : Prop :=
  ∃ p1, kt_gf M a0 65 = some (va_rf p1) ∧ ∃ b2, p1 = some b2 ∧ ∃ u3, kt_el 0 M b2 (3 : Int32) = some (.int u3) ∧ 
    ((u3 ≤ v2 → ∃ p4, kt_gf M a0 65 = some (va_rf p4) ∧ ∃ b5, p4 = some b5 ∧ ∃ u6, kt_el 0 M b5 (3 : Int32) = some (.int u6) ∧ (kt_co M a0 = some 12) ∧ 
    kt_Ca w gr d yX5_present kc_X5_present [va_rf (some a0)] M (kt_pI fun u7 M8 => 
      ((¬ (u6 * u7) = 0 → vf_n32 (FP.fdiv (FP.i2f v1) (FP.i2f (u6 * u7))) ∧ P (some (.float (FP.fdiv (FP.i2f v1) (FP.i2f (u6 * u7))))) M8) ∧
      ((u6 * u7) = 0 → P (some (.float FP.fconst1)) M8))) X) ∧
    (¬ u3 ≤ v2 → (kt_co M a0 = some 12) ∧ 
    kt_Ca w gr d yX5_readableBy kc_X5_readableBy [va_rf (some a0), .int v2] M (kt_pI fun u9 M10 => nx9 (v1 + u9) (v2 + (1 : Int32)) M10) X))
theorem cj_X5_readable_9 {w : kt_W} {x : kt_X} {gr : kt_g × kt_M} {d : Nat} {P : Option Value → kt_M → Prop} {X : String → Nat → kt_M → Prop} {nx9 : Int32 → Int32 → kt_M → Prop} {a0 : Nat} {v1 : Int32} {v2 : Int32} {M : kt_M} (O : kt_O w x gr (d + 1) cX5_readable "KeyTurnsModel" 3 ("readable", "()F") (Option.some Jvm.ClassFile.FieldType.float) []) (hn9 : ∀ v1 v2 M, nx9 v1 v2 M → kt_S w x 3 (kt_E w x P X) M 9 [(0, va_rf (some a0)), (1, .int v1), (2, .int v2)] []) (h : vc_X5_readable_9 w gr d P X nx9 a0 v1 v2 M) : kt_S w x 3 (kt_E w x P X) M 9 [(0, va_rf (some a0)), (1, .int v1), (2, .int v2)] [] := by
  unfold vc_X5_readable_9 at h
  refine kr_iload_n O dX5_readable_9 rfl 2 rfl ?_
  refine kr_aload_n O dX5_readable_10 rfl 0 rfl ?_
  obtain ⟨p1, ep1, h⟩ := h
  refine kr_getf O dX5_readable_11 fs_X5_9 ep1 ?_
  refine kr_iconst O dX5_readable_14 (v := (3 : Int32)) (by decide) ?_
  obtain ⟨b2, rfl, h⟩ := h
  obtain ⟨u3, eu3, h⟩ := h
  refine kr_iaload O dX5_readable_15 eu3 ?_
  refine kr_icmp_ge (tgt := 33) O dX5_readable_16 rfl (fun hc => ?_) (fun hc => ?_)
  · replace h := h.1 hc
    refine kr_aload_n O dX5_readable_33 rfl 0 rfl ?_
    obtain ⟨p4, ep4, h⟩ := h
    refine kr_getf O dX5_readable_34 fs_X5_9 ep4 ?_
    refine kr_iconst O dX5_readable_37 (v := (3 : Int32)) (by decide) ?_
    obtain ⟨b5, rfl, h⟩ := h
    obtain ⟨u6, eu6, h⟩ := h
    refine kr_iaload O dX5_readable_38 eu6 ?_
    refine kr_aload_n O dX5_readable_39 rfl 0 rfl ?_
    obtain ⟨hco, h⟩ := h
    refine kr_caI (rest := [.int u6]) O cd_X5_present h (Nat.le_of_ble_eq_true rfl) (fun ls _ => kt_ivV (ci := 12) O dX5_readable_40 cd_X5_present in_X5_present (Or.inl q2559) q2561 qs40 hco (by decide) hy_X5_present) (fun u7 M8 hq => ?_) (fun E q M9 hx => kr_out O hx)
    replace h := hq
    clear hq
    refine kr_imul O dX5_readable_43 ?_
    refine kr_istore_n O dX5_readable_44 rfl (Nat.le_of_ble_eq_true rfl) rfl rfl ?_
    refine kr_iload_n O dX5_readable_45 rfl 0 rfl ?_
    refine kr_if_ne (tgt := 53) O dX5_readable_46 rfl (fun hc => ?_) (fun hc => ?_)
    · replace h := h.1 hc
      refine kr_iload_n O dX5_readable_53 rfl 2 rfl ?_
      refine kr_i2f O dX5_readable_54 ?_
      refine kr_iload_n O dX5_readable_55 rfl 0 rfl ?_
      refine kr_i2f O dX5_readable_56 ?_
      obtain ⟨hne, h⟩ := h
      refine kr_fdiv O dX5_readable_57 hne ?_
      exact kr_fret O dX5_readable_58 h
    · replace h := h.2 hc
      refine kr_fconst1 O dX5_readable_49 ?_
      refine kr_goto (tgt := 58) O dX5_readable_50 rfl ?_
      exact kr_fret O dX5_readable_58 h
  · replace h := h.2 hc
    refine kr_iload_n O dX5_readable_19 rfl 1 rfl ?_
    refine kr_aload_n O dX5_readable_20 rfl 0 rfl ?_
    refine kr_iload_n O dX5_readable_21 rfl 2 rfl ?_
    obtain ⟨hco, h⟩ := h
    refine kr_caI (rest := [.int v1]) O cd_X5_readableBy h (Nat.le_of_ble_eq_true rfl) (fun ls _ => kt_ivV (ci := 12) O dX5_readable_22 cd_X5_readableBy in_X5_readableBy (Or.inl q2669) q2671 qs61 hco (by decide) hy_X5_readableBy) (fun u9 M10 hq => ?_) (fun E q M9 hx => kr_out O hx)
    replace h := hq
    clear hq
    refine kr_iadd O dX5_readable_25 ?_
    refine kr_istore_n O dX5_readable_26 rfl (Nat.le_of_ble_eq_true rfl) rfl rfl ?_
    refine kr_iinc O dX5_readable_27 2 rfl (v := v2 + (1 : Int32)) rfl (Nat.le_of_ble_eq_true rfl) rfl rfl ?_
    refine kr_goto (tgt := 9) O dX5_readable_30 rfl ?_
    refine kr_sub [2, 1, 0] rfl ?_
    exact hn9 _ _ _ h
def vl_X5_readable_9 (w : kt_W) (gr : kt_g × kt_M) (d : Nat) (P : Option Value → kt_M → Prop) (X : String → Nat → kt_M → Prop)  (a0 : Nat) (v1 : Int32) (v2 : Int32) (M : kt_M) : Prop :=
  ∃ Inv : Nat → Int32 → Int32 → kt_M → Prop, (∃ k, Inv k v1 v2 M) ∧ ∀ k v1 v2 M, kt_le gr.1 gr.2 M → Inv k v1 v2 M → vc_X5_readable_9 w gr d P X (fun v1' v2' M' => ∃ k', k' < k ∧ Inv k' v1' v2' M') a0 v1 v2 M
theorem cl_X5_readable_9 {w : kt_W} {x : kt_X} {gr : kt_g × kt_M} {d : Nat} {P : Option Value → kt_M → Prop} {X : String → Nat → kt_M → Prop}  {a0 : Nat} {v1 : Int32} {v2 : Int32} {M : kt_M} (O : kt_O w x gr (d + 1) cX5_readable "KeyTurnsModel" 3 ("readable", "()F") (Option.some Jvm.ClassFile.FieldType.float) [])  (h : vl_X5_readable_9 w gr d P X  a0 v1 v2 M) : kt_S w x 3 (kt_E w x P X) M 9 [(0, va_rf (some a0)), (1, .int v1), (2, .int v2)] [] := by
  obtain ⟨Inv, ⟨k, hk⟩, hb⟩ := h
  induction k using Nat.strongRecOn generalizing v1 v2 M with
  | ind k ih =>
    exact kr_le O fun hle => cj_X5_readable_9 O (fun v1' v2' M' hi => let ⟨k', h1, h2⟩ := hi; ih k' h1 h2) (hb k _ _ _ hle hk)
def vc_X5_readable (w : kt_W) (gr : kt_g × kt_M) (d : Nat) (P : Option Value → kt_M → Prop) (X : String → Nat → kt_M → Prop) (a0 : Nat) (M : kt_M) : Prop :=
  kt_hf gr M a0 71 ∧ ∀ M1, M1 = kt_pf M a0 71 (.int (0 : Int32)) → vl_X5_readable_9 w gr d P X  a0 (0 : Int32) (0 : Int32) M1
theorem ce_X5_readable {w : kt_W} {g : kt_g} {d : Nat} {P : Option Value → kt_M → Prop} {X : String → Nat → kt_M → Prop} {a0 : Nat} {M : kt_M} (h : vc_X5_readable w (g, M) d P X a0 M) : kt_Sp w g (d + 1) yX5_readable kc_X5_readable [va_rf (some a0)] M P X := by
  refine kt_of (L0 := [(0, va_rf (some a0))]) (by decide +kernel) (Nat.le_of_ble_eq_true rfl) rfl fun x O => ?_
  replace O : kt_O w x (g, M) (d + 1) cX5_readable "KeyTurnsModel" 3 ("readable", "()F") (Option.some Jvm.ClassFile.FieldType.float) [] := O
  unfold vc_X5_readable at h
  refine kr_aload_n O dX5_readable_0 rfl 0 rfl ?_
  refine kr_iconst O dX5_readable_1 (v := (0 : Int32)) (by decide) ?_
  obtain ⟨hw, h⟩ := h
  refine kr_putf O dX5_readable_2 fs_X5_71 (Or.inl rfl) ⟨rfl, rfl⟩ hw (kr_nmM fun M1 hM1 => ?_)
  replace h := h M1 hM1
  refine kr_iconst O dX5_readable_5 (v := (0 : Int32)) (by decide) ?_
  refine kr_istore_n O dX5_readable_6 rfl (Nat.le_of_ble_eq_true rfl) rfl rfl ?_
  refine kr_iconst O dX5_readable_7 (v := (0 : Int32)) (by decide) ?_
  refine kr_istore_n O dX5_readable_8 rfl (Nat.le_of_ble_eq_true rfl) rfl rfl ?_
  refine kr_sub [2, 1, 0] rfl ?_
  exact cl_X5_readable_9 O  h
def vc_X5_pass_45 (w : kt_W) (gr : kt_g × kt_M) (d : Nat) (P : Option Value → kt_M → Prop) (X : String → Nat → kt_M → Prop) (nx45 : Int32 → Int32 → kt_M → Prop) (a0 : Nat) (v1 : Int32) (v2 : Int32) (v3 : Int32) (M : kt_M) : Prop :=
  
    ((v1 ≤ v3 → P (some (.int v2)) M) ∧
    (¬ v1 ≤ v3 → (kt_co M a0 = some 12) ∧ 
    kt_Ca w gr d yX5_passHour kc_X5_passHour [va_rf (some a0)] M (kt_pI fun u1 M2 => nx45 (v2 + u1) (v3 + (1 : Int32)) M2) X))
theorem cj_X5_pass_45 {w : kt_W} {x : kt_X} {gr : kt_g × kt_M} {d : Nat} {P : Option Value → kt_M → Prop} {X : String → Nat → kt_M → Prop} {nx45 : Int32 → Int32 → kt_M → Prop} {a0 : Nat} {v1 : Int32} {v2 : Int32} {v3 : Int32} {M : kt_M} (O : kt_O w x gr (d + 1) cX5_pass "KeyTurnsModel" 4 ("pass", "(I)I") (Option.some Jvm.ClassFile.FieldType.int) []) (hn45 : ∀ v2 v3 M, nx45 v2 v3 M → kt_S w x 4 (kt_E w x P X) M 45 [(0, va_rf (some a0)), (1, .int v1), (2, .int v2), (3, .int v3)] []) (h : vc_X5_pass_45 w gr d P X nx45 a0 v1 v2 v3 M) : kt_S w x 4 (kt_E w x P X) M 45 [(0, va_rf (some a0)), (1, .int v1), (2, .int v2), (3, .int v3)] [] := by
  unfold vc_X5_pass_45 at h
  refine kr_iload_n O dX5_pass_45 rfl 3 rfl ?_
  refine kr_iload_n O dX5_pass_46 rfl 1 rfl ?_
  refine kr_icmp_ge (tgt := 63) O dX5_pass_47 rfl (fun hc => ?_) (fun hc => ?_)
  · replace h := h.1 hc
    refine kr_iload_n O dX5_pass_63 rfl 2 rfl ?_
    exact kr_iret O dX5_pass_64 rfl h
  · replace h := h.2 hc
    refine kr_iload_n O dX5_pass_50 rfl 2 rfl ?_
    refine kr_aload_n O dX5_pass_51 rfl 0 rfl ?_
    obtain ⟨hco, h⟩ := h
    refine kr_caI (rest := [.int v2]) O cd_X5_passHour h (Nat.le_of_ble_eq_true rfl) (fun ls _ => kt_ivV (ci := 12) O dX5_pass_52 cd_X5_passHour in_X5_passHour (Or.inl q2722) q2724 qs65 hco (by decide) hy_X5_passHour) (fun u1 M2 hq => ?_) (fun E q M9 hx => kr_out O hx)
    replace h := hq
    clear hq
    refine kr_iadd O dX5_pass_55 ?_
    refine kr_istore_n O dX5_pass_56 rfl (Nat.le_of_ble_eq_true rfl) rfl rfl ?_
    refine kr_iinc O dX5_pass_57 3 rfl (v := v3 + (1 : Int32)) rfl (Nat.le_of_ble_eq_true rfl) rfl rfl ?_
    refine kr_goto (tgt := 45) O dX5_pass_60 rfl ?_
    refine kr_sub [2, 3, 1, 0] rfl ?_
    exact hn45 _ _ _ h
def vl_X5_pass_45 (w : kt_W) (gr : kt_g × kt_M) (d : Nat) (P : Option Value → kt_M → Prop) (X : String → Nat → kt_M → Prop)  (a0 : Nat) (v1 : Int32) (v2 : Int32) (v3 : Int32) (M : kt_M) : Prop :=
  ∃ Inv : Nat → Int32 → Int32 → kt_M → Prop, (∃ k, Inv k v2 v3 M) ∧ ∀ k v2 v3 M, kt_le gr.1 gr.2 M → Inv k v2 v3 M → vc_X5_pass_45 w gr d P X (fun v2' v3' M' => ∃ k', k' < k ∧ Inv k' v2' v3' M') a0 v1 v2 v3 M
theorem cl_X5_pass_45 {w : kt_W} {x : kt_X} {gr : kt_g × kt_M} {d : Nat} {P : Option Value → kt_M → Prop} {X : String → Nat → kt_M → Prop}  {a0 : Nat} {v1 : Int32} {v2 : Int32} {v3 : Int32} {M : kt_M} (O : kt_O w x gr (d + 1) cX5_pass "KeyTurnsModel" 4 ("pass", "(I)I") (Option.some Jvm.ClassFile.FieldType.int) [])  (h : vl_X5_pass_45 w gr d P X  a0 v1 v2 v3 M) : kt_S w x 4 (kt_E w x P X) M 45 [(0, va_rf (some a0)), (1, .int v1), (2, .int v2), (3, .int v3)] [] := by
  obtain ⟨Inv, ⟨k, hk⟩, hb⟩ := h
  induction k using Nat.strongRecOn generalizing v2 v3 M with
  | ind k ih =>
    exact kr_le O fun hle => cj_X5_pass_45 O (fun v2' v3' M' hi => let ⟨k', h1, h2⟩ := hi; ih k' h1 h2) (hb k _ _ _ hle hk)
def vc_X5_pass (w : kt_W) (gr : kt_g × kt_M) (d : Nat) (P : Option Value → kt_M → Prop) (X : String → Nat → kt_M → Prop) (a0 : Nat) (v1 : Int32) (M : kt_M) : Prop :=
  kt_hf gr M a0 71 ∧ ∀ M1, M1 = kt_pf M a0 71 (.int (0 : Int32)) → 
  kt_Ca w gr d yX5_inRange kc_X5_inRange [.int v1, .int (1 : Int32), .int (200 : Int32)] M1 (kt_pI fun u2 M3 => 
    ((¬ u2 = 0 → (kt_co M3 a0 = some 12) ∧ 
    kt_Ca w gr d yX5_hour kc_X5_hour [va_rf (some a0)] M3 (kt_pI fun u4 M5 => 
      (((u4 + v1) ≤ (9999 : Int32) → (kt_co M5 a0 = some 12) ∧ 
      kt_Ca w gr d yX5_keep kc_X5_keep [va_rf (some a0)] M5 (kt_pV fun M6 => vl_X5_pass_45 w gr d P X  a0 v1 (0 : Int32) (0 : Int32) M6) X) ∧
      (¬ (u4 + v1) ≤ (9999 : Int32) → P (some (.int (-2 : Int32))) M5))) X) ∧
    (u2 = 0 → (kt_co M3 a0 = some 12) ∧ 
    kt_Ca w gr d yX5_raise kc_X5_raise [va_rf (some a0), .int (1 : Int32)] M3 (kt_pI fun u7 M8 => P (some (.int u7)) M8) X))) X
theorem ce_X5_pass {w : kt_W} {g : kt_g} {d : Nat} {P : Option Value → kt_M → Prop} {X : String → Nat → kt_M → Prop} {a0 : Nat} {v1 : Int32} {M : kt_M} (h : vc_X5_pass w (g, M) d P X a0 v1 M) : kt_Sp w g (d + 1) yX5_pass kc_X5_pass [va_rf (some a0), .int v1] M P X := by
  refine kt_of (L0 := [(0, va_rf (some a0)), (1, .int v1)]) (by decide +kernel) (Nat.le_of_ble_eq_true rfl) rfl fun x O => ?_
  replace O : kt_O w x (g, M) (d + 1) cX5_pass "KeyTurnsModel" 4 ("pass", "(I)I") (Option.some Jvm.ClassFile.FieldType.int) [] := O
  unfold vc_X5_pass at h
  refine kr_aload_n O dX5_pass_0 rfl 0 rfl ?_
  refine kr_iconst O dX5_pass_1 (v := (0 : Int32)) (by decide) ?_
  obtain ⟨hw, h⟩ := h
  refine kr_putf O dX5_pass_2 fs_X5_71 (Or.inl rfl) ⟨rfl, rfl⟩ hw (kr_nmM fun M1 hM1 => ?_)
  replace h := h M1 hM1
  refine kr_iload_n O dX5_pass_5 rfl 1 rfl ?_
  refine kr_iconst O dX5_pass_6 (v := (1 : Int32)) (by decide) ?_
  refine kr_sipush O dX5_pass_7 (v := (200 : Int32)) (by decide) ?_
  refine kr_caI (rest := []) O cd_X5_inRange h (Nat.le_of_ble_eq_true rfl) (fun ls _ => kt_ivS O dX5_pass_10 cd_X5_inRange in_X5_inRange q2586 q2587 hy_X5_inRange) (fun u2 M3 hq => ?_) (fun E q M9 hx => kr_out O hx)
  replace h := hq
  clear hq
  refine kr_if_ne (tgt := 22) O dX5_pass_13 rfl (fun hc => ?_) (fun hc => ?_)
  · replace h := h.1 hc
    refine kr_aload_n O dX5_pass_22 rfl 0 rfl ?_
    obtain ⟨hco, h⟩ := h
    refine kr_caI (rest := []) O cd_X5_hour h (Nat.le_of_ble_eq_true rfl) (fun ls _ => kt_ivV (ci := 12) O dX5_pass_23 cd_X5_hour in_X5_hour (Or.inl q2582) q2584 qs45 hco (by decide) hy_X5_hour) (fun u4 M5 hq => ?_) (fun E q M9 hx => kr_out O hx)
    replace h := hq
    clear hq
    refine kr_iload_n O dX5_pass_26 rfl 1 rfl ?_
    refine kr_iadd O dX5_pass_27 ?_
    refine kr_sipush O dX5_pass_28 (v := (9999 : Int32)) (by decide) ?_
    refine kr_icmp_le (tgt := 37) O dX5_pass_31 rfl (fun hc => ?_) (fun hc => ?_)
    · replace h := h.1 hc
      refine kr_aload_n O dX5_pass_37 rfl 0 rfl ?_
      obtain ⟨hco, h⟩ := h
      refine kr_caV (rest := []) O cd_X5_keep h (Nat.le_of_ble_eq_true rfl) (fun ls _ => kt_ivV (ci := 12) O dX5_pass_38 cd_X5_keep in_X5_keep (Or.inl q2794) q2796 qs77 hco (by decide) hy_X5_keep) (fun M6 hq => ?_) (fun E q M9 hx => kr_out O hx)
      replace h := hq
      clear hq
      refine kr_iconst O dX5_pass_41 (v := (0 : Int32)) (by decide) ?_
      refine kr_istore_n O dX5_pass_42 rfl (Nat.le_of_ble_eq_true rfl) rfl rfl ?_
      refine kr_iconst O dX5_pass_43 (v := (0 : Int32)) (by decide) ?_
      refine kr_istore_n O dX5_pass_44 rfl (Nat.le_of_ble_eq_true rfl) rfl rfl ?_
      refine kr_sub [2, 3, 1, 0] rfl ?_
      exact cl_X5_pass_45 O  h
    · replace h := h.2 hc
      refine kr_bipush O dX5_pass_34 (v := (-2 : Int32)) (by decide) ?_
      exact kr_iret O dX5_pass_36 rfl h
  · replace h := h.2 hc
    refine kr_aload_n O dX5_pass_16 rfl 0 rfl ?_
    refine kr_iconst O dX5_pass_17 (v := (1 : Int32)) (by decide) ?_
    obtain ⟨hco, h⟩ := h
    refine kr_caI (rest := []) O cd_X5_raise h (Nat.le_of_ble_eq_true rfl) (fun ls _ => kt_ivV (ci := 12) O dX5_pass_18 cd_X5_raise in_X5_raise (Or.inl q2606) q2608 qs50 hco (by decide) hy_X5_raise) (fun u7 M8 hq => ?_) (fun E q M9 hx => kr_out O hx)
    replace h := hq
    clear hq
    exact kr_iret O dX5_pass_21 rfl h
def vc_X5_keep_48 (w : kt_W) (gr : kt_g × kt_M) (d : Nat) (P : Option Value → kt_M → Prop) (X : String → Nat → kt_M → Prop)  (a0 : Nat) (M : kt_M) : Prop :=
  ∃ p1, kt_gf M a0 65 = some (va_rf p1) ∧ ∃ p2, kt_gf M a0 69 = some (va_rf p2) ∧ ∃ u3, kt_gf M a0 70 = some (.int u3) ∧ 
  kt_Ca w gr d yX5_copy kc_X5_copy [va_rf p1, .int (0 : Int32), va_rf p2, .int u3] M (kt_pV fun M4 => ∃ u5, kt_gf M4 a0 70 = some (.int u5) ∧ kt_hf gr M4 a0 70 ∧ ∀ M6, M6 = kt_pf M4 a0 70 (.int (u5 + (1 : Int32))) → P none M6) X
theorem cj_X5_keep_48 {w : kt_W} {x : kt_X} {gr : kt_g × kt_M} {d : Nat} {P : Option Value → kt_M → Prop} {X : String → Nat → kt_M → Prop}  {a0 : Nat} {M : kt_M} (O : kt_O w x gr (d + 1) cX5_keep "KeyTurnsModel" 2 ("keep", "()V") (Option.none : Option Jvm.ClassFile.FieldType) [])  (h : vc_X5_keep_48 w gr d P X  a0 M) : kt_S w x 2 (kt_E w x P X) M 48 [(0, va_rf (some a0))] [] := by
  unfold vc_X5_keep_48 at h
  refine kr_aload_n O dX5_keep_48 rfl 0 rfl ?_
  obtain ⟨p1, ep1, h⟩ := h
  refine kr_getf O dX5_keep_49 fs_X5_9 ep1 ?_
  refine kr_iconst O dX5_keep_52 (v := (0 : Int32)) (by decide) ?_
  refine kr_aload_n O dX5_keep_53 rfl 0 rfl ?_
  obtain ⟨p2, ep2, h⟩ := h
  refine kr_getf O dX5_keep_54 fs_X5_22 ep2 ?_
  refine kr_aload_n O dX5_keep_57 rfl 0 rfl ?_
  obtain ⟨u3, eu3, h⟩ := h
  refine kr_getf O dX5_keep_58 fs_X5_251 eu3 ?_
  refine kr_caV (rest := []) O cd_X5_copy h (Nat.le_of_ble_eq_true rfl) (fun ls _ => kt_ivS O dX5_keep_61 cd_X5_copy in_X5_copy q2719 q2720 hy_X5_copy) (fun M4 hq => ?_) (fun E q M9 hx => kr_out O hx)
  replace h := hq
  clear hq
  refine kr_aload_n O dX5_keep_64 rfl 0 rfl ?_
  refine kr_dup O dX5_keep_65 (kt_nrf _) ?_
  obtain ⟨u5, eu5, h⟩ := h
  refine kr_getf O dX5_keep_66 fs_X5_251 eu5 ?_
  refine kr_iconst O dX5_keep_69 (v := (1 : Int32)) (by decide) ?_
  refine kr_iadd O dX5_keep_70 ?_
  obtain ⟨hw, h⟩ := h
  refine kr_putf O dX5_keep_71 fs_X5_251 (Or.inl rfl) ⟨rfl, rfl⟩ hw (kr_nmM fun M6 hM6 => ?_)
  replace h := h M6 hM6
  exact kr_vret O dX5_keep_74 h
def vc_X5_keep_11 (w : kt_W) (gr : kt_g × kt_M) (d : Nat) (P : Option Value → kt_M → Prop) (X : String → Nat → kt_M → Prop) (nx11 : Int32 → kt_M → Prop) (a0 : Nat) (v1 : Int32) (M : kt_M) : Prop :=
  
    (((10 : Int32) ≤ v1 → ∃ u1, kt_gf M a0 70 = some (.int u1) ∧ kt_hf gr M a0 70 ∧ ∀ M2, M2 = kt_pf M a0 70 (.int (u1 - (1 : Int32))) → vc_X5_keep_48 w gr d P X  a0 M2) ∧
    (¬ (10 : Int32) ≤ v1 → ∃ p3, kt_gf M a0 69 = some (va_rf p3) ∧ ∃ p4, kt_gf M a0 69 = some (va_rf p4) ∧ 
    kt_Ca w gr d yX5_copy kc_X5_copy [va_rf p3, .int v1, va_rf p4, .int (v1 - (1 : Int32))] M (kt_pV fun M5 => nx11 (v1 + (1 : Int32)) M5) X))
theorem cj_X5_keep_11 {w : kt_W} {x : kt_X} {gr : kt_g × kt_M} {d : Nat} {P : Option Value → kt_M → Prop} {X : String → Nat → kt_M → Prop} {nx11 : Int32 → kt_M → Prop} {a0 : Nat} {v1 : Int32} {M : kt_M} (O : kt_O w x gr (d + 1) cX5_keep "KeyTurnsModel" 2 ("keep", "()V") (Option.none : Option Jvm.ClassFile.FieldType) []) (hn11 : ∀ v1 M, nx11 v1 M → kt_S w x 2 (kt_E w x P X) M 11 [(0, va_rf (some a0)), (1, .int v1)] []) (h : vc_X5_keep_11 w gr d P X nx11 a0 v1 M) : kt_S w x 2 (kt_E w x P X) M 11 [(0, va_rf (some a0)), (1, .int v1)] [] := by
  unfold vc_X5_keep_11 at h
  refine kr_iload_n O dX5_keep_11 rfl 1 rfl ?_
  refine kr_bipush O dX5_keep_12 (v := (10 : Int32)) (by decide) ?_
  refine kr_icmp_ge (tgt := 38) O dX5_keep_14 rfl (fun hc => ?_) (fun hc => ?_)
  · replace h := h.1 hc
    refine kr_aload_n O dX5_keep_38 rfl 0 rfl ?_
    refine kr_dup O dX5_keep_39 (kt_nrf _) ?_
    obtain ⟨u1, eu1, h⟩ := h
    refine kr_getf O dX5_keep_40 fs_X5_251 eu1 ?_
    refine kr_iconst O dX5_keep_43 (v := (1 : Int32)) (by decide) ?_
    refine kr_isub O dX5_keep_44 ?_
    obtain ⟨hw, h⟩ := h
    refine kr_putf O dX5_keep_45 fs_X5_251 (Or.inl rfl) ⟨rfl, rfl⟩ hw (kr_nmM fun M2 hM2 => ?_)
    replace h := h M2 hM2
    refine kr_sub [0] rfl ?_
    exact cj_X5_keep_48 O  h
  · replace h := h.2 hc
    refine kr_aload_n O dX5_keep_17 rfl 0 rfl ?_
    obtain ⟨p3, ep3, h⟩ := h
    refine kr_getf O dX5_keep_18 fs_X5_22 ep3 ?_
    refine kr_iload_n O dX5_keep_21 rfl 1 rfl ?_
    refine kr_aload_n O dX5_keep_22 rfl 0 rfl ?_
    obtain ⟨p4, ep4, h⟩ := h
    refine kr_getf O dX5_keep_23 fs_X5_22 ep4 ?_
    refine kr_iload_n O dX5_keep_26 rfl 1 rfl ?_
    refine kr_iconst O dX5_keep_27 (v := (1 : Int32)) (by decide) ?_
    refine kr_isub O dX5_keep_28 ?_
    refine kr_caV (rest := []) O cd_X5_copy h (Nat.le_of_ble_eq_true rfl) (fun ls _ => kt_ivS O dX5_keep_29 cd_X5_copy in_X5_copy q2719 q2720 hy_X5_copy) (fun M5 hq => ?_) (fun E q M9 hx => kr_out O hx)
    replace h := hq
    clear hq
    refine kr_iinc O dX5_keep_32 1 rfl (v := v1 + (1 : Int32)) rfl (Nat.le_of_ble_eq_true rfl) rfl rfl ?_
    refine kr_goto (tgt := 11) O dX5_keep_35 rfl ?_
    refine kr_sub [1, 0] rfl ?_
    exact hn11 _ _ h
def vl_X5_keep_11 (w : kt_W) (gr : kt_g × kt_M) (d : Nat) (P : Option Value → kt_M → Prop) (X : String → Nat → kt_M → Prop)  (a0 : Nat) (v1 : Int32) (M : kt_M) : Prop :=
  ∃ Inv : Nat → Int32 → kt_M → Prop, (∃ k, Inv k v1 M) ∧ ∀ k v1 M, kt_le gr.1 gr.2 M → Inv k v1 M → vc_X5_keep_11 w gr d P X (fun v1' M' => ∃ k', k' < k ∧ Inv k' v1' M') a0 v1 M
theorem cl_X5_keep_11 {w : kt_W} {x : kt_X} {gr : kt_g × kt_M} {d : Nat} {P : Option Value → kt_M → Prop} {X : String → Nat → kt_M → Prop}  {a0 : Nat} {v1 : Int32} {M : kt_M} (O : kt_O w x gr (d + 1) cX5_keep "KeyTurnsModel" 2 ("keep", "()V") (Option.none : Option Jvm.ClassFile.FieldType) [])  (h : vl_X5_keep_11 w gr d P X  a0 v1 M) : kt_S w x 2 (kt_E w x P X) M 11 [(0, va_rf (some a0)), (1, .int v1)] [] := by
  obtain ⟨Inv, ⟨k, hk⟩, hb⟩ := h
  induction k using Nat.strongRecOn generalizing v1 M with
  | ind k ih =>
    exact kr_le O fun hle => cj_X5_keep_11 O (fun v1' M' hi => let ⟨k', h1, h2⟩ := hi; ih k' h1 h2) (hb k _ _ hle hk)
def vc_X5_keep (w : kt_W) (gr : kt_g × kt_M) (d : Nat) (P : Option Value → kt_M → Prop) (X : String → Nat → kt_M → Prop) (a0 : Nat) (M : kt_M) : Prop :=
  ∃ u1, kt_gf M a0 70 = some (.int u1) ∧ 
    ((¬ u1 = (10 : Int32) → vc_X5_keep_48 w gr d P X  a0 M) ∧
    (u1 = (10 : Int32) → vl_X5_keep_11 w gr d P X  a0 (1 : Int32) M))
theorem ce_X5_keep {w : kt_W} {g : kt_g} {d : Nat} {P : Option Value → kt_M → Prop} {X : String → Nat → kt_M → Prop} {a0 : Nat} {M : kt_M} (h : vc_X5_keep w (g, M) d P X a0 M) : kt_Sp w g (d + 1) yX5_keep kc_X5_keep [va_rf (some a0)] M P X := by
  refine kt_of (L0 := [(0, va_rf (some a0))]) (by decide +kernel) (Nat.le_of_ble_eq_true rfl) rfl fun x O => ?_
  replace O : kt_O w x (g, M) (d + 1) cX5_keep "KeyTurnsModel" 2 ("keep", "()V") (Option.none : Option Jvm.ClassFile.FieldType) [] := O
  unfold vc_X5_keep at h
  refine kr_aload_n O dX5_keep_0 rfl 0 rfl ?_
  obtain ⟨u1, eu1, h⟩ := h
  refine kr_getf O dX5_keep_1 fs_X5_251 eu1 ?_
  refine kr_bipush O dX5_keep_4 (v := (10 : Int32)) (by decide) ?_
  refine kr_icmp_ne (tgt := 48) O dX5_keep_6 rfl (fun hc => ?_) (fun hc => ?_)
  · replace h := h.1 hc
    exact cj_X5_keep_48 O  h
  · replace h := h.2 hc
    refine kr_iconst O dX5_keep_9 (v := (1 : Int32)) (by decide) ?_
    refine kr_istore_n O dX5_keep_10 rfl (Nat.le_of_ble_eq_true rfl) rfl rfl ?_
    refine kr_sub [1, 0] rfl ?_
    exact cl_X5_keep_11 O  h
def vc_X5_rotate (w : kt_W) (gr : kt_g × kt_M) (d : Nat) (P : Option Value → kt_M → Prop) (X : String → Nat → kt_M → Prop) (a0 : Nat) (M : kt_M) : Prop :=
  kt_hf gr M a0 71 ∧ ∀ M1, M1 = kt_pf M a0 71 (.int (0 : Int32)) → ∃ p2, kt_gf M1 a0 65 = some (va_rf p2) ∧ ∃ b3, p2 = some b3 ∧ ∃ u4, kt_el 0 M1 b3 (1 : Int32) = some (.int u4) ∧ (kt_co M1 a0 = some 12) ∧ 
  kt_Ca w gr d yX5_ofVersion kc_X5_ofVersion [va_rf (some a0), .int (u4 - (1 : Int32)), .int (0 : Int32)] M1 (kt_pI fun u5 M6 => (kt_co M6 a0 = some 12) ∧ 
  kt_Ca w gr d yX5_hour kc_X5_hour [va_rf (some a0)] M6 (kt_pI fun u7 M8 => 
    ((u5 ≤ u7 → ∃ p9, kt_gf M8 a0 65 = some (va_rf p9) ∧ ∃ b10, p9 = some b10 ∧ ∃ u11, kt_el 0 M8 b10 (1 : Int32) = some (.int u11) ∧ 
      ((¬ u11 = (30 : Int32) → (kt_co M8 a0 = some 12) ∧ 
      kt_Ca w gr d yX5_hour kc_X5_hour [va_rf (some a0)] M8 (kt_pI fun u12 M13 => ∃ p14, kt_gf M13 a0 65 = some (va_rf p14) ∧ ∃ b15, p14 = some b15 ∧ ∃ u16, kt_el 0 M13 b15 (6 : Int32) = some (.int u16) ∧ 
        (((u12 + u16) ≤ (9999 : Int32) → (kt_co M13 a0 = some 12) ∧ 
        kt_Ca w gr d yX5_keep kc_X5_keep [va_rf (some a0)] M13 (kt_pV fun M17 => (kt_co M17 a0 = some 12) ∧ 
        kt_Ca w gr d yX5_hour kc_X5_hour [va_rf (some a0)] M17 (kt_pI fun u18 M19 => ∃ p20, kt_gf M19 a0 65 = some (va_rf p20) ∧ ∃ b21, p20 = some b21 ∧ ∃ u22, kt_el 0 M19 b21 (6 : Int32) = some (.int u22) ∧ (kt_co M19 a0 = some 12) ∧ 
        kt_Ca w gr d yX5_issue kc_X5_issue [va_rf (some a0), .int (u18 + u22)] M19 (kt_pV fun M23 => (kt_co M23 a0 = some 12) ∧ 
        kt_Ca w gr d yX5_clean kc_X5_clean [va_rf (some a0)] M23 (kt_pI fun u24 M25 => ∃ p26, kt_gf M25 a0 65 = some (va_rf p26) ∧ ∃ b27, p26 = some b27 ∧ ∃ u28, kt_el 0 M25 b27 (1 : Int32) = some (.int u28) ∧ P (some (.int (u28 - (1 : Int32)))) M25) X) X) X) X) ∧
        (¬ (u12 + u16) ≤ (9999 : Int32) → P (some (.int (-4 : Int32))) M13))) X) ∧
      (u11 = (30 : Int32) → P (some (.int (-3 : Int32))) M8))) ∧
    (¬ u5 ≤ u7 → P (some (.int (-2 : Int32))) M8))) X) X
theorem ce_X5_rotate {w : kt_W} {g : kt_g} {d : Nat} {P : Option Value → kt_M → Prop} {X : String → Nat → kt_M → Prop} {a0 : Nat} {M : kt_M} (h : vc_X5_rotate w (g, M) d P X a0 M) : kt_Sp w g (d + 1) yX5_rotate kc_X5_rotate [va_rf (some a0)] M P X := by
  refine kt_of (L0 := [(0, va_rf (some a0))]) (by decide +kernel) (Nat.le_of_ble_eq_true rfl) rfl fun x O => ?_
  replace O : kt_O w x (g, M) (d + 1) cX5_rotate "KeyTurnsModel" 2 ("rotate", "()I") (Option.some Jvm.ClassFile.FieldType.int) [] := O
  unfold vc_X5_rotate at h
  refine kr_aload_n O dX5_rotate_0 rfl 0 rfl ?_
  refine kr_iconst O dX5_rotate_1 (v := (0 : Int32)) (by decide) ?_
  obtain ⟨hw, h⟩ := h
  refine kr_putf O dX5_rotate_2 fs_X5_71 (Or.inl rfl) ⟨rfl, rfl⟩ hw (kr_nmM fun M1 hM1 => ?_)
  replace h := h M1 hM1
  refine kr_aload_n O dX5_rotate_5 rfl 0 rfl ?_
  refine kr_aload_n O dX5_rotate_6 rfl 0 rfl ?_
  obtain ⟨p2, ep2, h⟩ := h
  refine kr_getf O dX5_rotate_7 fs_X5_9 ep2 ?_
  refine kr_iconst O dX5_rotate_10 (v := (1 : Int32)) (by decide) ?_
  obtain ⟨b3, rfl, h⟩ := h
  obtain ⟨u4, eu4, h⟩ := h
  refine kr_iaload O dX5_rotate_11 eu4 ?_
  refine kr_iconst O dX5_rotate_12 (v := (1 : Int32)) (by decide) ?_
  refine kr_isub O dX5_rotate_13 ?_
  refine kr_iconst O dX5_rotate_14 (v := (0 : Int32)) (by decide) ?_
  obtain ⟨hco, h⟩ := h
  refine kr_caI (rest := []) O cd_X5_ofVersion h (Nat.le_of_ble_eq_true rfl) (fun ls _ => kt_ivV (ci := 12) O dX5_rotate_15 cd_X5_ofVersion in_X5_ofVersion (Or.inl q2470) q2472 qs39 hco (by decide) hy_X5_ofVersion) (fun u5 M6 hq => ?_) (fun E q M9 hx => kr_out O hx)
  replace h := hq
  clear hq
  refine kr_aload_n O dX5_rotate_18 rfl 0 rfl ?_
  obtain ⟨hco, h⟩ := h
  refine kr_caI (rest := [.int u5]) O cd_X5_hour h (Nat.le_of_ble_eq_true rfl) (fun ls _ => kt_ivV (ci := 12) O dX5_rotate_19 cd_X5_hour in_X5_hour (Or.inl q2582) q2584 qs45 hco (by decide) hy_X5_hour) (fun u7 M8 hq => ?_) (fun E q M9 hx => kr_out O hx)
  replace h := hq
  clear hq
  refine kr_icmp_le (tgt := 28) O dX5_rotate_22 rfl (fun hc => ?_) (fun hc => ?_)
  · replace h := h.1 hc
    refine kr_aload_n O dX5_rotate_28 rfl 0 rfl ?_
    obtain ⟨p9, ep9, h⟩ := h
    refine kr_getf O dX5_rotate_29 fs_X5_9 ep9 ?_
    refine kr_iconst O dX5_rotate_32 (v := (1 : Int32)) (by decide) ?_
    obtain ⟨b10, rfl, h⟩ := h
    obtain ⟨u11, eu11, h⟩ := h
    refine kr_iaload O dX5_rotate_33 eu11 ?_
    refine kr_bipush O dX5_rotate_34 (v := (30 : Int32)) (by decide) ?_
    refine kr_icmp_ne (tgt := 42) O dX5_rotate_36 rfl (fun hc => ?_) (fun hc => ?_)
    · replace h := h.1 hc
      refine kr_aload_n O dX5_rotate_42 rfl 0 rfl ?_
      obtain ⟨hco, h⟩ := h
      refine kr_caI (rest := []) O cd_X5_hour h (Nat.le_of_ble_eq_true rfl) (fun ls _ => kt_ivV (ci := 12) O dX5_rotate_43 cd_X5_hour in_X5_hour (Or.inl q2582) q2584 qs45 hco (by decide) hy_X5_hour) (fun u12 M13 hq => ?_) (fun E q M9 hx => kr_out O hx)
      replace h := hq
      clear hq
      refine kr_aload_n O dX5_rotate_46 rfl 0 rfl ?_
      obtain ⟨p14, ep14, h⟩ := h
      refine kr_getf O dX5_rotate_47 fs_X5_9 ep14 ?_
      refine kr_bipush O dX5_rotate_50 (v := (6 : Int32)) (by decide) ?_
      obtain ⟨b15, rfl, h⟩ := h
      obtain ⟨u16, eu16, h⟩ := h
      refine kr_iaload O dX5_rotate_52 eu16 ?_
      refine kr_iadd O dX5_rotate_53 ?_
      refine kr_sipush O dX5_rotate_54 (v := (9999 : Int32)) (by decide) ?_
      refine kr_icmp_le (tgt := 63) O dX5_rotate_57 rfl (fun hc => ?_) (fun hc => ?_)
      · replace h := h.1 hc
        refine kr_aload_n O dX5_rotate_63 rfl 0 rfl ?_
        obtain ⟨hco, h⟩ := h
        refine kr_caV (rest := []) O cd_X5_keep h (Nat.le_of_ble_eq_true rfl) (fun ls _ => kt_ivV (ci := 12) O dX5_rotate_64 cd_X5_keep in_X5_keep (Or.inl q2794) q2796 qs77 hco (by decide) hy_X5_keep) (fun M17 hq => ?_) (fun E q M9 hx => kr_out O hx)
        replace h := hq
        clear hq
        refine kr_aload_n O dX5_rotate_67 rfl 0 rfl ?_
        refine kr_aload_n O dX5_rotate_68 rfl 0 rfl ?_
        obtain ⟨hco, h⟩ := h
        refine kr_caI (rest := [va_rf (some a0)]) O cd_X5_hour h (Nat.le_of_ble_eq_true rfl) (fun ls _ => kt_ivV (ci := 12) O dX5_rotate_69 cd_X5_hour in_X5_hour (Or.inl q2582) q2584 qs45 hco (by decide) hy_X5_hour) (fun u18 M19 hq => ?_) (fun E q M9 hx => kr_out O hx)
        replace h := hq
        clear hq
        refine kr_aload_n O dX5_rotate_72 rfl 0 rfl ?_
        obtain ⟨p20, ep20, h⟩ := h
        refine kr_getf O dX5_rotate_73 fs_X5_9 ep20 ?_
        refine kr_bipush O dX5_rotate_76 (v := (6 : Int32)) (by decide) ?_
        obtain ⟨b21, rfl, h⟩ := h
        obtain ⟨u22, eu22, h⟩ := h
        refine kr_iaload O dX5_rotate_78 eu22 ?_
        refine kr_iadd O dX5_rotate_79 ?_
        obtain ⟨hco, h⟩ := h
        refine kr_caV (rest := []) O cd_X5_issue h (Nat.le_of_ble_eq_true rfl) (fun ls _ => kt_ivV (ci := 12) O dX5_rotate_80 cd_X5_issue in_X5_issue (Or.inl q2463) q2465 qs38 hco (by decide) hy_X5_issue) (fun M23 hq => ?_) (fun E q M9 hx => kr_out O hx)
        replace h := hq
        clear hq
        refine kr_aload_n O dX5_rotate_83 rfl 0 rfl ?_
        obtain ⟨hco, h⟩ := h
        refine kr_caI (rest := []) O cd_X5_clean h (Nat.le_of_ble_eq_true rfl) (fun ls _ => kt_ivV (ci := 12) O dX5_rotate_84 cd_X5_clean in_X5_clean (Or.inl q2734) q2736 qs68 hco (by decide) hy_X5_clean) (fun u24 M25 hq => ?_) (fun E q M9 hx => kr_out O hx)
        replace h := hq
        clear hq
        refine kr_istore_n O dX5_rotate_87 rfl (Nat.le_of_ble_eq_true rfl) rfl rfl ?_
        refine kr_aload_n O dX5_rotate_88 rfl 1 rfl ?_
        obtain ⟨p26, ep26, h⟩ := h
        refine kr_getf O dX5_rotate_89 fs_X5_9 ep26 ?_
        refine kr_iconst O dX5_rotate_92 (v := (1 : Int32)) (by decide) ?_
        obtain ⟨b27, rfl, h⟩ := h
        obtain ⟨u28, eu28, h⟩ := h
        refine kr_iaload O dX5_rotate_93 eu28 ?_
        refine kr_iconst O dX5_rotate_94 (v := (1 : Int32)) (by decide) ?_
        refine kr_isub O dX5_rotate_95 ?_
        exact kr_iret O dX5_rotate_96 rfl h
      · replace h := h.2 hc
        refine kr_bipush O dX5_rotate_60 (v := (-4 : Int32)) (by decide) ?_
        exact kr_iret O dX5_rotate_62 rfl h
    · replace h := h.2 hc
      refine kr_bipush O dX5_rotate_39 (v := (-3 : Int32)) (by decide) ?_
      exact kr_iret O dX5_rotate_41 rfl h
  · replace h := h.2 hc
    refine kr_bipush O dX5_rotate_25 (v := (-2 : Int32)) (by decide) ?_
    exact kr_iret O dX5_rotate_27 rfl h
def vc_X5_withdraw (w : kt_W) (gr : kt_g × kt_M) (d : Nat) (P : Option Value → kt_M → Prop) (X : String → Nat → kt_M → Prop) (a0 : Nat) (v1 : Int32) (M : kt_M) : Prop :=
  kt_hf gr M a0 71 ∧ ∀ M1, M1 = kt_pf M a0 71 (.int (0 : Int32)) → (kt_co M1 a0 = some 12) ∧ 
  kt_Ca w gr d yX5_isVersion kc_X5_isVersion [va_rf (some a0), .int v1] M1 (kt_pI fun u2 M3 => 
    ((¬ u2 = 0 → (kt_co M3 a0 = some 12) ∧ 
    kt_Ca w gr d yX5_stateOf kc_X5_stateOf [va_rf (some a0), .int v1] M3 (kt_pI fun u4 M5 => 
      ((u4 < (2 : Int32) → (kt_co M5 a0 = some 12) ∧ 
      kt_Ca w gr d yX5_begin kc_X5_begin [va_rf (some a0)] M5 (kt_pV fun M6 => (kt_co M6 a0 = some 12) ∧ 
      kt_Ca w gr d yX5_withdrawNow kc_X5_withdrawNow [va_rf (some a0), .int v1] M6 (kt_pI fun u7 M8 => 
        ((0 ≤ u7 → (kt_co M8 a0 = some 12) ∧ 
        kt_Ca w gr d yX5_end kc_X5_end [va_rf (some a0)] M8 (kt_pV fun M9 => (kt_co M9 a0 = some 12) ∧ 
        kt_Ca w gr d yX5_keep kc_X5_keep [va_rf (some a0)] M9 (kt_pV fun M10 => (kt_co M10 a0 = some 12) ∧ 
        kt_Ca w gr d yX5_withdrawNow kc_X5_withdrawNow [va_rf (some a0), .int v1] M10 (kt_pI fun u11 M12 => P (some (.int u11)) M12) X) X) X) ∧
        (¬ 0 ≤ u7 → (kt_co M8 a0 = some 12) ∧ 
        kt_Ca w gr d yX5_end kc_X5_end [va_rf (some a0)] M8 (kt_pV fun M13 => P (some (.int u7)) M13) X))) X) X) ∧
      (¬ u4 < (2 : Int32) → P (some (.int (-2 : Int32))) M5))) X) ∧
    (u2 = 0 → (kt_co M3 a0 = some 12) ∧ 
    kt_Ca w gr d yX5_raise kc_X5_raise [va_rf (some a0), .int (1 : Int32)] M3 (kt_pI fun u14 M15 => P (some (.int u14)) M15) X))) X
theorem ce_X5_withdraw {w : kt_W} {g : kt_g} {d : Nat} {P : Option Value → kt_M → Prop} {X : String → Nat → kt_M → Prop} {a0 : Nat} {v1 : Int32} {M : kt_M} (h : vc_X5_withdraw w (g, M) d P X a0 v1 M) : kt_Sp w g (d + 1) yX5_withdraw kc_X5_withdraw [va_rf (some a0), .int v1] M P X := by
  refine kt_of (L0 := [(0, va_rf (some a0)), (1, .int v1)]) (by decide +kernel) (Nat.le_of_ble_eq_true rfl) rfl fun x O => ?_
  replace O : kt_O w x (g, M) (d + 1) cX5_withdraw "KeyTurnsModel" 3 ("withdraw", "(I)I") (Option.some Jvm.ClassFile.FieldType.int) [] := O
  unfold vc_X5_withdraw at h
  refine kr_aload_n O dX5_withdraw_0 rfl 0 rfl ?_
  refine kr_iconst O dX5_withdraw_1 (v := (0 : Int32)) (by decide) ?_
  obtain ⟨hw, h⟩ := h
  refine kr_putf O dX5_withdraw_2 fs_X5_71 (Or.inl rfl) ⟨rfl, rfl⟩ hw (kr_nmM fun M1 hM1 => ?_)
  replace h := h M1 hM1
  refine kr_aload_n O dX5_withdraw_5 rfl 0 rfl ?_
  refine kr_iload_n O dX5_withdraw_6 rfl 1 rfl ?_
  obtain ⟨hco, h⟩ := h
  refine kr_caI (rest := []) O cd_X5_isVersion h (Nat.le_of_ble_eq_true rfl) (fun ls _ => kt_ivV (ci := 12) O dX5_withdraw_7 cd_X5_isVersion in_X5_isVersion (Or.inl q2614) q2616 qs51 hco (by decide) hy_X5_isVersion) (fun u2 M3 hq => ?_) (fun E q M9 hx => kr_out O hx)
  replace h := hq
  clear hq
  refine kr_if_ne (tgt := 19) O dX5_withdraw_10 rfl (fun hc => ?_) (fun hc => ?_)
  · replace h := h.1 hc
    refine kr_aload_n O dX5_withdraw_19 rfl 0 rfl ?_
    refine kr_iload_n O dX5_withdraw_20 rfl 1 rfl ?_
    obtain ⟨hco, h⟩ := h
    refine kr_caI (rest := []) O cd_X5_stateOf h (Nat.le_of_ble_eq_true rfl) (fun ls _ => kt_ivV (ci := 12) O dX5_withdraw_21 cd_X5_stateOf in_X5_stateOf (Or.inl q2618) q2620 qs52 hco (by decide) hy_X5_stateOf) (fun u4 M5 hq => ?_) (fun E q M9 hx => kr_out O hx)
    replace h := hq
    clear hq
    refine kr_iconst O dX5_withdraw_24 (v := (2 : Int32)) (by decide) ?_
    refine kr_icmp_lt (tgt := 31) O dX5_withdraw_25 rfl (fun hc => ?_) (fun hc => ?_)
    · replace h := h.1 hc
      refine kr_aload_n O dX5_withdraw_31 rfl 0 rfl ?_
      obtain ⟨hco, h⟩ := h
      refine kr_caV (rest := []) O cd_X5_begin h (Nat.le_of_ble_eq_true rfl) (fun ls _ => kt_ivV (ci := 12) O dX5_withdraw_32 cd_X5_begin in_X5_begin (Or.inl q2715) q2717 qs64 hco (by decide) hy_X5_begin) (fun M6 hq => ?_) (fun E q M9 hx => kr_out O hx)
      replace h := hq
      clear hq
      refine kr_aload_n O dX5_withdraw_35 rfl 0 rfl ?_
      refine kr_iload_n O dX5_withdraw_36 rfl 1 rfl ?_
      obtain ⟨hco, h⟩ := h
      refine kr_caI (rest := []) O cd_X5_withdrawNow h (Nat.le_of_ble_eq_true rfl) (fun ls _ => kt_ivV (ci := 12) O dX5_withdraw_37 cd_X5_withdrawNow in_X5_withdrawNow (Or.inl q2766) q2768 qs73 hco (by decide) hy_X5_withdrawNow) (fun u7 M8 hq => ?_) (fun E q M9 hx => kr_out O hx)
      replace h := hq
      clear hq
      refine kr_istore_n O dX5_withdraw_40 rfl (Nat.le_of_ble_eq_true rfl) rfl rfl ?_
      refine kr_iload_n O dX5_withdraw_41 rfl 0 rfl ?_
      refine kr_if_ge (tgt := 51) O dX5_withdraw_42 rfl (fun hc => ?_) (fun hc => ?_)
      · replace h := h.1 hc
        refine kr_aload_n O dX5_withdraw_51 rfl 1 rfl ?_
        obtain ⟨hco, h⟩ := h
        refine kr_caV (rest := []) O cd_X5_end h (Nat.le_of_ble_eq_true rfl) (fun ls _ => kt_ivV (ci := 12) O dX5_withdraw_52 cd_X5_end in_X5_end (Or.inl q2750) q2752 qs72 hco (by decide) hy_X5_end) (fun M9 hq => ?_) (fun E q M9 hx => kr_out O hx)
        replace h := hq
        clear hq
        refine kr_aload_n O dX5_withdraw_55 rfl 1 rfl ?_
        obtain ⟨hco, h⟩ := h
        refine kr_caV (rest := []) O cd_X5_keep h (Nat.le_of_ble_eq_true rfl) (fun ls _ => kt_ivV (ci := 12) O dX5_withdraw_56 cd_X5_keep in_X5_keep (Or.inl q2794) q2796 qs77 hco (by decide) hy_X5_keep) (fun M10 hq => ?_) (fun E q M9 hx => kr_out O hx)
        replace h := hq
        clear hq
        refine kr_aload_n O dX5_withdraw_59 rfl 1 rfl ?_
        refine kr_iload_n O dX5_withdraw_60 rfl 2 rfl ?_
        obtain ⟨hco, h⟩ := h
        refine kr_caI (rest := []) O cd_X5_withdrawNow h (Nat.le_of_ble_eq_true rfl) (fun ls _ => kt_ivV (ci := 12) O dX5_withdraw_61 cd_X5_withdrawNow in_X5_withdrawNow (Or.inl q2766) q2768 qs73 hco (by decide) hy_X5_withdrawNow) (fun u11 M12 hq => ?_) (fun E q M9 hx => kr_out O hx)
        replace h := hq
        clear hq
        exact kr_iret O dX5_withdraw_64 rfl h
      · replace h := h.2 hc
        refine kr_aload_n O dX5_withdraw_45 rfl 1 rfl ?_
        obtain ⟨hco, h⟩ := h
        refine kr_caV (rest := []) O cd_X5_end h (Nat.le_of_ble_eq_true rfl) (fun ls _ => kt_ivV (ci := 12) O dX5_withdraw_46 cd_X5_end in_X5_end (Or.inl q2750) q2752 qs72 hco (by decide) hy_X5_end) (fun M13 hq => ?_) (fun E q M9 hx => kr_out O hx)
        replace h := hq
        clear hq
        refine kr_iload_n O dX5_withdraw_49 rfl 0 rfl ?_
        exact kr_iret O dX5_withdraw_50 rfl h
    · replace h := h.2 hc
      refine kr_bipush O dX5_withdraw_28 (v := (-2 : Int32)) (by decide) ?_
      exact kr_iret O dX5_withdraw_30 rfl h
  · replace h := h.2 hc
    refine kr_aload_n O dX5_withdraw_13 rfl 0 rfl ?_
    refine kr_iconst O dX5_withdraw_14 (v := (1 : Int32)) (by decide) ?_
    obtain ⟨hco, h⟩ := h
    refine kr_caI (rest := []) O cd_X5_raise h (Nat.le_of_ble_eq_true rfl) (fun ls _ => kt_ivV (ci := 12) O dX5_withdraw_15 cd_X5_raise in_X5_raise (Or.inl q2606) q2608 qs50 hco (by decide) hy_X5_raise) (fun u14 M15 hq => ?_) (fun E q M9 hx => kr_out O hx)
    replace h := hq
    clear hq
    exact kr_iret O dX5_withdraw_18 rfl h
def vc_X5_make (w : kt_W) (gr : kt_g × kt_M) (d : Nat) (P : Option Value → kt_M → Prop) (X : String → Nat → kt_M → Prop) (a0 : Nat) (M : kt_M) : Prop :=
  kt_hf gr M a0 71 ∧ ∀ M1, M1 = kt_pf M a0 71 (.int (0 : Int32)) → ∃ p2, kt_gf M1 a0 65 = some (va_rf p2) ∧ ∃ b3, p2 = some b3 ∧ ∃ u4, kt_el 0 M1 b3 (2 : Int32) = some (.int u4) ∧ 
    ((¬ u4 = (30 : Int32) → (kt_co M1 a0 = some 12) ∧ 
    kt_Ca w gr d yX5_keep kc_X5_keep [va_rf (some a0)] M1 (kt_pV fun M5 => (kt_co M5 a0 = some 12) ∧ 
    kt_Ca w gr d yX5_makeRecord kc_X5_makeRecord [va_rf (some a0)] M5 (kt_pV fun M6 => ∃ p7, kt_gf M6 a0 65 = some (va_rf p7) ∧ ∃ b8, p7 = some b8 ∧ ∃ u9, kt_el 0 M6 b8 (2 : Int32) = some (.int u9) ∧ P (some (.int (u9 - (1 : Int32)))) M6) X) X) ∧
    (u4 = (30 : Int32) → P (some (.int (-3 : Int32))) M1))
theorem ce_X5_make {w : kt_W} {g : kt_g} {d : Nat} {P : Option Value → kt_M → Prop} {X : String → Nat → kt_M → Prop} {a0 : Nat} {M : kt_M} (h : vc_X5_make w (g, M) d P X a0 M) : kt_Sp w g (d + 1) yX5_make kc_X5_make [va_rf (some a0)] M P X := by
  refine kt_of (L0 := [(0, va_rf (some a0))]) (by decide +kernel) (Nat.le_of_ble_eq_true rfl) rfl fun x O => ?_
  replace O : kt_O w x (g, M) (d + 1) cX5_make "KeyTurnsModel" 1 ("make", "()I") (Option.some Jvm.ClassFile.FieldType.int) [] := O
  unfold vc_X5_make at h
  refine kr_aload_n O dX5_make_0 rfl 0 rfl ?_
  refine kr_iconst O dX5_make_1 (v := (0 : Int32)) (by decide) ?_
  obtain ⟨hw, h⟩ := h
  refine kr_putf O dX5_make_2 fs_X5_71 (Or.inl rfl) ⟨rfl, rfl⟩ hw (kr_nmM fun M1 hM1 => ?_)
  replace h := h M1 hM1
  refine kr_aload_n O dX5_make_5 rfl 0 rfl ?_
  obtain ⟨p2, ep2, h⟩ := h
  refine kr_getf O dX5_make_6 fs_X5_9 ep2 ?_
  refine kr_iconst O dX5_make_9 (v := (2 : Int32)) (by decide) ?_
  obtain ⟨b3, rfl, h⟩ := h
  obtain ⟨u4, eu4, h⟩ := h
  refine kr_iaload O dX5_make_10 eu4 ?_
  refine kr_bipush O dX5_make_11 (v := (30 : Int32)) (by decide) ?_
  refine kr_icmp_ne (tgt := 19) O dX5_make_13 rfl (fun hc => ?_) (fun hc => ?_)
  · replace h := h.1 hc
    refine kr_aload_n O dX5_make_19 rfl 0 rfl ?_
    obtain ⟨hco, h⟩ := h
    refine kr_caV (rest := []) O cd_X5_keep h (Nat.le_of_ble_eq_true rfl) (fun ls _ => kt_ivV (ci := 12) O dX5_make_20 cd_X5_keep in_X5_keep (Or.inl q2794) q2796 qs77 hco (by decide) hy_X5_keep) (fun M5 hq => ?_) (fun E q M9 hx => kr_out O hx)
    replace h := hq
    clear hq
    refine kr_aload_n O dX5_make_23 rfl 0 rfl ?_
    obtain ⟨hco, h⟩ := h
    refine kr_caV (rest := []) O cd_X5_makeRecord h (Nat.le_of_ble_eq_true rfl) (fun ls _ => kt_ivV (ci := 12) O dX5_make_24 cd_X5_makeRecord in_X5_makeRecord (Or.inl q2810) q2812 qs78 hco (by decide) hy_X5_makeRecord) (fun M6 hq => ?_) (fun E q M9 hx => kr_out O hx)
    replace h := hq
    clear hq
    refine kr_aload_n O dX5_make_27 rfl 0 rfl ?_
    obtain ⟨p7, ep7, h⟩ := h
    refine kr_getf O dX5_make_28 fs_X5_9 ep7 ?_
    refine kr_iconst O dX5_make_31 (v := (2 : Int32)) (by decide) ?_
    obtain ⟨b8, rfl, h⟩ := h
    obtain ⟨u9, eu9, h⟩ := h
    refine kr_iaload O dX5_make_32 eu9 ?_
    refine kr_iconst O dX5_make_33 (v := (1 : Int32)) (by decide) ?_
    refine kr_isub O dX5_make_34 ?_
    exact kr_iret O dX5_make_35 rfl h
  · replace h := h.2 hc
    refine kr_bipush O dX5_make_16 (v := (-3 : Int32)) (by decide) ?_
    exact kr_iret O dX5_make_18 rfl h
def vc_X5_makeRecord_47 (w : kt_W) (gr : kt_g × kt_M) (d : Nat) (P : Option Value → kt_M → Prop) (X : String → Nat → kt_M → Prop)  (a0 : Nat) (v1 : Int32) (s0 : Int32) (s1 : Int32) (sr2 : Option Nat) (M : kt_M) : Prop :=
  ∃ b1, sr2 = some b1 ∧ kt_hii gr 0 M b1 s1 ∧ ∀ M2, M2 = kt_si M b1 s1 s0 → ∃ p3, kt_gf M2 a0 73 = some (va_rf p3) ∧ 
  kt_Ca w gr d yX5_recordAt kc_X5_recordAt [.int v1, .int (2 : Int32)] M2 (kt_pI fun u4 M5 => ∃ b6, p3 = some b6 ∧ kt_hii gr 0 M5 b6 u4 ∧ ∀ M7, M7 = kt_si M5 b6 u4 (0 : Int32) → ∃ p8, kt_gf M7 a0 73 = some (va_rf p8) ∧ 
  kt_Ca w gr d yX5_recordAt kc_X5_recordAt [.int v1, .int (3 : Int32)] M7 (kt_pI fun u9 M10 => ∃ b11, p8 = some b11 ∧ kt_hii gr 0 M10 b11 u9 ∧ ∀ M12, M12 = kt_si M10 b11 u9 (0 : Int32) → ∃ p13, kt_gf M12 a0 73 = some (va_rf p13) ∧ ∃ b14, p13 = some b14 ∧ ∃ u15, kt_el 0 M12 b14 (2 : Int32) = some (.int u15) ∧ kt_hii gr 0 M12 b14 (2 : Int32) ∧ ∀ M16, M16 = kt_si M12 b14 (2 : Int32) (u15 + (1 : Int32)) → P none M16) X) X
theorem cj_X5_makeRecord_47 {w : kt_W} {x : kt_X} {gr : kt_g × kt_M} {d : Nat} {P : Option Value → kt_M → Prop} {X : String → Nat → kt_M → Prop}  {a0 : Nat} {v1 : Int32} {s0 : Int32} {s1 : Int32} {sr2 : Option Nat} {M : kt_M} (O : kt_O w x gr (d + 1) cX5_makeRecord "KeyTurnsModel" 3 ("makeRecord", "()V") (Option.none : Option Jvm.ClassFile.FieldType) [])  (h : vc_X5_makeRecord_47 w gr d P X  a0 v1 s0 s1 sr2 M) : kt_S w x 3 (kt_E w x P X) M 47 [(0, va_rf (some a0)), (1, .int v1)] [.int s0, .int s1, va_rf sr2] := by
  unfold vc_X5_makeRecord_47 at h
  obtain ⟨b1, rfl, h⟩ := h
  obtain ⟨hw, h⟩ := h
  refine kr_iastore O dX5_makeRecord_47 hw (kr_nmM fun M2 hM2 => ?_)
  replace h := h M2 hM2
  refine kr_aload_n O dX5_makeRecord_48 rfl 0 rfl ?_
  obtain ⟨p3, ep3, h⟩ := h
  refine kr_getf O dX5_makeRecord_49 fs_X5_25 ep3 ?_
  refine kr_iload_n O dX5_makeRecord_52 rfl 1 rfl ?_
  refine kr_iconst O dX5_makeRecord_53 (v := (2 : Int32)) (by decide) ?_
  refine kr_caI (rest := [va_rf p3]) O cd_X5_recordAt h (Nat.le_of_ble_eq_true rfl) (fun ls _ => kt_ivS O dX5_makeRecord_54 cd_X5_recordAt in_X5_recordAt q2567 q2568 hy_X5_recordAt) (fun u4 M5 hq => ?_) (fun E q M9 hx => kr_out O hx)
  replace h := hq
  clear hq
  refine kr_iconst O dX5_makeRecord_57 (v := (0 : Int32)) (by decide) ?_
  obtain ⟨b6, rfl, h⟩ := h
  obtain ⟨hw, h⟩ := h
  refine kr_iastore O dX5_makeRecord_58 hw (kr_nmM fun M7 hM7 => ?_)
  replace h := h M7 hM7
  refine kr_aload_n O dX5_makeRecord_59 rfl 0 rfl ?_
  obtain ⟨p8, ep8, h⟩ := h
  refine kr_getf O dX5_makeRecord_60 fs_X5_25 ep8 ?_
  refine kr_iload_n O dX5_makeRecord_63 rfl 1 rfl ?_
  refine kr_iconst O dX5_makeRecord_64 (v := (3 : Int32)) (by decide) ?_
  refine kr_caI (rest := [va_rf p8]) O cd_X5_recordAt h (Nat.le_of_ble_eq_true rfl) (fun ls _ => kt_ivS O dX5_makeRecord_65 cd_X5_recordAt in_X5_recordAt q2567 q2568 hy_X5_recordAt) (fun u9 M10 hq => ?_) (fun E q M9 hx => kr_out O hx)
  replace h := hq
  clear hq
  refine kr_iconst O dX5_makeRecord_68 (v := (0 : Int32)) (by decide) ?_
  obtain ⟨b11, rfl, h⟩ := h
  obtain ⟨hw, h⟩ := h
  refine kr_iastore O dX5_makeRecord_69 hw (kr_nmM fun M12 hM12 => ?_)
  replace h := h M12 hM12
  refine kr_aload_n O dX5_makeRecord_70 rfl 0 rfl ?_
  obtain ⟨p13, ep13, h⟩ := h
  refine kr_getf O dX5_makeRecord_71 fs_X5_25 ep13 ?_
  refine kr_iconst O dX5_makeRecord_74 (v := (2 : Int32)) (by decide) ?_
  refine kr_dup2 O dX5_makeRecord_75 rfl (kt_nrf _) ?_
  obtain ⟨b14, rfl, h⟩ := h
  obtain ⟨u15, eu15, h⟩ := h
  refine kr_iaload O dX5_makeRecord_76 eu15 ?_
  refine kr_iconst O dX5_makeRecord_77 (v := (1 : Int32)) (by decide) ?_
  refine kr_iadd O dX5_makeRecord_78 ?_
  obtain ⟨hw, h⟩ := h
  refine kr_iastore O dX5_makeRecord_79 hw (kr_nmM fun M16 hM16 => ?_)
  replace h := h M16 hM16
  exact kr_vret O dX5_makeRecord_80 h
def vc_X5_makeRecord (w : kt_W) (gr : kt_g × kt_M) (d : Nat) (P : Option Value → kt_M → Prop) (X : String → Nat → kt_M → Prop) (a0 : Nat) (M : kt_M) : Prop :=
  ∃ p1, kt_gf M a0 73 = some (va_rf p1) ∧ ∃ b2, p1 = some b2 ∧ ∃ u3, kt_el 0 M b2 (2 : Int32) = some (.int u3) ∧ ∃ p4, kt_gf M a0 73 = some (va_rf p4) ∧ 
  kt_Ca w gr d yX5_recordAt kc_X5_recordAt [.int u3, .int (0 : Int32)] M (kt_pI fun u5 M6 => (kt_co M6 a0 = some 12) ∧ 
  kt_Ca w gr d yX5_hour kc_X5_hour [va_rf (some a0)] M6 (kt_pI fun u7 M8 => ∃ b9, p4 = some b9 ∧ kt_hii gr 0 M8 b9 u5 ∧ ∀ M10, M10 = kt_si M8 b9 u5 u7 → (kt_co M10 a0 = some 12) ∧ 
  kt_Ca w gr d yX5_writing kc_X5_writing [va_rf (some a0)] M10 (kt_pI fun u11 M12 => ∃ p13, kt_gf M12 a0 73 = some (va_rf p13) ∧ 
  kt_Ca w gr d yX5_recordAt kc_X5_recordAt [.int u3, .int (1 : Int32)] M12 (kt_pI fun u14 M15 => 
    ((¬ u11 = (-1 : Int32) → vc_X5_makeRecord_47 w gr d P X  a0 u3 ((1 : Int32) <<< (u11 &&& 31)) u14 p13 M15) ∧
    (u11 = (-1 : Int32) → vc_X5_makeRecord_47 w gr d P X  a0 u3 (0 : Int32) u14 p13 M15))) X) X) X) X
theorem ce_X5_makeRecord {w : kt_W} {g : kt_g} {d : Nat} {P : Option Value → kt_M → Prop} {X : String → Nat → kt_M → Prop} {a0 : Nat} {M : kt_M} (h : vc_X5_makeRecord w (g, M) d P X a0 M) : kt_Sp w g (d + 1) yX5_makeRecord kc_X5_makeRecord [va_rf (some a0)] M P X := by
  refine kt_of (L0 := [(0, va_rf (some a0))]) (by decide +kernel) (Nat.le_of_ble_eq_true rfl) rfl fun x O => ?_
  replace O : kt_O w x (g, M) (d + 1) cX5_makeRecord "KeyTurnsModel" 3 ("makeRecord", "()V") (Option.none : Option Jvm.ClassFile.FieldType) [] := O
  unfold vc_X5_makeRecord at h
  refine kr_aload_n O dX5_makeRecord_0 rfl 0 rfl ?_
  obtain ⟨p1, ep1, h⟩ := h
  refine kr_getf O dX5_makeRecord_1 fs_X5_25 ep1 ?_
  refine kr_iconst O dX5_makeRecord_4 (v := (2 : Int32)) (by decide) ?_
  obtain ⟨b2, rfl, h⟩ := h
  obtain ⟨u3, eu3, h⟩ := h
  refine kr_iaload O dX5_makeRecord_5 eu3 ?_
  refine kr_istore_n O dX5_makeRecord_6 rfl (Nat.le_of_ble_eq_true rfl) rfl rfl ?_
  refine kr_aload_n O dX5_makeRecord_7 rfl 1 rfl ?_
  obtain ⟨p4, ep4, h⟩ := h
  refine kr_getf O dX5_makeRecord_8 fs_X5_25 ep4 ?_
  refine kr_iload_n O dX5_makeRecord_11 rfl 0 rfl ?_
  refine kr_iconst O dX5_makeRecord_12 (v := (0 : Int32)) (by decide) ?_
  refine kr_caI (rest := [va_rf p4]) O cd_X5_recordAt h (Nat.le_of_ble_eq_true rfl) (fun ls _ => kt_ivS O dX5_makeRecord_13 cd_X5_recordAt in_X5_recordAt q2567 q2568 hy_X5_recordAt) (fun u5 M6 hq => ?_) (fun E q M9 hx => kr_out O hx)
  replace h := hq
  clear hq
  refine kr_aload_n O dX5_makeRecord_16 rfl 1 rfl ?_
  obtain ⟨hco, h⟩ := h
  refine kr_caI (rest := [.int u5, va_rf p4]) O cd_X5_hour h (Nat.le_of_ble_eq_true rfl) (fun ls _ => kt_ivV (ci := 12) O dX5_makeRecord_17 cd_X5_hour in_X5_hour (Or.inl q2582) q2584 qs45 hco (by decide) hy_X5_hour) (fun u7 M8 hq => ?_) (fun E q M9 hx => kr_out O hx)
  replace h := hq
  clear hq
  obtain ⟨b9, rfl, h⟩ := h
  obtain ⟨hw, h⟩ := h
  refine kr_iastore O dX5_makeRecord_20 hw (kr_nmM fun M10 hM10 => ?_)
  replace h := h M10 hM10
  refine kr_aload_n O dX5_makeRecord_21 rfl 1 rfl ?_
  obtain ⟨hco, h⟩ := h
  refine kr_caI (rest := []) O cd_X5_writing h (Nat.le_of_ble_eq_true rfl) (fun ls _ => kt_ivV (ci := 12) O dX5_makeRecord_22 cd_X5_writing in_X5_writing (Or.inl q2570) q2572 qs42 hco (by decide) hy_X5_writing) (fun u11 M12 hq => ?_) (fun E q M9 hx => kr_out O hx)
  replace h := hq
  clear hq
  refine kr_istore_n O dX5_makeRecord_25 rfl (Nat.le_of_ble_eq_true rfl) rfl rfl ?_
  refine kr_aload_n O dX5_makeRecord_26 rfl 2 rfl ?_
  obtain ⟨p13, ep13, h⟩ := h
  refine kr_getf O dX5_makeRecord_27 fs_X5_25 ep13 ?_
  refine kr_iload_n O dX5_makeRecord_30 rfl 1 rfl ?_
  refine kr_iconst O dX5_makeRecord_31 (v := (1 : Int32)) (by decide) ?_
  refine kr_caI (rest := [va_rf p13]) O cd_X5_recordAt h (Nat.le_of_ble_eq_true rfl) (fun ls _ => kt_ivS O dX5_makeRecord_32 cd_X5_recordAt in_X5_recordAt q2567 q2568 hy_X5_recordAt) (fun u14 M15 hq => ?_) (fun E q M9 hx => kr_out O hx)
  replace h := hq
  clear hq
  refine kr_iload_n O dX5_makeRecord_35 rfl 0 rfl ?_
  refine kr_iconst O dX5_makeRecord_36 (v := (-1 : Int32)) (by decide) ?_
  refine kr_icmp_ne (tgt := 44) O dX5_makeRecord_37 rfl (fun hc => ?_) (fun hc => ?_)
  · replace h := h.1 hc
    refine kr_iconst O dX5_makeRecord_44 (v := (1 : Int32)) (by decide) ?_
    refine kr_iload_n O dX5_makeRecord_45 rfl 0 rfl ?_
    refine kr_ishl O dX5_makeRecord_46 ?_
    refine kr_sub [2, 1] rfl ?_
    exact cj_X5_makeRecord_47 O  h
  · replace h := h.2 hc
    refine kr_iconst O dX5_makeRecord_40 (v := (0 : Int32)) (by decide) ?_
    refine kr_goto (tgt := 47) O dX5_makeRecord_41 rfl ?_
    refine kr_sub [2, 1] rfl ?_
    exact cj_X5_makeRecord_47 O  h
def vc_X5_drop (w : kt_W) (gr : kt_g × kt_M) (d : Nat) (P : Option Value → kt_M → Prop) (X : String → Nat → kt_M → Prop) (a0 : Nat) (v1 : Int32) (M : kt_M) : Prop :=
  kt_hf gr M a0 71 ∧ ∀ M1, M1 = kt_pf M a0 71 (.int (0 : Int32)) → (kt_co M1 a0 = some 12) ∧ 
  kt_Ca w gr d yX5_isRecord kc_X5_isRecord [va_rf (some a0), .int v1] M1 (kt_pI fun u2 M3 => 
    ((¬ u2 = 0 → (kt_co M3 a0 = some 12) ∧ 
    kt_Ca w gr d yX5_keep kc_X5_keep [va_rf (some a0)] M3 (kt_pV fun M4 => ∃ p5, kt_gf M4 a0 65 = some (va_rf p5) ∧ 
    kt_Ca w gr d yX5_recordAt kc_X5_recordAt [.int v1, .int (3 : Int32)] M4 (kt_pI fun u6 M7 => ∃ b8, p5 = some b8 ∧ kt_hii gr 0 M7 b8 u6 ∧ ∀ M9, M9 = kt_si M7 b8 u6 (1 : Int32) → (kt_co M9 a0 = some 12) ∧ 
    kt_Ca w gr d yX5_present kc_X5_present [va_rf (some a0)] M9 (kt_pI fun u10 M11 => P (some (.int u10)) M11) X) X) X) ∧
    (u2 = 0 → (kt_co M3 a0 = some 12) ∧ 
    kt_Ca w gr d yX5_raise kc_X5_raise [va_rf (some a0), .int (1 : Int32)] M3 (kt_pI fun u12 M13 => P (some (.int u12)) M13) X))) X
theorem ce_X5_drop {w : kt_W} {g : kt_g} {d : Nat} {P : Option Value → kt_M → Prop} {X : String → Nat → kt_M → Prop} {a0 : Nat} {v1 : Int32} {M : kt_M} (h : vc_X5_drop w (g, M) d P X a0 v1 M) : kt_Sp w g (d + 1) yX5_drop kc_X5_drop [va_rf (some a0), .int v1] M P X := by
  refine kt_of (L0 := [(0, va_rf (some a0)), (1, .int v1)]) (by decide +kernel) (Nat.le_of_ble_eq_true rfl) rfl fun x O => ?_
  replace O : kt_O w x (g, M) (d + 1) cX5_drop "KeyTurnsModel" 2 ("drop", "(I)I") (Option.some Jvm.ClassFile.FieldType.int) [] := O
  unfold vc_X5_drop at h
  refine kr_aload_n O dX5_drop_0 rfl 0 rfl ?_
  refine kr_iconst O dX5_drop_1 (v := (0 : Int32)) (by decide) ?_
  obtain ⟨hw, h⟩ := h
  refine kr_putf O dX5_drop_2 fs_X5_71 (Or.inl rfl) ⟨rfl, rfl⟩ hw (kr_nmM fun M1 hM1 => ?_)
  replace h := h M1 hM1
  refine kr_aload_n O dX5_drop_5 rfl 0 rfl ?_
  refine kr_iload_n O dX5_drop_6 rfl 1 rfl ?_
  obtain ⟨hco, h⟩ := h
  refine kr_caI (rest := []) O cd_X5_isRecord h (Nat.le_of_ble_eq_true rfl) (fun ls _ => kt_ivV (ci := 12) O dX5_drop_7 cd_X5_isRecord in_X5_isRecord (Or.inl q2597) q2599 qs48 hco (by decide) hy_X5_isRecord) (fun u2 M3 hq => ?_) (fun E q M9 hx => kr_out O hx)
  replace h := hq
  clear hq
  refine kr_if_ne (tgt := 19) O dX5_drop_10 rfl (fun hc => ?_) (fun hc => ?_)
  · replace h := h.1 hc
    refine kr_aload_n O dX5_drop_19 rfl 0 rfl ?_
    obtain ⟨hco, h⟩ := h
    refine kr_caV (rest := []) O cd_X5_keep h (Nat.le_of_ble_eq_true rfl) (fun ls _ => kt_ivV (ci := 12) O dX5_drop_20 cd_X5_keep in_X5_keep (Or.inl q2794) q2796 qs77 hco (by decide) hy_X5_keep) (fun M4 hq => ?_) (fun E q M9 hx => kr_out O hx)
    replace h := hq
    clear hq
    refine kr_aload_n O dX5_drop_23 rfl 0 rfl ?_
    obtain ⟨p5, ep5, h⟩ := h
    refine kr_getf O dX5_drop_24 fs_X5_9 ep5 ?_
    refine kr_iload_n O dX5_drop_27 rfl 1 rfl ?_
    refine kr_iconst O dX5_drop_28 (v := (3 : Int32)) (by decide) ?_
    refine kr_caI (rest := [va_rf p5]) O cd_X5_recordAt h (Nat.le_of_ble_eq_true rfl) (fun ls _ => kt_ivS O dX5_drop_29 cd_X5_recordAt in_X5_recordAt q2567 q2568 hy_X5_recordAt) (fun u6 M7 hq => ?_) (fun E q M9 hx => kr_out O hx)
    replace h := hq
    clear hq
    refine kr_iconst O dX5_drop_32 (v := (1 : Int32)) (by decide) ?_
    obtain ⟨b8, rfl, h⟩ := h
    obtain ⟨hw, h⟩ := h
    refine kr_iastore O dX5_drop_33 hw (kr_nmM fun M9 hM9 => ?_)
    replace h := h M9 hM9
    refine kr_aload_n O dX5_drop_34 rfl 0 rfl ?_
    obtain ⟨hco, h⟩ := h
    refine kr_caI (rest := []) O cd_X5_present h (Nat.le_of_ble_eq_true rfl) (fun ls _ => kt_ivV (ci := 12) O dX5_drop_35 cd_X5_present in_X5_present (Or.inl q2559) q2561 qs40 hco (by decide) hy_X5_present) (fun u10 M11 hq => ?_) (fun E q M9 hx => kr_out O hx)
    replace h := hq
    clear hq
    exact kr_iret O dX5_drop_38 rfl h
  · replace h := h.2 hc
    refine kr_aload_n O dX5_drop_13 rfl 0 rfl ?_
    refine kr_iconst O dX5_drop_14 (v := (1 : Int32)) (by decide) ?_
    obtain ⟨hco, h⟩ := h
    refine kr_caI (rest := []) O cd_X5_raise h (Nat.le_of_ble_eq_true rfl) (fun ls _ => kt_ivV (ci := 12) O dX5_drop_15 cd_X5_raise in_X5_raise (Or.inl q2606) q2608 qs50 hco (by decide) hy_X5_raise) (fun u12 M13 hq => ?_) (fun E q M9 hx => kr_out O hx)
    replace h := hq
    clear hq
    exact kr_iret O dX5_drop_18 rfl h
def vc_X5_ask (w : kt_W) (gr : kt_g × kt_M) (d : Nat) (P : Option Value → kt_M → Prop) (X : String → Nat → kt_M → Prop) (a0 : Nat) (v1 : Int32) (M : kt_M) : Prop :=
  kt_hf gr M a0 71 ∧ ∀ M1, M1 = kt_pf M a0 71 (.int (0 : Int32)) → (kt_co M1 a0 = some 12) ∧ 
  kt_Ca w gr d yX5_isClient kc_X5_isClient [va_rf (some a0), .int v1] M1 (kt_pI fun u2 M3 => 
    ((¬ u2 = 0 → (kt_co M3 a0 = some 12) ∧ 
    kt_Ca w gr d yX5_keep kc_X5_keep [va_rf (some a0)] M3 (kt_pV fun M4 => (kt_co M4 a0 = some 12) ∧ 
    kt_Ca w gr d yX5_learn kc_X5_learn [va_rf (some a0), .int v1] M4 (kt_pI fun u5 M6 => P (some (.int u5)) M6) X) X) ∧
    (u2 = 0 → (kt_co M3 a0 = some 12) ∧ 
    kt_Ca w gr d yX5_raise kc_X5_raise [va_rf (some a0), .int (1 : Int32)] M3 (kt_pI fun u7 M8 => P (some (.int u7)) M8) X))) X
theorem ce_X5_ask {w : kt_W} {g : kt_g} {d : Nat} {P : Option Value → kt_M → Prop} {X : String → Nat → kt_M → Prop} {a0 : Nat} {v1 : Int32} {M : kt_M} (h : vc_X5_ask w (g, M) d P X a0 v1 M) : kt_Sp w g (d + 1) yX5_ask kc_X5_ask [va_rf (some a0), .int v1] M P X := by
  refine kt_of (L0 := [(0, va_rf (some a0)), (1, .int v1)]) (by decide +kernel) (Nat.le_of_ble_eq_true rfl) rfl fun x O => ?_
  replace O : kt_O w x (g, M) (d + 1) cX5_ask "KeyTurnsModel" 2 ("ask", "(I)I") (Option.some Jvm.ClassFile.FieldType.int) [] := O
  unfold vc_X5_ask at h
  refine kr_aload_n O dX5_ask_0 rfl 0 rfl ?_
  refine kr_iconst O dX5_ask_1 (v := (0 : Int32)) (by decide) ?_
  obtain ⟨hw, h⟩ := h
  refine kr_putf O dX5_ask_2 fs_X5_71 (Or.inl rfl) ⟨rfl, rfl⟩ hw (kr_nmM fun M1 hM1 => ?_)
  replace h := h M1 hM1
  refine kr_aload_n O dX5_ask_5 rfl 0 rfl ?_
  refine kr_iload_n O dX5_ask_6 rfl 1 rfl ?_
  obtain ⟨hco, h⟩ := h
  refine kr_caI (rest := []) O cd_X5_isClient h (Nat.le_of_ble_eq_true rfl) (fun ls _ => kt_ivV (ci := 12) O dX5_ask_7 cd_X5_isClient in_X5_isClient (Or.inl q2665) q2667 qs60 hco (by decide) hy_X5_isClient) (fun u2 M3 hq => ?_) (fun E q M9 hx => kr_out O hx)
  replace h := hq
  clear hq
  refine kr_if_ne (tgt := 19) O dX5_ask_10 rfl (fun hc => ?_) (fun hc => ?_)
  · replace h := h.1 hc
    refine kr_aload_n O dX5_ask_19 rfl 0 rfl ?_
    obtain ⟨hco, h⟩ := h
    refine kr_caV (rest := []) O cd_X5_keep h (Nat.le_of_ble_eq_true rfl) (fun ls _ => kt_ivV (ci := 12) O dX5_ask_20 cd_X5_keep in_X5_keep (Or.inl q2794) q2796 qs77 hco (by decide) hy_X5_keep) (fun M4 hq => ?_) (fun E q M9 hx => kr_out O hx)
    replace h := hq
    clear hq
    refine kr_aload_n O dX5_ask_23 rfl 0 rfl ?_
    refine kr_iload_n O dX5_ask_24 rfl 1 rfl ?_
    obtain ⟨hco, h⟩ := h
    refine kr_caI (rest := []) O cd_X5_learn h (Nat.le_of_ble_eq_true rfl) (fun ls _ => kt_ivV (ci := 12) O dX5_ask_25 cd_X5_learn in_X5_learn (Or.inl q2746) q2748 qs71 hco (by decide) hy_X5_learn) (fun u5 M6 hq => ?_) (fun E q M9 hx => kr_out O hx)
    replace h := hq
    clear hq
    exact kr_iret O dX5_ask_28 rfl h
  · replace h := h.2 hc
    refine kr_aload_n O dX5_ask_13 rfl 0 rfl ?_
    refine kr_iconst O dX5_ask_14 (v := (1 : Int32)) (by decide) ?_
    obtain ⟨hco, h⟩ := h
    refine kr_caI (rest := []) O cd_X5_raise h (Nat.le_of_ble_eq_true rfl) (fun ls _ => kt_ivV (ci := 12) O dX5_ask_15 cd_X5_raise in_X5_raise (Or.inl q2606) q2608 qs50 hco (by decide) hy_X5_raise) (fun u7 M8 hq => ?_) (fun E q M9 hx => kr_out O hx)
    replace h := hq
    clear hq
    exact kr_iret O dX5_ask_18 rfl h
def vc_X5_read_21 (w : kt_W) (gr : kt_g × kt_M) (d : Nat) (P : Option Value → kt_M → Prop) (X : String → Nat → kt_M → Prop)  (a0 : Nat) (M : kt_M) : Prop :=
  (kt_co M a0 = some 12) ∧ 
  kt_Ca w gr d yX5_raise kc_X5_raise [va_rf (some a0), .int (1 : Int32)] M (kt_pI fun u1 M2 => P (some (.int u1)) M2) X
theorem cj_X5_read_21 {w : kt_W} {x : kt_X} {gr : kt_g × kt_M} {d : Nat} {P : Option Value → kt_M → Prop} {X : String → Nat → kt_M → Prop}  {a0 : Nat} {M : kt_M} (O : kt_O w x gr (d + 1) cX5_read "KeyTurnsModel" 4 ("read", "(II)I") (Option.some Jvm.ClassFile.FieldType.int) [])  (h : vc_X5_read_21 w gr d P X  a0 M) : kt_S w x 4 (kt_E w x P X) M 21 [(0, va_rf (some a0))] [] := by
  unfold vc_X5_read_21 at h
  refine kr_aload_n O dX5_read_21 rfl 0 rfl ?_
  refine kr_iconst O dX5_read_22 (v := (1 : Int32)) (by decide) ?_
  obtain ⟨hco, h⟩ := h
  refine kr_caI (rest := []) O cd_X5_raise h (Nat.le_of_ble_eq_true rfl) (fun ls _ => kt_ivV (ci := 12) O dX5_read_23 cd_X5_raise in_X5_raise (Or.inl q2606) q2608 qs50 hco (by decide) hy_X5_raise) (fun u1 M2 hq => ?_) (fun E q M9 hx => kr_out O hx)
  replace h := hq
  clear hq
  exact kr_iret O dX5_read_26 rfl h
def vc_X5_read (w : kt_W) (gr : kt_g × kt_M) (d : Nat) (P : Option Value → kt_M → Prop) (X : String → Nat → kt_M → Prop) (a0 : Nat) (v1 : Int32) (v2 : Int32) (M : kt_M) : Prop :=
  kt_hf gr M a0 71 ∧ ∀ M1, M1 = kt_pf M a0 71 (.int (0 : Int32)) → (kt_co M1 a0 = some 12) ∧ 
  kt_Ca w gr d yX5_isClient kc_X5_isClient [va_rf (some a0), .int v1] M1 (kt_pI fun u2 M3 => 
    ((u2 = 0 → vc_X5_read_21 w gr d P X  a0 M3) ∧
    (¬ u2 = 0 → (kt_co M3 a0 = some 12) ∧ 
    kt_Ca w gr d yX5_isRecord kc_X5_isRecord [va_rf (some a0), .int v2] M3 (kt_pI fun u4 M5 => 
      ((¬ u4 = 0 → (kt_co M5 a0 = some 12) ∧ 
      kt_Ca w gr d yX5_readWith kc_X5_readWith [va_rf (some a0), .int v1, .int v2] M5 (kt_pI fun u6 M7 => 
        ((¬ u6 = (-1 : Int32) → (kt_co M7 a0 = some 12) ∧ 
        kt_Ca w gr d yX5_keep kc_X5_keep [va_rf (some a0)] M7 (kt_pV fun M8 => ∃ p9, kt_gf M8 a0 65 = some (va_rf p9) ∧ 
        kt_Ca w gr d yX5_clientAt kc_X5_clientAt [.int v1, .int (5 : Int32)] M8 (kt_pI fun u10 M11 => ∃ b12, p9 = some b12 ∧ ∃ u13, kt_el 0 M11 b12 u10 = some (.int u13) ∧ kt_hii gr 0 M11 b12 u10 ∧ ∀ M14, M14 = kt_si M11 b12 u10 (u13 + (1 : Int32)) → P (some (.int u6)) M14) X) X) ∧
        (u6 = (-1 : Int32) → P (some (.int (-2 : Int32))) M7))) X) ∧
      (u4 = 0 → vc_X5_read_21 w gr d P X  a0 M5))) X))) X
theorem ce_X5_read {w : kt_W} {g : kt_g} {d : Nat} {P : Option Value → kt_M → Prop} {X : String → Nat → kt_M → Prop} {a0 : Nat} {v1 : Int32} {v2 : Int32} {M : kt_M} (h : vc_X5_read w (g, M) d P X a0 v1 v2 M) : kt_Sp w g (d + 1) yX5_read kc_X5_read [va_rf (some a0), .int v1, .int v2] M P X := by
  refine kt_of (L0 := [(0, va_rf (some a0)), (1, .int v1), (2, .int v2)]) (by decide +kernel) (Nat.le_of_ble_eq_true rfl) rfl fun x O => ?_
  replace O : kt_O w x (g, M) (d + 1) cX5_read "KeyTurnsModel" 4 ("read", "(II)I") (Option.some Jvm.ClassFile.FieldType.int) [] := O
  unfold vc_X5_read at h
  refine kr_aload_n O dX5_read_0 rfl 0 rfl ?_
  refine kr_iconst O dX5_read_1 (v := (0 : Int32)) (by decide) ?_
  obtain ⟨hw, h⟩ := h
  refine kr_putf O dX5_read_2 fs_X5_71 (Or.inl rfl) ⟨rfl, rfl⟩ hw (kr_nmM fun M1 hM1 => ?_)
  replace h := h M1 hM1
  refine kr_aload_n O dX5_read_5 rfl 0 rfl ?_
  refine kr_iload_n O dX5_read_6 rfl 1 rfl ?_
  obtain ⟨hco, h⟩ := h
  refine kr_caI (rest := []) O cd_X5_isClient h (Nat.le_of_ble_eq_true rfl) (fun ls _ => kt_ivV (ci := 12) O dX5_read_7 cd_X5_isClient in_X5_isClient (Or.inl q2665) q2667 qs60 hco (by decide) hy_X5_isClient) (fun u2 M3 hq => ?_) (fun E q M9 hx => kr_out O hx)
  replace h := hq
  clear hq
  refine kr_if_eq (tgt := 21) O dX5_read_10 rfl (fun hc => ?_) (fun hc => ?_)
  · replace h := h.1 hc
    refine kr_sub [0] rfl ?_
    exact cj_X5_read_21 O  h
  · replace h := h.2 hc
    refine kr_aload_n O dX5_read_13 rfl 0 rfl ?_
    refine kr_iload_n O dX5_read_14 rfl 2 rfl ?_
    obtain ⟨hco, h⟩ := h
    refine kr_caI (rest := []) O cd_X5_isRecord h (Nat.le_of_ble_eq_true rfl) (fun ls _ => kt_ivV (ci := 12) O dX5_read_15 cd_X5_isRecord in_X5_isRecord (Or.inl q2597) q2599 qs48 hco (by decide) hy_X5_isRecord) (fun u4 M5 hq => ?_) (fun E q M9 hx => kr_out O hx)
    replace h := hq
    clear hq
    refine kr_if_ne (tgt := 27) O dX5_read_18 rfl (fun hc => ?_) (fun hc => ?_)
    · replace h := h.1 hc
      refine kr_aload_n O dX5_read_27 rfl 0 rfl ?_
      refine kr_iload_n O dX5_read_28 rfl 1 rfl ?_
      refine kr_iload_n O dX5_read_29 rfl 2 rfl ?_
      obtain ⟨hco, h⟩ := h
      refine kr_caI (rest := []) O cd_X5_readWith h (Nat.le_of_ble_eq_true rfl) (fun ls _ => kt_ivV (ci := 12) O dX5_read_30 cd_X5_readWith in_X5_readWith (Or.inl q2684) q2686 qs62 hco (by decide) hy_X5_readWith) (fun u6 M7 hq => ?_) (fun E q M9 hx => kr_out O hx)
      replace h := hq
      clear hq
      refine kr_istore_n O dX5_read_33 rfl (Nat.le_of_ble_eq_true rfl) rfl rfl ?_
      refine kr_iload_n O dX5_read_34 rfl 0 rfl ?_
      refine kr_iconst O dX5_read_35 (v := (-1 : Int32)) (by decide) ?_
      refine kr_icmp_ne (tgt := 42) O dX5_read_36 rfl (fun hc => ?_) (fun hc => ?_)
      · replace h := h.1 hc
        refine kr_aload_n O dX5_read_42 rfl 1 rfl ?_
        obtain ⟨hco, h⟩ := h
        refine kr_caV (rest := []) O cd_X5_keep h (Nat.le_of_ble_eq_true rfl) (fun ls _ => kt_ivV (ci := 12) O dX5_read_43 cd_X5_keep in_X5_keep (Or.inl q2794) q2796 qs77 hco (by decide) hy_X5_keep) (fun M8 hq => ?_) (fun E q M9 hx => kr_out O hx)
        replace h := hq
        clear hq
        refine kr_aload_n O dX5_read_46 rfl 1 rfl ?_
        obtain ⟨p9, ep9, h⟩ := h
        refine kr_getf O dX5_read_47 fs_X5_9 ep9 ?_
        refine kr_iload_n O dX5_read_50 rfl 2 rfl ?_
        refine kr_iconst O dX5_read_51 (v := (5 : Int32)) (by decide) ?_
        refine kr_caI (rest := [va_rf p9]) O cd_X5_clientAt h (Nat.le_of_ble_eq_true rfl) (fun ls _ => kt_ivS O dX5_read_52 cd_X5_clientAt in_X5_clientAt q2654 q2655 hy_X5_clientAt) (fun u10 M11 hq => ?_) (fun E q M9 hx => kr_out O hx)
        replace h := hq
        clear hq
        refine kr_dup2 O dX5_read_55 rfl (kt_nrf _) ?_
        obtain ⟨b12, rfl, h⟩ := h
        obtain ⟨u13, eu13, h⟩ := h
        refine kr_iaload O dX5_read_56 eu13 ?_
        refine kr_iconst O dX5_read_57 (v := (1 : Int32)) (by decide) ?_
        refine kr_iadd O dX5_read_58 ?_
        obtain ⟨hw, h⟩ := h
        refine kr_iastore O dX5_read_59 hw (kr_nmM fun M14 hM14 => ?_)
        replace h := h M14 hM14
        refine kr_iload_n O dX5_read_60 rfl 0 rfl ?_
        exact kr_iret O dX5_read_61 rfl h
      · replace h := h.2 hc
        refine kr_bipush O dX5_read_39 (v := (-2 : Int32)) (by decide) ?_
        exact kr_iret O dX5_read_41 rfl h
    · replace h := h.2 hc
      refine kr_sub [0] rfl ?_
      exact cj_X5_read_21 O  h
def vc_X5_setBatch (w : kt_W) (gr : kt_g × kt_M) (d : Nat) (P : Option Value → kt_M → Prop) (X : String → Nat → kt_M → Prop) (a0 : Nat) (v1 : Int32) (M : kt_M) : Prop :=
  kt_hf gr M a0 71 ∧ ∀ M1, M1 = kt_pf M a0 71 (.int (0 : Int32)) → 
  kt_Ca w gr d yX5_inRange kc_X5_inRange [.int v1, .int (1 : Int32), .int (30 : Int32)] M1 (kt_pI fun u2 M3 => 
    ((¬ u2 = 0 → (kt_co M3 a0 = some 12) ∧ 
    kt_Ca w gr d yX5_keep kc_X5_keep [va_rf (some a0)] M3 (kt_pV fun M4 => ∃ p5, kt_gf M4 a0 65 = some (va_rf p5) ∧ ∃ b6, p5 = some b6 ∧ ∃ u7, kt_el 0 M4 b6 (7 : Int32) = some (.int u7) ∧ ∃ p8, kt_gf M4 a0 65 = some (va_rf p8) ∧ ∃ b9, p8 = some b9 ∧ kt_hii gr 0 M4 b9 (7 : Int32) ∧ ∀ M10, M10 = kt_si M4 b9 (7 : Int32) v1 → P (some (.int u7)) M10) X) ∧
    (u2 = 0 → (kt_co M3 a0 = some 12) ∧ 
    kt_Ca w gr d yX5_raise kc_X5_raise [va_rf (some a0), .int (1 : Int32)] M3 (kt_pI fun u11 M12 => P (some (.int u11)) M12) X))) X
theorem ce_X5_setBatch {w : kt_W} {g : kt_g} {d : Nat} {P : Option Value → kt_M → Prop} {X : String → Nat → kt_M → Prop} {a0 : Nat} {v1 : Int32} {M : kt_M} (h : vc_X5_setBatch w (g, M) d P X a0 v1 M) : kt_Sp w g (d + 1) yX5_setBatch kc_X5_setBatch [va_rf (some a0), .int v1] M P X := by
  refine kt_of (L0 := [(0, va_rf (some a0)), (1, .int v1)]) (by decide +kernel) (Nat.le_of_ble_eq_true rfl) rfl fun x O => ?_
  replace O : kt_O w x (g, M) (d + 1) cX5_setBatch "KeyTurnsModel" 3 ("setBatch", "(I)I") (Option.some Jvm.ClassFile.FieldType.int) [] := O
  unfold vc_X5_setBatch at h
  refine kr_aload_n O dX5_setBatch_0 rfl 0 rfl ?_
  refine kr_iconst O dX5_setBatch_1 (v := (0 : Int32)) (by decide) ?_
  obtain ⟨hw, h⟩ := h
  refine kr_putf O dX5_setBatch_2 fs_X5_71 (Or.inl rfl) ⟨rfl, rfl⟩ hw (kr_nmM fun M1 hM1 => ?_)
  replace h := h M1 hM1
  refine kr_iload_n O dX5_setBatch_5 rfl 1 rfl ?_
  refine kr_iconst O dX5_setBatch_6 (v := (1 : Int32)) (by decide) ?_
  refine kr_bipush O dX5_setBatch_7 (v := (30 : Int32)) (by decide) ?_
  refine kr_caI (rest := []) O cd_X5_inRange h (Nat.le_of_ble_eq_true rfl) (fun ls _ => kt_ivS O dX5_setBatch_9 cd_X5_inRange in_X5_inRange q2586 q2587 hy_X5_inRange) (fun u2 M3 hq => ?_) (fun E q M9 hx => kr_out O hx)
  replace h := hq
  clear hq
  refine kr_if_ne (tgt := 21) O dX5_setBatch_12 rfl (fun hc => ?_) (fun hc => ?_)
  · replace h := h.1 hc
    refine kr_aload_n O dX5_setBatch_21 rfl 0 rfl ?_
    obtain ⟨hco, h⟩ := h
    refine kr_caV (rest := []) O cd_X5_keep h (Nat.le_of_ble_eq_true rfl) (fun ls _ => kt_ivV (ci := 12) O dX5_setBatch_22 cd_X5_keep in_X5_keep (Or.inl q2794) q2796 qs77 hco (by decide) hy_X5_keep) (fun M4 hq => ?_) (fun E q M9 hx => kr_out O hx)
    replace h := hq
    clear hq
    refine kr_aload_n O dX5_setBatch_25 rfl 0 rfl ?_
    obtain ⟨p5, ep5, h⟩ := h
    refine kr_getf O dX5_setBatch_26 fs_X5_9 ep5 ?_
    refine kr_bipush O dX5_setBatch_29 (v := (7 : Int32)) (by decide) ?_
    obtain ⟨b6, rfl, h⟩ := h
    obtain ⟨u7, eu7, h⟩ := h
    refine kr_iaload O dX5_setBatch_31 eu7 ?_
    refine kr_istore_n O dX5_setBatch_32 rfl (Nat.le_of_ble_eq_true rfl) rfl rfl ?_
    refine kr_aload_n O dX5_setBatch_33 rfl 1 rfl ?_
    obtain ⟨p8, ep8, h⟩ := h
    refine kr_getf O dX5_setBatch_34 fs_X5_9 ep8 ?_
    refine kr_bipush O dX5_setBatch_37 (v := (7 : Int32)) (by decide) ?_
    refine kr_iload_n O dX5_setBatch_39 rfl 2 rfl ?_
    obtain ⟨b9, rfl, h⟩ := h
    obtain ⟨hw, h⟩ := h
    refine kr_iastore O dX5_setBatch_40 hw (kr_nmM fun M10 hM10 => ?_)
    replace h := h M10 hM10
    refine kr_iload_n O dX5_setBatch_41 rfl 0 rfl ?_
    exact kr_iret O dX5_setBatch_42 rfl h
  · replace h := h.2 hc
    refine kr_aload_n O dX5_setBatch_15 rfl 0 rfl ?_
    refine kr_iconst O dX5_setBatch_16 (v := (1 : Int32)) (by decide) ?_
    obtain ⟨hco, h⟩ := h
    refine kr_caI (rest := []) O cd_X5_raise h (Nat.le_of_ble_eq_true rfl) (fun ls _ => kt_ivV (ci := 12) O dX5_setBatch_17 cd_X5_raise in_X5_raise (Or.inl q2606) q2608 qs50 hco (by decide) hy_X5_raise) (fun u11 M12 hq => ?_) (fun E q M9 hx => kr_out O hx)
    replace h := hq
    clear hq
    exact kr_iret O dX5_setBatch_20 rfl h
def vc_X5_format_102 (w : kt_W) (gr : kt_g × kt_M) (d : Nat) (P : Option Value → kt_M → Prop) (X : String → Nat → kt_M → Prop) (nx74 : Int32 → kt_M → Prop) (a0 : Nat) (v2 : Int32) (v3 : Int32) (s0 : Int32) (sa1 : Nat) (M : kt_M) : Prop :=
  (kt_co M sa1 = some 12) ∧ 
  kt_Ca w gr d yX5_put kc_X5_put [va_rf (some sa1), .int s0] M (kt_pV fun M1 => nx74 (v3 + (1 : Int32)) M1) X
theorem cj_X5_format_102 {w : kt_W} {x : kt_X} {gr : kt_g × kt_M} {d : Nat} {P : Option Value → kt_M → Prop} {X : String → Nat → kt_M → Prop} {nx74 : Int32 → kt_M → Prop} {a0 : Nat} {v2 : Int32} {v3 : Int32} {s0 : Int32} {sa1 : Nat} {M : kt_M} (O : kt_O w x gr (d + 1) cX5_format "KeyTurnsModel" 4 ("format", "(I)I") (Option.some Jvm.ClassFile.FieldType.int) []) (hn74 : ∀ v3 M, nx74 v3 M → kt_S w x 4 (kt_E w x P X) M 74 [(0, va_rf (some a0)), (2, .int v2), (3, .int v3)] []) (h : vc_X5_format_102 w gr d P X nx74 a0 v2 v3 s0 sa1 M) : kt_S w x 4 (kt_E w x P X) M 102 [(0, va_rf (some a0)), (2, .int v2), (3, .int v3)] [.int s0, va_rf (some sa1)] := by
  unfold vc_X5_format_102 at h
  obtain ⟨hco, h⟩ := h
  refine kr_caV (rest := []) O cd_X5_put h (Nat.le_of_ble_eq_true rfl) (fun ls _ => kt_ivV (ci := 12) O dX5_format_102 cd_X5_put in_X5_put (Or.inl q2838) q2840 qs80 hco (by decide) hy_X5_put) (fun M1 hq => ?_) (fun E q M9 hx => kr_out O hx)
  replace h := hq
  clear hq
  refine kr_iinc O dX5_format_105 2 rfl (v := v3 + (1 : Int32)) rfl (Nat.le_of_ble_eq_true rfl) rfl rfl ?_
  refine kr_goto (tgt := 74) O dX5_format_108 rfl ?_
  refine kr_sub [1, 2, 0] rfl ?_
  exact hn74 _ _ h
def vc_X5_format_74 (w : kt_W) (gr : kt_g × kt_M) (d : Nat) (P : Option Value → kt_M → Prop) (X : String → Nat → kt_M → Prop) (nx74 : Int32 → kt_M → Prop) (a0 : Nat) (v2 : Int32) (v3 : Int32) (M : kt_M) : Prop :=
  ∃ p1, kt_gf M a0 65 = some (va_rf p1) ∧ ∃ b2, p1 = some b2 ∧ ∃ u3, kt_el 0 M b2 (3 : Int32) = some (.int u3) ∧ 
    ((u3 ≤ v3 → ∃ u4, kt_gf M a0 75 = some (.int u4) ∧ P (some (.int u4)) M) ∧
    (¬ u3 ≤ v3 → 
    kt_Ca w gr d yX5_has kc_X5_has [.int v2, .int v3] M (kt_pI fun u5 M6 => 
      ((u5 = 0 → vc_X5_format_102 w gr d P X nx74 a0 v2 v3 (45 : Int32) a0 M6) ∧
      (¬ u5 = 0 → vc_X5_format_102 w gr d P X nx74 a0 v2 v3 ((48 : Int32) + v3) a0 M6))) X))
theorem cj_X5_format_74 {w : kt_W} {x : kt_X} {gr : kt_g × kt_M} {d : Nat} {P : Option Value → kt_M → Prop} {X : String → Nat → kt_M → Prop} {nx74 : Int32 → kt_M → Prop} {a0 : Nat} {v2 : Int32} {v3 : Int32} {M : kt_M} (O : kt_O w x gr (d + 1) cX5_format "KeyTurnsModel" 4 ("format", "(I)I") (Option.some Jvm.ClassFile.FieldType.int) []) (hn74 : ∀ v3 M, nx74 v3 M → kt_S w x 4 (kt_E w x P X) M 74 [(0, va_rf (some a0)), (2, .int v2), (3, .int v3)] []) (h : vc_X5_format_74 w gr d P X nx74 a0 v2 v3 M) : kt_S w x 4 (kt_E w x P X) M 74 [(0, va_rf (some a0)), (2, .int v2), (3, .int v3)] [] := by
  unfold vc_X5_format_74 at h
  refine kr_iload_n O dX5_format_74 rfl 2 rfl ?_
  refine kr_aload_n O dX5_format_75 rfl 0 rfl ?_
  obtain ⟨p1, ep1, h⟩ := h
  refine kr_getf O dX5_format_76 fs_X5_9 ep1 ?_
  refine kr_iconst O dX5_format_79 (v := (3 : Int32)) (by decide) ?_
  obtain ⟨b2, rfl, h⟩ := h
  obtain ⟨u3, eu3, h⟩ := h
  refine kr_iaload O dX5_format_80 eu3 ?_
  refine kr_icmp_ge (tgt := 111) O dX5_format_81 rfl (fun hc => ?_) (fun hc => ?_)
  · replace h := h.1 hc
    refine kr_aload_n O dX5_format_111 rfl 0 rfl ?_
    obtain ⟨u4, eu4, h⟩ := h
    refine kr_getf O dX5_format_112 fs_X5_242 eu4 ?_
    exact kr_iret O dX5_format_115 rfl h
  · replace h := h.2 hc
    refine kr_aload_n O dX5_format_84 rfl 0 rfl ?_
    refine kr_iload_n O dX5_format_85 rfl 1 rfl ?_
    refine kr_iload_n O dX5_format_86 rfl 2 rfl ?_
    refine kr_caI (rest := [va_rf (some a0)]) O cd_X5_has h (Nat.le_of_ble_eq_true rfl) (fun ls _ => kt_ivS O dX5_format_87 cd_X5_has in_X5_has q2626 q2627 hy_X5_has) (fun u5 M6 hq => ?_) (fun E q M9 hx => kr_out O hx)
    replace h := hq
    clear hq
    refine kr_if_eq (tgt := 100) O dX5_format_90 rfl (fun hc => ?_) (fun hc => ?_)
    · replace h := h.1 hc
      refine kr_bipush O dX5_format_100 (v := (45 : Int32)) (by decide) ?_
      exact cj_X5_format_102 O hn74 h
    · replace h := h.2 hc
      refine kr_bipush O dX5_format_93 (v := (48 : Int32)) (by decide) ?_
      refine kr_iload_n O dX5_format_95 rfl 2 rfl ?_
      refine kr_iadd O dX5_format_96 ?_
      refine kr_goto (tgt := 102) O dX5_format_97 rfl ?_
      exact cj_X5_format_102 O hn74 h
def vl_X5_format_74 (w : kt_W) (gr : kt_g × kt_M) (d : Nat) (P : Option Value → kt_M → Prop) (X : String → Nat → kt_M → Prop)  (a0 : Nat) (v2 : Int32) (v3 : Int32) (M : kt_M) : Prop :=
  ∃ Inv : Nat → Int32 → kt_M → Prop, (∃ k, Inv k v3 M) ∧ ∀ k v3 M, kt_le gr.1 gr.2 M → Inv k v3 M → vc_X5_format_74 w gr d P X (fun v3' M' => ∃ k', k' < k ∧ Inv k' v3' M') a0 v2 v3 M
theorem cl_X5_format_74 {w : kt_W} {x : kt_X} {gr : kt_g × kt_M} {d : Nat} {P : Option Value → kt_M → Prop} {X : String → Nat → kt_M → Prop}  {a0 : Nat} {v2 : Int32} {v3 : Int32} {M : kt_M} (O : kt_O w x gr (d + 1) cX5_format "KeyTurnsModel" 4 ("format", "(I)I") (Option.some Jvm.ClassFile.FieldType.int) [])  (h : vl_X5_format_74 w gr d P X  a0 v2 v3 M) : kt_S w x 4 (kt_E w x P X) M 74 [(0, va_rf (some a0)), (2, .int v2), (3, .int v3)] [] := by
  obtain ⟨Inv, ⟨k, hk⟩, hb⟩ := h
  induction k using Nat.strongRecOn generalizing v3 M with
  | ind k ih =>
    exact kr_le O fun hle => cj_X5_format_74 O (fun v3' M' hi => let ⟨k', h1, h2⟩ := hi; ih k' h1 h2) (hb k _ _ hle hk)
def vc_X5_format_26 (w : kt_W) (gr : kt_g × kt_M) (d : Nat) (P : Option Value → kt_M → Prop) (X : String → Nat → kt_M → Prop) (nx26 : Int32 → kt_M → Prop) (a0 : Nat) (v1 : Int32) (v2 : Int32) (M : kt_M) : Prop :=
  ∃ p1, kt_gf M a0 65 = some (va_rf p1) ∧ ∃ b2, p1 = some b2 ∧ ∃ u3, kt_el 0 M b2 (1 : Int32) = some (.int u3) ∧ 
    ((u3 ≤ v2 → (kt_co M a0 = some 12) ∧ 
    kt_Ca w gr d yX5_put kc_X5_put [va_rf (some a0), .int (32 : Int32)] M (kt_pV fun M4 => (kt_co M4 a0 = some 12) ∧ 
    kt_Ca w gr d yX5_readers kc_X5_readers [va_rf (some a0), .int v1] M4 (kt_pI fun u5 M6 => vl_X5_format_74 w gr d P X  a0 u5 (0 : Int32) M6) X) X) ∧
    (¬ u3 ≤ v2 → (kt_co M a0 = some 12) ∧ 
    kt_Ca w gr d yX5_ofRecord kc_X5_ofRecord [va_rf (some a0), .int v1, .int (1 : Int32)] M (kt_pI fun u7 M8 => 
    kt_Ca w gr d yX5_has kc_X5_has [.int u7, .int v2] M8 (kt_pI fun u9 M10 => 
      ((u9 = 0 → nx26 (v2 + (1 : Int32)) M10) ∧
      (¬ u9 = 0 → (kt_co M10 a0 = some 12) ∧ 
      kt_Ca w gr d yX5_putVersion kc_X5_putVersion [va_rf (some a0), .int v2] M10 (kt_pV fun M11 => nx26 (v2 + (1 : Int32)) M11) X))) X) X))
theorem cj_X5_format_26 {w : kt_W} {x : kt_X} {gr : kt_g × kt_M} {d : Nat} {P : Option Value → kt_M → Prop} {X : String → Nat → kt_M → Prop} {nx26 : Int32 → kt_M → Prop} {a0 : Nat} {v1 : Int32} {v2 : Int32} {M : kt_M} (O : kt_O w x gr (d + 1) cX5_format "KeyTurnsModel" 4 ("format", "(I)I") (Option.some Jvm.ClassFile.FieldType.int) []) (hn26 : ∀ v2 M, nx26 v2 M → kt_S w x 4 (kt_E w x P X) M 26 [(0, va_rf (some a0)), (1, .int v1), (2, .int v2)] []) (h : vc_X5_format_26 w gr d P X nx26 a0 v1 v2 M) : kt_S w x 4 (kt_E w x P X) M 26 [(0, va_rf (some a0)), (1, .int v1), (2, .int v2)] [] := by
  unfold vc_X5_format_26 at h
  refine kr_iload_n O dX5_format_26 rfl 2 rfl ?_
  refine kr_aload_n O dX5_format_27 rfl 0 rfl ?_
  obtain ⟨p1, ep1, h⟩ := h
  refine kr_getf O dX5_format_28 fs_X5_9 ep1 ?_
  refine kr_iconst O dX5_format_31 (v := (1 : Int32)) (by decide) ?_
  obtain ⟨b2, rfl, h⟩ := h
  obtain ⟨u3, eu3, h⟩ := h
  refine kr_iaload O dX5_format_32 eu3 ?_
  refine kr_icmp_ge (tgt := 60) O dX5_format_33 rfl (fun hc => ?_) (fun hc => ?_)
  · replace h := h.1 hc
    refine kr_aload_n O dX5_format_60 rfl 0 rfl ?_
    refine kr_bipush O dX5_format_61 (v := (32 : Int32)) (by decide) ?_
    obtain ⟨hco, h⟩ := h
    refine kr_caV (rest := []) O cd_X5_put h (Nat.le_of_ble_eq_true rfl) (fun ls _ => kt_ivV (ci := 12) O dX5_format_63 cd_X5_put in_X5_put (Or.inl q2838) q2840 qs80 hco (by decide) hy_X5_put) (fun M4 hq => ?_) (fun E q M9 hx => kr_out O hx)
    replace h := hq
    clear hq
    refine kr_aload_n O dX5_format_66 rfl 0 rfl ?_
    refine kr_iload_n O dX5_format_67 rfl 1 rfl ?_
    obtain ⟨hco, h⟩ := h
    refine kr_caI (rest := []) O cd_X5_readers h (Nat.le_of_ble_eq_true rfl) (fun ls _ => kt_ivV (ci := 12) O dX5_format_68 cd_X5_readers in_X5_readers (Or.inl q2638) q2640 qs55 hco (by decide) hy_X5_readers) (fun u5 M6 hq => ?_) (fun E q M9 hx => kr_out O hx)
    replace h := hq
    clear hq
    refine kr_istore_n O dX5_format_71 rfl (Nat.le_of_ble_eq_true rfl) rfl rfl ?_
    refine kr_iconst O dX5_format_72 (v := (0 : Int32)) (by decide) ?_
    refine kr_istore_n O dX5_format_73 rfl (Nat.le_of_ble_eq_true rfl) rfl rfl ?_
    refine kr_sub [2, 1, 0] rfl ?_
    exact cl_X5_format_74 O  h
  · replace h := h.2 hc
    refine kr_aload_n O dX5_format_36 rfl 0 rfl ?_
    refine kr_iload_n O dX5_format_37 rfl 1 rfl ?_
    refine kr_iconst O dX5_format_38 (v := (1 : Int32)) (by decide) ?_
    obtain ⟨hco, h⟩ := h
    refine kr_caI (rest := []) O cd_X5_ofRecord h (Nat.le_of_ble_eq_true rfl) (fun ls _ => kt_ivV (ci := 12) O dX5_format_39 cd_X5_ofRecord in_X5_ofRecord (Or.inl q2563) q2565 qs41 hco (by decide) hy_X5_ofRecord) (fun u7 M8 hq => ?_) (fun E q M9 hx => kr_out O hx)
    replace h := hq
    clear hq
    refine kr_iload_n O dX5_format_42 rfl 2 rfl ?_
    refine kr_caI (rest := []) O cd_X5_has h (Nat.le_of_ble_eq_true rfl) (fun ls _ => kt_ivS O dX5_format_43 cd_X5_has in_X5_has q2626 q2627 hy_X5_has) (fun u9 M10 hq => ?_) (fun E q M9 hx => kr_out O hx)
    replace h := hq
    clear hq
    refine kr_if_eq (tgt := 54) O dX5_format_46 rfl (fun hc => ?_) (fun hc => ?_)
    · replace h := h.1 hc
      refine kr_iinc O dX5_format_54 2 rfl (v := v2 + (1 : Int32)) rfl (Nat.le_of_ble_eq_true rfl) rfl rfl ?_
      refine kr_goto (tgt := 26) O dX5_format_57 rfl ?_
      refine kr_sub [1, 2, 0] rfl ?_
      exact hn26 _ _ h
    · replace h := h.2 hc
      refine kr_aload_n O dX5_format_49 rfl 0 rfl ?_
      refine kr_iload_n O dX5_format_50 rfl 2 rfl ?_
      obtain ⟨hco, h⟩ := h
      refine kr_caV (rest := []) O cd_X5_putVersion h (Nat.le_of_ble_eq_true rfl) (fun ls _ => kt_ivV (ci := 12) O dX5_format_51 cd_X5_putVersion in_X5_putVersion (Or.inl q2834) q2836 qs79 hco (by decide) hy_X5_putVersion) (fun M11 hq => ?_) (fun E q M9 hx => kr_out O hx)
      replace h := hq
      clear hq
      refine kr_iinc O dX5_format_54 2 rfl (v := v2 + (1 : Int32)) rfl (Nat.le_of_ble_eq_true rfl) rfl rfl ?_
      refine kr_goto (tgt := 26) O dX5_format_57 rfl ?_
      refine kr_sub [1, 2, 0] rfl ?_
      exact hn26 _ _ h
def vl_X5_format_26 (w : kt_W) (gr : kt_g × kt_M) (d : Nat) (P : Option Value → kt_M → Prop) (X : String → Nat → kt_M → Prop)  (a0 : Nat) (v1 : Int32) (v2 : Int32) (M : kt_M) : Prop :=
  ∃ Inv : Nat → Int32 → kt_M → Prop, (∃ k, Inv k v2 M) ∧ ∀ k v2 M, kt_le gr.1 gr.2 M → Inv k v2 M → vc_X5_format_26 w gr d P X (fun v2' M' => ∃ k', k' < k ∧ Inv k' v2' M') a0 v1 v2 M
theorem cl_X5_format_26 {w : kt_W} {x : kt_X} {gr : kt_g × kt_M} {d : Nat} {P : Option Value → kt_M → Prop} {X : String → Nat → kt_M → Prop}  {a0 : Nat} {v1 : Int32} {v2 : Int32} {M : kt_M} (O : kt_O w x gr (d + 1) cX5_format "KeyTurnsModel" 4 ("format", "(I)I") (Option.some Jvm.ClassFile.FieldType.int) [])  (h : vl_X5_format_26 w gr d P X  a0 v1 v2 M) : kt_S w x 4 (kt_E w x P X) M 26 [(0, va_rf (some a0)), (1, .int v1), (2, .int v2)] [] := by
  obtain ⟨Inv, ⟨k, hk⟩, hb⟩ := h
  induction k using Nat.strongRecOn generalizing v2 M with
  | ind k ih =>
    exact kr_le O fun hle => cj_X5_format_26 O (fun v2' M' hi => let ⟨k', h1, h2⟩ := hi; ih k' h1 h2) (hb k _ _ hle hk)
def vc_X5_format (w : kt_W) (gr : kt_g × kt_M) (d : Nat) (P : Option Value → kt_M → Prop) (X : String → Nat → kt_M → Prop) (a0 : Nat) (v1 : Int32) (M : kt_M) : Prop :=
  kt_hf gr M a0 71 ∧ ∀ M1, M1 = kt_pf M a0 71 (.int (0 : Int32)) → (kt_co M1 a0 = some 12) ∧ 
  kt_Ca w gr d yX5_isRecord kc_X5_isRecord [va_rf (some a0), .int v1] M1 (kt_pI fun u2 M3 => 
    ((¬ u2 = 0 → kt_hf gr M3 a0 75 ∧ ∀ M4, M4 = kt_pf M3 a0 75 (.int (0 : Int32)) → vl_X5_format_26 w gr d P X  a0 v1 (0 : Int32) M4) ∧
    (u2 = 0 → (kt_co M3 a0 = some 12) ∧ 
    kt_Ca w gr d yX5_raise kc_X5_raise [va_rf (some a0), .int (1 : Int32)] M3 (kt_pI fun u5 M6 => P (some (.int u5)) M6) X))) X
theorem ce_X5_format {w : kt_W} {g : kt_g} {d : Nat} {P : Option Value → kt_M → Prop} {X : String → Nat → kt_M → Prop} {a0 : Nat} {v1 : Int32} {M : kt_M} (h : vc_X5_format w (g, M) d P X a0 v1 M) : kt_Sp w g (d + 1) yX5_format kc_X5_format [va_rf (some a0), .int v1] M P X := by
  refine kt_of (L0 := [(0, va_rf (some a0)), (1, .int v1)]) (by decide +kernel) (Nat.le_of_ble_eq_true rfl) rfl fun x O => ?_
  replace O : kt_O w x (g, M) (d + 1) cX5_format "KeyTurnsModel" 4 ("format", "(I)I") (Option.some Jvm.ClassFile.FieldType.int) [] := O
  unfold vc_X5_format at h
  refine kr_aload_n O dX5_format_0 rfl 0 rfl ?_
  refine kr_iconst O dX5_format_1 (v := (0 : Int32)) (by decide) ?_
  obtain ⟨hw, h⟩ := h
  refine kr_putf O dX5_format_2 fs_X5_71 (Or.inl rfl) ⟨rfl, rfl⟩ hw (kr_nmM fun M1 hM1 => ?_)
  replace h := h M1 hM1
  refine kr_aload_n O dX5_format_5 rfl 0 rfl ?_
  refine kr_iload_n O dX5_format_6 rfl 1 rfl ?_
  obtain ⟨hco, h⟩ := h
  refine kr_caI (rest := []) O cd_X5_isRecord h (Nat.le_of_ble_eq_true rfl) (fun ls _ => kt_ivV (ci := 12) O dX5_format_7 cd_X5_isRecord in_X5_isRecord (Or.inl q2597) q2599 qs48 hco (by decide) hy_X5_isRecord) (fun u2 M3 hq => ?_) (fun E q M9 hx => kr_out O hx)
  replace h := hq
  clear hq
  refine kr_if_ne (tgt := 19) O dX5_format_10 rfl (fun hc => ?_) (fun hc => ?_)
  · replace h := h.1 hc
    refine kr_aload_n O dX5_format_19 rfl 0 rfl ?_
    refine kr_iconst O dX5_format_20 (v := (0 : Int32)) (by decide) ?_
    obtain ⟨hw, h⟩ := h
    refine kr_putf O dX5_format_21 fs_X5_242 (Or.inl rfl) ⟨rfl, rfl⟩ hw (kr_nmM fun M4 hM4 => ?_)
    replace h := h M4 hM4
    refine kr_iconst O dX5_format_24 (v := (0 : Int32)) (by decide) ?_
    refine kr_istore_n O dX5_format_25 rfl (Nat.le_of_ble_eq_true rfl) rfl rfl ?_
    refine kr_sub [1, 2, 0] rfl ?_
    exact cl_X5_format_26 O  h
  · replace h := h.2 hc
    refine kr_aload_n O dX5_format_13 rfl 0 rfl ?_
    refine kr_iconst O dX5_format_14 (v := (1 : Int32)) (by decide) ?_
    obtain ⟨hco, h⟩ := h
    refine kr_caI (rest := []) O cd_X5_raise h (Nat.le_of_ble_eq_true rfl) (fun ls _ => kt_ivV (ci := 12) O dX5_format_15 cd_X5_raise in_X5_raise (Or.inl q2606) q2608 qs50 hco (by decide) hy_X5_raise) (fun u5 M6 hq => ?_) (fun E q M9 hx => kr_out O hx)
    replace h := hq
    clear hq
    exact kr_iret O dX5_format_18 rfl h
def vc_X5_putVersion_36 (w : kt_W) (gr : kt_g × kt_M) (d : Nat) (P : Option Value → kt_M → Prop) (X : String → Nat → kt_M → Prop)  (a0 : Nat) (v1 : Int32) (M : kt_M) : Prop :=
  ¬ (10 : Int32) = 0 ∧ (kt_co M a0 = some 12) ∧ 
  kt_Ca w gr d yX5_put kc_X5_put [va_rf (some a0), .int ((48 : Int32) + (v1 - v1 / (10 : Int32) * (10 : Int32)))] M (kt_pV fun M1 => (kt_co M1 a0 = some 12) ∧ 
  kt_Ca w gr d yX5_writing kc_X5_writing [va_rf (some a0)] M1 (kt_pI fun u2 M3 => 
    ((¬ v1 = u2 → P none M3) ∧
    (v1 = u2 → (kt_co M3 a0 = some 12) ∧ 
    kt_Ca w gr d yX5_put kc_X5_put [va_rf (some a0), .int (42 : Int32)] M3 (kt_pV fun M4 => P none M4) X))) X) X
theorem cj_X5_putVersion_36 {w : kt_W} {x : kt_X} {gr : kt_g × kt_M} {d : Nat} {P : Option Value → kt_M → Prop} {X : String → Nat → kt_M → Prop}  {a0 : Nat} {v1 : Int32} {M : kt_M} (O : kt_O w x gr (d + 1) cX5_putVersion "KeyTurnsModel" 2 ("putVersion", "(I)V") (Option.none : Option Jvm.ClassFile.FieldType) [])  (h : vc_X5_putVersion_36 w gr d P X  a0 v1 M) : kt_S w x 2 (kt_E w x P X) M 36 [(0, va_rf (some a0)), (1, .int v1)] [] := by
  unfold vc_X5_putVersion_36 at h
  refine kr_aload_n O dX5_putVersion_36 rfl 0 rfl ?_
  refine kr_bipush O dX5_putVersion_37 (v := (48 : Int32)) (by decide) ?_
  refine kr_iload_n O dX5_putVersion_39 rfl 1 rfl ?_
  refine kr_bipush O dX5_putVersion_40 (v := (10 : Int32)) (by decide) ?_
  obtain ⟨hne, h⟩ := h
  refine kr_irem O dX5_putVersion_42 hne ?_
  refine kr_iadd O dX5_putVersion_43 ?_
  obtain ⟨hco, h⟩ := h
  refine kr_caV (rest := []) O cd_X5_put h (Nat.le_of_ble_eq_true rfl) (fun ls _ => kt_ivV (ci := 12) O dX5_putVersion_44 cd_X5_put in_X5_put (Or.inl q2838) q2840 qs80 hco (by decide) hy_X5_put) (fun M1 hq => ?_) (fun E q M9 hx => kr_out O hx)
  replace h := hq
  clear hq
  refine kr_iload_n O dX5_putVersion_47 rfl 1 rfl ?_
  refine kr_aload_n O dX5_putVersion_48 rfl 0 rfl ?_
  obtain ⟨hco, h⟩ := h
  refine kr_caI (rest := [.int v1]) O cd_X5_writing h (Nat.le_of_ble_eq_true rfl) (fun ls _ => kt_ivV (ci := 12) O dX5_putVersion_49 cd_X5_writing in_X5_writing (Or.inl q2570) q2572 qs42 hco (by decide) hy_X5_writing) (fun u2 M3 hq => ?_) (fun E q M9 hx => kr_out O hx)
  replace h := hq
  clear hq
  refine kr_icmp_ne (tgt := 61) O dX5_putVersion_52 rfl (fun hc => ?_) (fun hc => ?_)
  · replace h := h.1 hc
    exact kr_vret O dX5_putVersion_61 h
  · replace h := h.2 hc
    refine kr_aload_n O dX5_putVersion_55 rfl 0 rfl ?_
    refine kr_bipush O dX5_putVersion_56 (v := (42 : Int32)) (by decide) ?_
    obtain ⟨hco, h⟩ := h
    refine kr_caV (rest := []) O cd_X5_put h (Nat.le_of_ble_eq_true rfl) (fun ls _ => kt_ivV (ci := 12) O dX5_putVersion_58 cd_X5_put in_X5_put (Or.inl q2838) q2840 qs80 hco (by decide) hy_X5_put) (fun M4 hq => ?_) (fun E q M9 hx => kr_out O hx)
    replace h := hq
    clear hq
    exact kr_vret O dX5_putVersion_61 h
def vc_X5_putVersion_13 (w : kt_W) (gr : kt_g × kt_M) (d : Nat) (P : Option Value → kt_M → Prop) (X : String → Nat → kt_M → Prop)  (a0 : Nat) (v1 : Int32) (M : kt_M) : Prop :=
  (kt_co M a0 = some 12) ∧ 
  kt_Ca w gr d yX5_put kc_X5_put [va_rf (some a0), .int (118 : Int32)] M (kt_pV fun M1 => 
    ((v1 ≤ (9 : Int32) → vc_X5_putVersion_36 w gr d P X  a0 v1 M1) ∧
    (¬ v1 ≤ (9 : Int32) → ¬ (10 : Int32) = 0 ∧ (kt_co M1 a0 = some 12) ∧ 
    kt_Ca w gr d yX5_put kc_X5_put [va_rf (some a0), .int ((48 : Int32) + (v1 / (10 : Int32)))] M1 (kt_pV fun M2 => vc_X5_putVersion_36 w gr d P X  a0 v1 M2) X))) X
theorem cj_X5_putVersion_13 {w : kt_W} {x : kt_X} {gr : kt_g × kt_M} {d : Nat} {P : Option Value → kt_M → Prop} {X : String → Nat → kt_M → Prop}  {a0 : Nat} {v1 : Int32} {M : kt_M} (O : kt_O w x gr (d + 1) cX5_putVersion "KeyTurnsModel" 2 ("putVersion", "(I)V") (Option.none : Option Jvm.ClassFile.FieldType) [])  (h : vc_X5_putVersion_13 w gr d P X  a0 v1 M) : kt_S w x 2 (kt_E w x P X) M 13 [(0, va_rf (some a0)), (1, .int v1)] [] := by
  unfold vc_X5_putVersion_13 at h
  refine kr_aload_n O dX5_putVersion_13 rfl 0 rfl ?_
  refine kr_bipush O dX5_putVersion_14 (v := (118 : Int32)) (by decide) ?_
  obtain ⟨hco, h⟩ := h
  refine kr_caV (rest := []) O cd_X5_put h (Nat.le_of_ble_eq_true rfl) (fun ls _ => kt_ivV (ci := 12) O dX5_putVersion_16 cd_X5_put in_X5_put (Or.inl q2838) q2840 qs80 hco (by decide) hy_X5_put) (fun M1 hq => ?_) (fun E q M9 hx => kr_out O hx)
  replace h := hq
  clear hq
  refine kr_iload_n O dX5_putVersion_19 rfl 1 rfl ?_
  refine kr_bipush O dX5_putVersion_20 (v := (9 : Int32)) (by decide) ?_
  refine kr_icmp_le (tgt := 36) O dX5_putVersion_22 rfl (fun hc => ?_) (fun hc => ?_)
  · replace h := h.1 hc
    exact cj_X5_putVersion_36 O  h
  · replace h := h.2 hc
    refine kr_aload_n O dX5_putVersion_25 rfl 0 rfl ?_
    refine kr_bipush O dX5_putVersion_26 (v := (48 : Int32)) (by decide) ?_
    refine kr_iload_n O dX5_putVersion_28 rfl 1 rfl ?_
    refine kr_bipush O dX5_putVersion_29 (v := (10 : Int32)) (by decide) ?_
    obtain ⟨hne, h⟩ := h
    refine kr_idiv O dX5_putVersion_31 hne ?_
    refine kr_iadd O dX5_putVersion_32 ?_
    obtain ⟨hco, h⟩ := h
    refine kr_caV (rest := []) O cd_X5_put h (Nat.le_of_ble_eq_true rfl) (fun ls _ => kt_ivV (ci := 12) O dX5_putVersion_33 cd_X5_put in_X5_put (Or.inl q2838) q2840 qs80 hco (by decide) hy_X5_put) (fun M2 hq => ?_) (fun E q M9 hx => kr_out O hx)
    replace h := hq
    clear hq
    exact cj_X5_putVersion_36 O  h
def vc_X5_putVersion (w : kt_W) (gr : kt_g × kt_M) (d : Nat) (P : Option Value → kt_M → Prop) (X : String → Nat → kt_M → Prop) (a0 : Nat) (v1 : Int32) (M : kt_M) : Prop :=
  ∃ u1, kt_gf M a0 75 = some (.int u1) ∧ 
    ((u1 ≤ 0 → vc_X5_putVersion_13 w gr d P X  a0 v1 M) ∧
    (¬ u1 ≤ 0 → (kt_co M a0 = some 12) ∧ 
    kt_Ca w gr d yX5_put kc_X5_put [va_rf (some a0), .int (32 : Int32)] M (kt_pV fun M2 => vc_X5_putVersion_13 w gr d P X  a0 v1 M2) X))
theorem ce_X5_putVersion {w : kt_W} {g : kt_g} {d : Nat} {P : Option Value → kt_M → Prop} {X : String → Nat → kt_M → Prop} {a0 : Nat} {v1 : Int32} {M : kt_M} (h : vc_X5_putVersion w (g, M) d P X a0 v1 M) : kt_Sp w g (d + 1) yX5_putVersion kc_X5_putVersion [va_rf (some a0), .int v1] M P X := by
  refine kt_of (L0 := [(0, va_rf (some a0)), (1, .int v1)]) (by decide +kernel) (Nat.le_of_ble_eq_true rfl) rfl fun x O => ?_
  replace O : kt_O w x (g, M) (d + 1) cX5_putVersion "KeyTurnsModel" 2 ("putVersion", "(I)V") (Option.none : Option Jvm.ClassFile.FieldType) [] := O
  unfold vc_X5_putVersion at h
  refine kr_aload_n O dX5_putVersion_0 rfl 0 rfl ?_
  obtain ⟨u1, eu1, h⟩ := h
  refine kr_getf O dX5_putVersion_1 fs_X5_242 eu1 ?_
  refine kr_if_le (tgt := 13) O dX5_putVersion_4 rfl (fun hc => ?_) (fun hc => ?_)
  · replace h := h.1 hc
    exact cj_X5_putVersion_13 O  h
  · replace h := h.2 hc
    refine kr_aload_n O dX5_putVersion_7 rfl 0 rfl ?_
    refine kr_bipush O dX5_putVersion_8 (v := (32 : Int32)) (by decide) ?_
    obtain ⟨hco, h⟩ := h
    refine kr_caV (rest := []) O cd_X5_put h (Nat.le_of_ble_eq_true rfl) (fun ls _ => kt_ivV (ci := 12) O dX5_putVersion_10 cd_X5_put in_X5_put (Or.inl q2838) q2840 qs80 hco (by decide) hy_X5_put) (fun M2 hq => ?_) (fun E q M9 hx => kr_out O hx)
    replace h := hq
    clear hq
    exact cj_X5_putVersion_13 O  h
def vc_X5_put (w : kt_W) (gr : kt_g × kt_M) (d : Nat) (P : Option Value → kt_M → Prop) (X : String → Nat → kt_M → Prop) (a0 : Nat) (v1 : Int32) (M : kt_M) : Prop :=
  ∃ p1, kt_gf M a0 74 = some (va_rf p1) ∧ ∃ u2, kt_gf M a0 75 = some (.int u2) ∧ ∃ b3, p1 = some b3 ∧ kt_hii gr 0 M b3 u2 ∧ ∀ M4, M4 = kt_si M b3 u2 v1 → ∃ u5, kt_gf M4 a0 75 = some (.int u5) ∧ kt_hf gr M4 a0 75 ∧ ∀ M6, M6 = kt_pf M4 a0 75 (.int (u5 + (1 : Int32))) → P none M6
theorem ce_X5_put {w : kt_W} {g : kt_g} {d : Nat} {P : Option Value → kt_M → Prop} {X : String → Nat → kt_M → Prop} {a0 : Nat} {v1 : Int32} {M : kt_M} (h : vc_X5_put w (g, M) d P X a0 v1 M) : kt_Sp w g (d + 1) yX5_put kc_X5_put [va_rf (some a0), .int v1] M P X := by
  refine kt_of (L0 := [(0, va_rf (some a0)), (1, .int v1)]) (by decide +kernel) (Nat.le_of_ble_eq_true rfl) rfl fun x O => ?_
  replace O : kt_O w x (g, M) (d + 1) cX5_put "KeyTurnsModel" 2 ("put", "(I)V") (Option.none : Option Jvm.ClassFile.FieldType) [] := O
  unfold vc_X5_put at h
  refine kr_aload_n O dX5_put_0 rfl 0 rfl ?_
  obtain ⟨p1, ep1, h⟩ := h
  refine kr_getf O dX5_put_1 fs_X5_28 ep1 ?_
  refine kr_aload_n O dX5_put_4 rfl 0 rfl ?_
  obtain ⟨u2, eu2, h⟩ := h
  refine kr_getf O dX5_put_5 fs_X5_242 eu2 ?_
  refine kr_iload_n O dX5_put_8 rfl 1 rfl ?_
  obtain ⟨b3, rfl, h⟩ := h
  obtain ⟨hw, h⟩ := h
  refine kr_iastore O dX5_put_9 hw (kr_nmM fun M4 hM4 => ?_)
  replace h := h M4 hM4
  refine kr_aload_n O dX5_put_10 rfl 0 rfl ?_
  refine kr_dup O dX5_put_11 (kt_nrf _) ?_
  obtain ⟨u5, eu5, h⟩ := h
  refine kr_getf O dX5_put_12 fs_X5_242 eu5 ?_
  refine kr_iconst O dX5_put_15 (v := (1 : Int32)) (by decide) ?_
  refine kr_iadd O dX5_put_16 ?_
  obtain ⟨hw, h⟩ := h
  refine kr_putf O dX5_put_17 fs_X5_242 (Or.inl rfl) ⟨rfl, rfl⟩ hw (kr_nmM fun M6 hM6 => ?_)
  replace h := h M6 hM6
  exact kr_vret O dX5_put_20 h
def vc_X5_formattedByte (w : kt_W) (gr : kt_g × kt_M) (d : Nat) (P : Option Value → kt_M → Prop) (X : String → Nat → kt_M → Prop) (a0 : Nat) (v1 : Int32) (M : kt_M) : Prop :=
  kt_hf gr M a0 71 ∧ ∀ M1, M1 = kt_pf M a0 71 (.int (0 : Int32)) → ∃ u2, kt_gf M1 a0 75 = some (.int u2) ∧ 
  kt_Ca w gr d yX5_inRange kc_X5_inRange [.int v1, .int (0 : Int32), .int (u2 - (1 : Int32))] M1 (kt_pI fun u3 M4 => 
    ((u3 = 0 → P (some (.int (-1 : Int32))) M4) ∧
    (¬ u3 = 0 → ∃ p5, kt_gf M4 a0 74 = some (va_rf p5) ∧ ∃ b6, p5 = some b6 ∧ ∃ u7, kt_el 0 M4 b6 v1 = some (.int u7) ∧ P (some (.int u7)) M4))) X
theorem ce_X5_formattedByte {w : kt_W} {g : kt_g} {d : Nat} {P : Option Value → kt_M → Prop} {X : String → Nat → kt_M → Prop} {a0 : Nat} {v1 : Int32} {M : kt_M} (h : vc_X5_formattedByte w (g, M) d P X a0 v1 M) : kt_Sp w g (d + 1) yX5_formattedByte kc_X5_formattedByte [va_rf (some a0), .int v1] M P X := by
  refine kt_of (L0 := [(0, va_rf (some a0)), (1, .int v1)]) (by decide +kernel) (Nat.le_of_ble_eq_true rfl) rfl fun x O => ?_
  replace O : kt_O w x (g, M) (d + 1) cX5_formattedByte "KeyTurnsModel" 2 ("formattedByte", "(I)I") (Option.some Jvm.ClassFile.FieldType.int) [] := O
  unfold vc_X5_formattedByte at h
  refine kr_aload_n O dX5_formattedByte_0 rfl 0 rfl ?_
  refine kr_iconst O dX5_formattedByte_1 (v := (0 : Int32)) (by decide) ?_
  obtain ⟨hw, h⟩ := h
  refine kr_putf O dX5_formattedByte_2 fs_X5_71 (Or.inl rfl) ⟨rfl, rfl⟩ hw (kr_nmM fun M1 hM1 => ?_)
  replace h := h M1 hM1
  refine kr_iload_n O dX5_formattedByte_5 rfl 1 rfl ?_
  refine kr_iconst O dX5_formattedByte_6 (v := (0 : Int32)) (by decide) ?_
  refine kr_aload_n O dX5_formattedByte_7 rfl 0 rfl ?_
  obtain ⟨u2, eu2, h⟩ := h
  refine kr_getf O dX5_formattedByte_8 fs_X5_242 eu2 ?_
  refine kr_iconst O dX5_formattedByte_11 (v := (1 : Int32)) (by decide) ?_
  refine kr_isub O dX5_formattedByte_12 ?_
  refine kr_caI (rest := []) O cd_X5_inRange h (Nat.le_of_ble_eq_true rfl) (fun ls _ => kt_ivS O dX5_formattedByte_13 cd_X5_inRange in_X5_inRange q2586 q2587 hy_X5_inRange) (fun u3 M4 hq => ?_) (fun E q M9 hx => kr_out O hx)
  replace h := hq
  clear hq
  refine kr_if_eq (tgt := 28) O dX5_formattedByte_16 rfl (fun hc => ?_) (fun hc => ?_)
  · replace h := h.1 hc
    refine kr_iconst O dX5_formattedByte_28 (v := (-1 : Int32)) (by decide) ?_
    exact kr_iret O dX5_formattedByte_29 rfl h
  · replace h := h.2 hc
    refine kr_aload_n O dX5_formattedByte_19 rfl 0 rfl ?_
    obtain ⟨p5, ep5, h⟩ := h
    refine kr_getf O dX5_formattedByte_20 fs_X5_28 ep5 ?_
    refine kr_iload_n O dX5_formattedByte_23 rfl 1 rfl ?_
    obtain ⟨b6, rfl, h⟩ := h
    obtain ⟨u7, eu7, h⟩ := h
    refine kr_iaload O dX5_formattedByte_24 eu7 ?_
    refine kr_goto (tgt := 29) O dX5_formattedByte_25 rfl ?_
    exact kr_iret O dX5_formattedByte_29 rfl h
def vc_X5_undoCount (w : kt_W) (gr : kt_g × kt_M) (d : Nat) (P : Option Value → kt_M → Prop) (X : String → Nat → kt_M → Prop) (a0 : Nat) (M : kt_M) : Prop :=
  kt_hf gr M a0 71 ∧ ∀ M1, M1 = kt_pf M a0 71 (.int (0 : Int32)) → ∃ u2, kt_gf M1 a0 70 = some (.int u2) ∧ P (some (.int u2)) M1
theorem ce_X5_undoCount {w : kt_W} {g : kt_g} {d : Nat} {P : Option Value → kt_M → Prop} {X : String → Nat → kt_M → Prop} {a0 : Nat} {M : kt_M} (h : vc_X5_undoCount w (g, M) d P X a0 M) : kt_Sp w g (d + 1) yX5_undoCount kc_X5_undoCount [va_rf (some a0)] M P X := by
  refine kt_of (L0 := [(0, va_rf (some a0))]) (by decide +kernel) (Nat.le_of_ble_eq_true rfl) rfl fun x O => ?_
  replace O : kt_O w x (g, M) (d + 1) cX5_undoCount "KeyTurnsModel" 1 ("undoCount", "()I") (Option.some Jvm.ClassFile.FieldType.int) [] := O
  unfold vc_X5_undoCount at h
  refine kr_aload_n O dX5_undoCount_0 rfl 0 rfl ?_
  refine kr_iconst O dX5_undoCount_1 (v := (0 : Int32)) (by decide) ?_
  obtain ⟨hw, h⟩ := h
  refine kr_putf O dX5_undoCount_2 fs_X5_71 (Or.inl rfl) ⟨rfl, rfl⟩ hw (kr_nmM fun M1 hM1 => ?_)
  replace h := h M1 hM1
  refine kr_aload_n O dX5_undoCount_5 rfl 0 rfl ?_
  obtain ⟨u2, eu2, h⟩ := h
  refine kr_getf O dX5_undoCount_6 fs_X5_251 eu2 ?_
  exact kr_iret O dX5_undoCount_9 rfl h
def vc_X5_undo (w : kt_W) (gr : kt_g × kt_M) (d : Nat) (P : Option Value → kt_M → Prop) (X : String → Nat → kt_M → Prop) (a0 : Nat) (M : kt_M) : Prop :=
  kt_hf gr M a0 71 ∧ ∀ M1, M1 = kt_pf M a0 71 (.int (0 : Int32)) → ∃ u2, kt_gf M1 a0 70 = some (.int u2) ∧ 
    ((¬ u2 = 0 → ∃ u3, kt_gf M1 a0 70 = some (.int u3) ∧ kt_hf gr M1 a0 70 ∧ ∀ M4, M4 = kt_pf M1 a0 70 (.int (u3 - (1 : Int32))) → ∃ p5, kt_gf M4 a0 69 = some (va_rf p5) ∧ ∃ u6, kt_gf M4 a0 70 = some (.int u6) ∧ ∃ p7, kt_gf M4 a0 65 = some (va_rf p7) ∧ 
    kt_Ca w gr d yX5_copy kc_X5_copy [va_rf p5, .int u6, va_rf p7, .int (0 : Int32)] M4 (kt_pV fun M8 => ∃ u9, kt_gf M8 a0 70 = some (.int u9) ∧ P (some (.int u9)) M8) X) ∧
    (u2 = 0 → P (some (.int (-1 : Int32))) M1))
theorem ce_X5_undo {w : kt_W} {g : kt_g} {d : Nat} {P : Option Value → kt_M → Prop} {X : String → Nat → kt_M → Prop} {a0 : Nat} {M : kt_M} (h : vc_X5_undo w (g, M) d P X a0 M) : kt_Sp w g (d + 1) yX5_undo kc_X5_undo [va_rf (some a0)] M P X := by
  refine kt_of (L0 := [(0, va_rf (some a0))]) (by decide +kernel) (Nat.le_of_ble_eq_true rfl) rfl fun x O => ?_
  replace O : kt_O w x (g, M) (d + 1) cX5_undo "KeyTurnsModel" 1 ("undo", "()I") (Option.some Jvm.ClassFile.FieldType.int) [] := O
  unfold vc_X5_undo at h
  refine kr_aload_n O dX5_undo_0 rfl 0 rfl ?_
  refine kr_iconst O dX5_undo_1 (v := (0 : Int32)) (by decide) ?_
  obtain ⟨hw, h⟩ := h
  refine kr_putf O dX5_undo_2 fs_X5_71 (Or.inl rfl) ⟨rfl, rfl⟩ hw (kr_nmM fun M1 hM1 => ?_)
  replace h := h M1 hM1
  refine kr_aload_n O dX5_undo_5 rfl 0 rfl ?_
  obtain ⟨u2, eu2, h⟩ := h
  refine kr_getf O dX5_undo_6 fs_X5_251 eu2 ?_
  refine kr_if_ne (tgt := 14) O dX5_undo_9 rfl (fun hc => ?_) (fun hc => ?_)
  · replace h := h.1 hc
    refine kr_aload_n O dX5_undo_14 rfl 0 rfl ?_
    refine kr_dup O dX5_undo_15 (kt_nrf _) ?_
    obtain ⟨u3, eu3, h⟩ := h
    refine kr_getf O dX5_undo_16 fs_X5_251 eu3 ?_
    refine kr_iconst O dX5_undo_19 (v := (1 : Int32)) (by decide) ?_
    refine kr_isub O dX5_undo_20 ?_
    obtain ⟨hw, h⟩ := h
    refine kr_putf O dX5_undo_21 fs_X5_251 (Or.inl rfl) ⟨rfl, rfl⟩ hw (kr_nmM fun M4 hM4 => ?_)
    replace h := h M4 hM4
    refine kr_aload_n O dX5_undo_24 rfl 0 rfl ?_
    obtain ⟨p5, ep5, h⟩ := h
    refine kr_getf O dX5_undo_25 fs_X5_22 ep5 ?_
    refine kr_aload_n O dX5_undo_28 rfl 0 rfl ?_
    obtain ⟨u6, eu6, h⟩ := h
    refine kr_getf O dX5_undo_29 fs_X5_251 eu6 ?_
    refine kr_aload_n O dX5_undo_32 rfl 0 rfl ?_
    obtain ⟨p7, ep7, h⟩ := h
    refine kr_getf O dX5_undo_33 fs_X5_9 ep7 ?_
    refine kr_iconst O dX5_undo_36 (v := (0 : Int32)) (by decide) ?_
    refine kr_caV (rest := []) O cd_X5_copy h (Nat.le_of_ble_eq_true rfl) (fun ls _ => kt_ivS O dX5_undo_37 cd_X5_copy in_X5_copy q2719 q2720 hy_X5_copy) (fun M8 hq => ?_) (fun E q M9 hx => kr_out O hx)
    replace h := hq
    clear hq
    refine kr_aload_n O dX5_undo_40 rfl 0 rfl ?_
    obtain ⟨u9, eu9, h⟩ := h
    refine kr_getf O dX5_undo_41 fs_X5_251 eu9 ?_
    exact kr_iret O dX5_undo_44 rfl h
  · replace h := h.2 hc
    refine kr_iconst O dX5_undo_12 (v := (-1 : Int32)) (by decide) ?_
    exact kr_iret O dX5_undo_13 rfl h
def vc_X5_saveSnapshot (w : kt_W) (gr : kt_g × kt_M) (d : Nat) (P : Option Value → kt_M → Prop) (X : String → Nat → kt_M → Prop) (a0 : Nat) (M : kt_M) : Prop :=
  kt_hf gr M a0 71 ∧ ∀ M1, M1 = kt_pf M a0 71 (.int (0 : Int32)) → ∃ p2, kt_gf M1 a0 65 = some (va_rf p2) ∧ ∃ p3, kt_gf M1 a0 68 = some (va_rf p3) ∧ 
  kt_Ca w gr d yX5_copy kc_X5_copy [va_rf p2, .int (0 : Int32), va_rf p3, .int (0 : Int32)] M1 (kt_pV fun M4 => kt_hf gr M4 a0 72 ∧ ∀ M5, M5 = kt_pf M4 a0 72 (.int (1 : Int32)) → P none M5) X
theorem ce_X5_saveSnapshot {w : kt_W} {g : kt_g} {d : Nat} {P : Option Value → kt_M → Prop} {X : String → Nat → kt_M → Prop} {a0 : Nat} {M : kt_M} (h : vc_X5_saveSnapshot w (g, M) d P X a0 M) : kt_Sp w g (d + 1) yX5_saveSnapshot kc_X5_saveSnapshot [va_rf (some a0)] M P X := by
  refine kt_of (L0 := [(0, va_rf (some a0))]) (by decide +kernel) (Nat.le_of_ble_eq_true rfl) rfl fun x O => ?_
  replace O : kt_O w x (g, M) (d + 1) cX5_saveSnapshot "KeyTurnsModel" 1 ("saveSnapshot", "()V") (Option.none : Option Jvm.ClassFile.FieldType) [] := O
  unfold vc_X5_saveSnapshot at h
  refine kr_aload_n O dX5_saveSnapshot_0 rfl 0 rfl ?_
  refine kr_iconst O dX5_saveSnapshot_1 (v := (0 : Int32)) (by decide) ?_
  obtain ⟨hw, h⟩ := h
  refine kr_putf O dX5_saveSnapshot_2 fs_X5_71 (Or.inl rfl) ⟨rfl, rfl⟩ hw (kr_nmM fun M1 hM1 => ?_)
  replace h := h M1 hM1
  refine kr_aload_n O dX5_saveSnapshot_5 rfl 0 rfl ?_
  obtain ⟨p2, ep2, h⟩ := h
  refine kr_getf O dX5_saveSnapshot_6 fs_X5_9 ep2 ?_
  refine kr_iconst O dX5_saveSnapshot_9 (v := (0 : Int32)) (by decide) ?_
  refine kr_aload_n O dX5_saveSnapshot_10 rfl 0 rfl ?_
  obtain ⟨p3, ep3, h⟩ := h
  refine kr_getf O dX5_saveSnapshot_11 fs_X5_19 ep3 ?_
  refine kr_iconst O dX5_saveSnapshot_14 (v := (0 : Int32)) (by decide) ?_
  refine kr_caV (rest := []) O cd_X5_copy h (Nat.le_of_ble_eq_true rfl) (fun ls _ => kt_ivS O dX5_saveSnapshot_15 cd_X5_copy in_X5_copy q2719 q2720 hy_X5_copy) (fun M4 hq => ?_) (fun E q M9 hx => kr_out O hx)
  replace h := hq
  clear hq
  refine kr_aload_n O dX5_saveSnapshot_18 rfl 0 rfl ?_
  refine kr_iconst O dX5_saveSnapshot_19 (v := (1 : Int32)) (by decide) ?_
  obtain ⟨hw, h⟩ := h
  refine kr_putf O dX5_saveSnapshot_20 fs_X5_254 (Or.inl rfl) ⟨by decide, by decide⟩ hw (kr_nmM fun M5 hM5 => ?_)
  replace h := h M5 hM5
  exact kr_vret O dX5_saveSnapshot_23 h
def vc_X5_restoreSnapshot (w : kt_W) (gr : kt_g × kt_M) (d : Nat) (P : Option Value → kt_M → Prop) (X : String → Nat → kt_M → Prop) (a0 : Nat) (M : kt_M) : Prop :=
  kt_hf gr M a0 71 ∧ ∀ M1, M1 = kt_pf M a0 71 (.int (0 : Int32)) → ∃ u2, kt_gf M1 a0 72 = some (.int u2) ∧ 
    ((¬ u2 = 0 → ∃ p3, kt_gf M1 a0 68 = some (va_rf p3) ∧ ∃ p4, kt_gf M1 a0 65 = some (va_rf p4) ∧ 
    kt_Ca w gr d yX5_copy kc_X5_copy [va_rf p3, .int (0 : Int32), va_rf p4, .int (0 : Int32)] M1 (kt_pV fun M5 => kt_hf gr M5 a0 70 ∧ ∀ M6, M6 = kt_pf M5 a0 70 (.int (0 : Int32)) → P (some (.int (1 : Int32))) M6) X) ∧
    (u2 = 0 → P (some (.int (0 : Int32))) M1))
theorem ce_X5_restoreSnapshot {w : kt_W} {g : kt_g} {d : Nat} {P : Option Value → kt_M → Prop} {X : String → Nat → kt_M → Prop} {a0 : Nat} {M : kt_M} (h : vc_X5_restoreSnapshot w (g, M) d P X a0 M) : kt_Sp w g (d + 1) yX5_restoreSnapshot kc_X5_restoreSnapshot [va_rf (some a0)] M P X := by
  refine kt_of (L0 := [(0, va_rf (some a0))]) (by decide +kernel) (Nat.le_of_ble_eq_true rfl) rfl fun x O => ?_
  replace O : kt_O w x (g, M) (d + 1) cX5_restoreSnapshot "KeyTurnsModel" 1 ("restoreSnapshot", "()Z") (Option.some Jvm.ClassFile.FieldType.boolean) [] := O
  unfold vc_X5_restoreSnapshot at h
  refine kr_aload_n O dX5_restoreSnapshot_0 rfl 0 rfl ?_
  refine kr_iconst O dX5_restoreSnapshot_1 (v := (0 : Int32)) (by decide) ?_
  obtain ⟨hw, h⟩ := h
  refine kr_putf O dX5_restoreSnapshot_2 fs_X5_71 (Or.inl rfl) ⟨rfl, rfl⟩ hw (kr_nmM fun M1 hM1 => ?_)
  replace h := h M1 hM1
  refine kr_aload_n O dX5_restoreSnapshot_5 rfl 0 rfl ?_
  obtain ⟨u2, eu2, h⟩ := h
  refine kr_getf O dX5_restoreSnapshot_6 fs_X5_254 eu2 ?_
  refine kr_if_ne (tgt := 14) O dX5_restoreSnapshot_9 rfl (fun hc => ?_) (fun hc => ?_)
  · replace h := h.1 hc
    refine kr_aload_n O dX5_restoreSnapshot_14 rfl 0 rfl ?_
    obtain ⟨p3, ep3, h⟩ := h
    refine kr_getf O dX5_restoreSnapshot_15 fs_X5_19 ep3 ?_
    refine kr_iconst O dX5_restoreSnapshot_18 (v := (0 : Int32)) (by decide) ?_
    refine kr_aload_n O dX5_restoreSnapshot_19 rfl 0 rfl ?_
    obtain ⟨p4, ep4, h⟩ := h
    refine kr_getf O dX5_restoreSnapshot_20 fs_X5_9 ep4 ?_
    refine kr_iconst O dX5_restoreSnapshot_23 (v := (0 : Int32)) (by decide) ?_
    refine kr_caV (rest := []) O cd_X5_copy h (Nat.le_of_ble_eq_true rfl) (fun ls _ => kt_ivS O dX5_restoreSnapshot_24 cd_X5_copy in_X5_copy q2719 q2720 hy_X5_copy) (fun M5 hq => ?_) (fun E q M9 hx => kr_out O hx)
    replace h := hq
    clear hq
    refine kr_aload_n O dX5_restoreSnapshot_27 rfl 0 rfl ?_
    refine kr_iconst O dX5_restoreSnapshot_28 (v := (0 : Int32)) (by decide) ?_
    obtain ⟨hw, h⟩ := h
    refine kr_putf O dX5_restoreSnapshot_29 fs_X5_251 (Or.inl rfl) ⟨rfl, rfl⟩ hw (kr_nmM fun M6 hM6 => ?_)
    replace h := h M6 hM6
    refine kr_iconst O dX5_restoreSnapshot_32 (v := (1 : Int32)) (by decide) ?_
    exact kr_iret O dX5_restoreSnapshot_33 (by decide) h
  · replace h := h.2 hc
    refine kr_iconst O dX5_restoreSnapshot_12 (v := (0 : Int32)) (by decide) ?_
    exact kr_iret O dX5_restoreSnapshot_13 (by decide) h
def vc_X5_feed_76 (w : kt_W) (gr : kt_g × kt_M) (d : Nat) (P : Option Value → kt_M → Prop) (X : String → Nat → kt_M → Prop) (nx23 : Int32 → kt_M → Prop) (a0 : Nat) (v1 : Int32) (v2 : Int32) (v3 : Int32) (v4 : Int32) (v5 : Int32) (v6 : Int32) (s0 : Int32) (M : kt_M) : Prop :=
  ∃ p1, kt_gf M a0 76 = some (va_rf p1) ∧ ∃ u2, kt_gf M a0 77 = some (.int u2) ∧ ¬ (4 : Int32) = 0 ∧ ∃ b3, p1 = some b3 ∧ kt_hii gr 0 M b3 u2 ∧ ∀ M4, M4 = kt_si M b3 u2 ((s0 >>> (((24 : Int32) - ((8 : Int32) * (v6 - v6 / (4 : Int32) * (4 : Int32)))) &&& 31)) &&& (255 : Int32)) → ∃ u5, kt_gf M4 a0 77 = some (.int u5) ∧ kt_hf gr M4 a0 77 ∧ ∀ M6, M6 = kt_pf M4 a0 77 (.int (u5 + (1 : Int32))) → nx23 (v6 + (1 : Int32)) M6
theorem cj_X5_feed_76 {w : kt_W} {x : kt_X} {gr : kt_g × kt_M} {d : Nat} {P : Option Value → kt_M → Prop} {X : String → Nat → kt_M → Prop} {nx23 : Int32 → kt_M → Prop} {a0 : Nat} {v1 : Int32} {v2 : Int32} {v3 : Int32} {v4 : Int32} {v5 : Int32} {v6 : Int32} {s0 : Int32} {M : kt_M} (O : kt_O w x gr (d + 1) cX5_feed "KeyTurnsModel" 8 ("feed", "(IIIII)I") (Option.some Jvm.ClassFile.FieldType.int) []) (hn23 : ∀ v6 M, nx23 v6 M → kt_S w x 8 (kt_E w x P X) M 23 [(0, va_rf (some a0)), (1, .int v1), (2, .int v2), (3, .int v3), (4, .int v4), (5, .int v5), (6, .int v6)] []) (h : vc_X5_feed_76 w gr d P X nx23 a0 v1 v2 v3 v4 v5 v6 s0 M) : kt_S w x 8 (kt_E w x P X) M 76 [(0, va_rf (some a0)), (1, .int v1), (2, .int v2), (3, .int v3), (4, .int v4), (5, .int v5), (6, .int v6)] [.int s0] := by
  unfold vc_X5_feed_76 at h
  refine kr_istore O dX5_feed_76 (Nat.le_of_ble_eq_true rfl) rfl rfl ?_
  refine kr_aload_n O dX5_feed_78 rfl 1 rfl ?_
  obtain ⟨p1, ep1, h⟩ := h
  refine kr_getf O dX5_feed_79 fs_X5_31 ep1 ?_
  refine kr_aload_n O dX5_feed_82 rfl 1 rfl ?_
  obtain ⟨u2, eu2, h⟩ := h
  refine kr_getf O dX5_feed_83 fs_X5_258 eu2 ?_
  refine kr_iload O dX5_feed_86 0 rfl ?_
  refine kr_bipush O dX5_feed_88 (v := (24 : Int32)) (by decide) ?_
  refine kr_bipush O dX5_feed_90 (v := (8 : Int32)) (by decide) ?_
  refine kr_iload O dX5_feed_92 7 rfl ?_
  refine kr_iconst O dX5_feed_94 (v := (4 : Int32)) (by decide) ?_
  obtain ⟨hne, h⟩ := h
  refine kr_irem O dX5_feed_95 hne ?_
  refine kr_imul O dX5_feed_96 ?_
  refine kr_isub O dX5_feed_97 ?_
  refine kr_ishr O dX5_feed_98 ?_
  refine kr_sipush O dX5_feed_99 (v := (255 : Int32)) (by decide) ?_
  refine kr_iand O dX5_feed_102 ?_
  obtain ⟨b3, rfl, h⟩ := h
  obtain ⟨hw, h⟩ := h
  refine kr_iastore O dX5_feed_103 hw (kr_nmM fun M4 hM4 => ?_)
  replace h := h M4 hM4
  refine kr_aload_n O dX5_feed_104 rfl 1 rfl ?_
  refine kr_dup O dX5_feed_105 (kt_nrf _) ?_
  obtain ⟨u5, eu5, h⟩ := h
  refine kr_getf O dX5_feed_106 fs_X5_258 eu5 ?_
  refine kr_iconst O dX5_feed_109 (v := (1 : Int32)) (by decide) ?_
  refine kr_iadd O dX5_feed_110 ?_
  obtain ⟨hw, h⟩ := h
  refine kr_putf O dX5_feed_111 fs_X5_258 (Or.inl rfl) ⟨rfl, rfl⟩ hw (kr_nmM fun M6 hM6 => ?_)
  replace h := h M6 hM6
  refine kr_iinc O dX5_feed_114 7 rfl (v := v6 + (1 : Int32)) rfl (Nat.le_of_ble_eq_true rfl) rfl rfl ?_
  refine kr_goto (tgt := 23) O dX5_feed_117 rfl ?_
  refine kr_sub [2, 3, 4, 5, 6, 7, 0] rfl ?_
  exact hn23 _ _ h
def vc_X5_feed_23 (w : kt_W) (gr : kt_g × kt_M) (d : Nat) (P : Option Value → kt_M → Prop) (X : String → Nat → kt_M → Prop) (nx23 : Int32 → kt_M → Prop) (a0 : Nat) (v1 : Int32) (v2 : Int32) (v3 : Int32) (v4 : Int32) (v5 : Int32) (v6 : Int32) (M : kt_M) : Prop :=
  
    (((20 : Int32) ≤ v6 → ∃ u1, kt_gf M a0 77 = some (.int u1) ∧ P (some (.int u1)) M) ∧
    (¬ (20 : Int32) ≤ v6 → 
      (((4 : Int32) ≤ v6 → 
        (((8 : Int32) ≤ v6 → 
          (((12 : Int32) ≤ v6 → 
            (((16 : Int32) ≤ v6 → vc_X5_feed_76 w gr d P X nx23 a0 v1 v2 v3 v4 v5 v6 v5 M) ∧
            (¬ (16 : Int32) ≤ v6 → vc_X5_feed_76 w gr d P X nx23 a0 v1 v2 v3 v4 v5 v6 v4 M))) ∧
          (¬ (12 : Int32) ≤ v6 → vc_X5_feed_76 w gr d P X nx23 a0 v1 v2 v3 v4 v5 v6 v3 M))) ∧
        (¬ (8 : Int32) ≤ v6 → vc_X5_feed_76 w gr d P X nx23 a0 v1 v2 v3 v4 v5 v6 v2 M))) ∧
      (¬ (4 : Int32) ≤ v6 → vc_X5_feed_76 w gr d P X nx23 a0 v1 v2 v3 v4 v5 v6 v1 M))))
theorem cj_X5_feed_23 {w : kt_W} {x : kt_X} {gr : kt_g × kt_M} {d : Nat} {P : Option Value → kt_M → Prop} {X : String → Nat → kt_M → Prop} {nx23 : Int32 → kt_M → Prop} {a0 : Nat} {v1 : Int32} {v2 : Int32} {v3 : Int32} {v4 : Int32} {v5 : Int32} {v6 : Int32} {M : kt_M} (O : kt_O w x gr (d + 1) cX5_feed "KeyTurnsModel" 8 ("feed", "(IIIII)I") (Option.some Jvm.ClassFile.FieldType.int) []) (hn23 : ∀ v6 M, nx23 v6 M → kt_S w x 8 (kt_E w x P X) M 23 [(0, va_rf (some a0)), (1, .int v1), (2, .int v2), (3, .int v3), (4, .int v4), (5, .int v5), (6, .int v6)] []) (h : vc_X5_feed_23 w gr d P X nx23 a0 v1 v2 v3 v4 v5 v6 M) : kt_S w x 8 (kt_E w x P X) M 23 [(0, va_rf (some a0)), (1, .int v1), (2, .int v2), (3, .int v3), (4, .int v4), (5, .int v5), (6, .int v6)] [] := by
  unfold vc_X5_feed_23 at h
  refine kr_iload O dX5_feed_23 6 rfl ?_
  refine kr_bipush O dX5_feed_25 (v := (20 : Int32)) (by decide) ?_
  refine kr_icmp_ge (tgt := 120) O dX5_feed_27 rfl (fun hc => ?_) (fun hc => ?_)
  · replace h := h.1 hc
    refine kr_aload_n O dX5_feed_120 rfl 0 rfl ?_
    obtain ⟨u1, eu1, h⟩ := h
    refine kr_getf O dX5_feed_121 fs_X5_258 eu1 ?_
    exact kr_iret O dX5_feed_124 rfl h
  · replace h := h.2 hc
    refine kr_iload O dX5_feed_30 6 rfl ?_
    refine kr_iconst O dX5_feed_32 (v := (4 : Int32)) (by decide) ?_
    refine kr_icmp_ge (tgt := 40) O dX5_feed_33 rfl (fun hc => ?_) (fun hc => ?_)
    · replace h := h.1 hc
      refine kr_iload O dX5_feed_40 6 rfl ?_
      refine kr_bipush O dX5_feed_42 (v := (8 : Int32)) (by decide) ?_
      refine kr_icmp_ge (tgt := 51) O dX5_feed_44 rfl (fun hc => ?_) (fun hc => ?_)
      · replace h := h.1 hc
        refine kr_iload O dX5_feed_51 6 rfl ?_
        refine kr_bipush O dX5_feed_53 (v := (12 : Int32)) (by decide) ?_
        refine kr_icmp_ge (tgt := 62) O dX5_feed_55 rfl (fun hc => ?_) (fun hc => ?_)
        · replace h := h.1 hc
          refine kr_iload O dX5_feed_62 6 rfl ?_
          refine kr_bipush O dX5_feed_64 (v := (16 : Int32)) (by decide) ?_
          refine kr_icmp_ge (tgt := 74) O dX5_feed_66 rfl (fun hc => ?_) (fun hc => ?_)
          · replace h := h.1 hc
            refine kr_iload O dX5_feed_74 5 rfl ?_
            exact cj_X5_feed_76 O hn23 h
          · replace h := h.2 hc
            refine kr_iload O dX5_feed_69 4 rfl ?_
            refine kr_goto (tgt := 76) O dX5_feed_71 rfl ?_
            exact cj_X5_feed_76 O hn23 h
        · replace h := h.2 hc
          refine kr_iload_n O dX5_feed_58 rfl 3 rfl ?_
          refine kr_goto (tgt := 76) O dX5_feed_59 rfl ?_
          exact cj_X5_feed_76 O hn23 h
      · replace h := h.2 hc
        refine kr_iload_n O dX5_feed_47 rfl 2 rfl ?_
        refine kr_goto (tgt := 76) O dX5_feed_48 rfl ?_
        exact cj_X5_feed_76 O hn23 h
    · replace h := h.2 hc
      refine kr_iload_n O dX5_feed_36 rfl 1 rfl ?_
      refine kr_goto (tgt := 76) O dX5_feed_37 rfl ?_
      exact cj_X5_feed_76 O hn23 h
def vl_X5_feed_23 (w : kt_W) (gr : kt_g × kt_M) (d : Nat) (P : Option Value → kt_M → Prop) (X : String → Nat → kt_M → Prop)  (a0 : Nat) (v1 : Int32) (v2 : Int32) (v3 : Int32) (v4 : Int32) (v5 : Int32) (v6 : Int32) (M : kt_M) : Prop :=
  ∃ Inv : Nat → Int32 → kt_M → Prop, (∃ k, Inv k v6 M) ∧ ∀ k v6 M, kt_le gr.1 gr.2 M → Inv k v6 M → vc_X5_feed_23 w gr d P X (fun v6' M' => ∃ k', k' < k ∧ Inv k' v6' M') a0 v1 v2 v3 v4 v5 v6 M
theorem cl_X5_feed_23 {w : kt_W} {x : kt_X} {gr : kt_g × kt_M} {d : Nat} {P : Option Value → kt_M → Prop} {X : String → Nat → kt_M → Prop}  {a0 : Nat} {v1 : Int32} {v2 : Int32} {v3 : Int32} {v4 : Int32} {v5 : Int32} {v6 : Int32} {M : kt_M} (O : kt_O w x gr (d + 1) cX5_feed "KeyTurnsModel" 8 ("feed", "(IIIII)I") (Option.some Jvm.ClassFile.FieldType.int) [])  (h : vl_X5_feed_23 w gr d P X  a0 v1 v2 v3 v4 v5 v6 M) : kt_S w x 8 (kt_E w x P X) M 23 [(0, va_rf (some a0)), (1, .int v1), (2, .int v2), (3, .int v3), (4, .int v4), (5, .int v5), (6, .int v6)] [] := by
  obtain ⟨Inv, ⟨k, hk⟩, hb⟩ := h
  induction k using Nat.strongRecOn generalizing v6 M with
  | ind k ih =>
    exact kr_le O fun hle => cj_X5_feed_23 O (fun v6' M' hi => let ⟨k', h1, h2⟩ := hi; ih k' h1 h2) (hb k _ _ hle hk)
def vc_X5_feed (w : kt_W) (gr : kt_g × kt_M) (d : Nat) (P : Option Value → kt_M → Prop) (X : String → Nat → kt_M → Prop) (a0 : Nat) (v1 : Int32) (v2 : Int32) (v3 : Int32) (v4 : Int32) (v5 : Int32) (M : kt_M) : Prop :=
  kt_hf gr M a0 71 ∧ ∀ M1, M1 = kt_pf M a0 71 (.int (0 : Int32)) → ∃ u2, kt_gf M1 a0 77 = some (.int u2) ∧ 
    (((u2 + (20 : Int32)) ≤ (400 : Int32) → vl_X5_feed_23 w gr d P X  a0 v1 v2 v3 v4 v5 (0 : Int32) M1) ∧
    (¬ (u2 + (20 : Int32)) ≤ (400 : Int32) → P (some (.int (-1 : Int32))) M1))
theorem ce_X5_feed {w : kt_W} {g : kt_g} {d : Nat} {P : Option Value → kt_M → Prop} {X : String → Nat → kt_M → Prop} {a0 : Nat} {v1 : Int32} {v2 : Int32} {v3 : Int32} {v4 : Int32} {v5 : Int32} {M : kt_M} (h : vc_X5_feed w (g, M) d P X a0 v1 v2 v3 v4 v5 M) : kt_Sp w g (d + 1) yX5_feed kc_X5_feed [va_rf (some a0), .int v1, .int v2, .int v3, .int v4, .int v5] M P X := by
  refine kt_of (L0 := [(0, va_rf (some a0)), (1, .int v1), (2, .int v2), (3, .int v3), (4, .int v4), (5, .int v5)]) (by decide +kernel) (Nat.le_of_ble_eq_true rfl) rfl fun x O => ?_
  replace O : kt_O w x (g, M) (d + 1) cX5_feed "KeyTurnsModel" 8 ("feed", "(IIIII)I") (Option.some Jvm.ClassFile.FieldType.int) [] := O
  unfold vc_X5_feed at h
  refine kr_aload_n O dX5_feed_0 rfl 0 rfl ?_
  refine kr_iconst O dX5_feed_1 (v := (0 : Int32)) (by decide) ?_
  obtain ⟨hw, h⟩ := h
  refine kr_putf O dX5_feed_2 fs_X5_71 (Or.inl rfl) ⟨rfl, rfl⟩ hw (kr_nmM fun M1 hM1 => ?_)
  replace h := h M1 hM1
  refine kr_aload_n O dX5_feed_5 rfl 0 rfl ?_
  obtain ⟨u2, eu2, h⟩ := h
  refine kr_getf O dX5_feed_6 fs_X5_258 eu2 ?_
  refine kr_bipush O dX5_feed_9 (v := (20 : Int32)) (by decide) ?_
  refine kr_iadd O dX5_feed_11 ?_
  refine kr_sipush O dX5_feed_12 (v := (400 : Int32)) (by decide) ?_
  refine kr_icmp_le (tgt := 20) O dX5_feed_15 rfl (fun hc => ?_) (fun hc => ?_)
  · replace h := h.1 hc
    refine kr_iconst O dX5_feed_20 (v := (0 : Int32)) (by decide) ?_
    refine kr_istore O dX5_feed_21 (Nat.le_of_ble_eq_true rfl) rfl rfl ?_
    refine kr_sub [1, 2, 3, 4, 5, 6, 0] rfl ?_
    exact cl_X5_feed_23 O  h
  · replace h := h.2 hc
    refine kr_iconst O dX5_feed_18 (v := (-1 : Int32)) (by decide) ?_
    exact kr_iret O dX5_feed_19 rfl h
def vc_X5_errorPosition (w : kt_W) (gr : kt_g × kt_M) (d : Nat) (P : Option Value → kt_M → Prop) (X : String → Nat → kt_M → Prop) (a0 : Nat) (M : kt_M) : Prop :=
  kt_hf gr M a0 71 ∧ ∀ M1, M1 = kt_pf M a0 71 (.int (0 : Int32)) → ∃ u2, kt_gf M1 a0 84 = some (.int u2) ∧ P (some (.int u2)) M1
theorem ce_X5_errorPosition {w : kt_W} {g : kt_g} {d : Nat} {P : Option Value → kt_M → Prop} {X : String → Nat → kt_M → Prop} {a0 : Nat} {M : kt_M} (h : vc_X5_errorPosition w (g, M) d P X a0 M) : kt_Sp w g (d + 1) yX5_errorPosition kc_X5_errorPosition [va_rf (some a0)] M P X := by
  refine kt_of (L0 := [(0, va_rf (some a0))]) (by decide +kernel) (Nat.le_of_ble_eq_true rfl) rfl fun x O => ?_
  replace O : kt_O w x (g, M) (d + 1) cX5_errorPosition "KeyTurnsModel" 1 ("errorPosition", "()I") (Option.some Jvm.ClassFile.FieldType.int) [] := O
  unfold vc_X5_errorPosition at h
  refine kr_aload_n O dX5_errorPosition_0 rfl 0 rfl ?_
  refine kr_iconst O dX5_errorPosition_1 (v := (0 : Int32)) (by decide) ?_
  obtain ⟨hw, h⟩ := h
  refine kr_putf O dX5_errorPosition_2 fs_X5_71 (Or.inl rfl) ⟨rfl, rfl⟩ hw (kr_nmM fun M1 hM1 => ?_)
  replace h := h M1 hM1
  refine kr_aload_n O dX5_errorPosition_5 rfl 0 rfl ?_
  obtain ⟨u2, eu2, h⟩ := h
  refine kr_getf O dX5_errorPosition_6 fs_X5_34 eu2 ?_
  exact kr_iret O dX5_errorPosition_9 rfl h
def vc_X5_load (w : kt_W) (gr : kt_g × kt_M) (d : Nat) (P : Option Value → kt_M → Prop) (X : String → Nat → kt_M → Prop) (a0 : Nat) (v1 : Int32) (M : kt_M) : Prop :=
  kt_hf gr M a0 71 ∧ ∀ M1, M1 = kt_pf M a0 71 (.int (0 : Int32)) → ∃ u2, kt_gf M1 a0 77 = some (.int u2) ∧ 
  kt_Ca w gr d yX5_inRange kc_X5_inRange [.int v1, .int (0 : Int32), .int u2] M1 (kt_pI fun u3 M4 => 
    ((¬ u3 = 0 → ∃ p5, kt_gf M4 a0 66 = some (va_rf p5) ∧ kt_hf gr M4 a0 73 ∧ ∀ M6, M6 = kt_pf M4 a0 73 (va_rf p5) → (kt_co M6 a0 = some 12) ∧ 
    kt_Ca w gr d yX5_startText kc_X5_startText [va_rf (some a0), .int v1] M6 (kt_pV fun M7 => (kt_co M7 a0 = some 12) ∧ 
    kt_Ca w gr d yX5_readAll kc_X5_readAll [va_rf (some a0)] M7 (kt_pV fun M8 => ∃ p9, kt_gf M8 a0 65 = some (va_rf p9) ∧ kt_hf gr M8 a0 73 ∧ ∀ M10, M10 = kt_pf M8 a0 73 (va_rf p9) → (kt_co M10 a0 = some 12) ∧ 
    kt_Ca w gr d yX5_finish kc_X5_finish [va_rf (some a0)] M10 (kt_pI fun u11 M12 => 
      ((u11 = 0 → ∃ p13, kt_gf M12 a0 66 = some (va_rf p13) ∧ ∃ p14, kt_gf M12 a0 65 = some (va_rf p14) ∧ 
      kt_Ca w gr d yX5_copy kc_X5_copy [va_rf p13, .int (0 : Int32), va_rf p14, .int (0 : Int32)] M12 (kt_pV fun M15 => kt_hf gr M15 a0 70 ∧ ∀ M16, M16 = kt_pf M15 a0 70 (.int (0 : Int32)) → kt_hf gr M16 a0 72 ∧ ∀ M17, M17 = kt_pf M16 a0 72 (.int (0 : Int32)) → (kt_co M17 a0 = some 12) ∧ 
      kt_Ca w gr d yX5_present kc_X5_present [va_rf (some a0)] M17 (kt_pI fun u18 M19 => P (some (.int u18)) M19) X) X) ∧
      (¬ u11 = 0 → ∃ u20, kt_gf M12 a0 82 = some (.int u20) ∧ P (some (.int ((-10 : Int32) - u20))) M12))) X) X) X) ∧
    (u3 = 0 → (kt_co M4 a0 = some 12) ∧ 
    kt_Ca w gr d yX5_raise kc_X5_raise [va_rf (some a0), .int (1 : Int32)] M4 (kt_pI fun u21 M22 => P (some (.int u21)) M22) X))) X
theorem ce_X5_load {w : kt_W} {g : kt_g} {d : Nat} {P : Option Value → kt_M → Prop} {X : String → Nat → kt_M → Prop} {a0 : Nat} {v1 : Int32} {M : kt_M} (h : vc_X5_load w (g, M) d P X a0 v1 M) : kt_Sp w g (d + 1) yX5_load kc_X5_load [va_rf (some a0), .int v1] M P X := by
  refine kt_of (L0 := [(0, va_rf (some a0)), (1, .int v1)]) (by decide +kernel) (Nat.le_of_ble_eq_true rfl) rfl fun x O => ?_
  replace O : kt_O w x (g, M) (d + 1) cX5_load "KeyTurnsModel" 2 ("load", "(I)I") (Option.some Jvm.ClassFile.FieldType.int) [] := O
  unfold vc_X5_load at h
  refine kr_aload_n O dX5_load_0 rfl 0 rfl ?_
  refine kr_iconst O dX5_load_1 (v := (0 : Int32)) (by decide) ?_
  obtain ⟨hw, h⟩ := h
  refine kr_putf O dX5_load_2 fs_X5_71 (Or.inl rfl) ⟨rfl, rfl⟩ hw (kr_nmM fun M1 hM1 => ?_)
  replace h := h M1 hM1
  refine kr_iload_n O dX5_load_5 rfl 1 rfl ?_
  refine kr_iconst O dX5_load_6 (v := (0 : Int32)) (by decide) ?_
  refine kr_aload_n O dX5_load_7 rfl 0 rfl ?_
  obtain ⟨u2, eu2, h⟩ := h
  refine kr_getf O dX5_load_8 fs_X5_258 eu2 ?_
  refine kr_caI (rest := []) O cd_X5_inRange h (Nat.le_of_ble_eq_true rfl) (fun ls _ => kt_ivS O dX5_load_11 cd_X5_inRange in_X5_inRange q2586 q2587 hy_X5_inRange) (fun u3 M4 hq => ?_) (fun E q M9 hx => kr_out O hx)
  replace h := hq
  clear hq
  refine kr_if_ne (tgt := 23) O dX5_load_14 rfl (fun hc => ?_) (fun hc => ?_)
  · replace h := h.1 hc
    refine kr_aload_n O dX5_load_23 rfl 0 rfl ?_
    refine kr_aload_n O dX5_load_24 rfl 0 rfl ?_
    obtain ⟨p5, ep5, h⟩ := h
    refine kr_getf O dX5_load_25 fs_X5_13 ep5 ?_
    obtain ⟨hw, h⟩ := h
    refine kr_putf O dX5_load_28 fs_X5_25 (Or.inl rfl) (kt_ok_ra _ rfl) hw (kr_nmM fun M6 hM6 => ?_)
    replace h := h M6 hM6
    refine kr_aload_n O dX5_load_31 rfl 0 rfl ?_
    refine kr_iload_n O dX5_load_32 rfl 1 rfl ?_
    obtain ⟨hco, h⟩ := h
    refine kr_caV (rest := []) O cd_X5_startText h (Nat.le_of_ble_eq_true rfl) (fun ls _ => kt_ivV (ci := 12) O dX5_load_33 cd_X5_startText in_X5_startText (Or.inl q2874) q2876 qs81 hco (by decide) hy_X5_startText) (fun M7 hq => ?_) (fun E q M9 hx => kr_out O hx)
    replace h := hq
    clear hq
    refine kr_aload_n O dX5_load_36 rfl 0 rfl ?_
    obtain ⟨hco, h⟩ := h
    refine kr_caV (rest := []) O cd_X5_readAll h (Nat.le_of_ble_eq_true rfl) (fun ls _ => kt_ivV (ci := 12) O dX5_load_37 cd_X5_readAll in_X5_readAll (Or.inl q2894) q2896 qs86 hco (by decide) hy_X5_readAll) (fun M8 hq => ?_) (fun E q M9 hx => kr_out O hx)
    replace h := hq
    clear hq
    refine kr_aload_n O dX5_load_40 rfl 0 rfl ?_
    refine kr_aload_n O dX5_load_41 rfl 0 rfl ?_
    obtain ⟨p9, ep9, h⟩ := h
    refine kr_getf O dX5_load_42 fs_X5_9 ep9 ?_
    obtain ⟨hw, h⟩ := h
    refine kr_putf O dX5_load_45 fs_X5_25 (Or.inl rfl) (kt_ok_ra _ rfl) hw (kr_nmM fun M10 hM10 => ?_)
    replace h := h M10 hM10
    refine kr_aload_n O dX5_load_48 rfl 0 rfl ?_
    obtain ⟨hco, h⟩ := h
    refine kr_caI (rest := []) O cd_X5_finish h (Nat.le_of_ble_eq_true rfl) (fun ls _ => kt_ivV (ci := 12) O dX5_load_49 cd_X5_finish in_X5_finish (Or.inl q2953) q2955 qs98 hco (by decide) hy_X5_finish) (fun u11 M12 hq => ?_) (fun E q M9 hx => kr_out O hx)
    replace h := hq
    clear hq
    refine kr_if_eq (tgt := 63) O dX5_load_52 rfl (fun hc => ?_) (fun hc => ?_)
    · replace h := h.1 hc
      refine kr_aload_n O dX5_load_63 rfl 0 rfl ?_
      obtain ⟨p13, ep13, h⟩ := h
      refine kr_getf O dX5_load_64 fs_X5_13 ep13 ?_
      refine kr_iconst O dX5_load_67 (v := (0 : Int32)) (by decide) ?_
      refine kr_aload_n O dX5_load_68 rfl 0 rfl ?_
      obtain ⟨p14, ep14, h⟩ := h
      refine kr_getf O dX5_load_69 fs_X5_9 ep14 ?_
      refine kr_iconst O dX5_load_72 (v := (0 : Int32)) (by decide) ?_
      refine kr_caV (rest := []) O cd_X5_copy h (Nat.le_of_ble_eq_true rfl) (fun ls _ => kt_ivS O dX5_load_73 cd_X5_copy in_X5_copy q2719 q2720 hy_X5_copy) (fun M15 hq => ?_) (fun E q M9 hx => kr_out O hx)
      replace h := hq
      clear hq
      refine kr_aload_n O dX5_load_76 rfl 0 rfl ?_
      refine kr_iconst O dX5_load_77 (v := (0 : Int32)) (by decide) ?_
      obtain ⟨hw, h⟩ := h
      refine kr_putf O dX5_load_78 fs_X5_251 (Or.inl rfl) ⟨rfl, rfl⟩ hw (kr_nmM fun M16 hM16 => ?_)
      replace h := h M16 hM16
      refine kr_aload_n O dX5_load_81 rfl 0 rfl ?_
      refine kr_iconst O dX5_load_82 (v := (0 : Int32)) (by decide) ?_
      obtain ⟨hw, h⟩ := h
      refine kr_putf O dX5_load_83 fs_X5_254 (Or.inl rfl) ⟨by decide, by decide⟩ hw (kr_nmM fun M17 hM17 => ?_)
      replace h := h M17 hM17
      refine kr_aload_n O dX5_load_86 rfl 0 rfl ?_
      obtain ⟨hco, h⟩ := h
      refine kr_caI (rest := []) O cd_X5_present h (Nat.le_of_ble_eq_true rfl) (fun ls _ => kt_ivV (ci := 12) O dX5_load_87 cd_X5_present in_X5_present (Or.inl q2559) q2561 qs40 hco (by decide) hy_X5_present) (fun u18 M19 hq => ?_) (fun E q M9 hx => kr_out O hx)
      replace h := hq
      clear hq
      exact kr_iret O dX5_load_90 rfl h
    · replace h := h.2 hc
      refine kr_bipush O dX5_load_55 (v := (-10 : Int32)) (by decide) ?_
      refine kr_aload_n O dX5_load_57 rfl 0 rfl ?_
      obtain ⟨u20, eu20, h⟩ := h
      refine kr_getf O dX5_load_58 fs_X5_282 eu20 ?_
      refine kr_isub O dX5_load_61 ?_
      exact kr_iret O dX5_load_62 rfl h
  · replace h := h.2 hc
    refine kr_aload_n O dX5_load_17 rfl 0 rfl ?_
    refine kr_iconst O dX5_load_18 (v := (1 : Int32)) (by decide) ?_
    obtain ⟨hco, h⟩ := h
    refine kr_caI (rest := []) O cd_X5_raise h (Nat.le_of_ble_eq_true rfl) (fun ls _ => kt_ivV (ci := 12) O dX5_load_19 cd_X5_raise in_X5_raise (Or.inl q2606) q2608 qs50 hco (by decide) hy_X5_raise) (fun u21 M22 hq => ?_) (fun E q M9 hx => kr_out O hx)
    replace h := hq
    clear hq
    exact kr_iret O dX5_load_22 rfl h
def vc_X5_startText (w : kt_W) (gr : kt_g × kt_M) (d : Nat) (P : Option Value → kt_M → Prop) (X : String → Nat → kt_M → Prop) (a0 : Nat) (v1 : Int32) (M : kt_M) : Prop :=
  kt_hf gr M a0 78 ∧ ∀ M1, M1 = kt_pf M a0 78 (.int v1) → kt_hf gr M1 a0 79 ∧ ∀ M2, M2 = kt_pf M1 a0 79 (.int (0 : Int32)) → kt_hf gr M2 a0 82 ∧ ∀ M3, M3 = kt_pf M2 a0 82 (.int (0 : Int32)) → kt_hf gr M3 a0 85 ∧ ∀ M4, M4 = kt_pf M3 a0 85 (.int (0 : Int32)) → (kt_co M4 a0 = some 12) ∧ 
  kt_Ca w gr d yX5_scan kc_X5_scan [va_rf (some a0)] M4 (kt_pV fun M5 => P none M5) X
theorem ce_X5_startText {w : kt_W} {g : kt_g} {d : Nat} {P : Option Value → kt_M → Prop} {X : String → Nat → kt_M → Prop} {a0 : Nat} {v1 : Int32} {M : kt_M} (h : vc_X5_startText w (g, M) d P X a0 v1 M) : kt_Sp w g (d + 1) yX5_startText kc_X5_startText [va_rf (some a0), .int v1] M P X := by
  refine kt_of (L0 := [(0, va_rf (some a0)), (1, .int v1)]) (by decide +kernel) (Nat.le_of_ble_eq_true rfl) rfl fun x O => ?_
  replace O : kt_O w x (g, M) (d + 1) cX5_startText "KeyTurnsModel" 2 ("startText", "(I)V") (Option.none : Option Jvm.ClassFile.FieldType) [] := O
  unfold vc_X5_startText at h
  refine kr_aload_n O dX5_startText_0 rfl 0 rfl ?_
  refine kr_iload_n O dX5_startText_1 rfl 1 rfl ?_
  obtain ⟨hw, h⟩ := h
  refine kr_putf O dX5_startText_2 fs_X5_261 (Or.inl rfl) ⟨rfl, rfl⟩ hw (kr_nmM fun M1 hM1 => ?_)
  replace h := h M1 hM1
  refine kr_aload_n O dX5_startText_5 rfl 0 rfl ?_
  refine kr_iconst O dX5_startText_6 (v := (0 : Int32)) (by decide) ?_
  obtain ⟨hw, h⟩ := h
  refine kr_putf O dX5_startText_7 fs_X5_267 (Or.inl rfl) ⟨rfl, rfl⟩ hw (kr_nmM fun M2 hM2 => ?_)
  replace h := h M2 hM2
  refine kr_aload_n O dX5_startText_10 rfl 0 rfl ?_
  refine kr_iconst O dX5_startText_11 (v := (0 : Int32)) (by decide) ?_
  obtain ⟨hw, h⟩ := h
  refine kr_putf O dX5_startText_12 fs_X5_282 (Or.inl rfl) ⟨rfl, rfl⟩ hw (kr_nmM fun M3 hM3 => ?_)
  replace h := h M3 hM3
  refine kr_aload_n O dX5_startText_15 rfl 0 rfl ?_
  refine kr_iconst O dX5_startText_16 (v := (0 : Int32)) (by decide) ?_
  obtain ⟨hw, h⟩ := h
  refine kr_putf O dX5_startText_17 fs_X5_285 (Or.inl rfl) ⟨rfl, rfl⟩ hw (kr_nmM fun M4 hM4 => ?_)
  replace h := h M4 hM4
  refine kr_aload_n O dX5_startText_20 rfl 0 rfl ?_
  obtain ⟨hco, h⟩ := h
  refine kr_caV (rest := []) O cd_X5_scan h (Nat.le_of_ble_eq_true rfl) (fun ls _ => kt_ivV (ci := 12) O dX5_startText_21 cd_X5_scan in_X5_scan (Or.inl q2878) q2880 qs82 hco (by decide) hy_X5_scan) (fun M5 hq => ?_) (fun E q M9 hx => kr_out O hx)
  replace h := hq
  clear hq
  exact kr_vret O dX5_startText_24 h
def vc_X5_scan_26 (w : kt_W) (gr : kt_g × kt_M) (d : Nat) (P : Option Value → kt_M → Prop) (X : String → Nat → kt_M → Prop) (nx0 : kt_M → Prop) (a0 : Nat) (M : kt_M) : Prop :=
  ∃ u1, kt_gf M a0 79 = some (.int u1) ∧ kt_hf gr M a0 79 ∧ ∀ M2, M2 = kt_pf M a0 79 (.int (u1 + (1 : Int32))) → nx0  M2
theorem cj_X5_scan_26 {w : kt_W} {x : kt_X} {gr : kt_g × kt_M} {d : Nat} {P : Option Value → kt_M → Prop} {X : String → Nat → kt_M → Prop} {nx0 : kt_M → Prop} {a0 : Nat} {M : kt_M} (O : kt_O w x gr (d + 1) cX5_scan "KeyTurnsModel" 1 ("scan", "()V") (Option.none : Option Jvm.ClassFile.FieldType) []) (hn0 : ∀ M, nx0  M → kt_S w x 1 (kt_E w x P X) M 0 [(0, va_rf (some a0))] []) (h : vc_X5_scan_26 w gr d P X nx0 a0 M) : kt_S w x 1 (kt_E w x P X) M 26 [(0, va_rf (some a0))] [] := by
  unfold vc_X5_scan_26 at h
  refine kr_aload_n O dX5_scan_26 rfl 0 rfl ?_
  refine kr_dup O dX5_scan_27 (kt_nrf _) ?_
  obtain ⟨u1, eu1, h⟩ := h
  refine kr_getf O dX5_scan_28 fs_X5_267 eu1 ?_
  refine kr_iconst O dX5_scan_31 (v := (1 : Int32)) (by decide) ?_
  refine kr_iadd O dX5_scan_32 ?_
  obtain ⟨hw, h⟩ := h
  refine kr_putf O dX5_scan_33 fs_X5_267 (Or.inl rfl) ⟨rfl, rfl⟩ hw (kr_nmM fun M2 hM2 => ?_)
  replace h := h M2 hM2
  refine kr_goto (tgt := 0) O dX5_scan_36 rfl ?_
  exact hn0  _ h
def vc_X5_scan_120 (w : kt_W) (gr : kt_g × kt_M) (d : Nat) (P : Option Value → kt_M → Prop) (X : String → Nat → kt_M → Prop) (nx120 : kt_M → Prop) (a0 : Nat) (M : kt_M) : Prop :=
  ∃ u1, kt_gf M a0 79 = some (.int u1) ∧ (kt_co M a0 = some 12) ∧ 
  kt_Ca w gr d yX5_isDigit kc_X5_isDigit [va_rf (some a0), .int u1] M (kt_pI fun u2 M3 => 
    ((u2 = 0 → kt_hf gr M3 a0 81 ∧ ∀ M4, M4 = kt_pf M3 a0 81 (.int (2 : Int32)) → P none M4) ∧
    (¬ u2 = 0 → ∃ u5, kt_gf M3 a0 79 = some (.int u5) ∧ kt_hf gr M3 a0 79 ∧ ∀ M6, M6 = kt_pf M3 a0 79 (.int (u5 + (1 : Int32))) → nx120  M6))) X
theorem cj_X5_scan_120 {w : kt_W} {x : kt_X} {gr : kt_g × kt_M} {d : Nat} {P : Option Value → kt_M → Prop} {X : String → Nat → kt_M → Prop} {nx120 : kt_M → Prop} {a0 : Nat} {M : kt_M} (O : kt_O w x gr (d + 1) cX5_scan "KeyTurnsModel" 1 ("scan", "()V") (Option.none : Option Jvm.ClassFile.FieldType) []) (hn120 : ∀ M, nx120  M → kt_S w x 1 (kt_E w x P X) M 120 [(0, va_rf (some a0))] []) (h : vc_X5_scan_120 w gr d P X nx120 a0 M) : kt_S w x 1 (kt_E w x P X) M 120 [(0, va_rf (some a0))] [] := by
  unfold vc_X5_scan_120 at h
  refine kr_aload_n O dX5_scan_120 rfl 0 rfl ?_
  refine kr_aload_n O dX5_scan_121 rfl 0 rfl ?_
  obtain ⟨u1, eu1, h⟩ := h
  refine kr_getf O dX5_scan_122 fs_X5_267 eu1 ?_
  obtain ⟨hco, h⟩ := h
  refine kr_caI (rest := []) O cd_X5_isDigit h (Nat.le_of_ble_eq_true rfl) (fun ls _ => kt_ivV (ci := 12) O dX5_scan_125 cd_X5_isDigit in_X5_isDigit (Or.inl q2890) q2892 qs85 hco (by decide) hy_X5_isDigit) (fun u2 M3 hq => ?_) (fun E q M9 hx => kr_out O hx)
  replace h := hq
  clear hq
  refine kr_if_eq (tgt := 144) O dX5_scan_128 rfl (fun hc => ?_) (fun hc => ?_)
  · replace h := h.1 hc
    refine kr_aload_n O dX5_scan_144 rfl 0 rfl ?_
    refine kr_iconst O dX5_scan_145 (v := (2 : Int32)) (by decide) ?_
    obtain ⟨hw, h⟩ := h
    refine kr_putf O dX5_scan_146 fs_X5_273 (Or.inl rfl) ⟨rfl, rfl⟩ hw (kr_nmM fun M4 hM4 => ?_)
    replace h := h M4 hM4
    refine kr_goto (tgt := 167) O dX5_scan_149 rfl ?_
    exact kr_vret O dX5_scan_167 h
  · replace h := h.2 hc
    refine kr_aload_n O dX5_scan_131 rfl 0 rfl ?_
    refine kr_dup O dX5_scan_132 (kt_nrf _) ?_
    obtain ⟨u5, eu5, h⟩ := h
    refine kr_getf O dX5_scan_133 fs_X5_267 eu5 ?_
    refine kr_iconst O dX5_scan_136 (v := (1 : Int32)) (by decide) ?_
    refine kr_iadd O dX5_scan_137 ?_
    obtain ⟨hw, h⟩ := h
    refine kr_putf O dX5_scan_138 fs_X5_267 (Or.inl rfl) ⟨rfl, rfl⟩ hw (kr_nmM fun M6 hM6 => ?_)
    replace h := h M6 hM6
    refine kr_goto (tgt := 120) O dX5_scan_141 rfl ?_
    exact hn120  _ h
def vl_X5_scan_120 (w : kt_W) (gr : kt_g × kt_M) (d : Nat) (P : Option Value → kt_M → Prop) (X : String → Nat → kt_M → Prop)  (a0 : Nat) (M : kt_M) : Prop :=
  ∃ Inv : Nat → kt_M → Prop, (∃ k, Inv k  M) ∧ ∀ k  M, kt_le gr.1 gr.2 M → Inv k  M → vc_X5_scan_120 w gr d P X (fun M' => ∃ k', k' < k ∧ Inv k'  M') a0 M
theorem cl_X5_scan_120 {w : kt_W} {x : kt_X} {gr : kt_g × kt_M} {d : Nat} {P : Option Value → kt_M → Prop} {X : String → Nat → kt_M → Prop}  {a0 : Nat} {M : kt_M} (O : kt_O w x gr (d + 1) cX5_scan "KeyTurnsModel" 1 ("scan", "()V") (Option.none : Option Jvm.ClassFile.FieldType) [])  (h : vl_X5_scan_120 w gr d P X  a0 M) : kt_S w x 1 (kt_E w x P X) M 120 [(0, va_rf (some a0))] [] := by
  obtain ⟨Inv, ⟨k, hk⟩, hb⟩ := h
  induction k using Nat.strongRecOn generalizing  M with
  | ind k ih =>
    exact kr_le O fun hle => cj_X5_scan_120 O (fun  M' hi => let ⟨k', h1, h2⟩ := hi; ih k' h1 h2) (hb k  _ hle hk)
def vc_X5_scan_77 (w : kt_W) (gr : kt_g × kt_M) (d : Nat) (P : Option Value → kt_M → Prop) (X : String → Nat → kt_M → Prop) (nx77 : kt_M → Prop) (a0 : Nat) (M : kt_M) : Prop :=
  ∃ u1, kt_gf M a0 79 = some (.int u1) ∧ (kt_co M a0 = some 12) ∧ 
  kt_Ca w gr d yX5_isLetter kc_X5_isLetter [va_rf (some a0), .int u1] M (kt_pI fun u2 M3 => 
    ((u2 = 0 → kt_hf gr M3 a0 81 ∧ ∀ M4, M4 = kt_pf M3 a0 81 (.int (1 : Int32)) → P none M4) ∧
    (¬ u2 = 0 → ∃ u5, kt_gf M3 a0 79 = some (.int u5) ∧ kt_hf gr M3 a0 79 ∧ ∀ M6, M6 = kt_pf M3 a0 79 (.int (u5 + (1 : Int32))) → nx77  M6))) X
theorem cj_X5_scan_77 {w : kt_W} {x : kt_X} {gr : kt_g × kt_M} {d : Nat} {P : Option Value → kt_M → Prop} {X : String → Nat → kt_M → Prop} {nx77 : kt_M → Prop} {a0 : Nat} {M : kt_M} (O : kt_O w x gr (d + 1) cX5_scan "KeyTurnsModel" 1 ("scan", "()V") (Option.none : Option Jvm.ClassFile.FieldType) []) (hn77 : ∀ M, nx77  M → kt_S w x 1 (kt_E w x P X) M 77 [(0, va_rf (some a0))] []) (h : vc_X5_scan_77 w gr d P X nx77 a0 M) : kt_S w x 1 (kt_E w x P X) M 77 [(0, va_rf (some a0))] [] := by
  unfold vc_X5_scan_77 at h
  refine kr_aload_n O dX5_scan_77 rfl 0 rfl ?_
  refine kr_aload_n O dX5_scan_78 rfl 0 rfl ?_
  obtain ⟨u1, eu1, h⟩ := h
  refine kr_getf O dX5_scan_79 fs_X5_267 eu1 ?_
  obtain ⟨hco, h⟩ := h
  refine kr_caI (rest := []) O cd_X5_isLetter h (Nat.le_of_ble_eq_true rfl) (fun ls _ => kt_ivV (ci := 12) O dX5_scan_82 cd_X5_isLetter in_X5_isLetter (Or.inl q2886) q2888 qs84 hco (by decide) hy_X5_isLetter) (fun u2 M3 hq => ?_) (fun E q M9 hx => kr_out O hx)
  replace h := hq
  clear hq
  refine kr_if_eq (tgt := 101) O dX5_scan_85 rfl (fun hc => ?_) (fun hc => ?_)
  · replace h := h.1 hc
    refine kr_aload_n O dX5_scan_101 rfl 0 rfl ?_
    refine kr_iconst O dX5_scan_102 (v := (1 : Int32)) (by decide) ?_
    obtain ⟨hw, h⟩ := h
    refine kr_putf O dX5_scan_103 fs_X5_273 (Or.inl rfl) ⟨rfl, rfl⟩ hw (kr_nmM fun M4 hM4 => ?_)
    replace h := h M4 hM4
    refine kr_goto (tgt := 167) O dX5_scan_106 rfl ?_
    exact kr_vret O dX5_scan_167 h
  · replace h := h.2 hc
    refine kr_aload_n O dX5_scan_88 rfl 0 rfl ?_
    refine kr_dup O dX5_scan_89 (kt_nrf _) ?_
    obtain ⟨u5, eu5, h⟩ := h
    refine kr_getf O dX5_scan_90 fs_X5_267 eu5 ?_
    refine kr_iconst O dX5_scan_93 (v := (1 : Int32)) (by decide) ?_
    refine kr_iadd O dX5_scan_94 ?_
    obtain ⟨hw, h⟩ := h
    refine kr_putf O dX5_scan_95 fs_X5_267 (Or.inl rfl) ⟨rfl, rfl⟩ hw (kr_nmM fun M6 hM6 => ?_)
    replace h := h M6 hM6
    refine kr_goto (tgt := 77) O dX5_scan_98 rfl ?_
    exact hn77  _ h
def vl_X5_scan_77 (w : kt_W) (gr : kt_g × kt_M) (d : Nat) (P : Option Value → kt_M → Prop) (X : String → Nat → kt_M → Prop)  (a0 : Nat) (M : kt_M) : Prop :=
  ∃ Inv : Nat → kt_M → Prop, (∃ k, Inv k  M) ∧ ∀ k  M, kt_le gr.1 gr.2 M → Inv k  M → vc_X5_scan_77 w gr d P X (fun M' => ∃ k', k' < k ∧ Inv k'  M') a0 M
theorem cl_X5_scan_77 {w : kt_W} {x : kt_X} {gr : kt_g × kt_M} {d : Nat} {P : Option Value → kt_M → Prop} {X : String → Nat → kt_M → Prop}  {a0 : Nat} {M : kt_M} (O : kt_O w x gr (d + 1) cX5_scan "KeyTurnsModel" 1 ("scan", "()V") (Option.none : Option Jvm.ClassFile.FieldType) [])  (h : vl_X5_scan_77 w gr d P X  a0 M) : kt_S w x 1 (kt_E w x P X) M 77 [(0, va_rf (some a0))] [] := by
  obtain ⟨Inv, ⟨k, hk⟩, hb⟩ := h
  induction k using Nat.strongRecOn generalizing  M with
  | ind k ih =>
    exact kr_le O fun hle => cj_X5_scan_77 O (fun  M' hi => let ⟨k', h1, h2⟩ := hi; ih k' h1 h2) (hb k  _ hle hk)
def vc_X5_scan_0 (w : kt_W) (gr : kt_g × kt_M) (d : Nat) (P : Option Value → kt_M → Prop) (X : String → Nat → kt_M → Prop) (nx0 : kt_M → Prop) (a0 : Nat) (M : kt_M) : Prop :=
  ∃ u1, kt_gf M a0 79 = some (.int u1) ∧ (kt_co M a0 = some 12) ∧ 
  kt_Ca w gr d yX5_byteAt kc_X5_byteAt [va_rf (some a0), .int u1] M (kt_pI fun u2 M3 => 
    ((u2 = (32 : Int32) → vc_X5_scan_26 w gr d P X nx0 a0 M3) ∧
    (¬ u2 = (32 : Int32) → ∃ u4, kt_gf M3 a0 79 = some (.int u4) ∧ (kt_co M3 a0 = some 12) ∧ 
    kt_Ca w gr d yX5_byteAt kc_X5_byteAt [va_rf (some a0), .int u4] M3 (kt_pI fun u5 M6 => 
      ((¬ u5 = (10 : Int32) → ∃ u7, kt_gf M6 a0 79 = some (.int u7) ∧ kt_hf gr M6 a0 80 ∧ ∀ M8, M8 = kt_pf M6 a0 80 (.int u7) → ∃ u9, kt_gf M8 a0 79 = some (.int u9) ∧ ∃ u10, kt_gf M8 a0 78 = some (.int u10) ∧ 
        ((u9 < u10 → ∃ u11, kt_gf M8 a0 79 = some (.int u11) ∧ (kt_co M8 a0 = some 12) ∧ 
        kt_Ca w gr d yX5_isLetter kc_X5_isLetter [va_rf (some a0), .int u11] M8 (kt_pI fun u12 M13 => 
          ((u12 = 0 → ∃ u14, kt_gf M13 a0 79 = some (.int u14) ∧ (kt_co M13 a0 = some 12) ∧ 
          kt_Ca w gr d yX5_isDigit kc_X5_isDigit [va_rf (some a0), .int u14] M13 (kt_pI fun u15 M16 => 
            ((u15 = 0 → ∃ u17, kt_gf M16 a0 79 = some (.int u17) ∧ kt_hf gr M16 a0 79 ∧ ∀ M18, M18 = kt_pf M16 a0 79 (.int (u17 + (1 : Int32))) → kt_hf gr M18 a0 81 ∧ ∀ M19, M19 = kt_pf M18 a0 81 (.int (3 : Int32)) → P none M19) ∧
            (¬ u15 = 0 → vl_X5_scan_120 w gr d P X  a0 M16))) X) ∧
          (¬ u12 = 0 → vl_X5_scan_77 w gr d P X  a0 M13))) X) ∧
        (¬ u9 < u10 → kt_hf gr M8 a0 81 ∧ ∀ M20, M20 = kt_pf M8 a0 81 (.int (0 : Int32)) → P none M20))) ∧
      (u5 = (10 : Int32) → vc_X5_scan_26 w gr d P X nx0 a0 M6))) X))) X
theorem cj_X5_scan_0 {w : kt_W} {x : kt_X} {gr : kt_g × kt_M} {d : Nat} {P : Option Value → kt_M → Prop} {X : String → Nat → kt_M → Prop} {nx0 : kt_M → Prop} {a0 : Nat} {M : kt_M} (O : kt_O w x gr (d + 1) cX5_scan "KeyTurnsModel" 1 ("scan", "()V") (Option.none : Option Jvm.ClassFile.FieldType) []) (hn0 : ∀ M, nx0  M → kt_S w x 1 (kt_E w x P X) M 0 [(0, va_rf (some a0))] []) (h : vc_X5_scan_0 w gr d P X nx0 a0 M) : kt_S w x 1 (kt_E w x P X) M 0 [(0, va_rf (some a0))] [] := by
  unfold vc_X5_scan_0 at h
  refine kr_aload_n O dX5_scan_0 rfl 0 rfl ?_
  refine kr_aload_n O dX5_scan_1 rfl 0 rfl ?_
  obtain ⟨u1, eu1, h⟩ := h
  refine kr_getf O dX5_scan_2 fs_X5_267 eu1 ?_
  obtain ⟨hco, h⟩ := h
  refine kr_caI (rest := []) O cd_X5_byteAt h (Nat.le_of_ble_eq_true rfl) (fun ls _ => kt_ivV (ci := 12) O dX5_scan_5 cd_X5_byteAt in_X5_byteAt (Or.inl q2882) q2884 qs83 hco (by decide) hy_X5_byteAt) (fun u2 M3 hq => ?_) (fun E q M9 hx => kr_out O hx)
  replace h := hq
  clear hq
  refine kr_bipush O dX5_scan_8 (v := (32 : Int32)) (by decide) ?_
  refine kr_icmp_eq (tgt := 26) O dX5_scan_10 rfl (fun hc => ?_) (fun hc => ?_)
  · replace h := h.1 hc
    exact cj_X5_scan_26 O hn0 h
  · replace h := h.2 hc
    refine kr_aload_n O dX5_scan_13 rfl 0 rfl ?_
    refine kr_aload_n O dX5_scan_14 rfl 0 rfl ?_
    obtain ⟨u4, eu4, h⟩ := h
    refine kr_getf O dX5_scan_15 fs_X5_267 eu4 ?_
    obtain ⟨hco, h⟩ := h
    refine kr_caI (rest := []) O cd_X5_byteAt h (Nat.le_of_ble_eq_true rfl) (fun ls _ => kt_ivV (ci := 12) O dX5_scan_18 cd_X5_byteAt in_X5_byteAt (Or.inl q2882) q2884 qs83 hco (by decide) hy_X5_byteAt) (fun u5 M6 hq => ?_) (fun E q M9 hx => kr_out O hx)
    replace h := hq
    clear hq
    refine kr_bipush O dX5_scan_21 (v := (10 : Int32)) (by decide) ?_
    refine kr_icmp_ne (tgt := 39) O dX5_scan_23 rfl (fun hc => ?_) (fun hc => ?_)
    · replace h := h.1 hc
      refine kr_aload_n O dX5_scan_39 rfl 0 rfl ?_
      refine kr_aload_n O dX5_scan_40 rfl 0 rfl ?_
      obtain ⟨u7, eu7, h⟩ := h
      refine kr_getf O dX5_scan_41 fs_X5_267 eu7 ?_
      obtain ⟨hw, h⟩ := h
      refine kr_putf O dX5_scan_44 fs_X5_270 (Or.inl rfl) ⟨rfl, rfl⟩ hw (kr_nmM fun M8 hM8 => ?_)
      replace h := h M8 hM8
      refine kr_aload_n O dX5_scan_47 rfl 0 rfl ?_
      obtain ⟨u9, eu9, h⟩ := h
      refine kr_getf O dX5_scan_48 fs_X5_267 eu9 ?_
      refine kr_aload_n O dX5_scan_51 rfl 0 rfl ?_
      obtain ⟨u10, eu10, h⟩ := h
      refine kr_getf O dX5_scan_52 fs_X5_261 eu10 ?_
      refine kr_icmp_lt (tgt := 66) O dX5_scan_55 rfl (fun hc => ?_) (fun hc => ?_)
      · replace h := h.1 hc
        refine kr_aload_n O dX5_scan_66 rfl 0 rfl ?_
        refine kr_aload_n O dX5_scan_67 rfl 0 rfl ?_
        obtain ⟨u11, eu11, h⟩ := h
        refine kr_getf O dX5_scan_68 fs_X5_267 eu11 ?_
        obtain ⟨hco, h⟩ := h
        refine kr_caI (rest := []) O cd_X5_isLetter h (Nat.le_of_ble_eq_true rfl) (fun ls _ => kt_ivV (ci := 12) O dX5_scan_71 cd_X5_isLetter in_X5_isLetter (Or.inl q2886) q2888 qs84 hco (by decide) hy_X5_isLetter) (fun u12 M13 hq => ?_) (fun E q M9 hx => kr_out O hx)
        replace h := hq
        clear hq
        refine kr_if_eq (tgt := 109) O dX5_scan_74 rfl (fun hc => ?_) (fun hc => ?_)
        · replace h := h.1 hc
          refine kr_aload_n O dX5_scan_109 rfl 0 rfl ?_
          refine kr_aload_n O dX5_scan_110 rfl 0 rfl ?_
          obtain ⟨u14, eu14, h⟩ := h
          refine kr_getf O dX5_scan_111 fs_X5_267 eu14 ?_
          obtain ⟨hco, h⟩ := h
          refine kr_caI (rest := []) O cd_X5_isDigit h (Nat.le_of_ble_eq_true rfl) (fun ls _ => kt_ivV (ci := 12) O dX5_scan_114 cd_X5_isDigit in_X5_isDigit (Or.inl q2890) q2892 qs85 hco (by decide) hy_X5_isDigit) (fun u15 M16 hq => ?_) (fun E q M9 hx => kr_out O hx)
          replace h := hq
          clear hq
          refine kr_if_eq (tgt := 152) O dX5_scan_117 rfl (fun hc => ?_) (fun hc => ?_)
          · replace h := h.1 hc
            refine kr_aload_n O dX5_scan_152 rfl 0 rfl ?_
            refine kr_dup O dX5_scan_153 (kt_nrf _) ?_
            obtain ⟨u17, eu17, h⟩ := h
            refine kr_getf O dX5_scan_154 fs_X5_267 eu17 ?_
            refine kr_iconst O dX5_scan_157 (v := (1 : Int32)) (by decide) ?_
            refine kr_iadd O dX5_scan_158 ?_
            obtain ⟨hw, h⟩ := h
            refine kr_putf O dX5_scan_159 fs_X5_267 (Or.inl rfl) ⟨rfl, rfl⟩ hw (kr_nmM fun M18 hM18 => ?_)
            replace h := h M18 hM18
            refine kr_aload_n O dX5_scan_162 rfl 0 rfl ?_
            refine kr_iconst O dX5_scan_163 (v := (3 : Int32)) (by decide) ?_
            obtain ⟨hw, h⟩ := h
            refine kr_putf O dX5_scan_164 fs_X5_273 (Or.inl rfl) ⟨rfl, rfl⟩ hw (kr_nmM fun M19 hM19 => ?_)
            replace h := h M19 hM19
            exact kr_vret O dX5_scan_167 h
          · replace h := h.2 hc
            exact cl_X5_scan_120 O  h
        · replace h := h.2 hc
          exact cl_X5_scan_77 O  h
      · replace h := h.2 hc
        refine kr_aload_n O dX5_scan_58 rfl 0 rfl ?_
        refine kr_iconst O dX5_scan_59 (v := (0 : Int32)) (by decide) ?_
        obtain ⟨hw, h⟩ := h
        refine kr_putf O dX5_scan_60 fs_X5_273 (Or.inl rfl) ⟨rfl, rfl⟩ hw (kr_nmM fun M20 hM20 => ?_)
        replace h := h M20 hM20
        refine kr_goto (tgt := 167) O dX5_scan_63 rfl ?_
        exact kr_vret O dX5_scan_167 h
    · replace h := h.2 hc
      exact cj_X5_scan_26 O hn0 h
def vl_X5_scan_0 (w : kt_W) (gr : kt_g × kt_M) (d : Nat) (P : Option Value → kt_M → Prop) (X : String → Nat → kt_M → Prop)  (a0 : Nat) (M : kt_M) : Prop :=
  ∃ Inv : Nat → kt_M → Prop, (∃ k, Inv k  M) ∧ ∀ k  M, kt_le gr.1 gr.2 M → Inv k  M → vc_X5_scan_0 w gr d P X (fun M' => ∃ k', k' < k ∧ Inv k'  M') a0 M
theorem cl_X5_scan_0 {w : kt_W} {x : kt_X} {gr : kt_g × kt_M} {d : Nat} {P : Option Value → kt_M → Prop} {X : String → Nat → kt_M → Prop}  {a0 : Nat} {M : kt_M} (O : kt_O w x gr (d + 1) cX5_scan "KeyTurnsModel" 1 ("scan", "()V") (Option.none : Option Jvm.ClassFile.FieldType) [])  (h : vl_X5_scan_0 w gr d P X  a0 M) : kt_S w x 1 (kt_E w x P X) M 0 [(0, va_rf (some a0))] [] := by
  obtain ⟨Inv, ⟨k, hk⟩, hb⟩ := h
  induction k using Nat.strongRecOn generalizing  M with
  | ind k ih =>
    exact kr_le O fun hle => cj_X5_scan_0 O (fun  M' hi => let ⟨k', h1, h2⟩ := hi; ih k' h1 h2) (hb k  _ hle hk)
def vc_X5_scan (w : kt_W) (gr : kt_g × kt_M) (d : Nat) (P : Option Value → kt_M → Prop) (X : String → Nat → kt_M → Prop) (a0 : Nat) (M : kt_M) : Prop :=
  vl_X5_scan_0 w gr d P X  a0 M
theorem ce_X5_scan {w : kt_W} {g : kt_g} {d : Nat} {P : Option Value → kt_M → Prop} {X : String → Nat → kt_M → Prop} {a0 : Nat} {M : kt_M} (h : vc_X5_scan w (g, M) d P X a0 M) : kt_Sp w g (d + 1) yX5_scan kc_X5_scan [va_rf (some a0)] M P X := by
  refine kt_of (L0 := [(0, va_rf (some a0))]) (by decide +kernel) (Nat.le_of_ble_eq_true rfl) rfl fun x O => ?_
  replace O : kt_O w x (g, M) (d + 1) cX5_scan "KeyTurnsModel" 1 ("scan", "()V") (Option.none : Option Jvm.ClassFile.FieldType) [] := O
  unfold vc_X5_scan at h
  exact cl_X5_scan_0 O  h
def vc_X5_byteAt (w : kt_W) (gr : kt_g × kt_M) (d : Nat) (P : Option Value → kt_M → Prop) (X : String → Nat → kt_M → Prop) (a0 : Nat) (v1 : Int32) (M : kt_M) : Prop :=
  ∃ u1, kt_gf M a0 78 = some (.int u1) ∧ 
    ((u1 ≤ v1 → P (some (.int (-1 : Int32))) M) ∧
    (¬ u1 ≤ v1 → ∃ p2, kt_gf M a0 76 = some (va_rf p2) ∧ ∃ b3, p2 = some b3 ∧ ∃ u4, kt_el 0 M b3 v1 = some (.int u4) ∧ P (some (.int u4)) M))
theorem ce_X5_byteAt {w : kt_W} {g : kt_g} {d : Nat} {P : Option Value → kt_M → Prop} {X : String → Nat → kt_M → Prop} {a0 : Nat} {v1 : Int32} {M : kt_M} (h : vc_X5_byteAt w (g, M) d P X a0 v1 M) : kt_Sp w g (d + 1) yX5_byteAt kc_X5_byteAt [va_rf (some a0), .int v1] M P X := by
  refine kt_of (L0 := [(0, va_rf (some a0)), (1, .int v1)]) (by decide +kernel) (Nat.le_of_ble_eq_true rfl) rfl fun x O => ?_
  replace O : kt_O w x (g, M) (d + 1) cX5_byteAt "KeyTurnsModel" 2 ("byteAt", "(I)I") (Option.some Jvm.ClassFile.FieldType.int) [] := O
  unfold vc_X5_byteAt at h
  refine kr_iload_n O dX5_byteAt_0 rfl 1 rfl ?_
  refine kr_aload_n O dX5_byteAt_1 rfl 0 rfl ?_
  obtain ⟨u1, eu1, h⟩ := h
  refine kr_getf O dX5_byteAt_2 fs_X5_261 eu1 ?_
  refine kr_icmp_ge (tgt := 17) O dX5_byteAt_5 rfl (fun hc => ?_) (fun hc => ?_)
  · replace h := h.1 hc
    refine kr_iconst O dX5_byteAt_17 (v := (-1 : Int32)) (by decide) ?_
    exact kr_iret O dX5_byteAt_18 rfl h
  · replace h := h.2 hc
    refine kr_aload_n O dX5_byteAt_8 rfl 0 rfl ?_
    obtain ⟨p2, ep2, h⟩ := h
    refine kr_getf O dX5_byteAt_9 fs_X5_31 ep2 ?_
    refine kr_iload_n O dX5_byteAt_12 rfl 1 rfl ?_
    obtain ⟨b3, rfl, h⟩ := h
    obtain ⟨u4, eu4, h⟩ := h
    refine kr_iaload O dX5_byteAt_13 eu4 ?_
    refine kr_goto (tgt := 18) O dX5_byteAt_14 rfl ?_
    exact kr_iret O dX5_byteAt_18 rfl h
def vc_X5_isLetter (w : kt_W) (gr : kt_g × kt_M) (d : Nat) (P : Option Value → kt_M → Prop) (X : String → Nat → kt_M → Prop) (a0 : Nat) (v1 : Int32) (M : kt_M) : Prop :=
  (kt_co M a0 = some 12) ∧ 
  kt_Ca w gr d yX5_byteAt kc_X5_byteAt [va_rf (some a0), .int v1] M (kt_pI fun u1 M2 => 
    ((u1 < (97 : Int32) → P (some (.int (0 : Int32))) M2) ∧
    (¬ u1 < (97 : Int32) → (kt_co M2 a0 = some 12) ∧ 
    kt_Ca w gr d yX5_byteAt kc_X5_byteAt [va_rf (some a0), .int v1] M2 (kt_pI fun u3 M4 => 
      (((122 : Int32) < u3 → P (some (.int (0 : Int32))) M4) ∧
      (¬ (122 : Int32) < u3 → P (some (.int (1 : Int32))) M4))) X))) X
theorem ce_X5_isLetter {w : kt_W} {g : kt_g} {d : Nat} {P : Option Value → kt_M → Prop} {X : String → Nat → kt_M → Prop} {a0 : Nat} {v1 : Int32} {M : kt_M} (h : vc_X5_isLetter w (g, M) d P X a0 v1 M) : kt_Sp w g (d + 1) yX5_isLetter kc_X5_isLetter [va_rf (some a0), .int v1] M P X := by
  refine kt_of (L0 := [(0, va_rf (some a0)), (1, .int v1)]) (by decide +kernel) (Nat.le_of_ble_eq_true rfl) rfl fun x O => ?_
  replace O : kt_O w x (g, M) (d + 1) cX5_isLetter "KeyTurnsModel" 2 ("isLetter", "(I)Z") (Option.some Jvm.ClassFile.FieldType.boolean) [] := O
  unfold vc_X5_isLetter at h
  refine kr_aload_n O dX5_isLetter_0 rfl 0 rfl ?_
  refine kr_iload_n O dX5_isLetter_1 rfl 1 rfl ?_
  obtain ⟨hco, h⟩ := h
  refine kr_caI (rest := []) O cd_X5_byteAt h (Nat.le_of_ble_eq_true rfl) (fun ls _ => kt_ivV (ci := 12) O dX5_isLetter_2 cd_X5_byteAt in_X5_byteAt (Or.inl q2882) q2884 qs83 hco (by decide) hy_X5_byteAt) (fun u1 M2 hq => ?_) (fun E q M9 hx => kr_out O hx)
  replace h := hq
  clear hq
  refine kr_bipush O dX5_isLetter_5 (v := (97 : Int32)) (by decide) ?_
  refine kr_icmp_lt (tgt := 24) O dX5_isLetter_7 rfl (fun hc => ?_) (fun hc => ?_)
  · replace h := h.1 hc
    refine kr_iconst O dX5_isLetter_24 (v := (0 : Int32)) (by decide) ?_
    exact kr_iret O dX5_isLetter_25 (by decide) h
  · replace h := h.2 hc
    refine kr_aload_n O dX5_isLetter_10 rfl 0 rfl ?_
    refine kr_iload_n O dX5_isLetter_11 rfl 1 rfl ?_
    obtain ⟨hco, h⟩ := h
    refine kr_caI (rest := []) O cd_X5_byteAt h (Nat.le_of_ble_eq_true rfl) (fun ls _ => kt_ivV (ci := 12) O dX5_isLetter_12 cd_X5_byteAt in_X5_byteAt (Or.inl q2882) q2884 qs83 hco (by decide) hy_X5_byteAt) (fun u3 M4 hq => ?_) (fun E q M9 hx => kr_out O hx)
    replace h := hq
    clear hq
    refine kr_bipush O dX5_isLetter_15 (v := (122 : Int32)) (by decide) ?_
    refine kr_icmp_gt (tgt := 24) O dX5_isLetter_17 rfl (fun hc => ?_) (fun hc => ?_)
    · replace h := h.1 hc
      refine kr_iconst O dX5_isLetter_24 (v := (0 : Int32)) (by decide) ?_
      exact kr_iret O dX5_isLetter_25 (by decide) h
    · replace h := h.2 hc
      refine kr_iconst O dX5_isLetter_20 (v := (1 : Int32)) (by decide) ?_
      refine kr_goto (tgt := 25) O dX5_isLetter_21 rfl ?_
      exact kr_iret O dX5_isLetter_25 (by decide) h
def vc_X5_isDigit (w : kt_W) (gr : kt_g × kt_M) (d : Nat) (P : Option Value → kt_M → Prop) (X : String → Nat → kt_M → Prop) (a0 : Nat) (v1 : Int32) (M : kt_M) : Prop :=
  (kt_co M a0 = some 12) ∧ 
  kt_Ca w gr d yX5_byteAt kc_X5_byteAt [va_rf (some a0), .int v1] M (kt_pI fun u1 M2 => 
    ((u1 < (48 : Int32) → P (some (.int (0 : Int32))) M2) ∧
    (¬ u1 < (48 : Int32) → (kt_co M2 a0 = some 12) ∧ 
    kt_Ca w gr d yX5_byteAt kc_X5_byteAt [va_rf (some a0), .int v1] M2 (kt_pI fun u3 M4 => 
      (((57 : Int32) < u3 → P (some (.int (0 : Int32))) M4) ∧
      (¬ (57 : Int32) < u3 → P (some (.int (1 : Int32))) M4))) X))) X
theorem ce_X5_isDigit {w : kt_W} {g : kt_g} {d : Nat} {P : Option Value → kt_M → Prop} {X : String → Nat → kt_M → Prop} {a0 : Nat} {v1 : Int32} {M : kt_M} (h : vc_X5_isDigit w (g, M) d P X a0 v1 M) : kt_Sp w g (d + 1) yX5_isDigit kc_X5_isDigit [va_rf (some a0), .int v1] M P X := by
  refine kt_of (L0 := [(0, va_rf (some a0)), (1, .int v1)]) (by decide +kernel) (Nat.le_of_ble_eq_true rfl) rfl fun x O => ?_
  replace O : kt_O w x (g, M) (d + 1) cX5_isDigit "KeyTurnsModel" 2 ("isDigit", "(I)Z") (Option.some Jvm.ClassFile.FieldType.boolean) [] := O
  unfold vc_X5_isDigit at h
  refine kr_aload_n O dX5_isDigit_0 rfl 0 rfl ?_
  refine kr_iload_n O dX5_isDigit_1 rfl 1 rfl ?_
  obtain ⟨hco, h⟩ := h
  refine kr_caI (rest := []) O cd_X5_byteAt h (Nat.le_of_ble_eq_true rfl) (fun ls _ => kt_ivV (ci := 12) O dX5_isDigit_2 cd_X5_byteAt in_X5_byteAt (Or.inl q2882) q2884 qs83 hco (by decide) hy_X5_byteAt) (fun u1 M2 hq => ?_) (fun E q M9 hx => kr_out O hx)
  replace h := hq
  clear hq
  refine kr_bipush O dX5_isDigit_5 (v := (48 : Int32)) (by decide) ?_
  refine kr_icmp_lt (tgt := 24) O dX5_isDigit_7 rfl (fun hc => ?_) (fun hc => ?_)
  · replace h := h.1 hc
    refine kr_iconst O dX5_isDigit_24 (v := (0 : Int32)) (by decide) ?_
    exact kr_iret O dX5_isDigit_25 (by decide) h
  · replace h := h.2 hc
    refine kr_aload_n O dX5_isDigit_10 rfl 0 rfl ?_
    refine kr_iload_n O dX5_isDigit_11 rfl 1 rfl ?_
    obtain ⟨hco, h⟩ := h
    refine kr_caI (rest := []) O cd_X5_byteAt h (Nat.le_of_ble_eq_true rfl) (fun ls _ => kt_ivV (ci := 12) O dX5_isDigit_12 cd_X5_byteAt in_X5_byteAt (Or.inl q2882) q2884 qs83 hco (by decide) hy_X5_byteAt) (fun u3 M4 hq => ?_) (fun E q M9 hx => kr_out O hx)
    replace h := hq
    clear hq
    refine kr_bipush O dX5_isDigit_15 (v := (57 : Int32)) (by decide) ?_
    refine kr_icmp_gt (tgt := 24) O dX5_isDigit_17 rfl (fun hc => ?_) (fun hc => ?_)
    · replace h := h.1 hc
      refine kr_iconst O dX5_isDigit_24 (v := (0 : Int32)) (by decide) ?_
      exact kr_iret O dX5_isDigit_25 (by decide) h
    · replace h := h.2 hc
      refine kr_iconst O dX5_isDigit_20 (v := (1 : Int32)) (by decide) ?_
      refine kr_goto (tgt := 25) O dX5_isDigit_21 rfl ?_
      exact kr_iret O dX5_isDigit_25 (by decide) h
def vc_X5_readAll_98 (w : kt_W) (gr : kt_g × kt_M) (d : Nat) (P : Option Value → kt_M → Prop) (X : String → Nat → kt_M → Prop) (nx56 : kt_M → Prop) (a0 : Nat) (M : kt_M) : Prop :=
  (kt_co M a0 = some 12) ∧ 
  kt_Ca w gr d yX5_expect kc_X5_expect [va_rf (some a0), .int (59 : Int32)] M (kt_pV fun M1 => nx56  M1) X
theorem cj_X5_readAll_98 {w : kt_W} {x : kt_X} {gr : kt_g × kt_M} {d : Nat} {P : Option Value → kt_M → Prop} {X : String → Nat → kt_M → Prop} {nx56 : kt_M → Prop} {a0 : Nat} {M : kt_M} (O : kt_O w x gr (d + 1) cX5_readAll "KeyTurnsModel" 5 ("readAll", "()V") (Option.none : Option Jvm.ClassFile.FieldType) []) (hn56 : ∀ M, nx56  M → kt_S w x 5 (kt_E w x P X) M 56 [(0, va_rf (some a0))] []) (h : vc_X5_readAll_98 w gr d P X nx56 a0 M) : kt_S w x 5 (kt_E w x P X) M 98 [(0, va_rf (some a0))] [] := by
  unfold vc_X5_readAll_98 at h
  refine kr_aload_n O dX5_readAll_98 rfl 0 rfl ?_
  refine kr_bipush O dX5_readAll_99 (v := (59 : Int32)) (by decide) ?_
  obtain ⟨hco, h⟩ := h
  refine kr_caV (rest := []) O cd_X5_expect h (Nat.le_of_ble_eq_true rfl) (fun ls _ => kt_ivV (ci := 12) O dX5_readAll_101 cd_X5_expect in_X5_expect (Or.inl q2935) q2937 qs94 hco (by decide) hy_X5_expect) (fun M1 hq => ?_) (fun E q M9 hx => kr_out O hx)
  replace h := hq
  clear hq
  refine kr_goto (tgt := 56) O dX5_readAll_104 rfl ?_
  exact hn56  _ h
def vc_X5_readAll_56 (w : kt_W) (gr : kt_g × kt_M) (d : Nat) (P : Option Value → kt_M → Prop) (X : String → Nat → kt_M → Prop) (nx56 : kt_M → Prop) (a0 : Nat) (M : kt_M) : Prop :=
  ∃ u1, kt_gf M a0 82 = some (.int u1) ∧ 
    ((¬ u1 = 0 → P none M) ∧
    (u1 = 0 → ∃ u2, kt_gf M a0 81 = some (.int u2) ∧ 
      ((u2 = 0 → P none M) ∧
      (¬ u2 = 0 → (kt_co M a0 = some 12) ∧ 
      kt_Ca w gr d yX5_isWord kc_X5_isWord [va_rf (some a0), va_rf (some (kt_cA w 28))] M (kt_pI fun u3 M4 => 
        ((u3 = 0 → (kt_co M4 a0 = some 12) ∧ 
        kt_Ca w gr d yX5_expectWord kc_X5_expectWord [va_rf (some a0), va_rf (some (kt_cA w 29))] M4 (kt_pV fun M5 => (kt_co M5 a0 = some 12) ∧ 
        kt_Ca w gr d yX5_readRecords kc_X5_readRecords [va_rf (some a0)] M5 (kt_pV fun M6 => vc_X5_readAll_98 w gr d P X nx56 a0 M6) X) X) ∧
        (¬ u3 = 0 → (kt_co M4 a0 = some 12) ∧ 
        kt_Ca w gr d yX5_readClient kc_X5_readClient [va_rf (some a0)] M4 (kt_pV fun M7 => vc_X5_readAll_98 w gr d P X nx56 a0 M7) X))) X))))
theorem cj_X5_readAll_56 {w : kt_W} {x : kt_X} {gr : kt_g × kt_M} {d : Nat} {P : Option Value → kt_M → Prop} {X : String → Nat → kt_M → Prop} {nx56 : kt_M → Prop} {a0 : Nat} {M : kt_M} (O : kt_O w x gr (d + 1) cX5_readAll "KeyTurnsModel" 5 ("readAll", "()V") (Option.none : Option Jvm.ClassFile.FieldType) []) (hn56 : ∀ M, nx56  M → kt_S w x 5 (kt_E w x P X) M 56 [(0, va_rf (some a0))] []) (h : vc_X5_readAll_56 w gr d P X nx56 a0 M) : kt_S w x 5 (kt_E w x P X) M 56 [(0, va_rf (some a0))] [] := by
  unfold vc_X5_readAll_56 at h
  refine kr_aload_n O dX5_readAll_56 rfl 0 rfl ?_
  obtain ⟨u1, eu1, h⟩ := h
  refine kr_getf O dX5_readAll_57 fs_X5_282 eu1 ?_
  refine kr_if_ne (tgt := 107) O dX5_readAll_60 rfl (fun hc => ?_) (fun hc => ?_)
  · replace h := h.1 hc
    exact kr_vret O dX5_readAll_107 h
  · replace h := h.2 hc
    refine kr_aload_n O dX5_readAll_63 rfl 0 rfl ?_
    obtain ⟨u2, eu2, h⟩ := h
    refine kr_getf O dX5_readAll_64 fs_X5_273 eu2 ?_
    refine kr_if_eq (tgt := 107) O dX5_readAll_67 rfl (fun hc => ?_) (fun hc => ?_)
    · replace h := h.1 hc
      exact kr_vret O dX5_readAll_107 h
    · replace h := h.2 hc
      refine kr_aload_n O dX5_readAll_70 rfl 0 rfl ?_
      refine kr_ldcwS O dX5_readAll_71 st_X5_341 ?_
      obtain ⟨hco, h⟩ := h
      refine kr_caI (rest := []) O cd_X5_isWord h (Nat.le_of_ble_eq_true rfl) (fun ls _ => kt_ivV (ci := 12) O dX5_readAll_74 cd_X5_isWord in_X5_isWord (Or.inl q2903) q2905 qs88 hco (by decide) hy_X5_isWord) (fun u3 M4 hq => ?_) (fun E q M9 hx => kr_out O hx)
      replace h := hq
      clear hq
      refine kr_if_eq (tgt := 87) O dX5_readAll_77 rfl (fun hc => ?_) (fun hc => ?_)
      · replace h := h.1 hc
        refine kr_aload_n O dX5_readAll_87 rfl 0 rfl ?_
        refine kr_ldcwS O dX5_readAll_88 st_X5_346 ?_
        obtain ⟨hco, h⟩ := h
        refine kr_caV (rest := []) O cd_X5_expectWord h (Nat.le_of_ble_eq_true rfl) (fun ls _ => kt_ivV (ci := 12) O dX5_readAll_91 cd_X5_expectWord in_X5_expectWord (Or.inl q2899) q2901 qs87 hco (by decide) hy_X5_expectWord) (fun M5 hq => ?_) (fun E q M9 hx => kr_out O hx)
        replace h := hq
        clear hq
        refine kr_aload_n O dX5_readAll_94 rfl 0 rfl ?_
        obtain ⟨hco, h⟩ := h
        refine kr_caV (rest := []) O cd_X5_readRecords h (Nat.le_of_ble_eq_true rfl) (fun ls _ => kt_ivV (ci := 12) O dX5_readAll_95 cd_X5_readRecords in_X5_readRecords (Or.inl q2949) q2951 qs97 hco (by decide) hy_X5_readRecords) (fun M6 hq => ?_) (fun E q M9 hx => kr_out O hx)
        replace h := hq
        clear hq
        exact cj_X5_readAll_98 O hn56 h
      · replace h := h.2 hc
        refine kr_aload_n O dX5_readAll_80 rfl 0 rfl ?_
        obtain ⟨hco, h⟩ := h
        refine kr_caV (rest := []) O cd_X5_readClient h (Nat.le_of_ble_eq_true rfl) (fun ls _ => kt_ivV (ci := 12) O dX5_readAll_81 cd_X5_readClient in_X5_readClient (Or.inl q2944) q2946 qs96 hco (by decide) hy_X5_readClient) (fun M7 hq => ?_) (fun E q M9 hx => kr_out O hx)
        replace h := hq
        clear hq
        refine kr_goto (tgt := 98) O dX5_readAll_84 rfl ?_
        exact cj_X5_readAll_98 O hn56 h
def vl_X5_readAll_56 (w : kt_W) (gr : kt_g × kt_M) (d : Nat) (P : Option Value → kt_M → Prop) (X : String → Nat → kt_M → Prop)  (a0 : Nat) (M : kt_M) : Prop :=
  ∃ Inv : Nat → kt_M → Prop, (∃ k, Inv k  M) ∧ ∀ k  M, kt_le gr.1 gr.2 M → Inv k  M → vc_X5_readAll_56 w gr d P X (fun M' => ∃ k', k' < k ∧ Inv k'  M') a0 M
theorem cl_X5_readAll_56 {w : kt_W} {x : kt_X} {gr : kt_g × kt_M} {d : Nat} {P : Option Value → kt_M → Prop} {X : String → Nat → kt_M → Prop}  {a0 : Nat} {M : kt_M} (O : kt_O w x gr (d + 1) cX5_readAll "KeyTurnsModel" 5 ("readAll", "()V") (Option.none : Option Jvm.ClassFile.FieldType) [])  (h : vl_X5_readAll_56 w gr d P X  a0 M) : kt_S w x 5 (kt_E w x P X) M 56 [(0, va_rf (some a0))] [] := by
  obtain ⟨Inv, ⟨k, hk⟩, hb⟩ := h
  induction k using Nat.strongRecOn generalizing  M with
  | ind k ih =>
    exact kr_le O fun hle => cj_X5_readAll_56 O (fun  M' hi => let ⟨k', h1, h2⟩ := hi; ih k' h1 h2) (hb k  _ hle hk)
def vc_X5_readAll (w : kt_W) (gr : kt_g × kt_M) (d : Nat) (P : Option Value → kt_M → Prop) (X : String → Nat → kt_M → Prop) (a0 : Nat) (M : kt_M) : Prop :=
  (kt_co M a0 = some 12) ∧ 
  kt_Ca w gr d yX5_expectWord kc_X5_expectWord [va_rf (some a0), va_rf (some (kt_cA w 26))] M (kt_pV fun M1 => (kt_co M1 a0 = some 12) ∧ 
  kt_Ca w gr d yX5_readNumber kc_X5_readNumber [va_rf (some a0), .int (1 : Int32), .int (500 : Int32)] M1 (kt_pI fun u2 M3 => (kt_co M3 a0 = some 12) ∧ 
  kt_Ca w gr d yX5_readNumber kc_X5_readNumber [va_rf (some a0), .int (0 : Int32), .int (200 : Int32)] M3 (kt_pI fun u4 M5 => (kt_co M5 a0 = some 12) ∧ 
  kt_Ca w gr d yX5_readNumber kc_X5_readNumber [va_rf (some a0), .int (0 : Int32), .int u2] M5 (kt_pI fun u6 M7 => (kt_co M7 a0 = some 12) ∧ 
  kt_Ca w gr d yX5_readNumber kc_X5_readNumber [va_rf (some a0), .int (1 : Int32), .int (30 : Int32)] M7 (kt_pI fun u8 M9 => (kt_co M9 a0 = some 12) ∧ 
  kt_Ca w gr d yX5_clear kc_X5_clear [va_rf (some a0), .int u2, .int u4, .int u6, .int u8] M9 (kt_pV fun M10 => (kt_co M10 a0 = some 12) ∧ 
  kt_Ca w gr d yX5_expect kc_X5_expect [va_rf (some a0), .int (59 : Int32)] M10 (kt_pV fun M11 => vl_X5_readAll_56 w gr d P X  a0 M11) X) X) X) X) X) X) X
theorem ce_X5_readAll {w : kt_W} {g : kt_g} {d : Nat} {P : Option Value → kt_M → Prop} {X : String → Nat → kt_M → Prop} {a0 : Nat} {M : kt_M} (h : vc_X5_readAll w (g, M) d P X a0 M) : kt_Sp w g (d + 1) yX5_readAll kc_X5_readAll [va_rf (some a0)] M P X := by
  refine kt_of (L0 := [(0, va_rf (some a0))]) (by decide +kernel) (Nat.le_of_ble_eq_true rfl) rfl fun x O => ?_
  replace O : kt_O w x (g, M) (d + 1) cX5_readAll "KeyTurnsModel" 5 ("readAll", "()V") (Option.none : Option Jvm.ClassFile.FieldType) [] := O
  unfold vc_X5_readAll at h
  refine kr_aload_n O dX5_readAll_0 rfl 0 rfl ?_
  refine kr_ldcwS O dX5_readAll_1 st_X5_333 ?_
  obtain ⟨hco, h⟩ := h
  refine kr_caV (rest := []) O cd_X5_expectWord h (Nat.le_of_ble_eq_true rfl) (fun ls _ => kt_ivV (ci := 12) O dX5_readAll_4 cd_X5_expectWord in_X5_expectWord (Or.inl q2899) q2901 qs87 hco (by decide) hy_X5_expectWord) (fun M1 hq => ?_) (fun E q M9 hx => kr_out O hx)
  replace h := hq
  clear hq
  refine kr_aload_n O dX5_readAll_7 rfl 0 rfl ?_
  refine kr_iconst O dX5_readAll_8 (v := (1 : Int32)) (by decide) ?_
  refine kr_sipush O dX5_readAll_9 (v := (500 : Int32)) (by decide) ?_
  obtain ⟨hco, h⟩ := h
  refine kr_caI (rest := []) O cd_X5_readNumber h (Nat.le_of_ble_eq_true rfl) (fun ls _ => kt_ivV (ci := 12) O dX5_readAll_12 cd_X5_readNumber in_X5_readNumber (Or.inl q2921) q2923 qs92 hco (by decide) hy_X5_readNumber) (fun u2 M3 hq => ?_) (fun E q M9 hx => kr_out O hx)
  replace h := hq
  clear hq
  refine kr_istore_n O dX5_readAll_15 rfl (Nat.le_of_ble_eq_true rfl) rfl rfl ?_
  refine kr_aload_n O dX5_readAll_16 rfl 1 rfl ?_
  refine kr_iconst O dX5_readAll_17 (v := (0 : Int32)) (by decide) ?_
  refine kr_sipush O dX5_readAll_18 (v := (200 : Int32)) (by decide) ?_
  obtain ⟨hco, h⟩ := h
  refine kr_caI (rest := []) O cd_X5_readNumber h (Nat.le_of_ble_eq_true rfl) (fun ls _ => kt_ivV (ci := 12) O dX5_readAll_21 cd_X5_readNumber in_X5_readNumber (Or.inl q2921) q2923 qs92 hco (by decide) hy_X5_readNumber) (fun u4 M5 hq => ?_) (fun E q M9 hx => kr_out O hx)
  replace h := hq
  clear hq
  refine kr_istore_n O dX5_readAll_24 rfl (Nat.le_of_ble_eq_true rfl) rfl rfl ?_
  refine kr_aload_n O dX5_readAll_25 rfl 2 rfl ?_
  refine kr_iconst O dX5_readAll_26 (v := (0 : Int32)) (by decide) ?_
  refine kr_iload_n O dX5_readAll_27 rfl 1 rfl ?_
  obtain ⟨hco, h⟩ := h
  refine kr_caI (rest := []) O cd_X5_readNumber h (Nat.le_of_ble_eq_true rfl) (fun ls _ => kt_ivV (ci := 12) O dX5_readAll_28 cd_X5_readNumber in_X5_readNumber (Or.inl q2921) q2923 qs92 hco (by decide) hy_X5_readNumber) (fun u6 M7 hq => ?_) (fun E q M9 hx => kr_out O hx)
  replace h := hq
  clear hq
  refine kr_istore_n O dX5_readAll_31 rfl (Nat.le_of_ble_eq_true rfl) rfl rfl ?_
  refine kr_aload_n O dX5_readAll_32 rfl 3 rfl ?_
  refine kr_iconst O dX5_readAll_33 (v := (1 : Int32)) (by decide) ?_
  refine kr_bipush O dX5_readAll_34 (v := (30 : Int32)) (by decide) ?_
  obtain ⟨hco, h⟩ := h
  refine kr_caI (rest := []) O cd_X5_readNumber h (Nat.le_of_ble_eq_true rfl) (fun ls _ => kt_ivV (ci := 12) O dX5_readAll_36 cd_X5_readNumber in_X5_readNumber (Or.inl q2921) q2923 qs92 hco (by decide) hy_X5_readNumber) (fun u8 M9 hq => ?_) (fun E q M9 hx => kr_out O hx)
  replace h := hq
  clear hq
  refine kr_istore O dX5_readAll_39 (Nat.le_of_ble_eq_true rfl) rfl rfl ?_
  refine kr_aload_n O dX5_readAll_41 rfl 4 rfl ?_
  refine kr_iload_n O dX5_readAll_42 rfl 3 rfl ?_
  refine kr_iload_n O dX5_readAll_43 rfl 2 rfl ?_
  refine kr_iload_n O dX5_readAll_44 rfl 1 rfl ?_
  refine kr_iload O dX5_readAll_45 0 rfl ?_
  obtain ⟨hco, h⟩ := h
  refine kr_caV (rest := []) O cd_X5_clear h (Nat.le_of_ble_eq_true rfl) (fun ls _ => kt_ivV (ci := 12) O dX5_readAll_47 cd_X5_clear in_X5_clear (Or.inl q2459) q2461 qs37 hco (by decide) hy_X5_clear) (fun M10 hq => ?_) (fun E q M9 hx => kr_out O hx)
  replace h := hq
  clear hq
  refine kr_aload_n O dX5_readAll_50 rfl 4 rfl ?_
  refine kr_bipush O dX5_readAll_51 (v := (59 : Int32)) (by decide) ?_
  obtain ⟨hco, h⟩ := h
  refine kr_caV (rest := []) O cd_X5_expect h (Nat.le_of_ble_eq_true rfl) (fun ls _ => kt_ivV (ci := 12) O dX5_readAll_53 cd_X5_expect in_X5_expect (Or.inl q2935) q2937 qs94 hco (by decide) hy_X5_expect) (fun M11 hq => ?_) (fun E q M9 hx => kr_out O hx)
  replace h := hq
  clear hq
  refine kr_sub [4] rfl ?_
  exact cl_X5_readAll_56 O  h
