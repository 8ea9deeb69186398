set_option maxRecDepth 100000
def vc_X5_readWith (w : kt_W) (gr : kt_g × kt_M) (d : Nat) (P : Option Value → kt_M → Prop) (X : String → Nat → kt_M → Prop) (a0 : Nat) (v1 : Int32) (v2 : Int32) (M : kt_M) : Prop :=
  (kt_co M a0 = some 12) ∧ 
  kt_Ca w gr d yX5_usable kc_X5_usable [va_rf (some a0), .int v1] M (kt_pI fun u1 M2 => (kt_co M2 a0 = some 12) ∧ 
  kt_Ca w gr d yX5_ofRecord kc_X5_ofRecord [va_rf (some a0), .int v2, .int (1 : Int32)] M2 (kt_pI fun u3 M4 => 
  kt_Ca w gr d yX5_greatestOf kc_X5_greatestOf [.int (u1 &&& u3)] M4 (kt_pI fun u5 M6 => P (some (.int u5)) M6) X) X) X
theorem ce_X5_readWith {w : kt_W} {g : kt_g} {d : Nat} {P : Option Value → kt_M → Prop} {X : String → Nat → kt_M → Prop} {a0 : Nat} {v1 : Int32} {v2 : Int32} {M : kt_M} (h : vc_X5_readWith w (g, M) d P X a0 v1 v2 M) : kt_Sp w g (d + 1) yX5_readWith kc_X5_readWith [va_rf (some a0), .int v1, .int v2] M P X := by
  refine kt_of (L0 := [(0, va_rf (some a0)), (1, .int v1), (2, .int v2)]) (by decide +kernel) (Nat.le_of_ble_eq_true rfl) rfl fun x O => ?_
  replace O : kt_O w x (g, M) (d + 1) cX5_readWith "KeyTurnsModel" 3 ("readWith", "(II)I") (Option.some Jvm.ClassFile.FieldType.int) [] := O
  unfold vc_X5_readWith at h
  refine kr_aload_n O dX5_readWith_0 rfl 0 rfl ?_
  refine kr_iload_n O dX5_readWith_1 rfl 1 rfl ?_
  obtain ⟨hco, h⟩ := h
  refine kr_caI (rest := []) O cd_X5_usable h (Nat.le_of_ble_eq_true rfl) (fun ls _ => kt_ivV (ci := 12) O dX5_readWith_2 cd_X5_usable in_X5_usable (Or.inl q2642) q2644 qs56 hco (by decide) hy_X5_usable) (fun u1 M2 hq => ?_) (fun E q M9 hx => kr_out O hx)
  replace h := hq
  clear hq
  refine kr_aload_n O dX5_readWith_5 rfl 0 rfl ?_
  refine kr_iload_n O dX5_readWith_6 rfl 2 rfl ?_
  refine kr_iconst O dX5_readWith_7 (v := (1 : Int32)) (by decide) ?_
  obtain ⟨hco, h⟩ := h
  refine kr_caI (rest := [.int u1]) O cd_X5_ofRecord h (Nat.le_of_ble_eq_true rfl) (fun ls _ => kt_ivV (ci := 12) O dX5_readWith_8 cd_X5_ofRecord in_X5_ofRecord (Or.inl q2563) q2565 qs41 hco (by decide) hy_X5_ofRecord) (fun u3 M4 hq => ?_) (fun E q M9 hx => kr_out O hx)
  replace h := hq
  clear hq
  refine kr_iand O dX5_readWith_11 ?_
  refine kr_caI (rest := []) O cd_X5_greatestOf h (Nat.le_of_ble_eq_true rfl) (fun ls _ => kt_ivS O dX5_readWith_12 cd_X5_greatestOf in_X5_greatestOf q2673 q2674 hy_X5_greatestOf) (fun u5 M6 hq => ?_) (fun E q M9 hx => kr_out O hx)
  replace h := hq
  clear hq
  exact kr_iret O dX5_readWith_15 rfl h
def vc_X5_couldRead (w : kt_W) (gr : kt_g × kt_M) (d : Nat) (P : Option Value → kt_M → Prop) (X : String → Nat → kt_M → Prop) (a0 : Nat) (v1 : Int32) (v2 : Int32) (M : kt_M) : Prop :=
  kt_hf gr M a0 71 ∧ ∀ M1, M1 = kt_pf M a0 71 (.int (0 : Int32)) → (kt_co M1 a0 = some 12) ∧ 
  kt_Ca w gr d yX5_isMade kc_X5_isMade [va_rf (some a0), .int v1] M1 (kt_pI fun u2 M3 => 
    ((¬ u2 = 0 → (kt_co M3 a0 = some 12) ∧ 
    kt_Ca w gr d yX5_hour kc_X5_hour [va_rf (some a0)] M3 (kt_pI fun u4 M5 => ∃ p6, kt_gf M5 a0 65 = some (va_rf p6) ∧ ∃ b7, p6 = some b7 ∧ ∃ u8, kt_el 0 M5 b7 (10 : Int32) = some (.int u8) ∧ (kt_co M5 a0 = some 12) ∧ 
    kt_Ca w gr d yX5_hour kc_X5_hour [va_rf (some a0)] M5 (kt_pI fun u9 M10 => 
    kt_Ca w gr d yX5_inRange kc_X5_inRange [.int v2, .int ((u4 - u8) + (1 : Int32)), .int u9] M10 (kt_pI fun u11 M12 => 
      ((u11 = 0 → P (some (.int (-1 : Int32))) M12) ∧
      (¬ u11 = 0 → ∃ p13, kt_gf M12 a0 65 = some (va_rf p13) ∧ 
      kt_Ca w gr d yX5_seenAt kc_X5_seenAt [.int v2, .int v1] M12 (kt_pI fun u14 M15 => ∃ b16, p13 = some b16 ∧ ∃ u17, kt_el 0 M15 b16 u14 = some (.int u17) ∧ P (some (.int u17)) M15) X))) X) X) X) ∧
    (u2 = 0 → (kt_co M3 a0 = some 12) ∧ 
    kt_Ca w gr d yX5_raise kc_X5_raise [va_rf (some a0), .int (1 : Int32)] M3 (kt_pI fun u18 M19 => P (some (.int u18)) M19) X))) X
theorem ce_X5_couldRead {w : kt_W} {g : kt_g} {d : Nat} {P : Option Value → kt_M → Prop} {X : String → Nat → kt_M → Prop} {a0 : Nat} {v1 : Int32} {v2 : Int32} {M : kt_M} (h : vc_X5_couldRead w (g, M) d P X a0 v1 v2 M) : kt_Sp w g (d + 1) yX5_couldRead kc_X5_couldRead [va_rf (some a0), .int v1, .int v2] M P X := by
  refine kt_of (L0 := [(0, va_rf (some a0)), (1, .int v1), (2, .int v2)]) (by decide +kernel) (Nat.le_of_ble_eq_true rfl) rfl fun x O => ?_
  replace O : kt_O w x (g, M) (d + 1) cX5_couldRead "KeyTurnsModel" 3 ("couldRead", "(II)I") (Option.some Jvm.ClassFile.FieldType.int) [] := O
  unfold vc_X5_couldRead at h
  refine kr_aload_n O dX5_couldRead_0 rfl 0 rfl ?_
  refine kr_iconst O dX5_couldRead_1 (v := (0 : Int32)) (by decide) ?_
  obtain ⟨hw, h⟩ := h
  refine kr_putf O dX5_couldRead_2 fs_X5_71 (Or.inl rfl) ⟨rfl, rfl⟩ hw (kr_nmM fun M1 hM1 => ?_)
  replace h := h M1 hM1
  refine kr_aload_n O dX5_couldRead_5 rfl 0 rfl ?_
  refine kr_iload_n O dX5_couldRead_6 rfl 1 rfl ?_
  obtain ⟨hco, h⟩ := h
  refine kr_caI (rest := []) O cd_X5_isMade h (Nat.le_of_ble_eq_true rfl) (fun ls _ => kt_ivV (ci := 12) O dX5_couldRead_7 cd_X5_isMade in_X5_isMade (Or.inl q2601) q2603 qs49 hco (by decide) hy_X5_isMade) (fun u2 M3 hq => ?_) (fun E q M9 hx => kr_out O hx)
  replace h := hq
  clear hq
  refine kr_if_ne (tgt := 19) O dX5_couldRead_10 rfl (fun hc => ?_) (fun hc => ?_)
  · replace h := h.1 hc
    refine kr_iload_n O dX5_couldRead_19 rfl 2 rfl ?_
    refine kr_aload_n O dX5_couldRead_20 rfl 0 rfl ?_
    obtain ⟨hco, h⟩ := h
    refine kr_caI (rest := [.int v2]) O cd_X5_hour h (Nat.le_of_ble_eq_true rfl) (fun ls _ => kt_ivV (ci := 12) O dX5_couldRead_21 cd_X5_hour in_X5_hour (Or.inl q2582) q2584 qs45 hco (by decide) hy_X5_hour) (fun u4 M5 hq => ?_) (fun E q M9 hx => kr_out O hx)
    replace h := hq
    clear hq
    refine kr_aload_n O dX5_couldRead_24 rfl 0 rfl ?_
    obtain ⟨p6, ep6, h⟩ := h
    refine kr_getf O dX5_couldRead_25 fs_X5_9 ep6 ?_
    refine kr_bipush O dX5_couldRead_28 (v := (10 : Int32)) (by decide) ?_
    obtain ⟨b7, rfl, h⟩ := h
    obtain ⟨u8, eu8, h⟩ := h
    refine kr_iaload O dX5_couldRead_30 eu8 ?_
    refine kr_isub O dX5_couldRead_31 ?_
    refine kr_iconst O dX5_couldRead_32 (v := (1 : Int32)) (by decide) ?_
    refine kr_iadd O dX5_couldRead_33 ?_
    refine kr_aload_n O dX5_couldRead_34 rfl 0 rfl ?_
    obtain ⟨hco, h⟩ := h
    refine kr_caI (rest := [.int ((u4 - u8) + (1 : Int32)), .int v2]) O cd_X5_hour h (Nat.le_of_ble_eq_true rfl) (fun ls _ => kt_ivV (ci := 12) O dX5_couldRead_35 cd_X5_hour in_X5_hour (Or.inl q2582) q2584 qs45 hco (by decide) hy_X5_hour) (fun u9 M10 hq => ?_) (fun E q M9 hx => kr_out O hx)
    replace h := hq
    clear hq
    refine kr_caI (rest := []) O cd_X5_inRange h (Nat.le_of_ble_eq_true rfl) (fun ls _ => kt_ivS O dX5_couldRead_38 cd_X5_inRange in_X5_inRange q2586 q2587 hy_X5_inRange) (fun u11 M12 hq => ?_) (fun E q M9 hx => kr_out O hx)
    replace h := hq
    clear hq
    refine kr_if_eq (tgt := 57) O dX5_couldRead_41 rfl (fun hc => ?_) (fun hc => ?_)
    · replace h := h.1 hc
      refine kr_iconst O dX5_couldRead_57 (v := (-1 : Int32)) (by decide) ?_
      exact kr_iret O dX5_couldRead_58 rfl h
    · replace h := h.2 hc
      refine kr_aload_n O dX5_couldRead_44 rfl 0 rfl ?_
      obtain ⟨p13, ep13, h⟩ := h
      refine kr_getf O dX5_couldRead_45 fs_X5_9 ep13 ?_
      refine kr_iload_n O dX5_couldRead_48 rfl 2 rfl ?_
      refine kr_iload_n O dX5_couldRead_49 rfl 1 rfl ?_
      refine kr_caI (rest := [va_rf p13]) O cd_X5_seenAt h (Nat.le_of_ble_eq_true rfl) (fun ls _ => kt_ivS O dX5_couldRead_50 cd_X5_seenAt in_X5_seenAt q2692 q2693 hy_X5_seenAt) (fun u14 M15 hq => ?_) (fun E q M9 hx => kr_out O hx)
      replace h := hq
      clear hq
      obtain ⟨b16, rfl, h⟩ := h
      obtain ⟨u17, eu17, h⟩ := h
      refine kr_iaload O dX5_couldRead_53 eu17 ?_
      refine kr_goto (tgt := 58) O dX5_couldRead_54 rfl ?_
      exact kr_iret O dX5_couldRead_58 rfl h
  · replace h := h.2 hc
    refine kr_aload_n O dX5_couldRead_13 rfl 0 rfl ?_
    refine kr_iconst O dX5_couldRead_14 (v := (1 : Int32)) (by decide) ?_
    obtain ⟨hco, h⟩ := h
    refine kr_caI (rest := []) O cd_X5_raise h (Nat.le_of_ble_eq_true rfl) (fun ls _ => kt_ivV (ci := 12) O dX5_couldRead_15 cd_X5_raise in_X5_raise (Or.inl q2606) q2608 qs50 hco (by decide) hy_X5_raise) (fun u18 M19 hq => ?_) (fun E q M9 hx => kr_out O hx)
    replace h := hq
    clear hq
    exact kr_iret O dX5_couldRead_18 rfl h
def vc_X5_seenAt (w : kt_W) (gr : kt_g × kt_M) (d : Nat) (P : Option Value → kt_M → Prop) (X : String → Nat → kt_M → Prop) (v0 : Int32) (v1 : Int32) (M : kt_M) : Prop :=
  ¬ (48 : Int32) = 0 ∧ P (some (.int (((789 : Int32) + ((30 : Int32) * (v0 - v0 / (48 : Int32) * (48 : Int32)))) + v1))) M
theorem ce_X5_seenAt {w : kt_W} {g : kt_g} {d : Nat} {P : Option Value → kt_M → Prop} {X : String → Nat → kt_M → Prop} {v0 : Int32} {v1 : Int32} {M : kt_M} (h : vc_X5_seenAt w (g, M) d P X v0 v1 M) : kt_Sp w g (d + 1) yX5_seenAt kc_X5_seenAt [.int v0, .int v1] M P X := by
  refine kt_of (L0 := [(0, .int v0), (1, .int v1)]) (by decide +kernel) (Nat.le_of_ble_eq_true rfl) rfl fun x O => ?_
  replace O : kt_O w x (g, M) (d + 1) cX5_seenAt "KeyTurnsModel" 2 ("seenAt", "(II)I") (Option.some Jvm.ClassFile.FieldType.int) [] := O
  unfold vc_X5_seenAt at h
  refine kr_sipush O dX5_seenAt_0 (v := (789 : Int32)) (by decide) ?_
  refine kr_bipush O dX5_seenAt_3 (v := (30 : Int32)) (by decide) ?_
  refine kr_iload_n O dX5_seenAt_5 rfl 0 rfl ?_
  refine kr_bipush O dX5_seenAt_6 (v := (48 : Int32)) (by decide) ?_
  obtain ⟨hne, h⟩ := h
  refine kr_irem O dX5_seenAt_8 hne ?_
  refine kr_imul O dX5_seenAt_9 ?_
  refine kr_iadd O dX5_seenAt_10 ?_
  refine kr_iload_n O dX5_seenAt_11 rfl 1 rfl ?_
  refine kr_iadd O dX5_seenAt_12 ?_
  exact kr_iret O dX5_seenAt_13 rfl h
def vc_X5_sweepAt_30 (w : kt_W) (gr : kt_g × kt_M) (d : Nat) (P : Option Value → kt_M → Prop) (X : String → Nat → kt_M → Prop) (nx30 : Int32 → Int32 → Int32 → kt_M → Prop) (a0 : Nat) (v1 : Int32) (v2 : Int32) (v3 : Int32) (v4 : Int32) (M : kt_M) : Prop :=
  
    ((v1 ≤ v4 → P (some (.int v3)) M) ∧
    (¬ v1 ≤ v4 → 
      ((v3 = (-1 : Int32) → P (some (.int v3)) M) ∧
      (¬ v3 = (-1 : Int32) → (kt_co M a0 = some 12) ∧ 
      kt_Ca w gr d yX5_nextSwept kc_X5_nextSwept [va_rf (some a0), .int (v2 ||| ((1 : Int32) <<< (v3 &&& 31)))] M (kt_pI fun u1 M2 => nx30 (v2 ||| ((1 : Int32) <<< (v3 &&& 31))) u1 (v4 + (1 : Int32)) M2) X))))
theorem cj_X5_sweepAt_30 {w : kt_W} {x : kt_X} {gr : kt_g × kt_M} {d : Nat} {P : Option Value → kt_M → Prop} {X : String → Nat → kt_M → Prop} {nx30 : Int32 → Int32 → Int32 → kt_M → Prop} {a0 : Nat} {v1 : Int32} {v2 : Int32} {v3 : Int32} {v4 : Int32} {M : kt_M} (O : kt_O w x gr (d + 1) cX5_sweepAt "KeyTurnsModel" 5 ("sweepAt", "(I)I") (Option.some Jvm.ClassFile.FieldType.int) []) (hn30 : ∀ v2 v3 v4 M, nx30 v2 v3 v4 M → kt_S w x 5 (kt_E w x P X) M 30 [(0, va_rf (some a0)), (1, .int v1), (2, .int v2), (3, .int v3), (4, .int v4)] []) (h : vc_X5_sweepAt_30 w gr d P X nx30 a0 v1 v2 v3 v4 M) : kt_S w x 5 (kt_E w x P X) M 30 [(0, va_rf (some a0)), (1, .int v1), (2, .int v2), (3, .int v3), (4, .int v4)] [] := by
  unfold vc_X5_sweepAt_30 at h
  refine kr_iload O dX5_sweepAt_30 4 rfl ?_
  refine kr_iload_n O dX5_sweepAt_32 rfl 1 rfl ?_
  refine kr_icmp_ge (tgt := 59) O dX5_sweepAt_33 rfl (fun hc => ?_) (fun hc => ?_)
  · replace h := h.1 hc
    refine kr_iload_n O dX5_sweepAt_59 rfl 3 rfl ?_
    exact kr_iret O dX5_sweepAt_60 rfl h
  · replace h := h.2 hc
    refine kr_iload_n O dX5_sweepAt_36 rfl 3 rfl ?_
    refine kr_iconst O dX5_sweepAt_37 (v := (-1 : Int32)) (by decide) ?_
    refine kr_icmp_eq (tgt := 59) O dX5_sweepAt_38 rfl (fun hc => ?_) (fun hc => ?_)
    · replace h := h.1 hc
      refine kr_iload_n O dX5_sweepAt_59 rfl 3 rfl ?_
      exact kr_iret O dX5_sweepAt_60 rfl h
    · replace h := h.2 hc
      refine kr_iload_n O dX5_sweepAt_41 rfl 2 rfl ?_
      refine kr_iconst O dX5_sweepAt_42 (v := (1 : Int32)) (by decide) ?_
      refine kr_iload_n O dX5_sweepAt_43 rfl 3 rfl ?_
      refine kr_ishl O dX5_sweepAt_44 ?_
      refine kr_ior O dX5_sweepAt_45 ?_
      refine kr_istore_n O dX5_sweepAt_46 rfl (Nat.le_of_ble_eq_true rfl) rfl rfl ?_
      refine kr_aload_n O dX5_sweepAt_47 rfl 1 rfl ?_
      refine kr_iload_n O dX5_sweepAt_48 rfl 0 rfl ?_
      obtain ⟨hco, h⟩ := h
      refine kr_caI (rest := []) O cd_X5_nextSwept h (Nat.le_of_ble_eq_true rfl) (fun ls _ => kt_ivV (ci := 12) O dX5_sweepAt_49 cd_X5_nextSwept in_X5_nextSwept (Or.inl q2699) q2701 qs63 hco (by decide) hy_X5_nextSwept) (fun u1 M2 hq => ?_) (fun E q M9 hx => kr_out O hx)
      replace h := hq
      clear hq
      refine kr_istore_n O dX5_sweepAt_52 rfl (Nat.le_of_ble_eq_true rfl) rfl rfl ?_
      refine kr_iinc O dX5_sweepAt_53 4 rfl (v := v4 + (1 : Int32)) rfl (Nat.le_of_ble_eq_true rfl) rfl rfl ?_
      refine kr_goto (tgt := 30) O dX5_sweepAt_56 rfl ?_
      refine kr_sub [3, 4, 2, 1, 0] rfl ?_
      exact hn30 _ _ _ _ h
def vl_X5_sweepAt_30 (w : kt_W) (gr : kt_g × kt_M) (d : Nat) (P : Option Value → kt_M → Prop) (X : String → Nat → kt_M → Prop)  (a0 : Nat) (v1 : Int32) (v2 : Int32) (v3 : Int32) (v4 : Int32) (M : kt_M) : Prop :=
  ∃ Inv : Nat → Int32 → Int32 → Int32 → kt_M → Prop, (∃ k, Inv k v2 v3 v4 M) ∧ ∀ k v2 v3 v4 M, kt_le gr.1 gr.2 M → Inv k v2 v3 v4 M → vc_X5_sweepAt_30 w gr d P X (fun v2' v3' v4' M' => ∃ k', k' < k ∧ Inv k' v2' v3' v4' M') a0 v1 v2 v3 v4 M
theorem cl_X5_sweepAt_30 {w : kt_W} {x : kt_X} {gr : kt_g × kt_M} {d : Nat} {P : Option Value → kt_M → Prop} {X : String → Nat → kt_M → Prop}  {a0 : Nat} {v1 : Int32} {v2 : Int32} {v3 : Int32} {v4 : Int32} {M : kt_M} (O : kt_O w x gr (d + 1) cX5_sweepAt "KeyTurnsModel" 5 ("sweepAt", "(I)I") (Option.some Jvm.ClassFile.FieldType.int) [])  (h : vl_X5_sweepAt_30 w gr d P X  a0 v1 v2 v3 v4 M) : kt_S w x 5 (kt_E w x P X) M 30 [(0, va_rf (some a0)), (1, .int v1), (2, .int v2), (3, .int v3), (4, .int v4)] [] := by
  obtain ⟨Inv, ⟨k, hk⟩, hb⟩ := h
  induction k using Nat.strongRecOn generalizing v2 v3 v4 M with
  | ind k ih =>
    exact kr_le O fun hle => cj_X5_sweepAt_30 O (fun v2' v3' v4' M' hi => let ⟨k', h1, h2⟩ := hi; ih k' h1 h2) (hb k _ _ _ _ hle hk)
def vc_X5_sweepAt (w : kt_W) (gr : kt_g × kt_M) (d : Nat) (P : Option Value → kt_M → Prop) (X : String → Nat → kt_M → Prop) (a0 : Nat) (v1 : Int32) (M : kt_M) : Prop :=
  kt_hf gr M a0 71 ∧ ∀ M1, M1 = kt_pf M a0 71 (.int (0 : Int32)) → 
  kt_Ca w gr d yX5_inRange kc_X5_inRange [.int v1, .int (0 : Int32), .int (29 : Int32)] M1 (kt_pI fun u2 M3 => 
    ((u2 = 0 → vl_X5_sweepAt_30 w gr d P X  a0 v1 (0 : Int32) (-1 : Int32) (0 : Int32) M3) ∧
    (¬ u2 = 0 → (kt_co M3 a0 = some 12) ∧ 
    kt_Ca w gr d yX5_nextSwept kc_X5_nextSwept [va_rf (some a0), .int (0 : Int32)] M3 (kt_pI fun u4 M5 => vl_X5_sweepAt_30 w gr d P X  a0 v1 (0 : Int32) u4 (0 : Int32) M5) X))) X
theorem ce_X5_sweepAt {w : kt_W} {g : kt_g} {d : Nat} {P : Option Value → kt_M → Prop} {X : String → Nat → kt_M → Prop} {a0 : Nat} {v1 : Int32} {M : kt_M} (h : vc_X5_sweepAt w (g, M) d P X a0 v1 M) : kt_Sp w g (d + 1) yX5_sweepAt kc_X5_sweepAt [va_rf (some a0), .int v1] M P X := by
  refine kt_of (L0 := [(0, va_rf (some a0)), (1, .int v1)]) (by decide +kernel) (Nat.le_of_ble_eq_true rfl) rfl fun x O => ?_
  replace O : kt_O w x (g, M) (d + 1) cX5_sweepAt "KeyTurnsModel" 5 ("sweepAt", "(I)I") (Option.some Jvm.ClassFile.FieldType.int) [] := O
  unfold vc_X5_sweepAt at h
  refine kr_aload_n O dX5_sweepAt_0 rfl 0 rfl ?_
  refine kr_iconst O dX5_sweepAt_1 (v := (0 : Int32)) (by decide) ?_
  obtain ⟨hw, h⟩ := h
  refine kr_putf O dX5_sweepAt_2 fs_X5_71 (Or.inl rfl) ⟨rfl, rfl⟩ hw (kr_nmM fun M1 hM1 => ?_)
  replace h := h M1 hM1
  refine kr_iconst O dX5_sweepAt_5 (v := (0 : Int32)) (by decide) ?_
  refine kr_istore_n O dX5_sweepAt_6 rfl (Nat.le_of_ble_eq_true rfl) rfl rfl ?_
  refine kr_iload_n O dX5_sweepAt_7 rfl 2 rfl ?_
  refine kr_iconst O dX5_sweepAt_8 (v := (0 : Int32)) (by decide) ?_
  refine kr_bipush O dX5_sweepAt_9 (v := (29 : Int32)) (by decide) ?_
  refine kr_caI (rest := []) O cd_X5_inRange h (Nat.le_of_ble_eq_true rfl) (fun ls _ => kt_ivS O dX5_sweepAt_11 cd_X5_inRange in_X5_inRange q2586 q2587 hy_X5_inRange) (fun u2 M3 hq => ?_) (fun E q M9 hx => kr_out O hx)
  replace h := hq
  clear hq
  refine kr_if_eq (tgt := 25) O dX5_sweepAt_14 rfl (fun hc => ?_) (fun hc => ?_)
  · replace h := h.1 hc
    refine kr_iconst O dX5_sweepAt_25 (v := (-1 : Int32)) (by decide) ?_
    refine kr_istore_n O dX5_sweepAt_26 rfl (Nat.le_of_ble_eq_true rfl) rfl rfl ?_
    refine kr_iconst O dX5_sweepAt_27 (v := (0 : Int32)) (by decide) ?_
    refine kr_istore O dX5_sweepAt_28 (Nat.le_of_ble_eq_true rfl) rfl rfl ?_
    refine kr_sub [3, 4, 2, 1, 0] rfl ?_
    exact cl_X5_sweepAt_30 O  h
  · replace h := h.2 hc
    refine kr_aload_n O dX5_sweepAt_17 rfl 1 rfl ?_
    refine kr_iconst O dX5_sweepAt_18 (v := (0 : Int32)) (by decide) ?_
    obtain ⟨hco, h⟩ := h
    refine kr_caI (rest := []) O cd_X5_nextSwept h (Nat.le_of_ble_eq_true rfl) (fun ls _ => kt_ivV (ci := 12) O dX5_sweepAt_19 cd_X5_nextSwept in_X5_nextSwept (Or.inl q2699) q2701 qs63 hco (by decide) hy_X5_nextSwept) (fun u4 M5 hq => ?_) (fun E q M9 hx => kr_out O hx)
    replace h := hq
    clear hq
    refine kr_goto (tgt := 26) O dX5_sweepAt_22 rfl ?_
    refine kr_istore_n O dX5_sweepAt_26 rfl (Nat.le_of_ble_eq_true rfl) rfl rfl ?_
    refine kr_iconst O dX5_sweepAt_27 (v := (0 : Int32)) (by decide) ?_
    refine kr_istore O dX5_sweepAt_28 (Nat.le_of_ble_eq_true rfl) rfl rfl ?_
    refine kr_sub [3, 4, 2, 1, 0] rfl ?_
    exact cl_X5_sweepAt_30 O  h
def vc_X5_nextSwept_63 (w : kt_W) (gr : kt_g × kt_M) (d : Nat) (P : Option Value → kt_M → Prop) (X : String → Nat → kt_M → Prop) (nx10 : Int32 → Int32 → kt_M → Prop) (a0 : Nat) (v1 : Int32) (v2 : Int32) (v3 : Int32) (v4 : Int32) (s0 : Int32) (M : kt_M) : Prop :=
  
    ((s0 = 0 → nx10 v2 (v4 + (1 : Int32)) M) ∧
    (¬ s0 = 0 → 
      ((v2 = (-1 : Int32) → nx10 v4 (v4 + (1 : Int32)) M) ∧
      (¬ v2 = (-1 : Int32) → (kt_co M a0 = some 12) ∧ 
      kt_Ca w gr d yX5_endOf kc_X5_endOf [va_rf (some a0), .int v4] M (kt_pI fun u1 M2 => (kt_co M2 a0 = some 12) ∧ 
      kt_Ca w gr d yX5_endOf kc_X5_endOf [va_rf (some a0), .int v2] M2 (kt_pI fun u3 M4 => 
        ((u3 ≤ u1 → nx10 v2 (v4 + (1 : Int32)) M4) ∧
        (¬ u3 ≤ u1 → nx10 v4 (v4 + (1 : Int32)) M4))) X) X))))
theorem cj_X5_nextSwept_63 {w : kt_W} {x : kt_X} {gr : kt_g × kt_M} {d : Nat} {P : Option Value → kt_M → Prop} {X : String → Nat → kt_M → Prop} {nx10 : Int32 → Int32 → kt_M → Prop} {a0 : Nat} {v1 : Int32} {v2 : Int32} {v3 : Int32} {v4 : Int32} {s0 : Int32} {M : kt_M} (O : kt_O w x gr (d + 1) cX5_nextSwept "KeyTurnsModel" 6 ("nextSwept", "(I)I") (Option.some Jvm.ClassFile.FieldType.int) []) (hn10 : ∀ v2 v4 M, nx10 v2 v4 M → kt_S w x 6 (kt_E w x P X) M 10 [(0, va_rf (some a0)), (1, .int v1), (2, .int v2), (3, .int v3), (4, .int v4)] []) (h : vc_X5_nextSwept_63 w gr d P X nx10 a0 v1 v2 v3 v4 s0 M) : kt_S w x 6 (kt_E w x P X) M 63 [(0, va_rf (some a0)), (1, .int v1), (2, .int v2), (3, .int v3), (4, .int v4)] [.int s0] := by
  unfold vc_X5_nextSwept_63 at h
  refine kr_istore O dX5_nextSwept_63 (Nat.le_of_ble_eq_true rfl) rfl rfl ?_
  refine kr_iload O dX5_nextSwept_65 0 rfl ?_
  refine kr_if_eq (tgt := 94) O dX5_nextSwept_67 rfl (fun hc => ?_) (fun hc => ?_)
  · replace h := h.1 hc
    refine kr_iload_n O dX5_nextSwept_94 rfl 3 rfl ?_
    refine kr_istore_n O dX5_nextSwept_95 rfl (Nat.le_of_ble_eq_true rfl) rfl rfl ?_
    refine kr_iinc O dX5_nextSwept_96 5 rfl (v := v4 + (1 : Int32)) rfl (Nat.le_of_ble_eq_true rfl) rfl rfl ?_
    refine kr_goto (tgt := 10) O dX5_nextSwept_99 rfl ?_
    refine kr_sub [3, 4, 1, 5, 0] rfl ?_
    exact hn10 _ _ _ h
  · replace h := h.2 hc
    refine kr_iload_n O dX5_nextSwept_70 rfl 3 rfl ?_
    refine kr_iconst O dX5_nextSwept_71 (v := (-1 : Int32)) (by decide) ?_
    refine kr_icmp_eq (tgt := 89) O dX5_nextSwept_72 rfl (fun hc => ?_) (fun hc => ?_)
    · replace h := h.1 hc
      refine kr_iload O dX5_nextSwept_89 5 rfl ?_
      refine kr_goto (tgt := 95) O dX5_nextSwept_91 rfl ?_
      refine kr_istore_n O dX5_nextSwept_95 rfl (Nat.le_of_ble_eq_true rfl) rfl rfl ?_
      refine kr_iinc O dX5_nextSwept_96 5 rfl (v := v4 + (1 : Int32)) rfl (Nat.le_of_ble_eq_true rfl) rfl rfl ?_
      refine kr_goto (tgt := 10) O dX5_nextSwept_99 rfl ?_
      refine kr_sub [3, 4, 1, 5, 0] rfl ?_
      exact hn10 _ _ _ h
    · replace h := h.2 hc
      refine kr_aload_n O dX5_nextSwept_75 rfl 1 rfl ?_
      refine kr_iload O dX5_nextSwept_76 5 rfl ?_
      obtain ⟨hco, h⟩ := h
      refine kr_caI (rest := []) O cd_X5_endOf h (Nat.le_of_ble_eq_true rfl) (fun ls _ => kt_ivV (ci := 12) O dX5_nextSwept_78 cd_X5_endOf in_X5_endOf (Or.inl q2633) q2635 qs54 hco (by decide) hy_X5_endOf) (fun u1 M2 hq => ?_) (fun E q M9 hx => kr_out O hx)
      replace h := hq
      clear hq
      refine kr_aload_n O dX5_nextSwept_81 rfl 1 rfl ?_
      refine kr_iload_n O dX5_nextSwept_82 rfl 3 rfl ?_
      obtain ⟨hco, h⟩ := h
      refine kr_caI (rest := [.int u1]) O cd_X5_endOf h (Nat.le_of_ble_eq_true rfl) (fun ls _ => kt_ivV (ci := 12) O dX5_nextSwept_83 cd_X5_endOf in_X5_endOf (Or.inl q2633) q2635 qs54 hco (by decide) hy_X5_endOf) (fun u3 M4 hq => ?_) (fun E q M9 hx => kr_out O hx)
      replace h := hq
      clear hq
      refine kr_icmp_ge (tgt := 94) O dX5_nextSwept_86 rfl (fun hc => ?_) (fun hc => ?_)
      · replace h := h.1 hc
        refine kr_iload_n O dX5_nextSwept_94 rfl 3 rfl ?_
        refine kr_istore_n O dX5_nextSwept_95 rfl (Nat.le_of_ble_eq_true rfl) rfl rfl ?_
        refine kr_iinc O dX5_nextSwept_96 5 rfl (v := v4 + (1 : Int32)) rfl (Nat.le_of_ble_eq_true rfl) rfl rfl ?_
        refine kr_goto (tgt := 10) O dX5_nextSwept_99 rfl ?_
        refine kr_sub [3, 4, 1, 5, 0] rfl ?_
        exact hn10 _ _ _ h
      · replace h := h.2 hc
        refine kr_iload O dX5_nextSwept_89 5 rfl ?_
        refine kr_goto (tgt := 95) O dX5_nextSwept_91 rfl ?_
        refine kr_istore_n O dX5_nextSwept_95 rfl (Nat.le_of_ble_eq_true rfl) rfl rfl ?_
        refine kr_iinc O dX5_nextSwept_96 5 rfl (v := v4 + (1 : Int32)) rfl (Nat.le_of_ble_eq_true rfl) rfl rfl ?_
        refine kr_goto (tgt := 10) O dX5_nextSwept_99 rfl ?_
        refine kr_sub [3, 4, 1, 5, 0] rfl ?_
        exact hn10 _ _ _ h
def vc_X5_nextSwept_62 (w : kt_W) (gr : kt_g × kt_M) (d : Nat) (P : Option Value → kt_M → Prop) (X : String → Nat → kt_M → Prop) (nx10 : Int32 → Int32 → kt_M → Prop) (a0 : Nat) (v1 : Int32) (v2 : Int32) (v3 : Int32) (v4 : Int32) (M : kt_M) : Prop :=
  vc_X5_nextSwept_63 w gr d P X nx10 a0 v1 v2 v3 v4 (0 : Int32) M
theorem cj_X5_nextSwept_62 {w : kt_W} {x : kt_X} {gr : kt_g × kt_M} {d : Nat} {P : Option Value → kt_M → Prop} {X : String → Nat → kt_M → Prop} {nx10 : Int32 → Int32 → kt_M → Prop} {a0 : Nat} {v1 : Int32} {v2 : Int32} {v3 : Int32} {v4 : Int32} {M : kt_M} (O : kt_O w x gr (d + 1) cX5_nextSwept "KeyTurnsModel" 6 ("nextSwept", "(I)I") (Option.some Jvm.ClassFile.FieldType.int) []) (hn10 : ∀ v2 v4 M, nx10 v2 v4 M → kt_S w x 6 (kt_E w x P X) M 10 [(0, va_rf (some a0)), (1, .int v1), (2, .int v2), (3, .int v3), (4, .int v4)] []) (h : vc_X5_nextSwept_62 w gr d P X nx10 a0 v1 v2 v3 v4 M) : kt_S w x 6 (kt_E w x P X) M 62 [(0, va_rf (some a0)), (1, .int v1), (2, .int v2), (3, .int v3), (4, .int v4)] [] := by
  unfold vc_X5_nextSwept_62 at h
  refine kr_iconst O dX5_nextSwept_62 (v := (0 : Int32)) (by decide) ?_
  exact cj_X5_nextSwept_63 O hn10 h
def vc_X5_nextSwept_10 (w : kt_W) (gr : kt_g × kt_M) (d : Nat) (P : Option Value → kt_M → Prop) (X : String → Nat → kt_M → Prop) (nx10 : Int32 → Int32 → kt_M → Prop) (a0 : Nat) (v1 : Int32) (v2 : Int32) (v3 : Int32) (v4 : Int32) (M : kt_M) : Prop :=
  ∃ p1, kt_gf M a0 73 = some (va_rf p1) ∧ ∃ b2, p1 = some b2 ∧ ∃ u3, kt_el 0 M b2 (2 : Int32) = some (.int u3) ∧ 
    ((u3 ≤ v4 → P (some (.int v2)) M) ∧
    (¬ u3 ≤ v4 → 
      ((v3 = (-1 : Int32) → vc_X5_nextSwept_62 w gr d P X nx10 a0 v1 v2 v3 v4 M) ∧
      (¬ v3 = (-1 : Int32) → (kt_co M a0 = some 12) ∧ 
      kt_Ca w gr d yX5_isRecord kc_X5_isRecord [va_rf (some a0), .int v4] M (kt_pI fun u4 M5 => 
        ((u4 = 0 → vc_X5_nextSwept_62 w gr d P X nx10 a0 v1 v2 v3 v4 M5) ∧
        (¬ u4 = 0 → 
        kt_Ca w gr d yX5_has kc_X5_has [.int v1, .int v4] M5 (kt_pI fun u6 M7 => 
          ((¬ u6 = 0 → vc_X5_nextSwept_62 w gr d P X nx10 a0 v1 v2 v3 v4 M7) ∧
          (u6 = 0 → (kt_co M7 a0 = some 12) ∧ 
          kt_Ca w gr d yX5_ofRecord kc_X5_ofRecord [va_rf (some a0), .int v4, .int (1 : Int32)] M7 (kt_pI fun u8 M9 => 
          kt_Ca w gr d yX5_has kc_X5_has [.int u8, .int v3] M9 (kt_pI fun u10 M11 => 
            ((¬ u10 = 0 → vc_X5_nextSwept_62 w gr d P X nx10 a0 v1 v2 v3 v4 M11) ∧
            (u10 = 0 → vc_X5_nextSwept_63 w gr d P X nx10 a0 v1 v2 v3 v4 (1 : Int32) M11))) X) X))) X))) X))))
theorem cj_X5_nextSwept_10 {w : kt_W} {x : kt_X} {gr : kt_g × kt_M} {d : Nat} {P : Option Value → kt_M → Prop} {X : String → Nat → kt_M → Prop} {nx10 : Int32 → Int32 → kt_M → Prop} {a0 : Nat} {v1 : Int32} {v2 : Int32} {v3 : Int32} {v4 : Int32} {M : kt_M} (O : kt_O w x gr (d + 1) cX5_nextSwept "KeyTurnsModel" 6 ("nextSwept", "(I)I") (Option.some Jvm.ClassFile.FieldType.int) []) (hn10 : ∀ v2 v4 M, nx10 v2 v4 M → kt_S w x 6 (kt_E w x P X) M 10 [(0, va_rf (some a0)), (1, .int v1), (2, .int v2), (3, .int v3), (4, .int v4)] []) (h : vc_X5_nextSwept_10 w gr d P X nx10 a0 v1 v2 v3 v4 M) : kt_S w x 6 (kt_E w x P X) M 10 [(0, va_rf (some a0)), (1, .int v1), (2, .int v2), (3, .int v3), (4, .int v4)] [] := by
  unfold vc_X5_nextSwept_10 at h
  refine kr_iload O dX5_nextSwept_10 4 rfl ?_
  refine kr_aload_n O dX5_nextSwept_12 rfl 0 rfl ?_
  obtain ⟨p1, ep1, h⟩ := h
  refine kr_getf O dX5_nextSwept_13 fs_X5_25 ep1 ?_
  refine kr_iconst O dX5_nextSwept_16 (v := (2 : Int32)) (by decide) ?_
  obtain ⟨b2, rfl, h⟩ := h
  obtain ⟨u3, eu3, h⟩ := h
  refine kr_iaload O dX5_nextSwept_17 eu3 ?_
  refine kr_icmp_ge (tgt := 102) O dX5_nextSwept_18 rfl (fun hc => ?_) (fun hc => ?_)
  · replace h := h.1 hc
    refine kr_iload_n O dX5_nextSwept_102 rfl 2 rfl ?_
    exact kr_iret O dX5_nextSwept_103 rfl h
  · replace h := h.2 hc
    refine kr_iload_n O dX5_nextSwept_21 rfl 3 rfl ?_
    refine kr_iconst O dX5_nextSwept_22 (v := (-1 : Int32)) (by decide) ?_
    refine kr_icmp_eq (tgt := 62) O dX5_nextSwept_23 rfl (fun hc => ?_) (fun hc => ?_)
    · replace h := h.1 hc
      exact cj_X5_nextSwept_62 O hn10 h
    · replace h := h.2 hc
      refine kr_aload_n O dX5_nextSwept_26 rfl 0 rfl ?_
      refine kr_iload O dX5_nextSwept_27 4 rfl ?_
      obtain ⟨hco, h⟩ := h
      refine kr_caI (rest := []) O cd_X5_isRecord h (Nat.le_of_ble_eq_true rfl) (fun ls _ => kt_ivV (ci := 12) O dX5_nextSwept_29 cd_X5_isRecord in_X5_isRecord (Or.inl q2597) q2599 qs48 hco (by decide) hy_X5_isRecord) (fun u4 M5 hq => ?_) (fun E q M9 hx => kr_out O hx)
      replace h := hq
      clear hq
      refine kr_if_eq (tgt := 62) O dX5_nextSwept_32 rfl (fun hc => ?_) (fun hc => ?_)
      · replace h := h.1 hc
        exact cj_X5_nextSwept_62 O hn10 h
      · replace h := h.2 hc
        refine kr_iload_n O dX5_nextSwept_35 rfl 1 rfl ?_
        refine kr_iload O dX5_nextSwept_36 4 rfl ?_
        refine kr_caI (rest := []) O cd_X5_has h (Nat.le_of_ble_eq_true rfl) (fun ls _ => kt_ivS O dX5_nextSwept_38 cd_X5_has in_X5_has q2626 q2627 hy_X5_has) (fun u6 M7 hq => ?_) (fun E q M9 hx => kr_out O hx)
        replace h := hq
        clear hq
        refine kr_if_ne (tgt := 62) O dX5_nextSwept_41 rfl (fun hc => ?_) (fun hc => ?_)
        · replace h := h.1 hc
          exact cj_X5_nextSwept_62 O hn10 h
        · replace h := h.2 hc
          refine kr_aload_n O dX5_nextSwept_44 rfl 0 rfl ?_
          refine kr_iload O dX5_nextSwept_45 4 rfl ?_
          refine kr_iconst O dX5_nextSwept_47 (v := (1 : Int32)) (by decide) ?_
          obtain ⟨hco, h⟩ := h
          refine kr_caI (rest := []) O cd_X5_ofRecord h (Nat.le_of_ble_eq_true rfl) (fun ls _ => kt_ivV (ci := 12) O dX5_nextSwept_48 cd_X5_ofRecord in_X5_ofRecord (Or.inl q2563) q2565 qs41 hco (by decide) hy_X5_ofRecord) (fun u8 M9 hq => ?_) (fun E q M9 hx => kr_out O hx)
          replace h := hq
          clear hq
          refine kr_iload_n O dX5_nextSwept_51 rfl 3 rfl ?_
          refine kr_caI (rest := []) O cd_X5_has h (Nat.le_of_ble_eq_true rfl) (fun ls _ => kt_ivS O dX5_nextSwept_52 cd_X5_has in_X5_has q2626 q2627 hy_X5_has) (fun u10 M11 hq => ?_) (fun E q M9 hx => kr_out O hx)
          replace h := hq
          clear hq
          refine kr_if_ne (tgt := 62) O dX5_nextSwept_55 rfl (fun hc => ?_) (fun hc => ?_)
          · replace h := h.1 hc
            exact cj_X5_nextSwept_62 O hn10 h
          · replace h := h.2 hc
            refine kr_iconst O dX5_nextSwept_58 (v := (1 : Int32)) (by decide) ?_
            refine kr_goto (tgt := 63) O dX5_nextSwept_59 rfl ?_
            exact cj_X5_nextSwept_63 O hn10 h
def vl_X5_nextSwept_10 (w : kt_W) (gr : kt_g × kt_M) (d : Nat) (P : Option Value → kt_M → Prop) (X : String → Nat → kt_M → Prop)  (a0 : Nat) (v1 : Int32) (v2 : Int32) (v3 : Int32) (v4 : Int32) (M : kt_M) : Prop :=
  ∃ Inv : Nat → Int32 → Int32 → kt_M → Prop, (∃ k, Inv k v2 v4 M) ∧ ∀ k v2 v4 M, kt_le gr.1 gr.2 M → Inv k v2 v4 M → vc_X5_nextSwept_10 w gr d P X (fun v2' v4' M' => ∃ k', k' < k ∧ Inv k' v2' v4' M') a0 v1 v2 v3 v4 M
theorem cl_X5_nextSwept_10 {w : kt_W} {x : kt_X} {gr : kt_g × kt_M} {d : Nat} {P : Option Value → kt_M → Prop} {X : String → Nat → kt_M → Prop}  {a0 : Nat} {v1 : Int32} {v2 : Int32} {v3 : Int32} {v4 : Int32} {M : kt_M} (O : kt_O w x gr (d + 1) cX5_nextSwept "KeyTurnsModel" 6 ("nextSwept", "(I)I") (Option.some Jvm.ClassFile.FieldType.int) [])  (h : vl_X5_nextSwept_10 w gr d P X  a0 v1 v2 v3 v4 M) : kt_S w x 6 (kt_E w x P X) M 10 [(0, va_rf (some a0)), (1, .int v1), (2, .int v2), (3, .int v3), (4, .int v4)] [] := by
  obtain ⟨Inv, ⟨k, hk⟩, hb⟩ := h
  induction k using Nat.strongRecOn generalizing v2 v4 M with
  | ind k ih =>
    exact kr_le O fun hle => cj_X5_nextSwept_10 O (fun v2' v4' M' hi => let ⟨k', h1, h2⟩ := hi; ih k' h1 h2) (hb k _ _ _ hle hk)
def vc_X5_nextSwept (w : kt_W) (gr : kt_g × kt_M) (d : Nat) (P : Option Value → kt_M → Prop) (X : String → Nat → kt_M → Prop) (a0 : Nat) (v1 : Int32) (M : kt_M) : Prop :=
  (kt_co M a0 = some 12) ∧ 
  kt_Ca w gr d yX5_writing kc_X5_writing [va_rf (some a0)] M (kt_pI fun u1 M2 => vl_X5_nextSwept_10 w gr d P X  a0 v1 (-1 : Int32) u1 (0 : Int32) M2) X
theorem ce_X5_nextSwept {w : kt_W} {g : kt_g} {d : Nat} {P : Option Value → kt_M → Prop} {X : String → Nat → kt_M → Prop} {a0 : Nat} {v1 : Int32} {M : kt_M} (h : vc_X5_nextSwept w (g, M) d P X a0 v1 M) : kt_Sp w g (d + 1) yX5_nextSwept kc_X5_nextSwept [va_rf (some a0), .int v1] M P X := by
  refine kt_of (L0 := [(0, va_rf (some a0)), (1, .int v1)]) (by decide +kernel) (Nat.le_of_ble_eq_true rfl) rfl fun x O => ?_
  replace O : kt_O w x (g, M) (d + 1) cX5_nextSwept "KeyTurnsModel" 6 ("nextSwept", "(I)I") (Option.some Jvm.ClassFile.FieldType.int) [] := O
  unfold vc_X5_nextSwept at h
  refine kr_iconst O dX5_nextSwept_0 (v := (-1 : Int32)) (by decide) ?_
  refine kr_istore_n O dX5_nextSwept_1 rfl (Nat.le_of_ble_eq_true rfl) rfl rfl ?_
  refine kr_aload_n O dX5_nextSwept_2 rfl 1 rfl ?_
  obtain ⟨hco, h⟩ := h
  refine kr_caI (rest := []) O cd_X5_writing h (Nat.le_of_ble_eq_true rfl) (fun ls _ => kt_ivV (ci := 12) O dX5_nextSwept_3 cd_X5_writing in_X5_writing (Or.inl q2570) q2572 qs42 hco (by decide) hy_X5_writing) (fun u1 M2 hq => ?_) (fun E q M9 hx => kr_out O hx)
  replace h := hq
  clear hq
  refine kr_istore_n O dX5_nextSwept_6 rfl (Nat.le_of_ble_eq_true rfl) rfl rfl ?_
  refine kr_iconst O dX5_nextSwept_7 (v := (0 : Int32)) (by decide) ?_
  refine kr_istore O dX5_nextSwept_8 (Nat.le_of_ble_eq_true rfl) rfl rfl ?_
  refine kr_sub [3, 4, 2, 1, 0] rfl ?_
  exact cl_X5_nextSwept_10 O  h
def vc_X5_nextIssue (w : kt_W) (gr : kt_g × kt_M) (d : Nat) (P : Option Value → kt_M → Prop) (X : String → Nat → kt_M → Prop) (a0 : Nat) (M : kt_M) : Prop :=
  kt_hf gr M a0 71 ∧ ∀ M1, M1 = kt_pf M a0 71 (.int (0 : Int32)) → ∃ p2, kt_gf M1 a0 65 = some (va_rf p2) ∧ ∃ b3, p2 = some b3 ∧ ∃ u4, kt_el 0 M1 b3 (1 : Int32) = some (.int u4) ∧ (kt_co M1 a0 = some 12) ∧ 
  kt_Ca w gr d yX5_hour kc_X5_hour [va_rf (some a0)] M1 (kt_pI fun u5 M6 => (kt_co M6 a0 = some 12) ∧ 
  kt_Ca w gr d yX5_ofVersion kc_X5_ofVersion [va_rf (some a0), .int (u4 - (1 : Int32)), .int (0 : Int32)] M6 (kt_pI fun u7 M8 => ∃ p9, kt_gf M8 a0 65 = some (va_rf p9) ∧ ∃ b10, p9 = some b10 ∧ ∃ u11, kt_el 0 M8 b10 (4 : Int32) = some (.int u11) ∧ ∃ p12, kt_gf M8 a0 65 = some (va_rf p12) ∧ ∃ b13, p12 = some b13 ∧ ∃ u14, kt_el 0 M8 b13 (6 : Int32) = some (.int u14) ∧ 
  kt_Ca w gr d yJ7_max kc_J7_max [.int (u5 + (1 : Int32)), .int ((u7 + u11) - u14)] M8 (kt_pI fun u15 M16 => (kt_co M16 a0 = some 12) ∧ 
  kt_Ca w gr d yX5_ofVersion kc_X5_ofVersion [va_rf (some a0), .int (u4 - (1 : Int32)), .int (0 : Int32)] M16 (kt_pI fun u17 M18 => ∃ p19, kt_gf M18 a0 65 = some (va_rf p19) ∧ ∃ b20, p19 = some b20 ∧ ∃ u21, kt_el 0 M18 b20 (4 : Int32) = some (.int u21) ∧ 
  kt_Ca w gr d yJ7_max kc_J7_max [.int u15, .int (u17 + u21)] M18 (kt_pI fun u22 M23 => ∃ p24, kt_gf M23 a0 65 = some (va_rf p24) ∧ ∃ b25, p24 = some b25 ∧ ∃ u26, kt_el 0 M23 b25 (1 : Int32) = some (.int u26) ∧ 
    ((u26 = (30 : Int32) → P (some (.int (-1 : Int32))) M23) ∧
    (¬ u26 = (30 : Int32) → 
      ((u22 ≤ (9999 : Int32) → P (some (.int u15)) M23) ∧
      (¬ u22 ≤ (9999 : Int32) → P (some (.int (-1 : Int32))) M23))))) X) X) X) X) X
theorem ce_X5_nextIssue {w : kt_W} {g : kt_g} {d : Nat} {P : Option Value → kt_M → Prop} {X : String → Nat → kt_M → Prop} {a0 : Nat} {M : kt_M} (h : vc_X5_nextIssue w (g, M) d P X a0 M) : kt_Sp w g (d + 1) yX5_nextIssue kc_X5_nextIssue [va_rf (some a0)] M P X := by
  refine kt_of (L0 := [(0, va_rf (some a0))]) (by decide +kernel) (Nat.le_of_ble_eq_true rfl) rfl fun x O => ?_
  replace O : kt_O w x (g, M) (d + 1) cX5_nextIssue "KeyTurnsModel" 4 ("nextIssue", "()I") (Option.some Jvm.ClassFile.FieldType.int) [] := O
  unfold vc_X5_nextIssue at h
  refine kr_aload_n O dX5_nextIssue_0 rfl 0 rfl ?_
  refine kr_iconst O dX5_nextIssue_1 (v := (0 : Int32)) (by decide) ?_
  obtain ⟨hw, h⟩ := h
  refine kr_putf O dX5_nextIssue_2 fs_X5_71 (Or.inl rfl) ⟨rfl, rfl⟩ hw (kr_nmM fun M1 hM1 => ?_)
  replace h := h M1 hM1
  refine kr_aload_n O dX5_nextIssue_5 rfl 0 rfl ?_
  obtain ⟨p2, ep2, h⟩ := h
  refine kr_getf O dX5_nextIssue_6 fs_X5_9 ep2 ?_
  refine kr_iconst O dX5_nextIssue_9 (v := (1 : Int32)) (by decide) ?_
  obtain ⟨b3, rfl, h⟩ := h
  obtain ⟨u4, eu4, h⟩ := h
  refine kr_iaload O dX5_nextIssue_10 eu4 ?_
  refine kr_iconst O dX5_nextIssue_11 (v := (1 : Int32)) (by decide) ?_
  refine kr_isub O dX5_nextIssue_12 ?_
  refine kr_istore_n O dX5_nextIssue_13 rfl (Nat.le_of_ble_eq_true rfl) rfl rfl ?_
  refine kr_aload_n O dX5_nextIssue_14 rfl 1 rfl ?_
  obtain ⟨hco, h⟩ := h
  refine kr_caI (rest := []) O cd_X5_hour h (Nat.le_of_ble_eq_true rfl) (fun ls _ => kt_ivV (ci := 12) O dX5_nextIssue_15 cd_X5_hour in_X5_hour (Or.inl q2582) q2584 qs45 hco (by decide) hy_X5_hour) (fun u5 M6 hq => ?_) (fun E q M9 hx => kr_out O hx)
  replace h := hq
  clear hq
  refine kr_iconst O dX5_nextIssue_18 (v := (1 : Int32)) (by decide) ?_
  refine kr_iadd O dX5_nextIssue_19 ?_
  refine kr_aload_n O dX5_nextIssue_20 rfl 1 rfl ?_
  refine kr_iload_n O dX5_nextIssue_21 rfl 0 rfl ?_
  refine kr_iconst O dX5_nextIssue_22 (v := (0 : Int32)) (by decide) ?_
  obtain ⟨hco, h⟩ := h
  refine kr_caI (rest := [.int (u5 + (1 : Int32))]) O cd_X5_ofVersion h (Nat.le_of_ble_eq_true rfl) (fun ls _ => kt_ivV (ci := 12) O dX5_nextIssue_23 cd_X5_ofVersion in_X5_ofVersion (Or.inl q2470) q2472 qs39 hco (by decide) hy_X5_ofVersion) (fun u7 M8 hq => ?_) (fun E q M9 hx => kr_out O hx)
  replace h := hq
  clear hq
  refine kr_aload_n O dX5_nextIssue_26 rfl 1 rfl ?_
  obtain ⟨p9, ep9, h⟩ := h
  refine kr_getf O dX5_nextIssue_27 fs_X5_9 ep9 ?_
  refine kr_iconst O dX5_nextIssue_30 (v := (4 : Int32)) (by decide) ?_
  obtain ⟨b10, rfl, h⟩ := h
  obtain ⟨u11, eu11, h⟩ := h
  refine kr_iaload O dX5_nextIssue_31 eu11 ?_
  refine kr_iadd O dX5_nextIssue_32 ?_
  refine kr_aload_n O dX5_nextIssue_33 rfl 1 rfl ?_
  obtain ⟨p12, ep12, h⟩ := h
  refine kr_getf O dX5_nextIssue_34 fs_X5_9 ep12 ?_
  refine kr_bipush O dX5_nextIssue_37 (v := (6 : Int32)) (by decide) ?_
  obtain ⟨b13, rfl, h⟩ := h
  obtain ⟨u14, eu14, h⟩ := h
  refine kr_iaload O dX5_nextIssue_39 eu14 ?_
  refine kr_isub O dX5_nextIssue_40 ?_
  refine kr_caI (rest := []) O cd_J7_max h (Nat.le_of_ble_eq_true rfl) (fun ls _ => kt_ivS O dX5_nextIssue_41 cd_J7_max in_J7_max q2637 q367 hy_J7_max) (fun u15 M16 hq => ?_) (fun E q M9 hx => kr_out O hx)
  replace h := hq
  clear hq
  refine kr_istore_n O dX5_nextIssue_44 rfl (Nat.le_of_ble_eq_true rfl) rfl rfl ?_
  refine kr_iload_n O dX5_nextIssue_45 rfl 0 rfl ?_
  refine kr_aload_n O dX5_nextIssue_46 rfl 2 rfl ?_
  refine kr_iload_n O dX5_nextIssue_47 rfl 1 rfl ?_
  refine kr_iconst O dX5_nextIssue_48 (v := (0 : Int32)) (by decide) ?_
  obtain ⟨hco, h⟩ := h
  refine kr_caI (rest := [.int u15]) O cd_X5_ofVersion h (Nat.le_of_ble_eq_true rfl) (fun ls _ => kt_ivV (ci := 12) O dX5_nextIssue_49 cd_X5_ofVersion in_X5_ofVersion (Or.inl q2470) q2472 qs39 hco (by decide) hy_X5_ofVersion) (fun u17 M18 hq => ?_) (fun E q M9 hx => kr_out O hx)
  replace h := hq
  clear hq
  refine kr_aload_n O dX5_nextIssue_52 rfl 2 rfl ?_
  obtain ⟨p19, ep19, h⟩ := h
  refine kr_getf O dX5_nextIssue_53 fs_X5_9 ep19 ?_
  refine kr_iconst O dX5_nextIssue_56 (v := (4 : Int32)) (by decide) ?_
  obtain ⟨b20, rfl, h⟩ := h
  obtain ⟨u21, eu21, h⟩ := h
  refine kr_iaload O dX5_nextIssue_57 eu21 ?_
  refine kr_iadd O dX5_nextIssue_58 ?_
  refine kr_caI (rest := []) O cd_J7_max h (Nat.le_of_ble_eq_true rfl) (fun ls _ => kt_ivS O dX5_nextIssue_59 cd_J7_max in_J7_max q2637 q367 hy_J7_max) (fun u22 M23 hq => ?_) (fun E q M9 hx => kr_out O hx)
  replace h := hq
  clear hq
  refine kr_istore_n O dX5_nextIssue_62 rfl (Nat.le_of_ble_eq_true rfl) rfl rfl ?_
  refine kr_aload_n O dX5_nextIssue_63 rfl 3 rfl ?_
  obtain ⟨p24, ep24, h⟩ := h
  refine kr_getf O dX5_nextIssue_64 fs_X5_9 ep24 ?_
  refine kr_iconst O dX5_nextIssue_67 (v := (1 : Int32)) (by decide) ?_
  obtain ⟨b25, rfl, h⟩ := h
  obtain ⟨u26, eu26, h⟩ := h
  refine kr_iaload O dX5_nextIssue_68 eu26 ?_
  refine kr_bipush O dX5_nextIssue_69 (v := (30 : Int32)) (by decide) ?_
  refine kr_icmp_eq (tgt := 81) O dX5_nextIssue_71 rfl (fun hc => ?_) (fun hc => ?_)
  · replace h := h.1 hc
    refine kr_iconst O dX5_nextIssue_81 (v := (-1 : Int32)) (by decide) ?_
    refine kr_goto (tgt := 86) O dX5_nextIssue_82 rfl ?_
    exact kr_iret O dX5_nextIssue_86 rfl h
  · replace h := h.2 hc
    refine kr_iload_n O dX5_nextIssue_74 rfl 0 rfl ?_
    refine kr_sipush O dX5_nextIssue_75 (v := (9999 : Int32)) (by decide) ?_
    refine kr_icmp_le (tgt := 85) O dX5_nextIssue_78 rfl (fun hc => ?_) (fun hc => ?_)
    · replace h := h.1 hc
      refine kr_iload_n O dX5_nextIssue_85 rfl 1 rfl ?_
      exact kr_iret O dX5_nextIssue_86 rfl h
    · replace h := h.2 hc
      refine kr_iconst O dX5_nextIssue_81 (v := (-1 : Int32)) (by decide) ?_
      refine kr_goto (tgt := 86) O dX5_nextIssue_82 rfl ?_
      exact kr_iret O dX5_nextIssue_86 rfl h
def vc_X5_nextAsk_26 (w : kt_W) (gr : kt_g × kt_M) (d : Nat) (P : Option Value → kt_M → Prop) (X : String → Nat → kt_M → Prop) (nx26 : Int32 → kt_M → Prop) (a0 : Nat) (v1 : Int32) (v2 : Int32) (M : kt_M) : Prop :=
  (kt_co M a0 = some 12) ∧ 
  kt_Ca w gr d yX5_ofClient kc_X5_ofClient [va_rf (some a0), .int v1, .int (0 : Int32)] M (kt_pI fun u1 M2 => ¬ u1 = 0 ∧ (kt_co M2 a0 = some 12) ∧ 
  kt_Ca w gr d yX5_ofClient kc_X5_ofClient [va_rf (some a0), .int v1, .int (1 : Int32)] M2 (kt_pI fun u3 M4 => 
    (((v2 - v2 / u1 * u1) = u3 → 
      ((v2 ≤ (9999 : Int32) → P (some (.int v2)) M4) ∧
      (¬ v2 ≤ (9999 : Int32) → P (some (.int (-1 : Int32))) M4))) ∧
    (¬ (v2 - v2 / u1 * u1) = u3 → nx26 (v2 + (1 : Int32)) M4))) X) X
theorem cj_X5_nextAsk_26 {w : kt_W} {x : kt_X} {gr : kt_g × kt_M} {d : Nat} {P : Option Value → kt_M → Prop} {X : String → Nat → kt_M → Prop} {nx26 : Int32 → kt_M → Prop} {a0 : Nat} {v1 : Int32} {v2 : Int32} {M : kt_M} (O : kt_O w x gr (d + 1) cX5_nextAsk "KeyTurnsModel" 3 ("nextAsk", "(I)I") (Option.some Jvm.ClassFile.FieldType.int) []) (hn26 : ∀ v2 M, nx26 v2 M → kt_S w x 3 (kt_E w x P X) M 26 [(0, va_rf (some a0)), (1, .int v1), (2, .int v2)] []) (h : vc_X5_nextAsk_26 w gr d P X nx26 a0 v1 v2 M) : kt_S w x 3 (kt_E w x P X) M 26 [(0, va_rf (some a0)), (1, .int v1), (2, .int v2)] [] := by
  unfold vc_X5_nextAsk_26 at h
  refine kr_iload_n O dX5_nextAsk_26 rfl 2 rfl ?_
  refine kr_aload_n O dX5_nextAsk_27 rfl 0 rfl ?_
  refine kr_iload_n O dX5_nextAsk_28 rfl 1 rfl ?_
  refine kr_iconst O dX5_nextAsk_29 (v := (0 : Int32)) (by decide) ?_
  obtain ⟨hco, h⟩ := h
  refine kr_caI (rest := [.int v2]) O cd_X5_ofClient h (Nat.le_of_ble_eq_true rfl) (fun ls _ => kt_ivV (ci := 12) O dX5_nextAsk_30 cd_X5_ofClient in_X5_ofClient (Or.inl q2650) q2652 qs58 hco (by decide) hy_X5_ofClient) (fun u1 M2 hq => ?_) (fun E q M9 hx => kr_out O hx)
  replace h := hq
  clear hq
  obtain ⟨hne, h⟩ := h
  refine kr_irem O dX5_nextAsk_33 hne ?_
  refine kr_aload_n O dX5_nextAsk_34 rfl 0 rfl ?_
  refine kr_iload_n O dX5_nextAsk_35 rfl 1 rfl ?_
  refine kr_iconst O dX5_nextAsk_36 (v := (1 : Int32)) (by decide) ?_
  obtain ⟨hco, h⟩ := h
  refine kr_caI (rest := [.int (v2 - v2 / u1 * u1)]) O cd_X5_ofClient h (Nat.le_of_ble_eq_true rfl) (fun ls _ => kt_ivV (ci := 12) O dX5_nextAsk_37 cd_X5_ofClient in_X5_ofClient (Or.inl q2650) q2652 qs58 hco (by decide) hy_X5_ofClient) (fun u3 M4 hq => ?_) (fun E q M9 hx => kr_out O hx)
  replace h := hq
  clear hq
  refine kr_icmp_eq (tgt := 49) O dX5_nextAsk_40 rfl (fun hc => ?_) (fun hc => ?_)
  · replace h := h.1 hc
    refine kr_iload_n O dX5_nextAsk_49 rfl 2 rfl ?_
    refine kr_sipush O dX5_nextAsk_50 (v := (9999 : Int32)) (by decide) ?_
    refine kr_icmp_le (tgt := 60) O dX5_nextAsk_53 rfl (fun hc => ?_) (fun hc => ?_)
    · replace h := h.1 hc
      refine kr_iload_n O dX5_nextAsk_60 rfl 2 rfl ?_
      exact kr_iret O dX5_nextAsk_61 rfl h
    · replace h := h.2 hc
      refine kr_iconst O dX5_nextAsk_56 (v := (-1 : Int32)) (by decide) ?_
      refine kr_goto (tgt := 61) O dX5_nextAsk_57 rfl ?_
      exact kr_iret O dX5_nextAsk_61 rfl h
  · replace h := h.2 hc
    refine kr_iinc O dX5_nextAsk_43 2 rfl (v := v2 + (1 : Int32)) rfl (Nat.le_of_ble_eq_true rfl) rfl rfl ?_
    refine kr_goto (tgt := 26) O dX5_nextAsk_46 rfl ?_
    refine kr_sub [1, 2, 0] rfl ?_
    exact hn26 _ _ h
def vl_X5_nextAsk_26 (w : kt_W) (gr : kt_g × kt_M) (d : Nat) (P : Option Value → kt_M → Prop) (X : String → Nat → kt_M → Prop)  (a0 : Nat) (v1 : Int32) (v2 : Int32) (M : kt_M) : Prop :=
  ∃ Inv : Nat → Int32 → kt_M → Prop, (∃ k, Inv k v2 M) ∧ ∀ k v2 M, kt_le gr.1 gr.2 M → Inv k v2 M → vc_X5_nextAsk_26 w gr d P X (fun v2' M' => ∃ k', k' < k ∧ Inv k' v2' M') a0 v1 v2 M
theorem cl_X5_nextAsk_26 {w : kt_W} {x : kt_X} {gr : kt_g × kt_M} {d : Nat} {P : Option Value → kt_M → Prop} {X : String → Nat → kt_M → Prop}  {a0 : Nat} {v1 : Int32} {v2 : Int32} {M : kt_M} (O : kt_O w x gr (d + 1) cX5_nextAsk "KeyTurnsModel" 3 ("nextAsk", "(I)I") (Option.some Jvm.ClassFile.FieldType.int) [])  (h : vl_X5_nextAsk_26 w gr d P X  a0 v1 v2 M) : kt_S w x 3 (kt_E w x P X) M 26 [(0, va_rf (some a0)), (1, .int v1), (2, .int v2)] [] := by
  obtain ⟨Inv, ⟨k, hk⟩, hb⟩ := h
  induction k using Nat.strongRecOn generalizing v2 M with
  | ind k ih =>
    exact kr_le O fun hle => cj_X5_nextAsk_26 O (fun v2' M' hi => let ⟨k', h1, h2⟩ := hi; ih k' h1 h2) (hb k _ _ hle hk)
def vc_X5_nextAsk (w : kt_W) (gr : kt_g × kt_M) (d : Nat) (P : Option Value → kt_M → Prop) (X : String → Nat → kt_M → Prop) (a0 : Nat) (v1 : Int32) (M : kt_M) : Prop :=
  kt_hf gr M a0 71 ∧ ∀ M1, M1 = kt_pf M a0 71 (.int (0 : Int32)) → (kt_co M1 a0 = some 12) ∧ 
  kt_Ca w gr d yX5_isClient kc_X5_isClient [va_rf (some a0), .int v1] M1 (kt_pI fun u2 M3 => 
    ((¬ u2 = 0 → (kt_co M3 a0 = some 12) ∧ 
    kt_Ca w gr d yX5_hour kc_X5_hour [va_rf (some a0)] M3 (kt_pI fun u4 M5 => vl_X5_nextAsk_26 w gr d P X  a0 v1 (u4 + (1 : Int32)) M5) X) ∧
    (u2 = 0 → (kt_co M3 a0 = some 12) ∧ 
    kt_Ca w gr d yX5_raise kc_X5_raise [va_rf (some a0), .int (1 : Int32)] M3 (kt_pI fun u6 M7 => P (some (.int u6)) M7) X))) X
theorem ce_X5_nextAsk {w : kt_W} {g : kt_g} {d : Nat} {P : Option Value → kt_M → Prop} {X : String → Nat → kt_M → Prop} {a0 : Nat} {v1 : Int32} {M : kt_M} (h : vc_X5_nextAsk w (g, M) d P X a0 v1 M) : kt_Sp w g (d + 1) yX5_nextAsk kc_X5_nextAsk [va_rf (some a0), .int v1] M P X := by
  refine kt_of (L0 := [(0, va_rf (some a0)), (1, .int v1)]) (by decide +kernel) (Nat.le_of_ble_eq_true rfl) rfl fun x O => ?_
  replace O : kt_O w x (g, M) (d + 1) cX5_nextAsk "KeyTurnsModel" 3 ("nextAsk", "(I)I") (Option.some Jvm.ClassFile.FieldType.int) [] := O
  unfold vc_X5_nextAsk at h
  refine kr_aload_n O dX5_nextAsk_0 rfl 0 rfl ?_
  refine kr_iconst O dX5_nextAsk_1 (v := (0 : Int32)) (by decide) ?_
  obtain ⟨hw, h⟩ := h
  refine kr_putf O dX5_nextAsk_2 fs_X5_71 (Or.inl rfl) ⟨rfl, rfl⟩ hw (kr_nmM fun M1 hM1 => ?_)
  replace h := h M1 hM1
  refine kr_aload_n O dX5_nextAsk_5 rfl 0 rfl ?_
  refine kr_iload_n O dX5_nextAsk_6 rfl 1 rfl ?_
  obtain ⟨hco, h⟩ := h
  refine kr_caI (rest := []) O cd_X5_isClient h (Nat.le_of_ble_eq_true rfl) (fun ls _ => kt_ivV (ci := 12) O dX5_nextAsk_7 cd_X5_isClient in_X5_isClient (Or.inl q2665) q2667 qs60 hco (by decide) hy_X5_isClient) (fun u2 M3 hq => ?_) (fun E q M9 hx => kr_out O hx)
  replace h := hq
  clear hq
  refine kr_if_ne (tgt := 19) O dX5_nextAsk_10 rfl (fun hc => ?_) (fun hc => ?_)
  · replace h := h.1 hc
    refine kr_aload_n O dX5_nextAsk_19 rfl 0 rfl ?_
    obtain ⟨hco, h⟩ := h
    refine kr_caI (rest := []) O cd_X5_hour h (Nat.le_of_ble_eq_true rfl) (fun ls _ => kt_ivV (ci := 12) O dX5_nextAsk_20 cd_X5_hour in_X5_hour (Or.inl q2582) q2584 qs45 hco (by decide) hy_X5_hour) (fun u4 M5 hq => ?_) (fun E q M9 hx => kr_out O hx)
    replace h := hq
    clear hq
    refine kr_iconst O dX5_nextAsk_23 (v := (1 : Int32)) (by decide) ?_
    refine kr_iadd O dX5_nextAsk_24 ?_
    refine kr_istore_n O dX5_nextAsk_25 rfl (Nat.le_of_ble_eq_true rfl) rfl rfl ?_
    refine kr_sub [1, 2, 0] rfl ?_
    exact cl_X5_nextAsk_26 O  h
  · replace h := h.2 hc
    refine kr_aload_n O dX5_nextAsk_13 rfl 0 rfl ?_
    refine kr_iconst O dX5_nextAsk_14 (v := (1 : Int32)) (by decide) ?_
    obtain ⟨hco, h⟩ := h
    refine kr_caI (rest := []) O cd_X5_raise h (Nat.le_of_ble_eq_true rfl) (fun ls _ => kt_ivV (ci := 12) O dX5_nextAsk_15 cd_X5_raise in_X5_raise (Or.inl q2606) q2608 qs50 hco (by decide) hy_X5_raise) (fun u6 M7 hq => ?_) (fun E q M9 hx => kr_out O hx)
    replace h := hq
    clear hq
    exact kr_iret O dX5_nextAsk_18 rfl h
def vc_X5_readersBehind_46 (w : kt_W) (gr : kt_g × kt_M) (d : Nat) (P : Option Value → kt_M → Prop) (X : String → Nat → kt_M → Prop) (nx46 : Int32 → kt_M → Prop) (a0 : Nat) (v1 : Int32) (v2 : Int32) (v3 : Int32) (M : kt_M) : Prop :=
  
    ((v2 ≤ v3 → (kt_co M a0 = some 12) ∧ 
    kt_Ca w gr d yX5_readers kc_X5_readers [va_rf (some a0), .int v1] M (kt_pI fun u1 M2 => (kt_co M2 a0 = some 12) ∧ 
    kt_Ca w gr d yX5_end kc_X5_end [va_rf (some a0)] M2 (kt_pV fun M3 => P (some (.int u1)) M3) X) X) ∧
    (¬ v2 ≤ v3 → (kt_co M a0 = some 12) ∧ 
    kt_Ca w gr d yX5_passHour kc_X5_passHour [va_rf (some a0)] M (kt_pI fun u4 M5 => nx46 (v3 + (1 : Int32)) M5) X))
theorem cj_X5_readersBehind_46 {w : kt_W} {x : kt_X} {gr : kt_g × kt_M} {d : Nat} {P : Option Value → kt_M → Prop} {X : String → Nat → kt_M → Prop} {nx46 : Int32 → kt_M → Prop} {a0 : Nat} {v1 : Int32} {v2 : Int32} {v3 : Int32} {M : kt_M} (O : kt_O w x gr (d + 1) cX5_readersBehind "KeyTurnsModel" 5 ("readersBehind", "(II)I") (Option.some Jvm.ClassFile.FieldType.int) []) (hn46 : ∀ v3 M, nx46 v3 M → kt_S w x 5 (kt_E w x P X) M 46 [(0, va_rf (some a0)), (1, .int v1), (2, .int v2), (3, .int v3)] []) (h : vc_X5_readersBehind_46 w gr d P X nx46 a0 v1 v2 v3 M) : kt_S w x 5 (kt_E w x P X) M 46 [(0, va_rf (some a0)), (1, .int v1), (2, .int v2), (3, .int v3)] [] := by
  unfold vc_X5_readersBehind_46 at h
  refine kr_iload_n O dX5_readersBehind_46 rfl 3 rfl ?_
  refine kr_iload_n O dX5_readersBehind_47 rfl 2 rfl ?_
  refine kr_icmp_ge (tgt := 63) O dX5_readersBehind_48 rfl (fun hc => ?_) (fun hc => ?_)
  · replace h := h.1 hc
    refine kr_aload_n O dX5_readersBehind_63 rfl 0 rfl ?_
    refine kr_iload_n O dX5_readersBehind_64 rfl 1 rfl ?_
    obtain ⟨hco, h⟩ := h
    refine kr_caI (rest := []) O cd_X5_readers h (Nat.le_of_ble_eq_true rfl) (fun ls _ => kt_ivV (ci := 12) O dX5_readersBehind_65 cd_X5_readers in_X5_readers (Or.inl q2638) q2640 qs55 hco (by decide) hy_X5_readers) (fun u1 M2 hq => ?_) (fun E q M9 hx => kr_out O hx)
    replace h := hq
    clear hq
    refine kr_istore_n O dX5_readersBehind_68 rfl (Nat.le_of_ble_eq_true rfl) rfl rfl ?_
    refine kr_aload_n O dX5_readersBehind_69 rfl 1 rfl ?_
    obtain ⟨hco, h⟩ := h
    refine kr_caV (rest := []) O cd_X5_end h (Nat.le_of_ble_eq_true rfl) (fun ls _ => kt_ivV (ci := 12) O dX5_readersBehind_70 cd_X5_end in_X5_end (Or.inl q2750) q2752 qs72 hco (by decide) hy_X5_end) (fun M3 hq => ?_) (fun E q M9 hx => kr_out O hx)
    replace h := hq
    clear hq
    refine kr_iload_n O dX5_readersBehind_73 rfl 0 rfl ?_
    exact kr_iret O dX5_readersBehind_74 rfl h
  · replace h := h.2 hc
    refine kr_aload_n O dX5_readersBehind_51 rfl 0 rfl ?_
    obtain ⟨hco, h⟩ := h
    refine kr_caI (rest := []) O cd_X5_passHour h (Nat.le_of_ble_eq_true rfl) (fun ls _ => kt_ivV (ci := 12) O dX5_readersBehind_52 cd_X5_passHour in_X5_passHour (Or.inl q2722) q2724 qs65 hco (by decide) hy_X5_passHour) (fun u4 M5 hq => ?_) (fun E q M9 hx => kr_out O hx)
    replace h := hq
    clear hq
    refine kr_istore O dX5_readersBehind_55 (Nat.le_of_ble_eq_true rfl) rfl rfl ?_
    refine kr_iinc O dX5_readersBehind_57 4 rfl (v := v3 + (1 : Int32)) rfl (Nat.le_of_ble_eq_true rfl) rfl rfl ?_
    refine kr_goto (tgt := 46) O dX5_readersBehind_60 rfl ?_
    refine kr_sub [2, 3, 4, 0] rfl ?_
    exact hn46 _ _ h
def vl_X5_readersBehind_46 (w : kt_W) (gr : kt_g × kt_M) (d : Nat) (P : Option Value → kt_M → Prop) (X : String → Nat → kt_M → Prop)  (a0 : Nat) (v1 : Int32) (v2 : Int32) (v3 : Int32) (M : kt_M) : Prop :=
  ∃ Inv : Nat → Int32 → kt_M → Prop, (∃ k, Inv k v3 M) ∧ ∀ k v3 M, kt_le gr.1 gr.2 M → Inv k v3 M → vc_X5_readersBehind_46 w gr d P X (fun v3' M' => ∃ k', k' < k ∧ Inv k' v3' M') a0 v1 v2 v3 M
theorem cl_X5_readersBehind_46 {w : kt_W} {x : kt_X} {gr : kt_g × kt_M} {d : Nat} {P : Option Value → kt_M → Prop} {X : String → Nat → kt_M → Prop}  {a0 : Nat} {v1 : Int32} {v2 : Int32} {v3 : Int32} {M : kt_M} (O : kt_O w x gr (d + 1) cX5_readersBehind "KeyTurnsModel" 5 ("readersBehind", "(II)I") (Option.some Jvm.ClassFile.FieldType.int) [])  (h : vl_X5_readersBehind_46 w gr d P X  a0 v1 v2 v3 M) : kt_S w x 5 (kt_E w x P X) M 46 [(0, va_rf (some a0)), (1, .int v1), (2, .int v2), (3, .int v3)] [] := by
  obtain ⟨Inv, ⟨k, hk⟩, hb⟩ := h
  induction k using Nat.strongRecOn generalizing v3 M with
  | ind k ih =>
    exact kr_le O fun hle => cj_X5_readersBehind_46 O (fun v3' M' hi => let ⟨k', h1, h2⟩ := hi; ih k' h1 h2) (hb k _ _ hle hk)
def vc_X5_readersBehind_28 (w : kt_W) (gr : kt_g × kt_M) (d : Nat) (P : Option Value → kt_M → Prop) (X : String → Nat → kt_M → Prop)  (a0 : Nat) (v1 : Int32) (v2 : Int32) (s0 : Int32) (sa1 : Nat) (M : kt_M) : Prop :=
  kt_hf gr M sa1 71 ∧ ∀ M1, M1 = kt_pf M sa1 71 (.int s0) → ∃ u2, kt_gf M1 a0 71 = some (.int u2) ∧ 
    ((u2 = 0 → (kt_co M1 a0 = some 12) ∧ 
    kt_Ca w gr d yX5_begin kc_X5_begin [va_rf (some a0)] M1 (kt_pV fun M3 => vl_X5_readersBehind_46 w gr d P X  a0 v1 v2 (0 : Int32) M3) X) ∧
    (¬ u2 = 0 → P (some (.int (0 : Int32))) M1))
theorem cj_X5_readersBehind_28 {w : kt_W} {x : kt_X} {gr : kt_g × kt_M} {d : Nat} {P : Option Value → kt_M → Prop} {X : String → Nat → kt_M → Prop}  {a0 : Nat} {v1 : Int32} {v2 : Int32} {s0 : Int32} {sa1 : Nat} {M : kt_M} (O : kt_O w x gr (d + 1) cX5_readersBehind "KeyTurnsModel" 5 ("readersBehind", "(II)I") (Option.some Jvm.ClassFile.FieldType.int) [])  (h : vc_X5_readersBehind_28 w gr d P X  a0 v1 v2 s0 sa1 M) : kt_S w x 5 (kt_E w x P X) M 28 [(0, va_rf (some a0)), (1, .int v1), (2, .int v2)] [.int s0, va_rf (some sa1)] := by
  unfold vc_X5_readersBehind_28 at h
  obtain ⟨hw, h⟩ := h
  refine kr_putf O dX5_readersBehind_28 fs_X5_71 (Or.inl rfl) ⟨rfl, rfl⟩ hw (kr_nmM fun M1 hM1 => ?_)
  replace h := h M1 hM1
  refine kr_aload_n O dX5_readersBehind_31 rfl 0 rfl ?_
  obtain ⟨u2, eu2, h⟩ := h
  refine kr_getf O dX5_readersBehind_32 fs_X5_71 eu2 ?_
  refine kr_if_eq (tgt := 40) O dX5_readersBehind_35 rfl (fun hc => ?_) (fun hc => ?_)
  · replace h := h.1 hc
    refine kr_aload_n O dX5_readersBehind_40 rfl 0 rfl ?_
    obtain ⟨hco, h⟩ := h
    refine kr_caV (rest := []) O cd_X5_begin h (Nat.le_of_ble_eq_true rfl) (fun ls _ => kt_ivV (ci := 12) O dX5_readersBehind_41 cd_X5_begin in_X5_begin (Or.inl q2715) q2717 qs64 hco (by decide) hy_X5_begin) (fun M3 hq => ?_) (fun E q M9 hx => kr_out O hx)
    replace h := hq
    clear hq
    refine kr_iconst O dX5_readersBehind_44 (v := (0 : Int32)) (by decide) ?_
    refine kr_istore_n O dX5_readersBehind_45 rfl (Nat.le_of_ble_eq_true rfl) rfl rfl ?_
    refine kr_sub [1, 2, 3, 0] rfl ?_
    exact cl_X5_readersBehind_46 O  h
  · replace h := h.2 hc
    refine kr_iconst O dX5_readersBehind_38 (v := (0 : Int32)) (by decide) ?_
    exact kr_iret O dX5_readersBehind_39 rfl h
def vc_X5_readersBehind (w : kt_W) (gr : kt_g × kt_M) (d : Nat) (P : Option Value → kt_M → Prop) (X : String → Nat → kt_M → Prop) (a0 : Nat) (v1 : Int32) (v2 : Int32) (M : kt_M) : Prop :=
  (kt_co M a0 = some 12) ∧ 
  kt_Ca w gr d yX5_isRecord kc_X5_isRecord [va_rf (some a0), .int v1] M (kt_pI fun u1 M2 => 
    ((¬ u1 = 0 → 
    kt_Ca w gr d yX5_inRange kc_X5_inRange [.int v2, .int (0 : Int32), .int (100 : Int32)] M2 (kt_pI fun u3 M4 => 
      ((u3 = 0 → vc_X5_readersBehind_28 w gr d P X  a0 v1 v2 (2 : Int32) a0 M4) ∧
      (¬ u3 = 0 → vc_X5_readersBehind_28 w gr d P X  a0 v1 v2 (0 : Int32) a0 M4))) X) ∧
    (u1 = 0 → vc_X5_readersBehind_28 w gr d P X  a0 v1 v2 (1 : Int32) a0 M2))) X
theorem ce_X5_readersBehind {w : kt_W} {g : kt_g} {d : Nat} {P : Option Value → kt_M → Prop} {X : String → Nat → kt_M → Prop} {a0 : Nat} {v1 : Int32} {v2 : Int32} {M : kt_M} (h : vc_X5_readersBehind w (g, M) d P X a0 v1 v2 M) : kt_Sp w g (d + 1) yX5_readersBehind kc_X5_readersBehind [va_rf (some a0), .int v1, .int v2] M P X := by
  refine kt_of (L0 := [(0, va_rf (some a0)), (1, .int v1), (2, .int v2)]) (by decide +kernel) (Nat.le_of_ble_eq_true rfl) rfl fun x O => ?_
  replace O : kt_O w x (g, M) (d + 1) cX5_readersBehind "KeyTurnsModel" 5 ("readersBehind", "(II)I") (Option.some Jvm.ClassFile.FieldType.int) [] := O
  unfold vc_X5_readersBehind at h
  refine kr_aload_n O dX5_readersBehind_0 rfl 0 rfl ?_
  refine kr_aload_n O dX5_readersBehind_1 rfl 0 rfl ?_
  refine kr_iload_n O dX5_readersBehind_2 rfl 1 rfl ?_
  obtain ⟨hco, h⟩ := h
  refine kr_caI (rest := [va_rf (some a0)]) O cd_X5_isRecord h (Nat.le_of_ble_eq_true rfl) (fun ls _ => kt_ivV (ci := 12) O dX5_readersBehind_3 cd_X5_isRecord in_X5_isRecord (Or.inl q2597) q2599 qs48 hco (by decide) hy_X5_isRecord) (fun u1 M2 hq => ?_) (fun E q M9 hx => kr_out O hx)
  replace h := hq
  clear hq
  refine kr_if_ne (tgt := 13) O dX5_readersBehind_6 rfl (fun hc => ?_) (fun hc => ?_)
  · replace h := h.1 hc
    refine kr_iload_n O dX5_readersBehind_13 rfl 2 rfl ?_
    refine kr_iconst O dX5_readersBehind_14 (v := (0 : Int32)) (by decide) ?_
    refine kr_bipush O dX5_readersBehind_15 (v := (100 : Int32)) (by decide) ?_
    refine kr_caI (rest := [va_rf (some a0)]) O cd_X5_inRange h (Nat.le_of_ble_eq_true rfl) (fun ls _ => kt_ivS O dX5_readersBehind_17 cd_X5_inRange in_X5_inRange q2586 q2587 hy_X5_inRange) (fun u3 M4 hq => ?_) (fun E q M9 hx => kr_out O hx)
    replace h := hq
    clear hq
    refine kr_if_eq (tgt := 27) O dX5_readersBehind_20 rfl (fun hc => ?_) (fun hc => ?_)
    · replace h := h.1 hc
      refine kr_iconst O dX5_readersBehind_27 (v := (2 : Int32)) (by decide) ?_
      exact cj_X5_readersBehind_28 O  h
    · replace h := h.2 hc
      refine kr_iconst O dX5_readersBehind_23 (v := (0 : Int32)) (by decide) ?_
      refine kr_goto (tgt := 28) O dX5_readersBehind_24 rfl ?_
      exact cj_X5_readersBehind_28 O  h
  · replace h := h.2 hc
    refine kr_iconst O dX5_readersBehind_9 (v := (1 : Int32)) (by decide) ?_
    refine kr_goto (tgt := 28) O dX5_readersBehind_10 rfl ?_
    exact cj_X5_readersBehind_28 O  h
def vc_X5_begin (w : kt_W) (gr : kt_g × kt_M) (d : Nat) (P : Option Value → kt_M → Prop) (X : String → Nat → kt_M → Prop) (a0 : Nat) (M : kt_M) : Prop :=
  ∃ p1, kt_gf M a0 65 = some (va_rf p1) ∧ ∃ p2, kt_gf M a0 67 = some (va_rf p2) ∧ 
  kt_Ca w gr d yX5_copy kc_X5_copy [va_rf p1, .int (0 : Int32), va_rf p2, .int (0 : Int32)] M (kt_pV fun M3 => P none M3) X
theorem ce_X5_begin {w : kt_W} {g : kt_g} {d : Nat} {P : Option Value → kt_M → Prop} {X : String → Nat → kt_M → Prop} {a0 : Nat} {M : kt_M} (h : vc_X5_begin w (g, M) d P X a0 M) : kt_Sp w g (d + 1) yX5_begin kc_X5_begin [va_rf (some a0)] M P X := by
  refine kt_of (L0 := [(0, va_rf (some a0))]) (by decide +kernel) (Nat.le_of_ble_eq_true rfl) rfl fun x O => ?_
  replace O : kt_O w x (g, M) (d + 1) cX5_begin "KeyTurnsModel" 1 ("begin", "()V") (Option.none : Option Jvm.ClassFile.FieldType) [] := O
  unfold vc_X5_begin at h
  refine kr_aload_n O dX5_begin_0 rfl 0 rfl ?_
  obtain ⟨p1, ep1, h⟩ := h
  refine kr_getf O dX5_begin_1 fs_X5_9 ep1 ?_
  refine kr_iconst O dX5_begin_4 (v := (0 : Int32)) (by decide) ?_
  refine kr_aload_n O dX5_begin_5 rfl 0 rfl ?_
  obtain ⟨p2, ep2, h⟩ := h
  refine kr_getf O dX5_begin_6 fs_X5_16 ep2 ?_
  refine kr_iconst O dX5_begin_9 (v := (0 : Int32)) (by decide) ?_
  refine kr_caV (rest := []) O cd_X5_copy h (Nat.le_of_ble_eq_true rfl) (fun ls _ => kt_ivS O dX5_begin_10 cd_X5_copy in_X5_copy q2719 q2720 hy_X5_copy) (fun M3 hq => ?_) (fun E q M9 hx => kr_out O hx)
  replace h := hq
  clear hq
  exact kr_vret O dX5_begin_13 h
def vc_X5_copy_3 (w : kt_W) (gr : kt_g × kt_M) (d : Nat) (P : Option Value → kt_M → Prop) (X : String → Nat → kt_M → Prop) (nx3 : Int32 → kt_M → Prop) (r0 : Option Nat) (v1 : Int32) (r2 : Option Nat) (v3 : Int32) (v4 : Int32) (M : kt_M) : Prop :=
  
    (((2229 : Int32) ≤ v4 → P none M) ∧
    (¬ (2229 : Int32) ≤ v4 → ∃ b1, r0 = some b1 ∧ ∃ u2, kt_el 0 M b1 (((2229 : Int32) * v1) + v4) = some (.int u2) ∧ ∃ b3, r2 = some b3 ∧ kt_hii gr 0 M b3 (((2229 : Int32) * v3) + v4) ∧ ∀ M4, M4 = kt_si M b3 (((2229 : Int32) * v3) + v4) u2 → nx3 (v4 + (1 : Int32)) M4))
theorem cj_X5_copy_3 {w : kt_W} {x : kt_X} {gr : kt_g × kt_M} {d : Nat} {P : Option Value → kt_M → Prop} {X : String → Nat → kt_M → Prop} {nx3 : Int32 → kt_M → Prop} {r0 : Option Nat} {v1 : Int32} {r2 : Option Nat} {v3 : Int32} {v4 : Int32} {M : kt_M} (O : kt_O w x gr (d + 1) cX5_copy "KeyTurnsModel" 5 ("copy", "([II[II)V") (Option.none : Option Jvm.ClassFile.FieldType) []) (hn3 : ∀ v4 M, nx3 v4 M → kt_S w x 5 (kt_E w x P X) M 3 [(0, va_rf r0), (1, .int v1), (2, va_rf r2), (3, .int v3), (4, .int v4)] []) (h : vc_X5_copy_3 w gr d P X nx3 r0 v1 r2 v3 v4 M) : kt_S w x 5 (kt_E w x P X) M 3 [(0, va_rf r0), (1, .int v1), (2, va_rf r2), (3, .int v3), (4, .int v4)] [] := by
  unfold vc_X5_copy_3 at h
  refine kr_iload O dX5_copy_3 4 rfl ?_
  refine kr_sipush O dX5_copy_5 (v := (2229 : Int32)) (by decide) ?_
  refine kr_icmp_ge (tgt := 37) O dX5_copy_8 rfl (fun hc => ?_) (fun hc => ?_)
  · replace h := h.1 hc
    exact kr_vret O dX5_copy_37 h
  · replace h := h.2 hc
    refine kr_aload_n O dX5_copy_11 rfl 2 rfl ?_
    refine kr_sipush O dX5_copy_12 (v := (2229 : Int32)) (by decide) ?_
    refine kr_iload_n O dX5_copy_15 rfl 3 rfl ?_
    refine kr_imul O dX5_copy_16 ?_
    refine kr_iload O dX5_copy_17 4 rfl ?_
    refine kr_iadd O dX5_copy_19 ?_
    refine kr_aload_n O dX5_copy_20 rfl 0 rfl ?_
    refine kr_sipush O dX5_copy_21 (v := (2229 : Int32)) (by decide) ?_
    refine kr_iload_n O dX5_copy_24 rfl 1 rfl ?_
    refine kr_imul O dX5_copy_25 ?_
    refine kr_iload O dX5_copy_26 4 rfl ?_
    refine kr_iadd O dX5_copy_28 ?_
    obtain ⟨b1, rfl, h⟩ := h
    obtain ⟨u2, eu2, h⟩ := h
    refine kr_iaload O dX5_copy_29 eu2 ?_
    obtain ⟨b3, rfl, h⟩ := h
    obtain ⟨hw, h⟩ := h
    refine kr_iastore O dX5_copy_30 hw (kr_nmM fun M4 hM4 => ?_)
    replace h := h M4 hM4
    refine kr_iinc O dX5_copy_31 4 rfl (v := v4 + (1 : Int32)) rfl (Nat.le_of_ble_eq_true rfl) rfl rfl ?_
    refine kr_goto (tgt := 3) O dX5_copy_34 rfl ?_
    refine kr_sub [1, 2, 3, 4, 0] rfl ?_
    exact hn3 _ _ h
def vl_X5_copy_3 (w : kt_W) (gr : kt_g × kt_M) (d : Nat) (P : Option Value → kt_M → Prop) (X : String → Nat → kt_M → Prop)  (r0 : Option Nat) (v1 : Int32) (r2 : Option Nat) (v3 : Int32) (v4 : Int32) (M : kt_M) : Prop :=
  ∃ Inv : Nat → Int32 → kt_M → Prop, (∃ k, Inv k v4 M) ∧ ∀ k v4 M, kt_le gr.1 gr.2 M → Inv k v4 M → vc_X5_copy_3 w gr d P X (fun v4' M' => ∃ k', k' < k ∧ Inv k' v4' M') r0 v1 r2 v3 v4 M
theorem cl_X5_copy_3 {w : kt_W} {x : kt_X} {gr : kt_g × kt_M} {d : Nat} {P : Option Value → kt_M → Prop} {X : String → Nat → kt_M → Prop}  {r0 : Option Nat} {v1 : Int32} {r2 : Option Nat} {v3 : Int32} {v4 : Int32} {M : kt_M} (O : kt_O w x gr (d + 1) cX5_copy "KeyTurnsModel" 5 ("copy", "([II[II)V") (Option.none : Option Jvm.ClassFile.FieldType) [])  (h : vl_X5_copy_3 w gr d P X  r0 v1 r2 v3 v4 M) : kt_S w x 5 (kt_E w x P X) M 3 [(0, va_rf r0), (1, .int v1), (2, va_rf r2), (3, .int v3), (4, .int v4)] [] := by
  obtain ⟨Inv, ⟨k, hk⟩, hb⟩ := h
  induction k using Nat.strongRecOn generalizing v4 M with
  | ind k ih =>
    exact kr_le O fun hle => cj_X5_copy_3 O (fun v4' M' hi => let ⟨k', h1, h2⟩ := hi; ih k' h1 h2) (hb k _ _ hle hk)
def vc_X5_copy (w : kt_W) (gr : kt_g × kt_M) (d : Nat) (P : Option Value → kt_M → Prop) (X : String → Nat → kt_M → Prop) (r0 : Option Nat) (v1 : Int32) (r2 : Option Nat) (v3 : Int32) (M : kt_M) : Prop :=
  vl_X5_copy_3 w gr d P X  r0 v1 r2 v3 (0 : Int32) M
theorem ce_X5_copy {w : kt_W} {g : kt_g} {d : Nat} {P : Option Value → kt_M → Prop} {X : String → Nat → kt_M → Prop} {r0 : Option Nat} {v1 : Int32} {r2 : Option Nat} {v3 : Int32} {M : kt_M} (h : vc_X5_copy w (g, M) d P X r0 v1 r2 v3 M) : kt_Sp w g (d + 1) yX5_copy kc_X5_copy [va_rf r0, .int v1, va_rf r2, .int v3] M P X := by
  refine kt_of (L0 := [(0, va_rf r0), (1, .int v1), (2, va_rf r2), (3, .int v3)]) (by decide +kernel) (by simp only [kt_lgR, kt_lgI, kt_lgN] <;> exact Nat.le_of_ble_eq_true rfl) (by simp only [kt_lvR, kt_lvI, kt_lvN] <;> rfl) fun x O => ?_
  replace O : kt_O w x (g, M) (d + 1) cX5_copy "KeyTurnsModel" 5 ("copy", "([II[II)V") (Option.none : Option Jvm.ClassFile.FieldType) [] := O
  unfold vc_X5_copy at h
  refine kr_iconst O dX5_copy_0 (v := (0 : Int32)) (by decide) ?_
  refine kr_istore O dX5_copy_1 (Nat.le_of_ble_eq_true rfl) rfl rfl ?_
  refine kr_sub [1, 2, 3, 4, 0] rfl ?_
  exact cl_X5_copy_3 O  h
def vc_X5_passHour_127 (w : kt_W) (gr : kt_g × kt_M) (d : Nat) (P : Option Value → kt_M → Prop) (X : String → Nat → kt_M → Prop) (nx92 : Int32 → kt_M → Prop) (a0 : Nat) (v1 : Int32) (v2 : Int32) (s0 : Int32) (s1 : Int32) (sr2 : Option Nat) (M : kt_M) : Prop :=
  ∃ b1, sr2 = some b1 ∧ kt_hii gr 0 M b1 s1 ∧ ∀ M2, M2 = kt_si M b1 s1 s0 → nx92 (v2 + (1 : Int32)) M2
theorem cj_X5_passHour_127 {w : kt_W} {x : kt_X} {gr : kt_g × kt_M} {d : Nat} {P : Option Value → kt_M → Prop} {X : String → Nat → kt_M → Prop} {nx92 : Int32 → kt_M → Prop} {a0 : Nat} {v1 : Int32} {v2 : Int32} {s0 : Int32} {s1 : Int32} {sr2 : Option Nat} {M : kt_M} (O : kt_O w x gr (d + 1) cX5_passHour "KeyTurnsModel" 3 ("passHour", "()I") (Option.some Jvm.ClassFile.FieldType.int) []) (hn92 : ∀ v2 M, nx92 v2 M → kt_S w x 3 (kt_E w x P X) M 92 [(0, va_rf (some a0)), (1, .int v1), (2, .int v2)] []) (h : vc_X5_passHour_127 w gr d P X nx92 a0 v1 v2 s0 s1 sr2 M) : kt_S w x 3 (kt_E w x P X) M 127 [(0, va_rf (some a0)), (1, .int v1), (2, .int v2)] [.int s0, .int s1, va_rf sr2] := by
  unfold vc_X5_passHour_127 at h
  obtain ⟨b1, rfl, h⟩ := h
  obtain ⟨hw, h⟩ := h
  refine kr_iastore O dX5_passHour_127 hw (kr_nmM fun M2 hM2 => ?_)
  replace h := h M2 hM2
  refine kr_iinc O dX5_passHour_128 2 rfl (v := v2 + (1 : Int32)) rfl (Nat.le_of_ble_eq_true rfl) rfl rfl ?_
  refine kr_goto (tgt := 92) O dX5_passHour_131 rfl ?_
  refine kr_sub [1, 2, 0] rfl ?_
  exact hn92 _ _ h
def vc_X5_passHour_92 (w : kt_W) (gr : kt_g × kt_M) (d : Nat) (P : Option Value → kt_M → Prop) (X : String → Nat → kt_M → Prop) (nx92 : Int32 → kt_M → Prop) (a0 : Nat) (v1 : Int32) (v2 : Int32) (M : kt_M) : Prop :=
  
    (((30 : Int32) ≤ v2 → ∃ p1, kt_gf M a0 73 = some (va_rf p1) ∧ ∃ p2, kt_gf M a0 73 = some (va_rf p2) ∧ ∃ b3, p2 = some b3 ∧ ∃ u4, kt_el 0 M b3 (10 : Int32) = some (.int u4) ∧ 
    kt_Ca w gr d yJ7_min kc_J7_min [.int (48 : Int32), .int (u4 + (1 : Int32))] M (kt_pI fun u5 M6 => ∃ b7, p1 = some b7 ∧ kt_hii gr 0 M6 b7 (10 : Int32) ∧ ∀ M8, M8 = kt_si M6 b7 (10 : Int32) u5 → P (some (.int v1)) M8) X) ∧
    (¬ (30 : Int32) ≤ v2 → ∃ p9, kt_gf M a0 73 = some (va_rf p9) ∧ (kt_co M a0 = some 12) ∧ 
    kt_Ca w gr d yX5_hour kc_X5_hour [va_rf (some a0)] M (kt_pI fun u10 M11 => 
    kt_Ca w gr d yX5_seenAt kc_X5_seenAt [.int u10, .int v2] M11 (kt_pI fun u12 M13 => (kt_co M13 a0 = some 12) ∧ 
    kt_Ca w gr d yX5_isRecord kc_X5_isRecord [va_rf (some a0), .int v2] M13 (kt_pI fun u14 M15 => 
      ((u14 = 0 → vc_X5_passHour_127 w gr d P X nx92 a0 v1 v2 (-1 : Int32) u12 p9 M15) ∧
      (¬ u14 = 0 → (kt_co M15 a0 = some 12) ∧ 
      kt_Ca w gr d yX5_readers kc_X5_readers [va_rf (some a0), .int v2] M15 (kt_pI fun u16 M17 => vc_X5_passHour_127 w gr d P X nx92 a0 v1 v2 u16 u12 p9 M17) X))) X) X) X))
theorem cj_X5_passHour_92 {w : kt_W} {x : kt_X} {gr : kt_g × kt_M} {d : Nat} {P : Option Value → kt_M → Prop} {X : String → Nat → kt_M → Prop} {nx92 : Int32 → kt_M → Prop} {a0 : Nat} {v1 : Int32} {v2 : Int32} {M : kt_M} (O : kt_O w x gr (d + 1) cX5_passHour "KeyTurnsModel" 3 ("passHour", "()I") (Option.some Jvm.ClassFile.FieldType.int) []) (hn92 : ∀ v2 M, nx92 v2 M → kt_S w x 3 (kt_E w x P X) M 92 [(0, va_rf (some a0)), (1, .int v1), (2, .int v2)] []) (h : vc_X5_passHour_92 w gr d P X nx92 a0 v1 v2 M) : kt_S w x 3 (kt_E w x P X) M 92 [(0, va_rf (some a0)), (1, .int v1), (2, .int v2)] [] := by
  unfold vc_X5_passHour_92 at h
  refine kr_iload_n O dX5_passHour_92 rfl 2 rfl ?_
  refine kr_bipush O dX5_passHour_93 (v := (30 : Int32)) (by decide) ?_
  refine kr_icmp_ge (tgt := 134) O dX5_passHour_95 rfl (fun hc => ?_) (fun hc => ?_)
  · replace h := h.1 hc
    refine kr_aload_n O dX5_passHour_134 rfl 0 rfl ?_
    obtain ⟨p1, ep1, h⟩ := h
    refine kr_getf O dX5_passHour_135 fs_X5_25 ep1 ?_
    refine kr_bipush O dX5_passHour_138 (v := (10 : Int32)) (by decide) ?_
    refine kr_bipush O dX5_passHour_140 (v := (48 : Int32)) (by decide) ?_
    refine kr_aload_n O dX5_passHour_142 rfl 0 rfl ?_
    obtain ⟨p2, ep2, h⟩ := h
    refine kr_getf O dX5_passHour_143 fs_X5_25 ep2 ?_
    refine kr_bipush O dX5_passHour_146 (v := (10 : Int32)) (by decide) ?_
    obtain ⟨b3, rfl, h⟩ := h
    obtain ⟨u4, eu4, h⟩ := h
    refine kr_iaload O dX5_passHour_148 eu4 ?_
    refine kr_iconst O dX5_passHour_149 (v := (1 : Int32)) (by decide) ?_
    refine kr_iadd O dX5_passHour_150 ?_
    refine kr_caI (rest := [.int (10 : Int32), va_rf p1]) O cd_J7_min h (Nat.le_of_ble_eq_true rfl) (fun ls _ => kt_ivS O dX5_passHour_151 cd_J7_min in_J7_min q2474 q419 hy_J7_min) (fun u5 M6 hq => ?_) (fun E q M9 hx => kr_out O hx)
    replace h := hq
    clear hq
    obtain ⟨b7, rfl, h⟩ := h
    obtain ⟨hw, h⟩ := h
    refine kr_iastore O dX5_passHour_154 hw (kr_nmM fun M8 hM8 => ?_)
    replace h := h M8 hM8
    refine kr_iload_n O dX5_passHour_155 rfl 1 rfl ?_
    exact kr_iret O dX5_passHour_156 rfl h
  · replace h := h.2 hc
    refine kr_aload_n O dX5_passHour_98 rfl 0 rfl ?_
    obtain ⟨p9, ep9, h⟩ := h
    refine kr_getf O dX5_passHour_99 fs_X5_25 ep9 ?_
    refine kr_aload_n O dX5_passHour_102 rfl 0 rfl ?_
    obtain ⟨hco, h⟩ := h
    refine kr_caI (rest := [va_rf p9]) O cd_X5_hour h (Nat.le_of_ble_eq_true rfl) (fun ls _ => kt_ivV (ci := 12) O dX5_passHour_103 cd_X5_hour in_X5_hour (Or.inl q2582) q2584 qs45 hco (by decide) hy_X5_hour) (fun u10 M11 hq => ?_) (fun E q M9 hx => kr_out O hx)
    replace h := hq
    clear hq
    refine kr_iload_n O dX5_passHour_106 rfl 2 rfl ?_
    refine kr_caI (rest := [va_rf p9]) O cd_X5_seenAt h (Nat.le_of_ble_eq_true rfl) (fun ls _ => kt_ivS O dX5_passHour_107 cd_X5_seenAt in_X5_seenAt q2692 q2693 hy_X5_seenAt) (fun u12 M13 hq => ?_) (fun E q M9 hx => kr_out O hx)
    replace h := hq
    clear hq
    refine kr_aload_n O dX5_passHour_110 rfl 0 rfl ?_
    refine kr_iload_n O dX5_passHour_111 rfl 2 rfl ?_
    obtain ⟨hco, h⟩ := h
    refine kr_caI (rest := [.int u12, va_rf p9]) O cd_X5_isRecord h (Nat.le_of_ble_eq_true rfl) (fun ls _ => kt_ivV (ci := 12) O dX5_passHour_112 cd_X5_isRecord in_X5_isRecord (Or.inl q2597) q2599 qs48 hco (by decide) hy_X5_isRecord) (fun u14 M15 hq => ?_) (fun E q M9 hx => kr_out O hx)
    replace h := hq
    clear hq
    refine kr_if_eq (tgt := 126) O dX5_passHour_115 rfl (fun hc => ?_) (fun hc => ?_)
    · replace h := h.1 hc
      refine kr_iconst O dX5_passHour_126 (v := (-1 : Int32)) (by decide) ?_
      exact cj_X5_passHour_127 O hn92 h
    · replace h := h.2 hc
      refine kr_aload_n O dX5_passHour_118 rfl 0 rfl ?_
      refine kr_iload_n O dX5_passHour_119 rfl 2 rfl ?_
      obtain ⟨hco, h⟩ := h
      refine kr_caI (rest := [.int u12, va_rf p9]) O cd_X5_readers h (Nat.le_of_ble_eq_true rfl) (fun ls _ => kt_ivV (ci := 12) O dX5_passHour_120 cd_X5_readers in_X5_readers (Or.inl q2638) q2640 qs55 hco (by decide) hy_X5_readers) (fun u16 M17 hq => ?_) (fun E q M9 hx => kr_out O hx)
      replace h := hq
      clear hq
      refine kr_goto (tgt := 127) O dX5_passHour_123 rfl ?_
      exact cj_X5_passHour_127 O hn92 h
def vl_X5_passHour_92 (w : kt_W) (gr : kt_g × kt_M) (d : Nat) (P : Option Value → kt_M → Prop) (X : String → Nat → kt_M → Prop)  (a0 : Nat) (v1 : Int32) (v2 : Int32) (M : kt_M) : Prop :=
  ∃ Inv : Nat → Int32 → kt_M → Prop, (∃ k, Inv k v2 M) ∧ ∀ k v2 M, kt_le gr.1 gr.2 M → Inv k v2 M → vc_X5_passHour_92 w gr d P X (fun v2' M' => ∃ k', k' < k ∧ Inv k' v2' M') a0 v1 v2 M
theorem cl_X5_passHour_92 {w : kt_W} {x : kt_X} {gr : kt_g × kt_M} {d : Nat} {P : Option Value → kt_M → Prop} {X : String → Nat → kt_M → Prop}  {a0 : Nat} {v1 : Int32} {v2 : Int32} {M : kt_M} (O : kt_O w x gr (d + 1) cX5_passHour "KeyTurnsModel" 3 ("passHour", "()I") (Option.some Jvm.ClassFile.FieldType.int) [])  (h : vl_X5_passHour_92 w gr d P X  a0 v1 v2 M) : kt_S w x 3 (kt_E w x P X) M 92 [(0, va_rf (some a0)), (1, .int v1), (2, .int v2)] [] := by
  obtain ⟨Inv, ⟨k, hk⟩, hb⟩ := h
  induction k using Nat.strongRecOn generalizing v2 M with
  | ind k ih =>
    exact kr_le O fun hle => cj_X5_passHour_92 O (fun v2' M' hi => let ⟨k', h1, h2⟩ := hi; ih k' h1 h2) (hb k _ _ hle hk)
def vc_X5_passHour_48 (w : kt_W) (gr : kt_g × kt_M) (d : Nat) (P : Option Value → kt_M → Prop) (X : String → Nat → kt_M → Prop) (nx48 : Int32 → kt_M → Prop) (a0 : Nat) (v1 : Int32) (v2 : Int32) (M : kt_M) : Prop :=
  ∃ p1, kt_gf M a0 73 = some (va_rf p1) ∧ ∃ b2, p1 = some b2 ∧ ∃ u3, kt_el 0 M b2 (3 : Int32) = some (.int u3) ∧ 
    ((u3 ≤ v2 → vl_X5_passHour_92 w gr d P X  a0 v1 (0 : Int32) M) ∧
    (¬ u3 ≤ v2 → (kt_co M a0 = some 12) ∧ 
    kt_Ca w gr d yX5_hour kc_X5_hour [va_rf (some a0)] M (kt_pI fun u4 M5 => (kt_co M5 a0 = some 12) ∧ 
    kt_Ca w gr d yX5_ofClient kc_X5_ofClient [va_rf (some a0), .int v2, .int (0 : Int32)] M5 (kt_pI fun u6 M7 => ¬ u6 = 0 ∧ (kt_co M7 a0 = some 12) ∧ 
    kt_Ca w gr d yX5_ofClient kc_X5_ofClient [va_rf (some a0), .int v2, .int (1 : Int32)] M7 (kt_pI fun u8 M9 => 
      ((¬ (u4 - u4 / u6 * u6) = u8 → nx48 (v2 + (1 : Int32)) M9) ∧
      ((u4 - u4 / u6 * u6) = u8 → (kt_co M9 a0 = some 12) ∧ 
      kt_Ca w gr d yX5_learn kc_X5_learn [va_rf (some a0), .int v2] M9 (kt_pI fun u10 M11 => nx48 (v2 + (1 : Int32)) M11) X))) X) X) X))
theorem cj_X5_passHour_48 {w : kt_W} {x : kt_X} {gr : kt_g × kt_M} {d : Nat} {P : Option Value → kt_M → Prop} {X : String → Nat → kt_M → Prop} {nx48 : Int32 → kt_M → Prop} {a0 : Nat} {v1 : Int32} {v2 : Int32} {M : kt_M} (O : kt_O w x gr (d + 1) cX5_passHour "KeyTurnsModel" 3 ("passHour", "()I") (Option.some Jvm.ClassFile.FieldType.int) []) (hn48 : ∀ v2 M, nx48 v2 M → kt_S w x 3 (kt_E w x P X) M 48 [(0, va_rf (some a0)), (1, .int v1), (2, .int v2)] []) (h : vc_X5_passHour_48 w gr d P X nx48 a0 v1 v2 M) : kt_S w x 3 (kt_E w x P X) M 48 [(0, va_rf (some a0)), (1, .int v1), (2, .int v2)] [] := by
  unfold vc_X5_passHour_48 at h
  refine kr_iload_n O dX5_passHour_48 rfl 2 rfl ?_
  refine kr_aload_n O dX5_passHour_49 rfl 0 rfl ?_
  obtain ⟨p1, ep1, h⟩ := h
  refine kr_getf O dX5_passHour_50 fs_X5_25 ep1 ?_
  refine kr_iconst O dX5_passHour_53 (v := (3 : Int32)) (by decide) ?_
  obtain ⟨b2, rfl, h⟩ := h
  obtain ⟨u3, eu3, h⟩ := h
  refine kr_iaload O dX5_passHour_54 eu3 ?_
  refine kr_icmp_ge (tgt := 90) O dX5_passHour_55 rfl (fun hc => ?_) (fun hc => ?_)
  · replace h := h.1 hc
    refine kr_iconst O dX5_passHour_90 (v := (0 : Int32)) (by decide) ?_
    refine kr_istore_n O dX5_passHour_91 rfl (Nat.le_of_ble_eq_true rfl) rfl rfl ?_
    refine kr_sub [1, 2, 0] rfl ?_
    exact cl_X5_passHour_92 O  h
  · replace h := h.2 hc
    refine kr_aload_n O dX5_passHour_58 rfl 0 rfl ?_
    obtain ⟨hco, h⟩ := h
    refine kr_caI (rest := []) O cd_X5_hour h (Nat.le_of_ble_eq_true rfl) (fun ls _ => kt_ivV (ci := 12) O dX5_passHour_59 cd_X5_hour in_X5_hour (Or.inl q2582) q2584 qs45 hco (by decide) hy_X5_hour) (fun u4 M5 hq => ?_) (fun E q M9 hx => kr_out O hx)
    replace h := hq
    clear hq
    refine kr_aload_n O dX5_passHour_62 rfl 0 rfl ?_
    refine kr_iload_n O dX5_passHour_63 rfl 2 rfl ?_
    refine kr_iconst O dX5_passHour_64 (v := (0 : Int32)) (by decide) ?_
    obtain ⟨hco, h⟩ := h
    refine kr_caI (rest := [.int u4]) O cd_X5_ofClient h (Nat.le_of_ble_eq_true rfl) (fun ls _ => kt_ivV (ci := 12) O dX5_passHour_65 cd_X5_ofClient in_X5_ofClient (Or.inl q2650) q2652 qs58 hco (by decide) hy_X5_ofClient) (fun u6 M7 hq => ?_) (fun E q M9 hx => kr_out O hx)
    replace h := hq
    clear hq
    obtain ⟨hne, h⟩ := h
    refine kr_irem O dX5_passHour_68 hne ?_
    refine kr_aload_n O dX5_passHour_69 rfl 0 rfl ?_
    refine kr_iload_n O dX5_passHour_70 rfl 2 rfl ?_
    refine kr_iconst O dX5_passHour_71 (v := (1 : Int32)) (by decide) ?_
    obtain ⟨hco, h⟩ := h
    refine kr_caI (rest := [.int (u4 - u4 / u6 * u6)]) O cd_X5_ofClient h (Nat.le_of_ble_eq_true rfl) (fun ls _ => kt_ivV (ci := 12) O dX5_passHour_72 cd_X5_ofClient in_X5_ofClient (Or.inl q2650) q2652 qs58 hco (by decide) hy_X5_ofClient) (fun u8 M9 hq => ?_) (fun E q M9 hx => kr_out O hx)
    replace h := hq
    clear hq
    refine kr_icmp_ne (tgt := 84) O dX5_passHour_75 rfl (fun hc => ?_) (fun hc => ?_)
    · replace h := h.1 hc
      refine kr_iinc O dX5_passHour_84 2 rfl (v := v2 + (1 : Int32)) rfl (Nat.le_of_ble_eq_true rfl) rfl rfl ?_
      refine kr_goto (tgt := 48) O dX5_passHour_87 rfl ?_
      refine kr_sub [1, 2, 0] rfl ?_
      exact hn48 _ _ h
    · replace h := h.2 hc
      refine kr_aload_n O dX5_passHour_78 rfl 0 rfl ?_
      refine kr_iload_n O dX5_passHour_79 rfl 2 rfl ?_
      obtain ⟨hco, h⟩ := h
      refine kr_caI (rest := []) O cd_X5_learn h (Nat.le_of_ble_eq_true rfl) (fun ls _ => kt_ivV (ci := 12) O dX5_passHour_80 cd_X5_learn in_X5_learn (Or.inl q2746) q2748 qs71 hco (by decide) hy_X5_learn) (fun u10 M11 hq => ?_) (fun E q M9 hx => kr_out O hx)
      replace h := hq
      clear hq
      refine kr_pop O dX5_passHour_83 rfl ?_
      refine kr_iinc O dX5_passHour_84 2 rfl (v := v2 + (1 : Int32)) rfl (Nat.le_of_ble_eq_true rfl) rfl rfl ?_
      refine kr_goto (tgt := 48) O dX5_passHour_87 rfl ?_
      refine kr_sub [1, 2, 0] rfl ?_
      exact hn48 _ _ h
def vl_X5_passHour_48 (w : kt_W) (gr : kt_g × kt_M) (d : Nat) (P : Option Value → kt_M → Prop) (X : String → Nat → kt_M → Prop)  (a0 : Nat) (v1 : Int32) (v2 : Int32) (M : kt_M) : Prop :=
  ∃ Inv : Nat → Int32 → kt_M → Prop, (∃ k, Inv k v2 M) ∧ ∀ k v2 M, kt_le gr.1 gr.2 M → Inv k v2 M → vc_X5_passHour_48 w gr d P X (fun v2' M' => ∃ k', k' < k ∧ Inv k' v2' M') a0 v1 v2 M
theorem cl_X5_passHour_48 {w : kt_W} {x : kt_X} {gr : kt_g × kt_M} {d : Nat} {P : Option Value → kt_M → Prop} {X : String → Nat → kt_M → Prop}  {a0 : Nat} {v1 : Int32} {v2 : Int32} {M : kt_M} (O : kt_O w x gr (d + 1) cX5_passHour "KeyTurnsModel" 3 ("passHour", "()I") (Option.some Jvm.ClassFile.FieldType.int) [])  (h : vl_X5_passHour_48 w gr d P X  a0 v1 v2 M) : kt_S w x 3 (kt_E w x P X) M 48 [(0, va_rf (some a0)), (1, .int v1), (2, .int v2)] [] := by
  obtain ⟨Inv, ⟨k, hk⟩, hb⟩ := h
  induction k using Nat.strongRecOn generalizing v2 M with
  | ind k ih =>
    exact kr_le O fun hle => cj_X5_passHour_48 O (fun v2' M' hi => let ⟨k', h1, h2⟩ := hi; ih k' h1 h2) (hb k _ _ hle hk)
def vc_X5_passHour_37 (w : kt_W) (gr : kt_g × kt_M) (d : Nat) (P : Option Value → kt_M → Prop) (X : String → Nat → kt_M → Prop)  (a0 : Nat) (M : kt_M) : Prop :=
  (kt_co M a0 = some 12) ∧ 
  kt_Ca w gr d yX5_clean kc_X5_clean [va_rf (some a0)] M (kt_pI fun u1 M2 => (kt_co M2 a0 = some 12) ∧ 
  kt_Ca w gr d yX5_sweep kc_X5_sweep [va_rf (some a0)] M2 (kt_pV fun M3 => vl_X5_passHour_48 w gr d P X  a0 u1 (0 : Int32) M3) X) X
theorem cj_X5_passHour_37 {w : kt_W} {x : kt_X} {gr : kt_g × kt_M} {d : Nat} {P : Option Value → kt_M → Prop} {X : String → Nat → kt_M → Prop}  {a0 : Nat} {M : kt_M} (O : kt_O w x gr (d + 1) cX5_passHour "KeyTurnsModel" 3 ("passHour", "()I") (Option.some Jvm.ClassFile.FieldType.int) [])  (h : vc_X5_passHour_37 w gr d P X  a0 M) : kt_S w x 3 (kt_E w x P X) M 37 [(0, va_rf (some a0))] [] := by
  unfold vc_X5_passHour_37 at h
  refine kr_aload_n O dX5_passHour_37 rfl 0 rfl ?_
  obtain ⟨hco, h⟩ := h
  refine kr_caI (rest := []) O cd_X5_clean h (Nat.le_of_ble_eq_true rfl) (fun ls _ => kt_ivV (ci := 12) O dX5_passHour_38 cd_X5_clean in_X5_clean (Or.inl q2734) q2736 qs68 hco (by decide) hy_X5_clean) (fun u1 M2 hq => ?_) (fun E q M9 hx => kr_out O hx)
  replace h := hq
  clear hq
  refine kr_istore_n O dX5_passHour_41 rfl (Nat.le_of_ble_eq_true rfl) rfl rfl ?_
  refine kr_aload_n O dX5_passHour_42 rfl 1 rfl ?_
  obtain ⟨hco, h⟩ := h
  refine kr_caV (rest := []) O cd_X5_sweep h (Nat.le_of_ble_eq_true rfl) (fun ls _ => kt_ivV (ci := 12) O dX5_passHour_43 cd_X5_sweep in_X5_sweep (Or.inl q2742) q2744 qs70 hco (by decide) hy_X5_sweep) (fun M3 hq => ?_) (fun E q M9 hx => kr_out O hx)
  replace h := hq
  clear hq
  refine kr_iconst O dX5_passHour_46 (v := (0 : Int32)) (by decide) ?_
  refine kr_istore_n O dX5_passHour_47 rfl (Nat.le_of_ble_eq_true rfl) rfl rfl ?_
  refine kr_sub [2, 1, 0] rfl ?_
  exact cl_X5_passHour_48 O  h
def vc_X5_passHour (w : kt_W) (gr : kt_g × kt_M) (d : Nat) (P : Option Value → kt_M → Prop) (X : String → Nat → kt_M → Prop) (a0 : Nat) (M : kt_M) : Prop :=
  (kt_co M a0 = some 12) ∧ 
  kt_Ca w gr d yX5_hour kc_X5_hour [va_rf (some a0)] M (kt_pI fun u1 M2 => 
    ((¬ u1 = (9999 : Int32) → ∃ p3, kt_gf M2 a0 73 = some (va_rf p3) ∧ ∃ b4, p3 = some b4 ∧ ∃ u5, kt_el 0 M2 b4 (0 : Int32) = some (.int u5) ∧ kt_hii gr 0 M2 b4 (0 : Int32) ∧ ∀ M6, M6 = kt_si M2 b4 (0 : Int32) (u5 + (1 : Int32)) → (kt_co M6 a0 = some 12) ∧ 
    kt_Ca w gr d yX5_mustIssue kc_X5_mustIssue [va_rf (some a0)] M6 (kt_pI fun u7 M8 => 
      ((u7 = 0 → vc_X5_passHour_37 w gr d P X  a0 M8) ∧
      (¬ u7 = 0 → (kt_co M8 a0 = some 12) ∧ 
      kt_Ca w gr d yX5_firstOfNext kc_X5_firstOfNext [va_rf (some a0)] M8 (kt_pI fun u9 M10 => (kt_co M10 a0 = some 12) ∧ 
      kt_Ca w gr d yX5_issue kc_X5_issue [va_rf (some a0), .int u9] M10 (kt_pV fun M11 => vc_X5_passHour_37 w gr d P X  a0 M11) X) X))) X) ∧
    (u1 = (9999 : Int32) → P (some (.int (0 : Int32))) M2))) X
theorem ce_X5_passHour {w : kt_W} {g : kt_g} {d : Nat} {P : Option Value → kt_M → Prop} {X : String → Nat → kt_M → Prop} {a0 : Nat} {M : kt_M} (h : vc_X5_passHour w (g, M) d P X a0 M) : kt_Sp w g (d + 1) yX5_passHour kc_X5_passHour [va_rf (some a0)] M P X := by
  refine kt_of (L0 := [(0, va_rf (some a0))]) (by decide +kernel) (Nat.le_of_ble_eq_true rfl) rfl fun x O => ?_
  replace O : kt_O w x (g, M) (d + 1) cX5_passHour "KeyTurnsModel" 3 ("passHour", "()I") (Option.some Jvm.ClassFile.FieldType.int) [] := O
  unfold vc_X5_passHour at h
  refine kr_aload_n O dX5_passHour_0 rfl 0 rfl ?_
  obtain ⟨hco, h⟩ := h
  refine kr_caI (rest := []) O cd_X5_hour h (Nat.le_of_ble_eq_true rfl) (fun ls _ => kt_ivV (ci := 12) O dX5_passHour_1 cd_X5_hour in_X5_hour (Or.inl q2582) q2584 qs45 hco (by decide) hy_X5_hour) (fun u1 M2 hq => ?_) (fun E q M9 hx => kr_out O hx)
  replace h := hq
  clear hq
  refine kr_sipush O dX5_passHour_4 (v := (9999 : Int32)) (by decide) ?_
  refine kr_icmp_ne (tgt := 12) O dX5_passHour_7 rfl (fun hc => ?_) (fun hc => ?_)
  · replace h := h.1 hc
    refine kr_aload_n O dX5_passHour_12 rfl 0 rfl ?_
    obtain ⟨p3, ep3, h⟩ := h
    refine kr_getf O dX5_passHour_13 fs_X5_25 ep3 ?_
    refine kr_iconst O dX5_passHour_16 (v := (0 : Int32)) (by decide) ?_
    refine kr_dup2 O dX5_passHour_17 rfl (kt_nrf _) ?_
    obtain ⟨b4, rfl, h⟩ := h
    obtain ⟨u5, eu5, h⟩ := h
    refine kr_iaload O dX5_passHour_18 eu5 ?_
    refine kr_iconst O dX5_passHour_19 (v := (1 : Int32)) (by decide) ?_
    refine kr_iadd O dX5_passHour_20 ?_
    obtain ⟨hw, h⟩ := h
    refine kr_iastore O dX5_passHour_21 hw (kr_nmM fun M6 hM6 => ?_)
    replace h := h M6 hM6
    refine kr_aload_n O dX5_passHour_22 rfl 0 rfl ?_
    obtain ⟨hco, h⟩ := h
    refine kr_caI (rest := []) O cd_X5_mustIssue h (Nat.le_of_ble_eq_true rfl) (fun ls _ => kt_ivV (ci := 12) O dX5_passHour_23 cd_X5_mustIssue in_X5_mustIssue (Or.inl q2726) q2728 qs66 hco (by decide) hy_X5_mustIssue) (fun u7 M8 hq => ?_) (fun E q M9 hx => kr_out O hx)
    replace h := hq
    clear hq
    refine kr_if_eq (tgt := 37) O dX5_passHour_26 rfl (fun hc => ?_) (fun hc => ?_)
    · replace h := h.1 hc
      exact cj_X5_passHour_37 O  h
    · replace h := h.2 hc
      refine kr_aload_n O dX5_passHour_29 rfl 0 rfl ?_
      refine kr_aload_n O dX5_passHour_30 rfl 0 rfl ?_
      obtain ⟨hco, h⟩ := h
      refine kr_caI (rest := [va_rf (some a0)]) O cd_X5_firstOfNext h (Nat.le_of_ble_eq_true rfl) (fun ls _ => kt_ivV (ci := 12) O dX5_passHour_31 cd_X5_firstOfNext in_X5_firstOfNext (Or.inl q2730) q2732 qs67 hco (by decide) hy_X5_firstOfNext) (fun u9 M10 hq => ?_) (fun E q M9 hx => kr_out O hx)
      replace h := hq
      clear hq
      obtain ⟨hco, h⟩ := h
      refine kr_caV (rest := []) O cd_X5_issue h (Nat.le_of_ble_eq_true rfl) (fun ls _ => kt_ivV (ci := 12) O dX5_passHour_34 cd_X5_issue in_X5_issue (Or.inl q2463) q2465 qs38 hco (by decide) hy_X5_issue) (fun M11 hq => ?_) (fun E q M9 hx => kr_out O hx)
      replace h := hq
      clear hq
      exact cj_X5_passHour_37 O  h
  · replace h := h.2 hc
    refine kr_iconst O dX5_passHour_10 (v := (0 : Int32)) (by decide) ?_
    exact kr_iret O dX5_passHour_11 rfl h
def vc_X5_mustIssue_42 (w : kt_W) (gr : kt_g × kt_M) (d : Nat) (P : Option Value → kt_M → Prop) (X : String → Nat → kt_M → Prop)  (a0 : Nat) (s0 : Int32) (M : kt_M) : Prop :=
  ∃ p1, kt_gf M a0 73 = some (va_rf p1) ∧ ∃ b2, p1 = some b2 ∧ ∃ u3, kt_el 0 M b2 (1 : Int32) = some (.int u3) ∧ 
    (((30 : Int32) ≤ u3 → P (some (.int (0 : Int32))) M) ∧
    (¬ (30 : Int32) ≤ u3 → 
      ((s0 = 0 → P (some (.int (0 : Int32))) M) ∧
      (¬ s0 = 0 → (kt_co M a0 = some 12) ∧ 
      kt_Ca w gr d yX5_firstOfNext kc_X5_firstOfNext [va_rf (some a0)] M (kt_pI fun u4 M5 => 
        (((9999 : Int32) < u4 → P (some (.int (0 : Int32))) M5) ∧
        (¬ (9999 : Int32) < u4 → P (some (.int (1 : Int32))) M5))) X))))
theorem cj_X5_mustIssue_42 {w : kt_W} {x : kt_X} {gr : kt_g × kt_M} {d : Nat} {P : Option Value → kt_M → Prop} {X : String → Nat → kt_M → Prop}  {a0 : Nat} {s0 : Int32} {M : kt_M} (O : kt_O w x gr (d + 1) cX5_mustIssue "KeyTurnsModel" 3 ("mustIssue", "()Z") (Option.some Jvm.ClassFile.FieldType.boolean) [])  (h : vc_X5_mustIssue_42 w gr d P X  a0 s0 M) : kt_S w x 3 (kt_E w x P X) M 42 [(0, va_rf (some a0))] [.int s0] := by
  unfold vc_X5_mustIssue_42 at h
  refine kr_istore_n O dX5_mustIssue_42 rfl (Nat.le_of_ble_eq_true rfl) rfl rfl ?_
  refine kr_aload_n O dX5_mustIssue_43 rfl 1 rfl ?_
  obtain ⟨p1, ep1, h⟩ := h
  refine kr_getf O dX5_mustIssue_44 fs_X5_25 ep1 ?_
  refine kr_iconst O dX5_mustIssue_47 (v := (1 : Int32)) (by decide) ?_
  obtain ⟨b2, rfl, h⟩ := h
  obtain ⟨u3, eu3, h⟩ := h
  refine kr_iaload O dX5_mustIssue_48 eu3 ?_
  refine kr_bipush O dX5_mustIssue_49 (v := (30 : Int32)) (by decide) ?_
  refine kr_icmp_ge (tgt := 72) O dX5_mustIssue_51 rfl (fun hc => ?_) (fun hc => ?_)
  · replace h := h.1 hc
    refine kr_iconst O dX5_mustIssue_72 (v := (0 : Int32)) (by decide) ?_
    exact kr_iret O dX5_mustIssue_73 (by decide) h
  · replace h := h.2 hc
    refine kr_iload_n O dX5_mustIssue_54 rfl 0 rfl ?_
    refine kr_if_eq (tgt := 72) O dX5_mustIssue_55 rfl (fun hc => ?_) (fun hc => ?_)
    · replace h := h.1 hc
      refine kr_iconst O dX5_mustIssue_72 (v := (0 : Int32)) (by decide) ?_
      exact kr_iret O dX5_mustIssue_73 (by decide) h
    · replace h := h.2 hc
      refine kr_aload_n O dX5_mustIssue_58 rfl 1 rfl ?_
      obtain ⟨hco, h⟩ := h
      refine kr_caI (rest := []) O cd_X5_firstOfNext h (Nat.le_of_ble_eq_true rfl) (fun ls _ => kt_ivV (ci := 12) O dX5_mustIssue_59 cd_X5_firstOfNext in_X5_firstOfNext (Or.inl q2730) q2732 qs67 hco (by decide) hy_X5_firstOfNext) (fun u4 M5 hq => ?_) (fun E q M9 hx => kr_out O hx)
      replace h := hq
      clear hq
      refine kr_sipush O dX5_mustIssue_62 (v := (9999 : Int32)) (by decide) ?_
      refine kr_icmp_gt (tgt := 72) O dX5_mustIssue_65 rfl (fun hc => ?_) (fun hc => ?_)
      · replace h := h.1 hc
        refine kr_iconst O dX5_mustIssue_72 (v := (0 : Int32)) (by decide) ?_
        exact kr_iret O dX5_mustIssue_73 (by decide) h
      · replace h := h.2 hc
        refine kr_iconst O dX5_mustIssue_68 (v := (1 : Int32)) (by decide) ?_
        refine kr_goto (tgt := 73) O dX5_mustIssue_69 rfl ?_
        exact kr_iret O dX5_mustIssue_73 (by decide) h
def vc_X5_mustIssue (w : kt_W) (gr : kt_g × kt_M) (d : Nat) (P : Option Value → kt_M → Prop) (X : String → Nat → kt_M → Prop) (a0 : Nat) (M : kt_M) : Prop :=
  ∃ p1, kt_gf M a0 73 = some (va_rf p1) ∧ ∃ b2, p1 = some b2 ∧ ∃ u3, kt_el 0 M b2 (1 : Int32) = some (.int u3) ∧ (kt_co M a0 = some 12) ∧ 
  kt_Ca w gr d yX5_ofVersion kc_X5_ofVersion [va_rf (some a0), .int (u3 - (1 : Int32)), .int (0 : Int32)] M (kt_pI fun u4 M5 => ∃ p6, kt_gf M5 a0 73 = some (va_rf p6) ∧ ∃ b7, p6 = some b7 ∧ ∃ u8, kt_el 0 M5 b7 (4 : Int32) = some (.int u8) ∧ ∃ p9, kt_gf M5 a0 73 = some (va_rf p9) ∧ ∃ b10, p9 = some b10 ∧ ∃ u11, kt_el 0 M5 b10 (6 : Int32) = some (.int u11) ∧ (kt_co M5 a0 = some 12) ∧ 
  kt_Ca w gr d yX5_hour kc_X5_hour [va_rf (some a0)] M5 (kt_pI fun u12 M13 => 
    ((u12 < ((u4 + u8) - u11) → vc_X5_mustIssue_42 w gr d P X  a0 (0 : Int32) M13) ∧
    (¬ u12 < ((u4 + u8) - u11) → vc_X5_mustIssue_42 w gr d P X  a0 (1 : Int32) M13))) X) X
theorem ce_X5_mustIssue {w : kt_W} {g : kt_g} {d : Nat} {P : Option Value → kt_M → Prop} {X : String → Nat → kt_M → Prop} {a0 : Nat} {M : kt_M} (h : vc_X5_mustIssue w (g, M) d P X a0 M) : kt_Sp w g (d + 1) yX5_mustIssue kc_X5_mustIssue [va_rf (some a0)] M P X := by
  refine kt_of (L0 := [(0, va_rf (some a0))]) (by decide +kernel) (Nat.le_of_ble_eq_true rfl) rfl fun x O => ?_
  replace O : kt_O w x (g, M) (d + 1) cX5_mustIssue "KeyTurnsModel" 3 ("mustIssue", "()Z") (Option.some Jvm.ClassFile.FieldType.boolean) [] := O
  unfold vc_X5_mustIssue at h
  refine kr_aload_n O dX5_mustIssue_0 rfl 0 rfl ?_
  obtain ⟨p1, ep1, h⟩ := h
  refine kr_getf O dX5_mustIssue_1 fs_X5_25 ep1 ?_
  refine kr_iconst O dX5_mustIssue_4 (v := (1 : Int32)) (by decide) ?_
  obtain ⟨b2, rfl, h⟩ := h
  obtain ⟨u3, eu3, h⟩ := h
  refine kr_iaload O dX5_mustIssue_5 eu3 ?_
  refine kr_iconst O dX5_mustIssue_6 (v := (1 : Int32)) (by decide) ?_
  refine kr_isub O dX5_mustIssue_7 ?_
  refine kr_istore_n O dX5_mustIssue_8 rfl (Nat.le_of_ble_eq_true rfl) rfl rfl ?_
  refine kr_aload_n O dX5_mustIssue_9 rfl 1 rfl ?_
  refine kr_iload_n O dX5_mustIssue_10 rfl 0 rfl ?_
  refine kr_iconst O dX5_mustIssue_11 (v := (0 : Int32)) (by decide) ?_
  obtain ⟨hco, h⟩ := h
  refine kr_caI (rest := []) O cd_X5_ofVersion h (Nat.le_of_ble_eq_true rfl) (fun ls _ => kt_ivV (ci := 12) O dX5_mustIssue_12 cd_X5_ofVersion in_X5_ofVersion (Or.inl q2470) q2472 qs39 hco (by decide) hy_X5_ofVersion) (fun u4 M5 hq => ?_) (fun E q M9 hx => kr_out O hx)
  replace h := hq
  clear hq
  refine kr_aload_n O dX5_mustIssue_15 rfl 1 rfl ?_
  obtain ⟨p6, ep6, h⟩ := h
  refine kr_getf O dX5_mustIssue_16 fs_X5_25 ep6 ?_
  refine kr_iconst O dX5_mustIssue_19 (v := (4 : Int32)) (by decide) ?_
  obtain ⟨b7, rfl, h⟩ := h
  obtain ⟨u8, eu8, h⟩ := h
  refine kr_iaload O dX5_mustIssue_20 eu8 ?_
  refine kr_iadd O dX5_mustIssue_21 ?_
  refine kr_aload_n O dX5_mustIssue_22 rfl 1 rfl ?_
  obtain ⟨p9, ep9, h⟩ := h
  refine kr_getf O dX5_mustIssue_23 fs_X5_25 ep9 ?_
  refine kr_bipush O dX5_mustIssue_26 (v := (6 : Int32)) (by decide) ?_
  obtain ⟨b10, rfl, h⟩ := h
  obtain ⟨u11, eu11, h⟩ := h
  refine kr_iaload O dX5_mustIssue_28 eu11 ?_
  refine kr_isub O dX5_mustIssue_29 ?_
  refine kr_aload_n O dX5_mustIssue_30 rfl 1 rfl ?_
  obtain ⟨hco, h⟩ := h
  refine kr_caI (rest := [.int ((u4 + u8) - u11)]) O cd_X5_hour h (Nat.le_of_ble_eq_true rfl) (fun ls _ => kt_ivV (ci := 12) O dX5_mustIssue_31 cd_X5_hour in_X5_hour (Or.inl q2582) q2584 qs45 hco (by decide) hy_X5_hour) (fun u12 M13 hq => ?_) (fun E q M9 hx => kr_out O hx)
  replace h := hq
  clear hq
  refine kr_icmp_gt (tgt := 41) O dX5_mustIssue_34 rfl (fun hc => ?_) (fun hc => ?_)
  · replace h := h.1 hc
    refine kr_iconst O dX5_mustIssue_41 (v := (0 : Int32)) (by decide) ?_
    refine kr_sub [1] rfl ?_
    exact cj_X5_mustIssue_42 O  h
  · replace h := h.2 hc
    refine kr_iconst O dX5_mustIssue_37 (v := (1 : Int32)) (by decide) ?_
    refine kr_goto (tgt := 42) O dX5_mustIssue_38 rfl ?_
    refine kr_sub [1] rfl ?_
    exact cj_X5_mustIssue_42 O  h
def vc_X5_firstOfNext (w : kt_W) (gr : kt_g × kt_M) (d : Nat) (P : Option Value → kt_M → Prop) (X : String → Nat → kt_M → Prop) (a0 : Nat) (M : kt_M) : Prop :=
  (kt_co M a0 = some 12) ∧ 
  kt_Ca w gr d yX5_hour kc_X5_hour [va_rf (some a0)] M (kt_pI fun u1 M2 => ∃ p3, kt_gf M2 a0 73 = some (va_rf p3) ∧ ∃ b4, p3 = some b4 ∧ ∃ u5, kt_el 0 M2 b4 (1 : Int32) = some (.int u5) ∧ (kt_co M2 a0 = some 12) ∧ 
  kt_Ca w gr d yX5_ofVersion kc_X5_ofVersion [va_rf (some a0), .int (u5 - (1 : Int32)), .int (0 : Int32)] M2 (kt_pI fun u6 M7 => ∃ p8, kt_gf M7 a0 73 = some (va_rf p8) ∧ ∃ b9, p8 = some b9 ∧ ∃ u10, kt_el 0 M7 b9 (4 : Int32) = some (.int u10) ∧ 
  kt_Ca w gr d yJ7_max kc_J7_max [.int u1, .int (u6 + u10)] M7 (kt_pI fun u11 M12 => P (some (.int u11)) M12) X) X) X
theorem ce_X5_firstOfNext {w : kt_W} {g : kt_g} {d : Nat} {P : Option Value → kt_M → Prop} {X : String → Nat → kt_M → Prop} {a0 : Nat} {M : kt_M} (h : vc_X5_firstOfNext w (g, M) d P X a0 M) : kt_Sp w g (d + 1) yX5_firstOfNext kc_X5_firstOfNext [va_rf (some a0)] M P X := by
  refine kt_of (L0 := [(0, va_rf (some a0))]) (by decide +kernel) (Nat.le_of_ble_eq_true rfl) rfl fun x O => ?_
  replace O : kt_O w x (g, M) (d + 1) cX5_firstOfNext "KeyTurnsModel" 1 ("firstOfNext", "()I") (Option.some Jvm.ClassFile.FieldType.int) [] := O
  unfold vc_X5_firstOfNext at h
  refine kr_aload_n O dX5_firstOfNext_0 rfl 0 rfl ?_
  obtain ⟨hco, h⟩ := h
  refine kr_caI (rest := []) O cd_X5_hour h (Nat.le_of_ble_eq_true rfl) (fun ls _ => kt_ivV (ci := 12) O dX5_firstOfNext_1 cd_X5_hour in_X5_hour (Or.inl q2582) q2584 qs45 hco (by decide) hy_X5_hour) (fun u1 M2 hq => ?_) (fun E q M9 hx => kr_out O hx)
  replace h := hq
  clear hq
  refine kr_aload_n O dX5_firstOfNext_4 rfl 0 rfl ?_
  refine kr_aload_n O dX5_firstOfNext_5 rfl 0 rfl ?_
  obtain ⟨p3, ep3, h⟩ := h
  refine kr_getf O dX5_firstOfNext_6 fs_X5_25 ep3 ?_
  refine kr_iconst O dX5_firstOfNext_9 (v := (1 : Int32)) (by decide) ?_
  obtain ⟨b4, rfl, h⟩ := h
  obtain ⟨u5, eu5, h⟩ := h
  refine kr_iaload O dX5_firstOfNext_10 eu5 ?_
  refine kr_iconst O dX5_firstOfNext_11 (v := (1 : Int32)) (by decide) ?_
  refine kr_isub O dX5_firstOfNext_12 ?_
  refine kr_iconst O dX5_firstOfNext_13 (v := (0 : Int32)) (by decide) ?_
  obtain ⟨hco, h⟩ := h
  refine kr_caI (rest := [.int u1]) O cd_X5_ofVersion h (Nat.le_of_ble_eq_true rfl) (fun ls _ => kt_ivV (ci := 12) O dX5_firstOfNext_14 cd_X5_ofVersion in_X5_ofVersion (Or.inl q2470) q2472 qs39 hco (by decide) hy_X5_ofVersion) (fun u6 M7 hq => ?_) (fun E q M9 hx => kr_out O hx)
  replace h := hq
  clear hq
  refine kr_aload_n O dX5_firstOfNext_17 rfl 0 rfl ?_
  obtain ⟨p8, ep8, h⟩ := h
  refine kr_getf O dX5_firstOfNext_18 fs_X5_25 ep8 ?_
  refine kr_iconst O dX5_firstOfNext_21 (v := (4 : Int32)) (by decide) ?_
  obtain ⟨b9, rfl, h⟩ := h
  obtain ⟨u10, eu10, h⟩ := h
  refine kr_iaload O dX5_firstOfNext_22 eu10 ?_
  refine kr_iadd O dX5_firstOfNext_23 ?_
  refine kr_caI (rest := []) O cd_J7_max h (Nat.le_of_ble_eq_true rfl) (fun ls _ => kt_ivS O dX5_firstOfNext_24 cd_J7_max in_J7_max q2637 q367 hy_J7_max) (fun u11 M12 hq => ?_) (fun E q M9 hx => kr_out O hx)
  replace h := hq
  clear hq
  exact kr_iret O dX5_firstOfNext_27 rfl h
def vc_X5_clean_76 (w : kt_W) (gr : kt_g × kt_M) (d : Nat) (P : Option Value → kt_M → Prop) (X : String → Nat → kt_M → Prop) (nx76 : Int32 → Int32 → kt_M → Prop) (a0 : Nat) (v1 : Int32) (v2 : Int32) (v3 : Int32) (v4 : Int32) (M : kt_M) : Prop :=
  ∃ p1, kt_gf M a0 73 = some (va_rf p1) ∧ ∃ b2, p1 = some b2 ∧ ∃ u3, kt_el 0 M b2 (2 : Int32) = some (.int u3) ∧ 
    ((u3 ≤ v4 → ∃ p4, kt_gf M a0 73 = some (va_rf p4) ∧ ∃ b5, p4 = some b5 ∧ ∃ u6, kt_el 0 M b5 (8 : Int32) = some (.int u6) ∧ kt_hii gr 0 M b5 (8 : Int32) ∧ ∀ M7, M7 = kt_si M b5 (8 : Int32) (u6 + v3) → P (some (.int v3)) M7) ∧
    (¬ u3 ≤ v4 → ∃ p8, kt_gf M a0 73 = some (va_rf p8) ∧ 
    kt_Ca w gr d yX5_recordAt kc_X5_recordAt [.int v4, .int (1 : Int32)] M (kt_pI fun u9 M10 => ∃ b11, p8 = some b11 ∧ ∃ u12, kt_el 0 M10 b11 u9 = some (.int u12) ∧ kt_hii gr 0 M10 b11 u9 ∧ ∀ M13, M13 = kt_si M10 b11 u9 (u12 &&& (v1 ^^^ (-1 : Int32))) → (kt_co M13 a0 = some 12) ∧ 
    kt_Ca w gr d yX5_isRecord kc_X5_isRecord [va_rf (some a0), .int v4] M13 (kt_pI fun u14 M15 => 
      ((u14 = 0 → nx76 v3 (v4 + (1 : Int32)) M15) ∧
      (¬ u14 = 0 → 
        ((v2 = 0 → nx76 v3 (v4 + (1 : Int32)) M15) ∧
        (¬ v2 = 0 → (kt_co M15 a0 = some 12) ∧ 
        kt_Ca w gr d yX5_ofRecord kc_X5_ofRecord [va_rf (some a0), .int v4, .int (1 : Int32)] M15 (kt_pI fun u16 M17 => 
          ((¬ (u16 &&& v2) = 0 → nx76 v3 (v4 + (1 : Int32)) M17) ∧
          ((u16 &&& v2) = 0 → (kt_co M17 a0 = some 12) ∧ 
          kt_Ca w gr d yX5_writing kc_X5_writing [va_rf (some a0)] M17 (kt_pI fun u18 M19 => (kt_co M19 a0 = some 12) ∧ 
          kt_Ca w gr d yX5_wrap kc_X5_wrap [va_rf (some a0), .int v4, .int u18] M19 (kt_pV fun M20 => ∃ p21, kt_gf M20 a0 73 = some (va_rf p21) ∧ 
          kt_Ca w gr d yX5_recordAt kc_X5_recordAt [.int v4, .int (2 : Int32)] M20 (kt_pI fun u22 M23 => ∃ b24, p21 = some b24 ∧ ∃ u25, kt_el 0 M23 b24 u22 = some (.int u25) ∧ kt_hii gr 0 M23 b24 u22 ∧ ∀ M26, M26 = kt_si M23 b24 u22 (u25 + (1 : Int32)) → nx76 (v3 + (1 : Int32)) (v4 + (1 : Int32)) M26) X) X) X))) X))))) X) X))
theorem cj_X5_clean_76 {w : kt_W} {x : kt_X} {gr : kt_g × kt_M} {d : Nat} {P : Option Value → kt_M → Prop} {X : String → Nat → kt_M → Prop} {nx76 : Int32 → Int32 → kt_M → Prop} {a0 : Nat} {v1 : Int32} {v2 : Int32} {v3 : Int32} {v4 : Int32} {M : kt_M} (O : kt_O w x gr (d + 1) cX5_clean "KeyTurnsModel" 5 ("clean", "()I") (Option.some Jvm.ClassFile.FieldType.int) []) (hn76 : ∀ v3 v4 M, nx76 v3 v4 M → kt_S w x 5 (kt_E w x P X) M 76 [(0, va_rf (some a0)), (1, .int v1), (2, .int v2), (3, .int v3), (4, .int v4)] []) (h : vc_X5_clean_76 w gr d P X nx76 a0 v1 v2 v3 v4 M) : kt_S w x 5 (kt_E w x P X) M 76 [(0, va_rf (some a0)), (1, .int v1), (2, .int v2), (3, .int v3), (4, .int v4)] [] := by
  unfold vc_X5_clean_76 at h
  refine kr_iload O dX5_clean_76 4 rfl ?_
  refine kr_aload_n O dX5_clean_78 rfl 0 rfl ?_
  obtain ⟨p1, ep1, h⟩ := h
  refine kr_getf O dX5_clean_79 fs_X5_25 ep1 ?_
  refine kr_iconst O dX5_clean_82 (v := (2 : Int32)) (by decide) ?_
  obtain ⟨b2, rfl, h⟩ := h
  obtain ⟨u3, eu3, h⟩ := h
  refine kr_iaload O dX5_clean_83 eu3 ?_
  refine kr_icmp_ge (tgt := 163) O dX5_clean_84 rfl (fun hc => ?_) (fun hc => ?_)
  · replace h := h.1 hc
    refine kr_aload_n O dX5_clean_163 rfl 0 rfl ?_
    obtain ⟨p4, ep4, h⟩ := h
    refine kr_getf O dX5_clean_164 fs_X5_25 ep4 ?_
    refine kr_bipush O dX5_clean_167 (v := (8 : Int32)) (by decide) ?_
    refine kr_dup2 O dX5_clean_169 rfl (kt_nrf _) ?_
    obtain ⟨b5, rfl, h⟩ := h
    obtain ⟨u6, eu6, h⟩ := h
    refine kr_iaload O dX5_clean_170 eu6 ?_
    refine kr_iload_n O dX5_clean_171 rfl 3 rfl ?_
    refine kr_iadd O dX5_clean_172 ?_
    obtain ⟨hw, h⟩ := h
    refine kr_iastore O dX5_clean_173 hw (kr_nmM fun M7 hM7 => ?_)
    replace h := h M7 hM7
    refine kr_iload_n O dX5_clean_174 rfl 3 rfl ?_
    exact kr_iret O dX5_clean_175 rfl h
  · replace h := h.2 hc
    refine kr_aload_n O dX5_clean_87 rfl 0 rfl ?_
    obtain ⟨p8, ep8, h⟩ := h
    refine kr_getf O dX5_clean_88 fs_X5_25 ep8 ?_
    refine kr_iload O dX5_clean_91 4 rfl ?_
    refine kr_iconst O dX5_clean_93 (v := (1 : Int32)) (by decide) ?_
    refine kr_caI (rest := [va_rf p8]) O cd_X5_recordAt h (Nat.le_of_ble_eq_true rfl) (fun ls _ => kt_ivS O dX5_clean_94 cd_X5_recordAt in_X5_recordAt q2567 q2568 hy_X5_recordAt) (fun u9 M10 hq => ?_) (fun E q M9 hx => kr_out O hx)
    replace h := hq
    clear hq
    refine kr_dup2 O dX5_clean_97 rfl (kt_nrf _) ?_
    obtain ⟨b11, rfl, h⟩ := h
    obtain ⟨u12, eu12, h⟩ := h
    refine kr_iaload O dX5_clean_98 eu12 ?_
    refine kr_iload_n O dX5_clean_99 rfl 1 rfl ?_
    refine kr_iconst O dX5_clean_100 (v := (-1 : Int32)) (by decide) ?_
    refine kr_ixor O dX5_clean_101 ?_
    refine kr_iand O dX5_clean_102 ?_
    obtain ⟨hw, h⟩ := h
    refine kr_iastore O dX5_clean_103 hw (kr_nmM fun M13 hM13 => ?_)
    replace h := h M13 hM13
    refine kr_aload_n O dX5_clean_104 rfl 0 rfl ?_
    refine kr_iload O dX5_clean_105 4 rfl ?_
    obtain ⟨hco, h⟩ := h
    refine kr_caI (rest := []) O cd_X5_isRecord h (Nat.le_of_ble_eq_true rfl) (fun ls _ => kt_ivV (ci := 12) O dX5_clean_107 cd_X5_isRecord in_X5_isRecord (Or.inl q2597) q2599 qs48 hco (by decide) hy_X5_isRecord) (fun u14 M15 hq => ?_) (fun E q M9 hx => kr_out O hx)
    replace h := hq
    clear hq
    refine kr_if_eq (tgt := 157) O dX5_clean_110 rfl (fun hc => ?_) (fun hc => ?_)
    · replace h := h.1 hc
      refine kr_iinc O dX5_clean_157 4 rfl (v := v4 + (1 : Int32)) rfl (Nat.le_of_ble_eq_true rfl) rfl rfl ?_
      refine kr_goto (tgt := 76) O dX5_clean_160 rfl ?_
      refine kr_sub [1, 2, 3, 4, 0] rfl ?_
      exact hn76 _ _ _ h
    · replace h := h.2 hc
      refine kr_iload_n O dX5_clean_113 rfl 2 rfl ?_
      refine kr_if_eq (tgt := 157) O dX5_clean_114 rfl (fun hc => ?_) (fun hc => ?_)
      · replace h := h.1 hc
        refine kr_iinc O dX5_clean_157 4 rfl (v := v4 + (1 : Int32)) rfl (Nat.le_of_ble_eq_true rfl) rfl rfl ?_
        refine kr_goto (tgt := 76) O dX5_clean_160 rfl ?_
        refine kr_sub [1, 2, 3, 4, 0] rfl ?_
        exact hn76 _ _ _ h
      · replace h := h.2 hc
        refine kr_aload_n O dX5_clean_117 rfl 0 rfl ?_
        refine kr_iload O dX5_clean_118 4 rfl ?_
        refine kr_iconst O dX5_clean_120 (v := (1 : Int32)) (by decide) ?_
        obtain ⟨hco, h⟩ := h
        refine kr_caI (rest := []) O cd_X5_ofRecord h (Nat.le_of_ble_eq_true rfl) (fun ls _ => kt_ivV (ci := 12) O dX5_clean_121 cd_X5_ofRecord in_X5_ofRecord (Or.inl q2563) q2565 qs41 hco (by decide) hy_X5_ofRecord) (fun u16 M17 hq => ?_) (fun E q M9 hx => kr_out O hx)
        replace h := hq
        clear hq
        refine kr_iload_n O dX5_clean_124 rfl 2 rfl ?_
        refine kr_iand O dX5_clean_125 ?_
        refine kr_if_ne (tgt := 157) O dX5_clean_126 rfl (fun hc => ?_) (fun hc => ?_)
        · replace h := h.1 hc
          refine kr_iinc O dX5_clean_157 4 rfl (v := v4 + (1 : Int32)) rfl (Nat.le_of_ble_eq_true rfl) rfl rfl ?_
          refine kr_goto (tgt := 76) O dX5_clean_160 rfl ?_
          refine kr_sub [1, 2, 3, 4, 0] rfl ?_
          exact hn76 _ _ _ h
        · replace h := h.2 hc
          refine kr_aload_n O dX5_clean_129 rfl 0 rfl ?_
          refine kr_iload O dX5_clean_130 4 rfl ?_
          refine kr_aload_n O dX5_clean_132 rfl 0 rfl ?_
          obtain ⟨hco, h⟩ := h
          refine kr_caI (rest := [.int v4, va_rf (some a0)]) O cd_X5_writing h (Nat.le_of_ble_eq_true rfl) (fun ls _ => kt_ivV (ci := 12) O dX5_clean_133 cd_X5_writing in_X5_writing (Or.inl q2570) q2572 qs42 hco (by decide) hy_X5_writing) (fun u18 M19 hq => ?_) (fun E q M9 hx => kr_out O hx)
          replace h := hq
          clear hq
          obtain ⟨hco, h⟩ := h
          refine kr_caV (rest := []) O cd_X5_wrap h (Nat.le_of_ble_eq_true rfl) (fun ls _ => kt_ivV (ci := 12) O dX5_clean_136 cd_X5_wrap in_X5_wrap (Or.inl q2738) q2740 qs69 hco (by decide) hy_X5_wrap) (fun M20 hq => ?_) (fun E q M9 hx => kr_out O hx)
          replace h := hq
          clear hq
          refine kr_aload_n O dX5_clean_139 rfl 0 rfl ?_
          obtain ⟨p21, ep21, h⟩ := h
          refine kr_getf O dX5_clean_140 fs_X5_25 ep21 ?_
          refine kr_iload O dX5_clean_143 4 rfl ?_
          refine kr_iconst O dX5_clean_145 (v := (2 : Int32)) (by decide) ?_
          refine kr_caI (rest := [va_rf p21]) O cd_X5_recordAt h (Nat.le_of_ble_eq_true rfl) (fun ls _ => kt_ivS O dX5_clean_146 cd_X5_recordAt in_X5_recordAt q2567 q2568 hy_X5_recordAt) (fun u22 M23 hq => ?_) (fun E q M9 hx => kr_out O hx)
          replace h := hq
          clear hq
          refine kr_dup2 O dX5_clean_149 rfl (kt_nrf _) ?_
          obtain ⟨b24, rfl, h⟩ := h
          obtain ⟨u25, eu25, h⟩ := h
          refine kr_iaload O dX5_clean_150 eu25 ?_
          refine kr_iconst O dX5_clean_151 (v := (1 : Int32)) (by decide) ?_
          refine kr_iadd O dX5_clean_152 ?_
          obtain ⟨hw, h⟩ := h
          refine kr_iastore O dX5_clean_153 hw (kr_nmM fun M26 hM26 => ?_)
          replace h := h M26 hM26
          refine kr_iinc O dX5_clean_154 3 rfl (v := v3 + (1 : Int32)) rfl (Nat.le_of_ble_eq_true rfl) rfl rfl ?_
          refine kr_iinc O dX5_clean_157 4 rfl (v := v4 + (1 : Int32)) rfl (Nat.le_of_ble_eq_true rfl) rfl rfl ?_
          refine kr_goto (tgt := 76) O dX5_clean_160 rfl ?_
          refine kr_sub [2, 3, 4, 1, 0] rfl ?_
          exact hn76 _ _ _ h
def vl_X5_clean_76 (w : kt_W) (gr : kt_g × kt_M) (d : Nat) (P : Option Value → kt_M → Prop) (X : String → Nat → kt_M → Prop)  (a0 : Nat) (v1 : Int32) (v2 : Int32) (v3 : Int32) (v4 : Int32) (M : kt_M) : Prop :=
  ∃ Inv : Nat → Int32 → Int32 → kt_M → Prop, (∃ k, Inv k v3 v4 M) ∧ ∀ k v3 v4 M, kt_le gr.1 gr.2 M → Inv k v3 v4 M → vc_X5_clean_76 w gr d P X (fun v3' v4' M' => ∃ k', k' < k ∧ Inv k' v3' v4' M') a0 v1 v2 v3 v4 M
theorem cl_X5_clean_76 {w : kt_W} {x : kt_X} {gr : kt_g × kt_M} {d : Nat} {P : Option Value → kt_M → Prop} {X : String → Nat → kt_M → Prop}  {a0 : Nat} {v1 : Int32} {v2 : Int32} {v3 : Int32} {v4 : Int32} {M : kt_M} (O : kt_O w x gr (d + 1) cX5_clean "KeyTurnsModel" 5 ("clean", "()I") (Option.some Jvm.ClassFile.FieldType.int) [])  (h : vl_X5_clean_76 w gr d P X  a0 v1 v2 v3 v4 M) : kt_S w x 5 (kt_E w x P X) M 76 [(0, va_rf (some a0)), (1, .int v1), (2, .int v2), (3, .int v3), (4, .int v4)] [] := by
  obtain ⟨Inv, ⟨k, hk⟩, hb⟩ := h
  induction k using Nat.strongRecOn generalizing v3 v4 M with
  | ind k ih =>
    exact kr_le O fun hle => cj_X5_clean_76 O (fun v3' v4' M' hi => let ⟨k', h1, h2⟩ := hi; ih k' h1 h2) (hb k _ _ _ hle hk)
def vc_X5_clean_45 (w : kt_W) (gr : kt_g × kt_M) (d : Nat) (P : Option Value → kt_M → Prop) (X : String → Nat → kt_M → Prop) (nx6 : Int32 → Int32 → Int32 → kt_M → Prop) (a0 : Nat) (v2 : Int32) (v3 : Int32) (s0 : Int32) (s1 : Int32) (M : kt_M) : Prop :=
  (kt_co M a0 = some 12) ∧ 
  kt_Ca w gr d yX5_isForced kc_X5_isForced [va_rf (some a0), .int v3] M (kt_pI fun u1 M2 => 
    ((u1 = 0 → nx6 (s1 ||| s0) (v2 ||| (0 : Int32)) (v3 + (1 : Int32)) M2) ∧
    (¬ u1 = 0 → nx6 (s1 ||| s0) (v2 ||| ((1 : Int32) <<< (v3 &&& 31))) (v3 + (1 : Int32)) M2))) X
theorem cj_X5_clean_45 {w : kt_W} {x : kt_X} {gr : kt_g × kt_M} {d : Nat} {P : Option Value → kt_M → Prop} {X : String → Nat → kt_M → Prop} {nx6 : Int32 → Int32 → Int32 → kt_M → Prop} {a0 : Nat} {v2 : Int32} {v3 : Int32} {s0 : Int32} {s1 : Int32} {M : kt_M} (O : kt_O w x gr (d + 1) cX5_clean "KeyTurnsModel" 5 ("clean", "()I") (Option.some Jvm.ClassFile.FieldType.int) []) (hn6 : ∀ v1 v2 v3 M, nx6 v1 v2 v3 M → kt_S w x 5 (kt_E w x P X) M 6 [(0, va_rf (some a0)), (1, .int v1), (2, .int v2), (3, .int v3)] []) (h : vc_X5_clean_45 w gr d P X nx6 a0 v2 v3 s0 s1 M) : kt_S w x 5 (kt_E w x P X) M 45 [(0, va_rf (some a0)), (2, .int v2), (3, .int v3)] [.int s0, .int s1] := by
  unfold vc_X5_clean_45 at h
  refine kr_ior O dX5_clean_45 ?_
  refine kr_istore_n O dX5_clean_46 rfl (Nat.le_of_ble_eq_true rfl) rfl rfl ?_
  refine kr_iload_n O dX5_clean_47 rfl 2 rfl ?_
  refine kr_aload_n O dX5_clean_48 rfl 1 rfl ?_
  refine kr_iload_n O dX5_clean_49 rfl 3 rfl ?_
  obtain ⟨hco, h⟩ := h
  refine kr_caI (rest := [.int v2]) O cd_X5_isForced h (Nat.le_of_ble_eq_true rfl) (fun ls _ => kt_ivV (ci := 12) O dX5_clean_50 cd_X5_isForced in_X5_isForced (Or.inl q2574) q2576 qs43 hco (by decide) hy_X5_isForced) (fun u1 M2 hq => ?_) (fun E q M9 hx => kr_out O hx)
  replace h := hq
  clear hq
  refine kr_if_eq (tgt := 62) O dX5_clean_53 rfl (fun hc => ?_) (fun hc => ?_)
  · replace h := h.1 hc
    refine kr_iconst O dX5_clean_62 (v := (0 : Int32)) (by decide) ?_
    refine kr_ior O dX5_clean_63 ?_
    refine kr_istore_n O dX5_clean_64 rfl (Nat.le_of_ble_eq_true rfl) rfl rfl ?_
    refine kr_iinc O dX5_clean_65 3 rfl (v := v3 + (1 : Int32)) rfl (Nat.le_of_ble_eq_true rfl) rfl rfl ?_
    refine kr_goto (tgt := 6) O dX5_clean_68 rfl ?_
    refine kr_sub [3, 2, 1, 0] rfl ?_
    exact hn6 _ _ _ _ h
  · replace h := h.2 hc
    refine kr_iconst O dX5_clean_56 (v := (1 : Int32)) (by decide) ?_
    refine kr_iload_n O dX5_clean_57 rfl 3 rfl ?_
    refine kr_ishl O dX5_clean_58 ?_
    refine kr_goto (tgt := 63) O dX5_clean_59 rfl ?_
    refine kr_ior O dX5_clean_63 ?_
    refine kr_istore_n O dX5_clean_64 rfl (Nat.le_of_ble_eq_true rfl) rfl rfl ?_
    refine kr_iinc O dX5_clean_65 3 rfl (v := v3 + (1 : Int32)) rfl (Nat.le_of_ble_eq_true rfl) rfl rfl ?_
    refine kr_goto (tgt := 6) O dX5_clean_68 rfl ?_
    refine kr_sub [3, 2, 1, 0] rfl ?_
    exact hn6 _ _ _ _ h
def vc_X5_clean_38 (w : kt_W) (gr : kt_g × kt_M) (d : Nat) (P : Option Value → kt_M → Prop) (X : String → Nat → kt_M → Prop) (nx6 : Int32 → Int32 → Int32 → kt_M → Prop) (a0 : Nat) (v2 : Int32) (v3 : Int32) (s0 : Int32) (M : kt_M) : Prop :=
  vc_X5_clean_45 w gr d P X nx6 a0 v2 v3 ((1 : Int32) <<< (v3 &&& 31)) s0 M
theorem cj_X5_clean_38 {w : kt_W} {x : kt_X} {gr : kt_g × kt_M} {d : Nat} {P : Option Value → kt_M → Prop} {X : String → Nat → kt_M → Prop} {nx6 : Int32 → Int32 → Int32 → kt_M → Prop} {a0 : Nat} {v2 : Int32} {v3 : Int32} {s0 : Int32} {M : kt_M} (O : kt_O w x gr (d + 1) cX5_clean "KeyTurnsModel" 5 ("clean", "()I") (Option.some Jvm.ClassFile.FieldType.int) []) (hn6 : ∀ v1 v2 v3 M, nx6 v1 v2 v3 M → kt_S w x 5 (kt_E w x P X) M 6 [(0, va_rf (some a0)), (1, .int v1), (2, .int v2), (3, .int v3)] []) (h : vc_X5_clean_38 w gr d P X nx6 a0 v2 v3 s0 M) : kt_S w x 5 (kt_E w x P X) M 38 [(0, va_rf (some a0)), (2, .int v2), (3, .int v3)] [.int s0] := by
  unfold vc_X5_clean_38 at h
  refine kr_iconst O dX5_clean_38 (v := (1 : Int32)) (by decide) ?_
  refine kr_iload_n O dX5_clean_39 rfl 2 rfl ?_
  refine kr_ishl O dX5_clean_40 ?_
  refine kr_goto (tgt := 45) O dX5_clean_41 rfl ?_
  exact cj_X5_clean_45 O hn6 h
def vc_X5_clean_6 (w : kt_W) (gr : kt_g × kt_M) (d : Nat) (P : Option Value → kt_M → Prop) (X : String → Nat → kt_M → Prop) (nx6 : Int32 → Int32 → Int32 → kt_M → Prop) (a0 : Nat) (v1 : Int32) (v2 : Int32) (v3 : Int32) (M : kt_M) : Prop :=
  ∃ p1, kt_gf M a0 73 = some (va_rf p1) ∧ ∃ b2, p1 = some b2 ∧ ∃ u3, kt_el 0 M b2 (1 : Int32) = some (.int u3) ∧ 
    ((u3 ≤ v3 → vl_X5_clean_76 w gr d P X  a0 v1 v2 (0 : Int32) (0 : Int32) M) ∧
    (¬ u3 ≤ v3 → (kt_co M a0 = some 12) ∧ 
    kt_Ca w gr d yX5_isGone kc_X5_isGone [va_rf (some a0), .int v3] M (kt_pI fun u4 M5 => 
      ((¬ u4 = 0 → vc_X5_clean_38 w gr d P X nx6 a0 v2 v3 v1 M5) ∧
      (u4 = 0 → (kt_co M5 a0 = some 12) ∧ 
      kt_Ca w gr d yX5_ofVersion kc_X5_ofVersion [va_rf (some a0), .int v3, .int (1 : Int32)] M5 (kt_pI fun u6 M7 => (kt_co M7 a0 = some 12) ∧ 
      kt_Ca w gr d yX5_hour kc_X5_hour [va_rf (some a0)] M7 (kt_pI fun u8 M9 => 
        ((u8 ≤ u6 → vc_X5_clean_45 w gr d P X nx6 a0 v2 v3 (0 : Int32) v1 M9) ∧
        (¬ u8 ≤ u6 → vc_X5_clean_38 w gr d P X nx6 a0 v2 v3 v1 M9))) X) X))) X))
theorem cj_X5_clean_6 {w : kt_W} {x : kt_X} {gr : kt_g × kt_M} {d : Nat} {P : Option Value → kt_M → Prop} {X : String → Nat → kt_M → Prop} {nx6 : Int32 → Int32 → Int32 → kt_M → Prop} {a0 : Nat} {v1 : Int32} {v2 : Int32} {v3 : Int32} {M : kt_M} (O : kt_O w x gr (d + 1) cX5_clean "KeyTurnsModel" 5 ("clean", "()I") (Option.some Jvm.ClassFile.FieldType.int) []) (hn6 : ∀ v1 v2 v3 M, nx6 v1 v2 v3 M → kt_S w x 5 (kt_E w x P X) M 6 [(0, va_rf (some a0)), (1, .int v1), (2, .int v2), (3, .int v3)] []) (h : vc_X5_clean_6 w gr d P X nx6 a0 v1 v2 v3 M) : kt_S w x 5 (kt_E w x P X) M 6 [(0, va_rf (some a0)), (1, .int v1), (2, .int v2), (3, .int v3)] [] := by
  unfold vc_X5_clean_6 at h
  refine kr_iload_n O dX5_clean_6 rfl 3 rfl ?_
  refine kr_aload_n O dX5_clean_7 rfl 0 rfl ?_
  obtain ⟨p1, ep1, h⟩ := h
  refine kr_getf O dX5_clean_8 fs_X5_25 ep1 ?_
  refine kr_iconst O dX5_clean_11 (v := (1 : Int32)) (by decide) ?_
  obtain ⟨b2, rfl, h⟩ := h
  obtain ⟨u3, eu3, h⟩ := h
  refine kr_iaload O dX5_clean_12 eu3 ?_
  refine kr_icmp_ge (tgt := 71) O dX5_clean_13 rfl (fun hc => ?_) (fun hc => ?_)
  · replace h := h.1 hc
    refine kr_iconst O dX5_clean_71 (v := (0 : Int32)) (by decide) ?_
    refine kr_istore_n O dX5_clean_72 rfl (Nat.le_of_ble_eq_true rfl) rfl rfl ?_
    refine kr_iconst O dX5_clean_73 (v := (0 : Int32)) (by decide) ?_
    refine kr_istore O dX5_clean_74 (Nat.le_of_ble_eq_true rfl) rfl rfl ?_
    refine kr_sub [2, 3, 4, 1, 0] rfl ?_
    exact cl_X5_clean_76 O  h
  · replace h := h.2 hc
    refine kr_iload_n O dX5_clean_16 rfl 1 rfl ?_
    refine kr_aload_n O dX5_clean_17 rfl 0 rfl ?_
    refine kr_iload_n O dX5_clean_18 rfl 3 rfl ?_
    obtain ⟨hco, h⟩ := h
    refine kr_caI (rest := [.int v1]) O cd_X5_isGone h (Nat.le_of_ble_eq_true rfl) (fun ls _ => kt_ivV (ci := 12) O dX5_clean_19 cd_X5_isGone in_X5_isGone (Or.inl q2578) q2580 qs44 hco (by decide) hy_X5_isGone) (fun u4 M5 hq => ?_) (fun E q M9 hx => kr_out O hx)
    replace h := hq
    clear hq
    refine kr_if_ne (tgt := 38) O dX5_clean_22 rfl (fun hc => ?_) (fun hc => ?_)
    · replace h := h.1 hc
      refine kr_sub [0, 2, 3] rfl ?_
      exact cj_X5_clean_38 O hn6 h
    · replace h := h.2 hc
      refine kr_aload_n O dX5_clean_25 rfl 0 rfl ?_
      refine kr_iload_n O dX5_clean_26 rfl 3 rfl ?_
      refine kr_iconst O dX5_clean_27 (v := (1 : Int32)) (by decide) ?_
      obtain ⟨hco, h⟩ := h
      refine kr_caI (rest := [.int v1]) O cd_X5_ofVersion h (Nat.le_of_ble_eq_true rfl) (fun ls _ => kt_ivV (ci := 12) O dX5_clean_28 cd_X5_ofVersion in_X5_ofVersion (Or.inl q2470) q2472 qs39 hco (by decide) hy_X5_ofVersion) (fun u6 M7 hq => ?_) (fun E q M9 hx => kr_out O hx)
      replace h := hq
      clear hq
      refine kr_aload_n O dX5_clean_31 rfl 0 rfl ?_
      obtain ⟨hco, h⟩ := h
      refine kr_caI (rest := [.int u6, .int v1]) O cd_X5_hour h (Nat.le_of_ble_eq_true rfl) (fun ls _ => kt_ivV (ci := 12) O dX5_clean_32 cd_X5_hour in_X5_hour (Or.inl q2582) q2584 qs45 hco (by decide) hy_X5_hour) (fun u8 M9 hq => ?_) (fun E q M9 hx => kr_out O hx)
      replace h := hq
      clear hq
      refine kr_icmp_ge (tgt := 44) O dX5_clean_35 rfl (fun hc => ?_) (fun hc => ?_)
      · replace h := h.1 hc
        refine kr_iconst O dX5_clean_44 (v := (0 : Int32)) (by decide) ?_
        refine kr_sub [0, 2, 3] rfl ?_
        exact cj_X5_clean_45 O hn6 h
      · replace h := h.2 hc
        refine kr_sub [0, 2, 3] rfl ?_
        exact cj_X5_clean_38 O hn6 h
def vl_X5_clean_6 (w : kt_W) (gr : kt_g × kt_M) (d : Nat) (P : Option Value → kt_M → Prop) (X : String → Nat → kt_M → Prop)  (a0 : Nat) (v1 : Int32) (v2 : Int32) (v3 : Int32) (M : kt_M) : Prop :=
  ∃ Inv : Nat → Int32 → Int32 → Int32 → kt_M → Prop, (∃ k, Inv k v1 v2 v3 M) ∧ ∀ k v1 v2 v3 M, kt_le gr.1 gr.2 M → Inv k v1 v2 v3 M → vc_X5_clean_6 w gr d P X (fun v1' v2' v3' M' => ∃ k', k' < k ∧ Inv k' v1' v2' v3' M') a0 v1 v2 v3 M
theorem cl_X5_clean_6 {w : kt_W} {x : kt_X} {gr : kt_g × kt_M} {d : Nat} {P : Option Value → kt_M → Prop} {X : String → Nat → kt_M → Prop}  {a0 : Nat} {v1 : Int32} {v2 : Int32} {v3 : Int32} {M : kt_M} (O : kt_O w x gr (d + 1) cX5_clean "KeyTurnsModel" 5 ("clean", "()I") (Option.some Jvm.ClassFile.FieldType.int) [])  (h : vl_X5_clean_6 w gr d P X  a0 v1 v2 v3 M) : kt_S w x 5 (kt_E w x P X) M 6 [(0, va_rf (some a0)), (1, .int v1), (2, .int v2), (3, .int v3)] [] := by
  obtain ⟨Inv, ⟨k, hk⟩, hb⟩ := h
  induction k using Nat.strongRecOn generalizing v1 v2 v3 M with
  | ind k ih =>
    exact kr_le O fun hle => cj_X5_clean_6 O (fun v1' v2' v3' M' hi => let ⟨k', h1, h2⟩ := hi; ih k' h1 h2) (hb k _ _ _ _ hle hk)
def vc_X5_clean (w : kt_W) (gr : kt_g × kt_M) (d : Nat) (P : Option Value → kt_M → Prop) (X : String → Nat → kt_M → Prop) (a0 : Nat) (M : kt_M) : Prop :=
  vl_X5_clean_6 w gr d P X  a0 (0 : Int32) (0 : Int32) (0 : Int32) M
theorem ce_X5_clean {w : kt_W} {g : kt_g} {d : Nat} {P : Option Value → kt_M → Prop} {X : String → Nat → kt_M → Prop} {a0 : Nat} {M : kt_M} (h : vc_X5_clean w (g, M) d P X a0 M) : kt_Sp w g (d + 1) yX5_clean kc_X5_clean [va_rf (some a0)] M P X := by
  refine kt_of (L0 := [(0, va_rf (some a0))]) (by decide +kernel) (Nat.le_of_ble_eq_true rfl) rfl fun x O => ?_
  replace O : kt_O w x (g, M) (d + 1) cX5_clean "KeyTurnsModel" 5 ("clean", "()I") (Option.some Jvm.ClassFile.FieldType.int) [] := O
  unfold vc_X5_clean at h
  refine kr_iconst O dX5_clean_0 (v := (0 : Int32)) (by decide) ?_
  refine kr_istore_n O dX5_clean_1 rfl (Nat.le_of_ble_eq_true rfl) rfl rfl ?_
  refine kr_iconst O dX5_clean_2 (v := (0 : Int32)) (by decide) ?_
  refine kr_istore_n O dX5_clean_3 rfl (Nat.le_of_ble_eq_true rfl) rfl rfl ?_
  refine kr_iconst O dX5_clean_4 (v := (0 : Int32)) (by decide) ?_
  refine kr_istore_n O dX5_clean_5 rfl (Nat.le_of_ble_eq_true rfl) rfl rfl ?_
  refine kr_sub [3, 2, 1, 0] rfl ?_
  exact cl_X5_clean_6 O  h
def vc_X5_wrap (w : kt_W) (gr : kt_g × kt_M) (d : Nat) (P : Option Value → kt_M → Prop) (X : String → Nat → kt_M → Prop) (a0 : Nat) (v1 : Int32) (v2 : Int32) (M : kt_M) : Prop :=
  ∃ p1, kt_gf M a0 73 = some (va_rf p1) ∧ 
  kt_Ca w gr d yX5_recordAt kc_X5_recordAt [.int v1, .int (1 : Int32)] M (kt_pI fun u2 M3 => ∃ b4, p1 = some b4 ∧ ∃ u5, kt_el 0 M3 b4 u2 = some (.int u5) ∧ kt_hii gr 0 M3 b4 u2 ∧ ∀ M6, M6 = kt_si M3 b4 u2 (u5 ||| ((1 : Int32) <<< (v2 &&& 31))) → P none M6) X
theorem ce_X5_wrap {w : kt_W} {g : kt_g} {d : Nat} {P : Option Value → kt_M → Prop} {X : String → Nat → kt_M → Prop} {a0 : Nat} {v1 : Int32} {v2 : Int32} {M : kt_M} (h : vc_X5_wrap w (g, M) d P X a0 v1 v2 M) : kt_Sp w g (d + 1) yX5_wrap kc_X5_wrap [va_rf (some a0), .int v1, .int v2] M P X := by
  refine kt_of (L0 := [(0, va_rf (some a0)), (1, .int v1), (2, .int v2)]) (by decide +kernel) (Nat.le_of_ble_eq_true rfl) rfl fun x O => ?_
  replace O : kt_O w x (g, M) (d + 1) cX5_wrap "KeyTurnsModel" 3 ("wrap", "(II)V") (Option.none : Option Jvm.ClassFile.FieldType) [] := O
  unfold vc_X5_wrap at h
  refine kr_aload_n O dX5_wrap_0 rfl 0 rfl ?_
  obtain ⟨p1, ep1, h⟩ := h
  refine kr_getf O dX5_wrap_1 fs_X5_25 ep1 ?_
  refine kr_iload_n O dX5_wrap_4 rfl 1 rfl ?_
  refine kr_iconst O dX5_wrap_5 (v := (1 : Int32)) (by decide) ?_
  refine kr_caI (rest := [va_rf p1]) O cd_X5_recordAt h (Nat.le_of_ble_eq_true rfl) (fun ls _ => kt_ivS O dX5_wrap_6 cd_X5_recordAt in_X5_recordAt q2567 q2568 hy_X5_recordAt) (fun u2 M3 hq => ?_) (fun E q M9 hx => kr_out O hx)
  replace h := hq
  clear hq
  refine kr_dup2 O dX5_wrap_9 rfl (kt_nrf _) ?_
  obtain ⟨b4, rfl, h⟩ := h
  obtain ⟨u5, eu5, h⟩ := h
  refine kr_iaload O dX5_wrap_10 eu5 ?_
  refine kr_iconst O dX5_wrap_11 (v := (1 : Int32)) (by decide) ?_
  refine kr_iload_n O dX5_wrap_12 rfl 2 rfl ?_
  refine kr_ishl O dX5_wrap_13 ?_
  refine kr_ior O dX5_wrap_14 ?_
  obtain ⟨hw, h⟩ := h
  refine kr_iastore O dX5_wrap_15 hw (kr_nmM fun M6 hM6 => ?_)
  replace h := h M6 hM6
  exact kr_vret O dX5_wrap_16 h
def vc_X5_sweep_47 (w : kt_W) (gr : kt_g × kt_M) (d : Nat) (P : Option Value → kt_M → Prop) (X : String → Nat → kt_M → Prop)  (a0 : Nat) (v1 : Int32) (M : kt_M) : Prop :=
  ∃ p1, kt_gf M a0 73 = some (va_rf p1) ∧ ∃ b2, p1 = some b2 ∧ ∃ u3, kt_el 0 M b2 (9 : Int32) = some (.int u3) ∧ kt_hii gr 0 M b2 (9 : Int32) ∧ ∀ M4, M4 = kt_si M b2 (9 : Int32) (u3 + v1) → P none M4
theorem cj_X5_sweep_47 {w : kt_W} {x : kt_X} {gr : kt_g × kt_M} {d : Nat} {P : Option Value → kt_M → Prop} {X : String → Nat → kt_M → Prop}  {a0 : Nat} {v1 : Int32} {M : kt_M} (O : kt_O w x gr (d + 1) cX5_sweep "KeyTurnsModel" 4 ("sweep", "()V") (Option.none : Option Jvm.ClassFile.FieldType) [])  (h : vc_X5_sweep_47 w gr d P X  a0 v1 M) : kt_S w x 4 (kt_E w x P X) M 47 [(0, va_rf (some a0)), (1, .int v1)] [] := by
  unfold vc_X5_sweep_47 at h
  refine kr_aload_n O dX5_sweep_47 rfl 0 rfl ?_
  obtain ⟨p1, ep1, h⟩ := h
  refine kr_getf O dX5_sweep_48 fs_X5_25 ep1 ?_
  refine kr_bipush O dX5_sweep_51 (v := (9 : Int32)) (by decide) ?_
  refine kr_dup2 O dX5_sweep_53 rfl (kt_nrf _) ?_
  obtain ⟨b2, rfl, h⟩ := h
  obtain ⟨u3, eu3, h⟩ := h
  refine kr_iaload O dX5_sweep_54 eu3 ?_
  refine kr_iload_n O dX5_sweep_55 rfl 1 rfl ?_
  refine kr_iadd O dX5_sweep_56 ?_
  obtain ⟨hw, h⟩ := h
  refine kr_iastore O dX5_sweep_57 hw (kr_nmM fun M4 hM4 => ?_)
  replace h := h M4 hM4
  exact kr_vret O dX5_sweep_58 h
def vc_X5_sweep_13 (w : kt_W) (gr : kt_g × kt_M) (d : Nat) (P : Option Value → kt_M → Prop) (X : String → Nat → kt_M → Prop) (nx13 : Int32 → Int32 → kt_M → Prop) (a0 : Nat) (v1 : Int32) (v2 : Int32) (v3 : Int32) (M : kt_M) : Prop :=
  
    ((v3 = (-1 : Int32) → vc_X5_sweep_47 w gr d P X  a0 v1 M) ∧
    (¬ v3 = (-1 : Int32) → ∃ p1, kt_gf M a0 73 = some (va_rf p1) ∧ ∃ b2, p1 = some b2 ∧ ∃ u3, kt_el 0 M b2 (7 : Int32) = some (.int u3) ∧ 
      ((u3 ≤ v1 → vc_X5_sweep_47 w gr d P X  a0 v1 M) ∧
      (¬ u3 ≤ v1 → (kt_co M a0 = some 12) ∧ 
      kt_Ca w gr d yX5_wrap kc_X5_wrap [va_rf (some a0), .int v3, .int v2] M (kt_pV fun M4 => (kt_co M4 a0 = some 12) ∧ 
      kt_Ca w gr d yX5_nextSwept kc_X5_nextSwept [va_rf (some a0), .int (0 : Int32)] M4 (kt_pI fun u5 M6 => nx13 (v1 + (1 : Int32)) u5 M6) X) X))))
theorem cj_X5_sweep_13 {w : kt_W} {x : kt_X} {gr : kt_g × kt_M} {d : Nat} {P : Option Value → kt_M → Prop} {X : String → Nat → kt_M → Prop} {nx13 : Int32 → Int32 → kt_M → Prop} {a0 : Nat} {v1 : Int32} {v2 : Int32} {v3 : Int32} {M : kt_M} (O : kt_O w x gr (d + 1) cX5_sweep "KeyTurnsModel" 4 ("sweep", "()V") (Option.none : Option Jvm.ClassFile.FieldType) []) (hn13 : ∀ v1 v3 M, nx13 v1 v3 M → kt_S w x 4 (kt_E w x P X) M 13 [(0, va_rf (some a0)), (1, .int v1), (2, .int v2), (3, .int v3)] []) (h : vc_X5_sweep_13 w gr d P X nx13 a0 v1 v2 v3 M) : kt_S w x 4 (kt_E w x P X) M 13 [(0, va_rf (some a0)), (1, .int v1), (2, .int v2), (3, .int v3)] [] := by
  unfold vc_X5_sweep_13 at h
  refine kr_iload_n O dX5_sweep_13 rfl 3 rfl ?_
  refine kr_iconst O dX5_sweep_14 (v := (-1 : Int32)) (by decide) ?_
  refine kr_icmp_eq (tgt := 47) O dX5_sweep_15 rfl (fun hc => ?_) (fun hc => ?_)
  · replace h := h.1 hc
    refine kr_sub [0, 1] rfl ?_
    exact cj_X5_sweep_47 O  h
  · replace h := h.2 hc
    refine kr_iload_n O dX5_sweep_18 rfl 1 rfl ?_
    refine kr_aload_n O dX5_sweep_19 rfl 0 rfl ?_
    obtain ⟨p1, ep1, h⟩ := h
    refine kr_getf O dX5_sweep_20 fs_X5_25 ep1 ?_
    refine kr_bipush O dX5_sweep_23 (v := (7 : Int32)) (by decide) ?_
    obtain ⟨b2, rfl, h⟩ := h
    obtain ⟨u3, eu3, h⟩ := h
    refine kr_iaload O dX5_sweep_25 eu3 ?_
    refine kr_icmp_ge (tgt := 47) O dX5_sweep_26 rfl (fun hc => ?_) (fun hc => ?_)
    · replace h := h.1 hc
      refine kr_sub [0, 1] rfl ?_
      exact cj_X5_sweep_47 O  h
    · replace h := h.2 hc
      refine kr_aload_n O dX5_sweep_29 rfl 0 rfl ?_
      refine kr_iload_n O dX5_sweep_30 rfl 3 rfl ?_
      refine kr_iload_n O dX5_sweep_31 rfl 2 rfl ?_
      obtain ⟨hco, h⟩ := h
      refine kr_caV (rest := []) O cd_X5_wrap h (Nat.le_of_ble_eq_true rfl) (fun ls _ => kt_ivV (ci := 12) O dX5_sweep_32 cd_X5_wrap in_X5_wrap (Or.inl q2738) q2740 qs69 hco (by decide) hy_X5_wrap) (fun M4 hq => ?_) (fun E q M9 hx => kr_out O hx)
      replace h := hq
      clear hq
      refine kr_iinc O dX5_sweep_35 1 rfl (v := v1 + (1 : Int32)) rfl (Nat.le_of_ble_eq_true rfl) rfl rfl ?_
      refine kr_aload_n O dX5_sweep_38 rfl 1 rfl ?_
      refine kr_iconst O dX5_sweep_39 (v := (0 : Int32)) (by decide) ?_
      obtain ⟨hco, h⟩ := h
      refine kr_caI (rest := []) O cd_X5_nextSwept h (Nat.le_of_ble_eq_true rfl) (fun ls _ => kt_ivV (ci := 12) O dX5_sweep_40 cd_X5_nextSwept in_X5_nextSwept (Or.inl q2699) q2701 qs63 hco (by decide) hy_X5_nextSwept) (fun u5 M6 hq => ?_) (fun E q M9 hx => kr_out O hx)
      replace h := hq
      clear hq
      refine kr_istore_n O dX5_sweep_43 rfl (Nat.le_of_ble_eq_true rfl) rfl rfl ?_
      refine kr_goto (tgt := 13) O dX5_sweep_44 rfl ?_
      refine kr_sub [2, 1, 3, 0] rfl ?_
      exact hn13 _ _ _ h
def vl_X5_sweep_13 (w : kt_W) (gr : kt_g × kt_M) (d : Nat) (P : Option Value → kt_M → Prop) (X : String → Nat → kt_M → Prop)  (a0 : Nat) (v1 : Int32) (v2 : Int32) (v3 : Int32) (M : kt_M) : Prop :=
  ∃ Inv : Nat → Int32 → Int32 → kt_M → Prop, (∃ k, Inv k v1 v3 M) ∧ ∀ k v1 v3 M, kt_le gr.1 gr.2 M → Inv k v1 v3 M → vc_X5_sweep_13 w gr d P X (fun v1' v3' M' => ∃ k', k' < k ∧ Inv k' v1' v3' M') a0 v1 v2 v3 M
theorem cl_X5_sweep_13 {w : kt_W} {x : kt_X} {gr : kt_g × kt_M} {d : Nat} {P : Option Value → kt_M → Prop} {X : String → Nat → kt_M → Prop}  {a0 : Nat} {v1 : Int32} {v2 : Int32} {v3 : Int32} {M : kt_M} (O : kt_O w x gr (d + 1) cX5_sweep "KeyTurnsModel" 4 ("sweep", "()V") (Option.none : Option Jvm.ClassFile.FieldType) [])  (h : vl_X5_sweep_13 w gr d P X  a0 v1 v2 v3 M) : kt_S w x 4 (kt_E w x P X) M 13 [(0, va_rf (some a0)), (1, .int v1), (2, .int v2), (3, .int v3)] [] := by
  obtain ⟨Inv, ⟨k, hk⟩, hb⟩ := h
  induction k using Nat.strongRecOn generalizing v1 v3 M with
  | ind k ih =>
    exact kr_le O fun hle => cj_X5_sweep_13 O (fun v1' v3' M' hi => let ⟨k', h1, h2⟩ := hi; ih k' h1 h2) (hb k _ _ _ hle hk)
def vc_X5_sweep (w : kt_W) (gr : kt_g × kt_M) (d : Nat) (P : Option Value → kt_M → Prop) (X : String → Nat → kt_M → Prop) (a0 : Nat) (M : kt_M) : Prop :=
  (kt_co M a0 = some 12) ∧ 
  kt_Ca w gr d yX5_writing kc_X5_writing [va_rf (some a0)] M (kt_pI fun u1 M2 => (kt_co M2 a0 = some 12) ∧ 
  kt_Ca w gr d yX5_nextSwept kc_X5_nextSwept [va_rf (some a0), .int (0 : Int32)] M2 (kt_pI fun u3 M4 => vl_X5_sweep_13 w gr d P X  a0 (0 : Int32) u1 u3 M4) X) X
theorem ce_X5_sweep {w : kt_W} {g : kt_g} {d : Nat} {P : Option Value → kt_M → Prop} {X : String → Nat → kt_M → Prop} {a0 : Nat} {M : kt_M} (h : vc_X5_sweep w (g, M) d P X a0 M) : kt_Sp w g (d + 1) yX5_sweep kc_X5_sweep [va_rf (some a0)] M P X := by
  refine kt_of (L0 := [(0, va_rf (some a0))]) (by decide +kernel) (Nat.le_of_ble_eq_true rfl) rfl fun x O => ?_
  replace O : kt_O w x (g, M) (d + 1) cX5_sweep "KeyTurnsModel" 4 ("sweep", "()V") (Option.none : Option Jvm.ClassFile.FieldType) [] := O
  unfold vc_X5_sweep at h
  refine kr_iconst O dX5_sweep_0 (v := (0 : Int32)) (by decide) ?_
  refine kr_istore_n O dX5_sweep_1 rfl (Nat.le_of_ble_eq_true rfl) rfl rfl ?_
  refine kr_aload_n O dX5_sweep_2 rfl 1 rfl ?_
  obtain ⟨hco, h⟩ := h
  refine kr_caI (rest := []) O cd_X5_writing h (Nat.le_of_ble_eq_true rfl) (fun ls _ => kt_ivV (ci := 12) O dX5_sweep_3 cd_X5_writing in_X5_writing (Or.inl q2570) q2572 qs42 hco (by decide) hy_X5_writing) (fun u1 M2 hq => ?_) (fun E q M9 hx => kr_out O hx)
  replace h := hq
  clear hq
  refine kr_istore_n O dX5_sweep_6 rfl (Nat.le_of_ble_eq_true rfl) rfl rfl ?_
  refine kr_aload_n O dX5_sweep_7 rfl 2 rfl ?_
  refine kr_iconst O dX5_sweep_8 (v := (0 : Int32)) (by decide) ?_
  obtain ⟨hco, h⟩ := h
  refine kr_caI (rest := []) O cd_X5_nextSwept h (Nat.le_of_ble_eq_true rfl) (fun ls _ => kt_ivV (ci := 12) O dX5_sweep_9 cd_X5_nextSwept in_X5_nextSwept (Or.inl q2699) q2701 qs63 hco (by decide) hy_X5_nextSwept) (fun u3 M4 hq => ?_) (fun E q M9 hx => kr_out O hx)
  replace h := hq
  clear hq
  refine kr_istore_n O dX5_sweep_12 rfl (Nat.le_of_ble_eq_true rfl) rfl rfl ?_
  refine kr_sub [3, 2, 1, 0] rfl ?_
  exact cl_X5_sweep_13 O  h
def vc_X5_learn_41 (w : kt_W) (gr : kt_g × kt_M) (d : Nat) (P : Option Value → kt_M → Prop) (X : String → Nat → kt_M → Prop) (nx12 : Int32 → Int32 → kt_M → Prop) (a0 : Nat) (v1 : Int32) (v2 : Int32) (v4 : Int32) (s0 : Int32) (s1 : Int32) (M : kt_M) : Prop :=
  ∃ p1, kt_gf M a0 73 = some (va_rf p1) ∧ (kt_co M a0 = some 12) ∧ 
  kt_Ca w gr d yX5_knownAt kc_X5_knownAt [va_rf (some a0), .int v1, .int v4] M (kt_pI fun u2 M3 => (kt_co M3 a0 = some 12) ∧ 
  kt_Ca w gr d yX5_ofVersion kc_X5_ofVersion [va_rf (some a0), .int v4, .int (0 : Int32)] M3 (kt_pI fun u4 M5 => ∃ b6, p1 = some b6 ∧ kt_hii gr 0 M5 b6 u2 ∧ ∀ M7, M7 = kt_si M5 b6 u2 u4 → ∃ p8, kt_gf M7 a0 73 = some (va_rf p8) ∧ (kt_co M7 a0 = some 12) ∧ 
  kt_Ca w gr d yX5_knownAt kc_X5_knownAt [va_rf (some a0), .int v1, .int v4] M7 (kt_pI fun u9 M10 => (kt_co M10 a0 = some 12) ∧ 
  kt_Ca w gr d yX5_ofVersion kc_X5_ofVersion [va_rf (some a0), .int v4, .int (1 : Int32)] M10 (kt_pI fun u11 M12 => ∃ b13, p8 = some b13 ∧ kt_hii gr 0 M12 b13 (u9 + (1 : Int32)) ∧ ∀ M14, M14 = kt_si M12 b13 (u9 + (1 : Int32)) u11 → nx12 (s1 ||| s0) (v4 + (1 : Int32)) M14) X) X) X) X
theorem cj_X5_learn_41 {w : kt_W} {x : kt_X} {gr : kt_g × kt_M} {d : Nat} {P : Option Value → kt_M → Prop} {X : String → Nat → kt_M → Prop} {nx12 : Int32 → Int32 → kt_M → Prop} {a0 : Nat} {v1 : Int32} {v2 : Int32} {v4 : Int32} {s0 : Int32} {s1 : Int32} {M : kt_M} (O : kt_O w x gr (d + 1) cX5_learn "KeyTurnsModel" 5 ("learn", "(I)I") (Option.some Jvm.ClassFile.FieldType.int) []) (hn12 : ∀ v3 v4 M, nx12 v3 v4 M → kt_S w x 5 (kt_E w x P X) M 12 [(0, va_rf (some a0)), (1, .int v1), (2, .int v2), (3, .int v3), (4, .int v4)] []) (h : vc_X5_learn_41 w gr d P X nx12 a0 v1 v2 v4 s0 s1 M) : kt_S w x 5 (kt_E w x P X) M 41 [(0, va_rf (some a0)), (1, .int v1), (2, .int v2), (4, .int v4)] [.int s0, .int s1] := by
  unfold vc_X5_learn_41 at h
  refine kr_ior O dX5_learn_41 ?_
  refine kr_istore_n O dX5_learn_42 rfl (Nat.le_of_ble_eq_true rfl) rfl rfl ?_
  refine kr_aload_n O dX5_learn_43 rfl 1 rfl ?_
  obtain ⟨p1, ep1, h⟩ := h
  refine kr_getf O dX5_learn_44 fs_X5_25 ep1 ?_
  refine kr_aload_n O dX5_learn_47 rfl 1 rfl ?_
  refine kr_iload_n O dX5_learn_48 rfl 2 rfl ?_
  refine kr_iload O dX5_learn_49 4 rfl ?_
  obtain ⟨hco, h⟩ := h
  refine kr_caI (rest := [va_rf p1]) O cd_X5_knownAt h (Nat.le_of_ble_eq_true rfl) (fun ls _ => kt_ivV (ci := 12) O dX5_learn_51 cd_X5_knownAt in_X5_knownAt (Or.inl q2657) q2659 qs59 hco (by decide) hy_X5_knownAt) (fun u2 M3 hq => ?_) (fun E q M9 hx => kr_out O hx)
  replace h := hq
  clear hq
  refine kr_aload_n O dX5_learn_54 rfl 1 rfl ?_
  refine kr_iload O dX5_learn_55 4 rfl ?_
  refine kr_iconst O dX5_learn_57 (v := (0 : Int32)) (by decide) ?_
  obtain ⟨hco, h⟩ := h
  refine kr_caI (rest := [.int u2, va_rf p1]) O cd_X5_ofVersion h (Nat.le_of_ble_eq_true rfl) (fun ls _ => kt_ivV (ci := 12) O dX5_learn_58 cd_X5_ofVersion in_X5_ofVersion (Or.inl q2470) q2472 qs39 hco (by decide) hy_X5_ofVersion) (fun u4 M5 hq => ?_) (fun E q M9 hx => kr_out O hx)
  replace h := hq
  clear hq
  obtain ⟨b6, rfl, h⟩ := h
  obtain ⟨hw, h⟩ := h
  refine kr_iastore O dX5_learn_61 hw (kr_nmM fun M7 hM7 => ?_)
  replace h := h M7 hM7
  refine kr_aload_n O dX5_learn_62 rfl 1 rfl ?_
  obtain ⟨p8, ep8, h⟩ := h
  refine kr_getf O dX5_learn_63 fs_X5_25 ep8 ?_
  refine kr_aload_n O dX5_learn_66 rfl 1 rfl ?_
  refine kr_iload_n O dX5_learn_67 rfl 2 rfl ?_
  refine kr_iload O dX5_learn_68 4 rfl ?_
  obtain ⟨hco, h⟩ := h
  refine kr_caI (rest := [va_rf p8]) O cd_X5_knownAt h (Nat.le_of_ble_eq_true rfl) (fun ls _ => kt_ivV (ci := 12) O dX5_learn_70 cd_X5_knownAt in_X5_knownAt (Or.inl q2657) q2659 qs59 hco (by decide) hy_X5_knownAt) (fun u9 M10 hq => ?_) (fun E q M9 hx => kr_out O hx)
  replace h := hq
  clear hq
  refine kr_iconst O dX5_learn_73 (v := (1 : Int32)) (by decide) ?_
  refine kr_iadd O dX5_learn_74 ?_
  refine kr_aload_n O dX5_learn_75 rfl 1 rfl ?_
  refine kr_iload O dX5_learn_76 4 rfl ?_
  refine kr_iconst O dX5_learn_78 (v := (1 : Int32)) (by decide) ?_
  obtain ⟨hco, h⟩ := h
  refine kr_caI (rest := [.int (u9 + (1 : Int32)), va_rf p8]) O cd_X5_ofVersion h (Nat.le_of_ble_eq_true rfl) (fun ls _ => kt_ivV (ci := 12) O dX5_learn_79 cd_X5_ofVersion in_X5_ofVersion (Or.inl q2470) q2472 qs39 hco (by decide) hy_X5_ofVersion) (fun u11 M12 hq => ?_) (fun E q M9 hx => kr_out O hx)
  replace h := hq
  clear hq
  obtain ⟨b13, rfl, h⟩ := h
  obtain ⟨hw, h⟩ := h
  refine kr_iastore O dX5_learn_82 hw (kr_nmM fun M14 hM14 => ?_)
  replace h := h M14 hM14
  refine kr_iinc O dX5_learn_83 4 rfl (v := v4 + (1 : Int32)) rfl (Nat.le_of_ble_eq_true rfl) rfl rfl ?_
  refine kr_goto (tgt := 12) O dX5_learn_86 rfl ?_
  refine kr_sub [2, 3, 4, 1, 0] rfl ?_
  exact hn12 _ _ _ h
def vc_X5_learn_12 (w : kt_W) (gr : kt_g × kt_M) (d : Nat) (P : Option Value → kt_M → Prop) (X : String → Nat → kt_M → Prop) (nx12 : Int32 → Int32 → kt_M → Prop) (a0 : Nat) (v1 : Int32) (v2 : Int32) (v3 : Int32) (v4 : Int32) (M : kt_M) : Prop :=
  ∃ p1, kt_gf M a0 73 = some (va_rf p1) ∧ ∃ b2, p1 = some b2 ∧ ∃ u3, kt_el 0 M b2 (1 : Int32) = some (.int u3) ∧ 
    ((u3 ≤ v4 → ∃ p4, kt_gf M a0 73 = some (va_rf p4) ∧ 
    kt_Ca w gr d yX5_clientAt kc_X5_clientAt [.int v1, .int (4 : Int32)] M (kt_pI fun u5 M6 => ∃ b7, p4 = some b7 ∧ kt_hii gr 0 M6 b7 u5 ∧ ∀ M8, M8 = kt_si M6 b7 u5 v3 → ∃ p9, kt_gf M8 a0 73 = some (va_rf p9) ∧ 
    kt_Ca w gr d yX5_clientAt kc_X5_clientAt [.int v1, .int (3 : Int32)] M8 (kt_pI fun u10 M11 => ∃ p12, kt_gf M11 a0 73 = some (va_rf p12) ∧ ∃ b13, p12 = some b13 ∧ ∃ u14, kt_el 0 M11 b13 (1 : Int32) = some (.int u14) ∧ ∃ b15, p9 = some b15 ∧ kt_hii gr 0 M11 b15 u10 ∧ ∀ M16, M16 = kt_si M11 b15 u10 u14 → ∃ p17, kt_gf M16 a0 73 = some (va_rf p17) ∧ 
    kt_Ca w gr d yX5_clientAt kc_X5_clientAt [.int v1, .int (2 : Int32)] M16 (kt_pI fun u18 M19 => (kt_co M19 a0 = some 12) ∧ 
    kt_Ca w gr d yX5_hour kc_X5_hour [va_rf (some a0)] M19 (kt_pI fun u20 M21 => ∃ b22, p17 = some b22 ∧ kt_hii gr 0 M21 b22 u18 ∧ ∀ M23, M23 = kt_si M21 b22 u18 u20 → ∃ p24, kt_gf M23 a0 73 = some (va_rf p24) ∧ ∃ b25, p24 = some b25 ∧ ∃ u26, kt_el 0 M23 b25 (1 : Int32) = some (.int u26) ∧ P (some (.int (u26 - v2))) M23) X) X) X) X) ∧
    (¬ u3 ≤ v4 → (kt_co M a0 = some 12) ∧ 
    kt_Ca w gr d yX5_isGone kc_X5_isGone [va_rf (some a0), .int v4] M (kt_pI fun u27 M28 => 
      ((u27 = 0 → vc_X5_learn_41 w gr d P X nx12 a0 v1 v2 v4 (0 : Int32) v3 M28) ∧
      (¬ u27 = 0 → vc_X5_learn_41 w gr d P X nx12 a0 v1 v2 v4 ((1 : Int32) <<< (v4 &&& 31)) v3 M28))) X))
theorem cj_X5_learn_12 {w : kt_W} {x : kt_X} {gr : kt_g × kt_M} {d : Nat} {P : Option Value → kt_M → Prop} {X : String → Nat → kt_M → Prop} {nx12 : Int32 → Int32 → kt_M → Prop} {a0 : Nat} {v1 : Int32} {v2 : Int32} {v3 : Int32} {v4 : Int32} {M : kt_M} (O : kt_O w x gr (d + 1) cX5_learn "KeyTurnsModel" 5 ("learn", "(I)I") (Option.some Jvm.ClassFile.FieldType.int) []) (hn12 : ∀ v3 v4 M, nx12 v3 v4 M → kt_S w x 5 (kt_E w x P X) M 12 [(0, va_rf (some a0)), (1, .int v1), (2, .int v2), (3, .int v3), (4, .int v4)] []) (h : vc_X5_learn_12 w gr d P X nx12 a0 v1 v2 v3 v4 M) : kt_S w x 5 (kt_E w x P X) M 12 [(0, va_rf (some a0)), (1, .int v1), (2, .int v2), (3, .int v3), (4, .int v4)] [] := by
  unfold vc_X5_learn_12 at h
  refine kr_iload O dX5_learn_12 4 rfl ?_
  refine kr_aload_n O dX5_learn_14 rfl 0 rfl ?_
  obtain ⟨p1, ep1, h⟩ := h
  refine kr_getf O dX5_learn_15 fs_X5_25 ep1 ?_
  refine kr_iconst O dX5_learn_18 (v := (1 : Int32)) (by decide) ?_
  obtain ⟨b2, rfl, h⟩ := h
  obtain ⟨u3, eu3, h⟩ := h
  refine kr_iaload O dX5_learn_19 eu3 ?_
  refine kr_icmp_ge (tgt := 89) O dX5_learn_20 rfl (fun hc => ?_) (fun hc => ?_)
  · replace h := h.1 hc
    refine kr_aload_n O dX5_learn_89 rfl 0 rfl ?_
    obtain ⟨p4, ep4, h⟩ := h
    refine kr_getf O dX5_learn_90 fs_X5_25 ep4 ?_
    refine kr_iload_n O dX5_learn_93 rfl 1 rfl ?_
    refine kr_iconst O dX5_learn_94 (v := (4 : Int32)) (by decide) ?_
    refine kr_caI (rest := [va_rf p4]) O cd_X5_clientAt h (Nat.le_of_ble_eq_true rfl) (fun ls _ => kt_ivS O dX5_learn_95 cd_X5_clientAt in_X5_clientAt q2654 q2655 hy_X5_clientAt) (fun u5 M6 hq => ?_) (fun E q M9 hx => kr_out O hx)
    replace h := hq
    clear hq
    refine kr_iload_n O dX5_learn_98 rfl 3 rfl ?_
    obtain ⟨b7, rfl, h⟩ := h
    obtain ⟨hw, h⟩ := h
    refine kr_iastore O dX5_learn_99 hw (kr_nmM fun M8 hM8 => ?_)
    replace h := h M8 hM8
    refine kr_aload_n O dX5_learn_100 rfl 0 rfl ?_
    obtain ⟨p9, ep9, h⟩ := h
    refine kr_getf O dX5_learn_101 fs_X5_25 ep9 ?_
    refine kr_iload_n O dX5_learn_104 rfl 1 rfl ?_
    refine kr_iconst O dX5_learn_105 (v := (3 : Int32)) (by decide) ?_
    refine kr_caI (rest := [va_rf p9]) O cd_X5_clientAt h (Nat.le_of_ble_eq_true rfl) (fun ls _ => kt_ivS O dX5_learn_106 cd_X5_clientAt in_X5_clientAt q2654 q2655 hy_X5_clientAt) (fun u10 M11 hq => ?_) (fun E q M9 hx => kr_out O hx)
    replace h := hq
    clear hq
    refine kr_aload_n O dX5_learn_109 rfl 0 rfl ?_
    obtain ⟨p12, ep12, h⟩ := h
    refine kr_getf O dX5_learn_110 fs_X5_25 ep12 ?_
    refine kr_iconst O dX5_learn_113 (v := (1 : Int32)) (by decide) ?_
    obtain ⟨b13, rfl, h⟩ := h
    obtain ⟨u14, eu14, h⟩ := h
    refine kr_iaload O dX5_learn_114 eu14 ?_
    obtain ⟨b15, rfl, h⟩ := h
    obtain ⟨hw, h⟩ := h
    refine kr_iastore O dX5_learn_115 hw (kr_nmM fun M16 hM16 => ?_)
    replace h := h M16 hM16
    refine kr_aload_n O dX5_learn_116 rfl 0 rfl ?_
    obtain ⟨p17, ep17, h⟩ := h
    refine kr_getf O dX5_learn_117 fs_X5_25 ep17 ?_
    refine kr_iload_n O dX5_learn_120 rfl 1 rfl ?_
    refine kr_iconst O dX5_learn_121 (v := (2 : Int32)) (by decide) ?_
    refine kr_caI (rest := [va_rf p17]) O cd_X5_clientAt h (Nat.le_of_ble_eq_true rfl) (fun ls _ => kt_ivS O dX5_learn_122 cd_X5_clientAt in_X5_clientAt q2654 q2655 hy_X5_clientAt) (fun u18 M19 hq => ?_) (fun E q M9 hx => kr_out O hx)
    replace h := hq
    clear hq
    refine kr_aload_n O dX5_learn_125 rfl 0 rfl ?_
    obtain ⟨hco, h⟩ := h
    refine kr_caI (rest := [.int u18, va_rf p17]) O cd_X5_hour h (Nat.le_of_ble_eq_true rfl) (fun ls _ => kt_ivV (ci := 12) O dX5_learn_126 cd_X5_hour in_X5_hour (Or.inl q2582) q2584 qs45 hco (by decide) hy_X5_hour) (fun u20 M21 hq => ?_) (fun E q M9 hx => kr_out O hx)
    replace h := hq
    clear hq
    obtain ⟨b22, rfl, h⟩ := h
    obtain ⟨hw, h⟩ := h
    refine kr_iastore O dX5_learn_129 hw (kr_nmM fun M23 hM23 => ?_)
    replace h := h M23 hM23
    refine kr_aload_n O dX5_learn_130 rfl 0 rfl ?_
    obtain ⟨p24, ep24, h⟩ := h
    refine kr_getf O dX5_learn_131 fs_X5_25 ep24 ?_
    refine kr_iconst O dX5_learn_134 (v := (1 : Int32)) (by decide) ?_
    obtain ⟨b25, rfl, h⟩ := h
    obtain ⟨u26, eu26, h⟩ := h
    refine kr_iaload O dX5_learn_135 eu26 ?_
    refine kr_iload_n O dX5_learn_136 rfl 2 rfl ?_
    refine kr_isub O dX5_learn_137 ?_
    exact kr_iret O dX5_learn_138 rfl h
  · replace h := h.2 hc
    refine kr_iload_n O dX5_learn_23 rfl 3 rfl ?_
    refine kr_aload_n O dX5_learn_24 rfl 0 rfl ?_
    refine kr_iload O dX5_learn_25 4 rfl ?_
    obtain ⟨hco, h⟩ := h
    refine kr_caI (rest := [.int v3]) O cd_X5_isGone h (Nat.le_of_ble_eq_true rfl) (fun ls _ => kt_ivV (ci := 12) O dX5_learn_27 cd_X5_isGone in_X5_isGone (Or.inl q2578) q2580 qs44 hco (by decide) hy_X5_isGone) (fun u27 M28 hq => ?_) (fun E q M9 hx => kr_out O hx)
    replace h := hq
    clear hq
    refine kr_if_eq (tgt := 40) O dX5_learn_30 rfl (fun hc => ?_) (fun hc => ?_)
    · replace h := h.1 hc
      refine kr_iconst O dX5_learn_40 (v := (0 : Int32)) (by decide) ?_
      refine kr_sub [0, 1, 2, 4] rfl ?_
      exact cj_X5_learn_41 O hn12 h
    · replace h := h.2 hc
      refine kr_iconst O dX5_learn_33 (v := (1 : Int32)) (by decide) ?_
      refine kr_iload O dX5_learn_34 4 rfl ?_
      refine kr_ishl O dX5_learn_36 ?_
      refine kr_goto (tgt := 41) O dX5_learn_37 rfl ?_
      refine kr_sub [0, 1, 2, 4] rfl ?_
      exact cj_X5_learn_41 O hn12 h
def vl_X5_learn_12 (w : kt_W) (gr : kt_g × kt_M) (d : Nat) (P : Option Value → kt_M → Prop) (X : String → Nat → kt_M → Prop)  (a0 : Nat) (v1 : Int32) (v2 : Int32) (v3 : Int32) (v4 : Int32) (M : kt_M) : Prop :=
  ∃ Inv : Nat → Int32 → Int32 → kt_M → Prop, (∃ k, Inv k v3 v4 M) ∧ ∀ k v3 v4 M, kt_le gr.1 gr.2 M → Inv k v3 v4 M → vc_X5_learn_12 w gr d P X (fun v3' v4' M' => ∃ k', k' < k ∧ Inv k' v3' v4' M') a0 v1 v2 v3 v4 M
theorem cl_X5_learn_12 {w : kt_W} {x : kt_X} {gr : kt_g × kt_M} {d : Nat} {P : Option Value → kt_M → Prop} {X : String → Nat → kt_M → Prop}  {a0 : Nat} {v1 : Int32} {v2 : Int32} {v3 : Int32} {v4 : Int32} {M : kt_M} (O : kt_O w x gr (d + 1) cX5_learn "KeyTurnsModel" 5 ("learn", "(I)I") (Option.some Jvm.ClassFile.FieldType.int) [])  (h : vl_X5_learn_12 w gr d P X  a0 v1 v2 v3 v4 M) : kt_S w x 5 (kt_E w x P X) M 12 [(0, va_rf (some a0)), (1, .int v1), (2, .int v2), (3, .int v3), (4, .int v4)] [] := by
  obtain ⟨Inv, ⟨k, hk⟩, hb⟩ := h
  induction k using Nat.strongRecOn generalizing v3 v4 M with
  | ind k ih =>
    exact kr_le O fun hle => cj_X5_learn_12 O (fun v3' v4' M' hi => let ⟨k', h1, h2⟩ := hi; ih k' h1 h2) (hb k _ _ _ hle hk)
def vc_X5_learn (w : kt_W) (gr : kt_g × kt_M) (d : Nat) (P : Option Value → kt_M → Prop) (X : String → Nat → kt_M → Prop) (a0 : Nat) (v1 : Int32) (M : kt_M) : Prop :=
  (kt_co M a0 = some 12) ∧ 
  kt_Ca w gr d yX5_ofClient kc_X5_ofClient [va_rf (some a0), .int v1, .int (3 : Int32)] M (kt_pI fun u1 M2 => vl_X5_learn_12 w gr d P X  a0 v1 u1 (0 : Int32) (0 : Int32) M2) X
theorem ce_X5_learn {w : kt_W} {g : kt_g} {d : Nat} {P : Option Value → kt_M → Prop} {X : String → Nat → kt_M → Prop} {a0 : Nat} {v1 : Int32} {M : kt_M} (h : vc_X5_learn w (g, M) d P X a0 v1 M) : kt_Sp w g (d + 1) yX5_learn kc_X5_learn [va_rf (some a0), .int v1] M P X := by
  refine kt_of (L0 := [(0, va_rf (some a0)), (1, .int v1)]) (by decide +kernel) (Nat.le_of_ble_eq_true rfl) rfl fun x O => ?_
  replace O : kt_O w x (g, M) (d + 1) cX5_learn "KeyTurnsModel" 5 ("learn", "(I)I") (Option.some Jvm.ClassFile.FieldType.int) [] := O
  unfold vc_X5_learn at h
  refine kr_aload_n O dX5_learn_0 rfl 0 rfl ?_
  refine kr_iload_n O dX5_learn_1 rfl 1 rfl ?_
  refine kr_iconst O dX5_learn_2 (v := (3 : Int32)) (by decide) ?_
  obtain ⟨hco, h⟩ := h
  refine kr_caI (rest := []) O cd_X5_ofClient h (Nat.le_of_ble_eq_true rfl) (fun ls _ => kt_ivV (ci := 12) O dX5_learn_3 cd_X5_ofClient in_X5_ofClient (Or.inl q2650) q2652 qs58 hco (by decide) hy_X5_ofClient) (fun u1 M2 hq => ?_) (fun E q M9 hx => kr_out O hx)
  replace h := hq
  clear hq
  refine kr_istore_n O dX5_learn_6 rfl (Nat.le_of_ble_eq_true rfl) rfl rfl ?_
  refine kr_iconst O dX5_learn_7 (v := (0 : Int32)) (by decide) ?_
  refine kr_istore_n O dX5_learn_8 rfl (Nat.le_of_ble_eq_true rfl) rfl rfl ?_
  refine kr_iconst O dX5_learn_9 (v := (0 : Int32)) (by decide) ?_
  refine kr_istore O dX5_learn_10 (Nat.le_of_ble_eq_true rfl) rfl rfl ?_
  refine kr_sub [3, 4, 2, 1, 0] rfl ?_
  exact cl_X5_learn_12 O  h
def vc_X5_end (w : kt_W) (gr : kt_g × kt_M) (d : Nat) (P : Option Value → kt_M → Prop) (X : String → Nat → kt_M → Prop) (a0 : Nat) (M : kt_M) : Prop :=
  ∃ p1, kt_gf M a0 67 = some (va_rf p1) ∧ ∃ p2, kt_gf M a0 65 = some (va_rf p2) ∧ 
  kt_Ca w gr d yX5_copy kc_X5_copy [va_rf p1, .int (0 : Int32), va_rf p2, .int (0 : Int32)] M (kt_pV fun M3 => P none M3) X
theorem ce_X5_end {w : kt_W} {g : kt_g} {d : Nat} {P : Option Value → kt_M → Prop} {X : String → Nat → kt_M → Prop} {a0 : Nat} {M : kt_M} (h : vc_X5_end w (g, M) d P X a0 M) : kt_Sp w g (d + 1) yX5_end kc_X5_end [va_rf (some a0)] M P X := by
  refine kt_of (L0 := [(0, va_rf (some a0))]) (by decide +kernel) (Nat.le_of_ble_eq_true rfl) rfl fun x O => ?_
  replace O : kt_O w x (g, M) (d + 1) cX5_end "KeyTurnsModel" 1 ("end", "()V") (Option.none : Option Jvm.ClassFile.FieldType) [] := O
  unfold vc_X5_end at h
  refine kr_aload_n O dX5_end_0 rfl 0 rfl ?_
  obtain ⟨p1, ep1, h⟩ := h
  refine kr_getf O dX5_end_1 fs_X5_16 ep1 ?_
  refine kr_iconst O dX5_end_4 (v := (0 : Int32)) (by decide) ?_
  refine kr_aload_n O dX5_end_5 rfl 0 rfl ?_
  obtain ⟨p2, ep2, h⟩ := h
  refine kr_getf O dX5_end_6 fs_X5_9 ep2 ?_
  refine kr_iconst O dX5_end_9 (v := (0 : Int32)) (by decide) ?_
  refine kr_caV (rest := []) O cd_X5_copy h (Nat.le_of_ble_eq_true rfl) (fun ls _ => kt_ivS O dX5_end_10 cd_X5_copy in_X5_copy q2719 q2720 hy_X5_copy) (fun M3 hq => ?_) (fun E q M9 hx => kr_out O hx)
  replace h := hq
  clear hq
  exact kr_vret O dX5_end_13 h
def vc_X5_dark_49 (w : kt_W) (gr : kt_g × kt_M) (d : Nat) (P : Option Value → kt_M → Prop) (X : String → Nat → kt_M → Prop) (nx49 : Int32 → Int32 → kt_M → Prop) (a0 : Nat) (v1 : Int32) (v2 : Int32) (v3 : Int32) (v4 : Int32) (M : kt_M) : Prop :=
  
    ((v2 ≤ v4 → (kt_co M a0 = some 12) ∧ 
    kt_Ca w gr d yX5_end kc_X5_end [va_rf (some a0)] M (kt_pV fun M1 => P (some (.int v3)) M1) X) ∧
    (¬ v2 ≤ v4 → (kt_co M a0 = some 12) ∧ 
    kt_Ca w gr d yX5_passHour kc_X5_passHour [va_rf (some a0)] M (kt_pI fun u2 M3 => (kt_co M3 a0 = some 12) ∧ 
    kt_Ca w gr d yX5_hour kc_X5_hour [va_rf (some a0)] M3 (kt_pI fun u4 M5 => ∃ p6, kt_gf M5 a0 67 = some (va_rf p6) ∧ ∃ b7, p6 = some b7 ∧ ∃ u8, kt_el 0 M5 b7 (0 : Int32) = some (.int u8) ∧ 
      ((¬ u4 = ((u8 + v4) + (1 : Int32)) → nx49 (v3 + (0 : Int32)) (v4 + (1 : Int32)) M5) ∧
      (u4 = ((u8 + v4) + (1 : Int32)) → (kt_co M5 a0 = some 12) ∧ 
      kt_Ca w gr d yX5_readableBy kc_X5_readableBy [va_rf (some a0), .int v1] M5 (kt_pI fun u9 M10 => (kt_co M10 a0 = some 12) ∧ 
      kt_Ca w gr d yX5_present kc_X5_present [va_rf (some a0)] M10 (kt_pI fun u11 M12 => 
        ((u11 ≤ u9 → nx49 (v3 + (0 : Int32)) (v4 + (1 : Int32)) M12) ∧
        (¬ u11 ≤ u9 → nx49 (v3 + (1 : Int32)) (v4 + (1 : Int32)) M12))) X) X))) X) X))
theorem cj_X5_dark_49 {w : kt_W} {x : kt_X} {gr : kt_g × kt_M} {d : Nat} {P : Option Value → kt_M → Prop} {X : String → Nat → kt_M → Prop} {nx49 : Int32 → Int32 → kt_M → Prop} {a0 : Nat} {v1 : Int32} {v2 : Int32} {v3 : Int32} {v4 : Int32} {M : kt_M} (O : kt_O w x gr (d + 1) cX5_dark "KeyTurnsModel" 6 ("dark", "(II)I") (Option.some Jvm.ClassFile.FieldType.int) []) (hn49 : ∀ v3 v4 M, nx49 v3 v4 M → kt_S w x 6 (kt_E w x P X) M 49 [(0, va_rf (some a0)), (1, .int v1), (2, .int v2), (3, .int v3), (4, .int v4)] []) (h : vc_X5_dark_49 w gr d P X nx49 a0 v1 v2 v3 v4 M) : kt_S w x 6 (kt_E w x P X) M 49 [(0, va_rf (some a0)), (1, .int v1), (2, .int v2), (3, .int v3), (4, .int v4)] [] := by
  unfold vc_X5_dark_49 at h
  refine kr_iload O dX5_dark_49 4 rfl ?_
  refine kr_iload_n O dX5_dark_51 rfl 2 rfl ?_
  refine kr_icmp_ge (tgt := 105) O dX5_dark_52 rfl (fun hc => ?_) (fun hc => ?_)
  · replace h := h.1 hc
    refine kr_aload_n O dX5_dark_105 rfl 0 rfl ?_
    obtain ⟨hco, h⟩ := h
    refine kr_caV (rest := []) O cd_X5_end h (Nat.le_of_ble_eq_true rfl) (fun ls _ => kt_ivV (ci := 12) O dX5_dark_106 cd_X5_end in_X5_end (Or.inl q2750) q2752 qs72 hco (by decide) hy_X5_end) (fun M1 hq => ?_) (fun E q M9 hx => kr_out O hx)
    replace h := hq
    clear hq
    refine kr_iload_n O dX5_dark_109 rfl 3 rfl ?_
    exact kr_iret O dX5_dark_110 rfl h
  · replace h := h.2 hc
    refine kr_aload_n O dX5_dark_55 rfl 0 rfl ?_
    obtain ⟨hco, h⟩ := h
    refine kr_caI (rest := []) O cd_X5_passHour h (Nat.le_of_ble_eq_true rfl) (fun ls _ => kt_ivV (ci := 12) O dX5_dark_56 cd_X5_passHour in_X5_passHour (Or.inl q2722) q2724 qs65 hco (by decide) hy_X5_passHour) (fun u2 M3 hq => ?_) (fun E q M9 hx => kr_out O hx)
    replace h := hq
    clear hq
    refine kr_istore O dX5_dark_59 (Nat.le_of_ble_eq_true rfl) rfl rfl ?_
    refine kr_iload_n O dX5_dark_61 rfl 4 rfl ?_
    refine kr_aload_n O dX5_dark_62 rfl 1 rfl ?_
    obtain ⟨hco, h⟩ := h
    refine kr_caI (rest := [.int v3]) O cd_X5_hour h (Nat.le_of_ble_eq_true rfl) (fun ls _ => kt_ivV (ci := 12) O dX5_dark_63 cd_X5_hour in_X5_hour (Or.inl q2582) q2584 qs45 hco (by decide) hy_X5_hour) (fun u4 M5 hq => ?_) (fun E q M9 hx => kr_out O hx)
    replace h := hq
    clear hq
    refine kr_aload_n O dX5_dark_66 rfl 1 rfl ?_
    obtain ⟨p6, ep6, h⟩ := h
    refine kr_getf O dX5_dark_67 fs_X5_16 ep6 ?_
    refine kr_iconst O dX5_dark_70 (v := (0 : Int32)) (by decide) ?_
    obtain ⟨b7, rfl, h⟩ := h
    obtain ⟨u8, eu8, h⟩ := h
    refine kr_iaload O dX5_dark_71 eu8 ?_
    refine kr_iload O dX5_dark_72 5 rfl ?_
    refine kr_iadd O dX5_dark_74 ?_
    refine kr_iconst O dX5_dark_75 (v := (1 : Int32)) (by decide) ?_
    refine kr_iadd O dX5_dark_76 ?_
    refine kr_icmp_ne (tgt := 96) O dX5_dark_77 rfl (fun hc => ?_) (fun hc => ?_)
    · replace h := h.1 hc
      refine kr_iconst O dX5_dark_96 (v := (0 : Int32)) (by decide) ?_
      refine kr_iadd O dX5_dark_97 ?_
      refine kr_istore_n O dX5_dark_98 rfl (Nat.le_of_ble_eq_true rfl) rfl rfl ?_
      refine kr_iinc O dX5_dark_99 5 rfl (v := v4 + (1 : Int32)) rfl (Nat.le_of_ble_eq_true rfl) rfl rfl ?_
      refine kr_goto (tgt := 49) O dX5_dark_102 rfl ?_
      refine kr_sub [3, 4, 5, 1, 0] rfl ?_
      exact hn49 _ _ _ h
    · replace h := h.2 hc
      refine kr_aload_n O dX5_dark_80 rfl 1 rfl ?_
      refine kr_iload_n O dX5_dark_81 rfl 2 rfl ?_
      obtain ⟨hco, h⟩ := h
      refine kr_caI (rest := [.int v3]) O cd_X5_readableBy h (Nat.le_of_ble_eq_true rfl) (fun ls _ => kt_ivV (ci := 12) O dX5_dark_82 cd_X5_readableBy in_X5_readableBy (Or.inl q2669) q2671 qs61 hco (by decide) hy_X5_readableBy) (fun u9 M10 hq => ?_) (fun E q M9 hx => kr_out O hx)
      replace h := hq
      clear hq
      refine kr_aload_n O dX5_dark_85 rfl 1 rfl ?_
      obtain ⟨hco, h⟩ := h
      refine kr_caI (rest := [.int u9, .int v3]) O cd_X5_present h (Nat.le_of_ble_eq_true rfl) (fun ls _ => kt_ivV (ci := 12) O dX5_dark_86 cd_X5_present in_X5_present (Or.inl q2559) q2561 qs40 hco (by decide) hy_X5_present) (fun u11 M12 hq => ?_) (fun E q M9 hx => kr_out O hx)
      replace h := hq
      clear hq
      refine kr_icmp_ge (tgt := 96) O dX5_dark_89 rfl (fun hc => ?_) (fun hc => ?_)
      · replace h := h.1 hc
        refine kr_iconst O dX5_dark_96 (v := (0 : Int32)) (by decide) ?_
        refine kr_iadd O dX5_dark_97 ?_
        refine kr_istore_n O dX5_dark_98 rfl (Nat.le_of_ble_eq_true rfl) rfl rfl ?_
        refine kr_iinc O dX5_dark_99 5 rfl (v := v4 + (1 : Int32)) rfl (Nat.le_of_ble_eq_true rfl) rfl rfl ?_
        refine kr_goto (tgt := 49) O dX5_dark_102 rfl ?_
        refine kr_sub [3, 4, 5, 1, 0] rfl ?_
        exact hn49 _ _ _ h
      · replace h := h.2 hc
        refine kr_iconst O dX5_dark_92 (v := (1 : Int32)) (by decide) ?_
        refine kr_goto (tgt := 97) O dX5_dark_93 rfl ?_
        refine kr_iadd O dX5_dark_97 ?_
        refine kr_istore_n O dX5_dark_98 rfl (Nat.le_of_ble_eq_true rfl) rfl rfl ?_
        refine kr_iinc O dX5_dark_99 5 rfl (v := v4 + (1 : Int32)) rfl (Nat.le_of_ble_eq_true rfl) rfl rfl ?_
        refine kr_goto (tgt := 49) O dX5_dark_102 rfl ?_
        refine kr_sub [3, 4, 5, 1, 0] rfl ?_
        exact hn49 _ _ _ h
def vl_X5_dark_49 (w : kt_W) (gr : kt_g × kt_M) (d : Nat) (P : Option Value → kt_M → Prop) (X : String → Nat → kt_M → Prop)  (a0 : Nat) (v1 : Int32) (v2 : Int32) (v3 : Int32) (v4 : Int32) (M : kt_M) : Prop :=
  ∃ Inv : Nat → Int32 → Int32 → kt_M → Prop, (∃ k, Inv k v3 v4 M) ∧ ∀ k v3 v4 M, kt_le gr.1 gr.2 M → Inv k v3 v4 M → vc_X5_dark_49 w gr d P X (fun v3' v4' M' => ∃ k', k' < k ∧ Inv k' v3' v4' M') a0 v1 v2 v3 v4 M
theorem cl_X5_dark_49 {w : kt_W} {x : kt_X} {gr : kt_g × kt_M} {d : Nat} {P : Option Value → kt_M → Prop} {X : String → Nat → kt_M → Prop}  {a0 : Nat} {v1 : Int32} {v2 : Int32} {v3 : Int32} {v4 : Int32} {M : kt_M} (O : kt_O w x gr (d + 1) cX5_dark "KeyTurnsModel" 6 ("dark", "(II)I") (Option.some Jvm.ClassFile.FieldType.int) [])  (h : vl_X5_dark_49 w gr d P X  a0 v1 v2 v3 v4 M) : kt_S w x 6 (kt_E w x P X) M 49 [(0, va_rf (some a0)), (1, .int v1), (2, .int v2), (3, .int v3), (4, .int v4)] [] := by
  obtain ⟨Inv, ⟨k, hk⟩, hb⟩ := h
  induction k using Nat.strongRecOn generalizing v3 v4 M with
  | ind k ih =>
    exact kr_le O fun hle => cj_X5_dark_49 O (fun v3' v4' M' hi => let ⟨k', h1, h2⟩ := hi; ih k' h1 h2) (hb k _ _ _ hle hk)
def vc_X5_dark_28 (w : kt_W) (gr : kt_g × kt_M) (d : Nat) (P : Option Value → kt_M → Prop) (X : String → Nat → kt_M → Prop)  (a0 : Nat) (v1 : Int32) (v2 : Int32) (s0 : Int32) (sa1 : Nat) (M : kt_M) : Prop :=
  kt_hf gr M sa1 71 ∧ ∀ M1, M1 = kt_pf M sa1 71 (.int s0) → ∃ u2, kt_gf M1 a0 71 = some (.int u2) ∧ 
    ((u2 = 0 → (kt_co M1 a0 = some 12) ∧ 
    kt_Ca w gr d yX5_begin kc_X5_begin [va_rf (some a0)] M1 (kt_pV fun M3 => vl_X5_dark_49 w gr d P X  a0 v1 v2 (0 : Int32) (0 : Int32) M3) X) ∧
    (¬ u2 = 0 → P (some (.int (0 : Int32))) M1))
theorem cj_X5_dark_28 {w : kt_W} {x : kt_X} {gr : kt_g × kt_M} {d : Nat} {P : Option Value → kt_M → Prop} {X : String → Nat → kt_M → Prop}  {a0 : Nat} {v1 : Int32} {v2 : Int32} {s0 : Int32} {sa1 : Nat} {M : kt_M} (O : kt_O w x gr (d + 1) cX5_dark "KeyTurnsModel" 6 ("dark", "(II)I") (Option.some Jvm.ClassFile.FieldType.int) [])  (h : vc_X5_dark_28 w gr d P X  a0 v1 v2 s0 sa1 M) : kt_S w x 6 (kt_E w x P X) M 28 [(0, va_rf (some a0)), (1, .int v1), (2, .int v2)] [.int s0, va_rf (some sa1)] := by
  unfold vc_X5_dark_28 at h
  obtain ⟨hw, h⟩ := h
  refine kr_putf O dX5_dark_28 fs_X5_71 (Or.inl rfl) ⟨rfl, rfl⟩ hw (kr_nmM fun M1 hM1 => ?_)
  replace h := h M1 hM1
  refine kr_aload_n O dX5_dark_31 rfl 0 rfl ?_
  obtain ⟨u2, eu2, h⟩ := h
  refine kr_getf O dX5_dark_32 fs_X5_71 eu2 ?_
  refine kr_if_eq (tgt := 40) O dX5_dark_35 rfl (fun hc => ?_) (fun hc => ?_)
  · replace h := h.1 hc
    refine kr_aload_n O dX5_dark_40 rfl 0 rfl ?_
    obtain ⟨hco, h⟩ := h
    refine kr_caV (rest := []) O cd_X5_begin h (Nat.le_of_ble_eq_true rfl) (fun ls _ => kt_ivV (ci := 12) O dX5_dark_41 cd_X5_begin in_X5_begin (Or.inl q2715) q2717 qs64 hco (by decide) hy_X5_begin) (fun M3 hq => ?_) (fun E q M9 hx => kr_out O hx)
    replace h := hq
    clear hq
    refine kr_iconst O dX5_dark_44 (v := (0 : Int32)) (by decide) ?_
    refine kr_istore_n O dX5_dark_45 rfl (Nat.le_of_ble_eq_true rfl) rfl rfl ?_
    refine kr_iconst O dX5_dark_46 (v := (0 : Int32)) (by decide) ?_
    refine kr_istore O dX5_dark_47 (Nat.le_of_ble_eq_true rfl) rfl rfl ?_
    refine kr_sub [2, 3, 4, 1, 0] rfl ?_
    exact cl_X5_dark_49 O  h
  · replace h := h.2 hc
    refine kr_iconst O dX5_dark_38 (v := (0 : Int32)) (by decide) ?_
    exact kr_iret O dX5_dark_39 rfl h
def vc_X5_dark (w : kt_W) (gr : kt_g × kt_M) (d : Nat) (P : Option Value → kt_M → Prop) (X : String → Nat → kt_M → Prop) (a0 : Nat) (v1 : Int32) (v2 : Int32) (M : kt_M) : Prop :=
  (kt_co M a0 = some 12) ∧ 
  kt_Ca w gr d yX5_isClient kc_X5_isClient [va_rf (some a0), .int v1] M (kt_pI fun u1 M2 => 
    ((¬ u1 = 0 → 
    kt_Ca w gr d yX5_inRange kc_X5_inRange [.int v2, .int (1 : Int32), .int (100 : Int32)] M2 (kt_pI fun u3 M4 => 
      ((u3 = 0 → vc_X5_dark_28 w gr d P X  a0 v1 v2 (2 : Int32) a0 M4) ∧
      (¬ u3 = 0 → vc_X5_dark_28 w gr d P X  a0 v1 v2 (0 : Int32) a0 M4))) X) ∧
    (u1 = 0 → vc_X5_dark_28 w gr d P X  a0 v1 v2 (1 : Int32) a0 M2))) X
theorem ce_X5_dark {w : kt_W} {g : kt_g} {d : Nat} {P : Option Value → kt_M → Prop} {X : String → Nat → kt_M → Prop} {a0 : Nat} {v1 : Int32} {v2 : Int32} {M : kt_M} (h : vc_X5_dark w (g, M) d P X a0 v1 v2 M) : kt_Sp w g (d + 1) yX5_dark kc_X5_dark [va_rf (some a0), .int v1, .int v2] M P X := by
  refine kt_of (L0 := [(0, va_rf (some a0)), (1, .int v1), (2, .int v2)]) (by decide +kernel) (Nat.le_of_ble_eq_true rfl) rfl fun x O => ?_
  replace O : kt_O w x (g, M) (d + 1) cX5_dark "KeyTurnsModel" 6 ("dark", "(II)I") (Option.some Jvm.ClassFile.FieldType.int) [] := O
  unfold vc_X5_dark at h
  refine kr_aload_n O dX5_dark_0 rfl 0 rfl ?_
  refine kr_aload_n O dX5_dark_1 rfl 0 rfl ?_
  refine kr_iload_n O dX5_dark_2 rfl 1 rfl ?_
  obtain ⟨hco, h⟩ := h
  refine kr_caI (rest := [va_rf (some a0)]) O cd_X5_isClient h (Nat.le_of_ble_eq_true rfl) (fun ls _ => kt_ivV (ci := 12) O dX5_dark_3 cd_X5_isClient in_X5_isClient (Or.inl q2665) q2667 qs60 hco (by decide) hy_X5_isClient) (fun u1 M2 hq => ?_) (fun E q M9 hx => kr_out O hx)
  replace h := hq
  clear hq
  refine kr_if_ne (tgt := 13) O dX5_dark_6 rfl (fun hc => ?_) (fun hc => ?_)
  · replace h := h.1 hc
    refine kr_iload_n O dX5_dark_13 rfl 2 rfl ?_
    refine kr_iconst O dX5_dark_14 (v := (1 : Int32)) (by decide) ?_
    refine kr_bipush O dX5_dark_15 (v := (100 : Int32)) (by decide) ?_
    refine kr_caI (rest := [va_rf (some a0)]) O cd_X5_inRange h (Nat.le_of_ble_eq_true rfl) (fun ls _ => kt_ivS O dX5_dark_17 cd_X5_inRange in_X5_inRange q2586 q2587 hy_X5_inRange) (fun u3 M4 hq => ?_) (fun E q M9 hx => kr_out O hx)
    replace h := hq
    clear hq
    refine kr_if_eq (tgt := 27) O dX5_dark_20 rfl (fun hc => ?_) (fun hc => ?_)
    · replace h := h.1 hc
      refine kr_iconst O dX5_dark_27 (v := (2 : Int32)) (by decide) ?_
      exact cj_X5_dark_28 O  h
    · replace h := h.2 hc
      refine kr_iconst O dX5_dark_23 (v := (0 : Int32)) (by decide) ?_
      refine kr_goto (tgt := 28) O dX5_dark_24 rfl ?_
      exact cj_X5_dark_28 O  h
  · replace h := h.2 hc
    refine kr_iconst O dX5_dark_9 (v := (1 : Int32)) (by decide) ?_
    refine kr_goto (tgt := 28) O dX5_dark_10 rfl ?_
    exact cj_X5_dark_28 O  h
def vc_X5_leastBatch_87 (w : kt_W) (gr : kt_g × kt_M) (d : Nat) (P : Option Value → kt_M → Prop) (X : String → Nat → kt_M → Prop) (nx29 : Int32 → Int32 → kt_M → Prop) (a0 : Nat) (v1 : Int32) (v3 : Int32) (s0 : Int32) (M : kt_M) : Prop :=
  (kt_co M a0 = some 12) ∧ 
  kt_Ca w gr d yX5_end kc_X5_end [va_rf (some a0)] M (kt_pV fun M1 => nx29 s0 (v3 + (1 : Int32)) M1) X
theorem cj_X5_leastBatch_87 {w : kt_W} {x : kt_X} {gr : kt_g × kt_M} {d : Nat} {P : Option Value → kt_M → Prop} {X : String → Nat → kt_M → Prop} {nx29 : Int32 → Int32 → kt_M → Prop} {a0 : Nat} {v1 : Int32} {v3 : Int32} {s0 : Int32} {M : kt_M} (O : kt_O w x gr (d + 1) cX5_leastBatch "KeyTurnsModel" 6 ("leastBatch", "(I)I") (Option.some Jvm.ClassFile.FieldType.int) []) (hn29 : ∀ v2 v3 M, nx29 v2 v3 M → kt_S w x 6 (kt_E w x P X) M 29 [(0, va_rf (some a0)), (1, .int v1), (2, .int v2), (3, .int v3)] []) (h : vc_X5_leastBatch_87 w gr d P X nx29 a0 v1 v3 s0 M) : kt_S w x 6 (kt_E w x P X) M 87 [(0, va_rf (some a0)), (1, .int v1), (3, .int v3)] [.int s0] := by
  unfold vc_X5_leastBatch_87 at h
  refine kr_istore_n O dX5_leastBatch_87 rfl (Nat.le_of_ble_eq_true rfl) rfl rfl ?_
  refine kr_aload_n O dX5_leastBatch_88 rfl 1 rfl ?_
  obtain ⟨hco, h⟩ := h
  refine kr_caV (rest := []) O cd_X5_end h (Nat.le_of_ble_eq_true rfl) (fun ls _ => kt_ivV (ci := 12) O dX5_leastBatch_89 cd_X5_end in_X5_end (Or.inl q2750) q2752 qs72 hco (by decide) hy_X5_end) (fun M1 hq => ?_) (fun E q M9 hx => kr_out O hx)
  replace h := hq
  clear hq
  refine kr_iinc O dX5_leastBatch_92 3 rfl (v := v3 + (1 : Int32)) rfl (Nat.le_of_ble_eq_true rfl) rfl rfl ?_
  refine kr_goto (tgt := 29) O dX5_leastBatch_95 rfl ?_
  refine kr_sub [2, 3, 1, 0] rfl ?_
  exact hn29 _ _ _ h
def vc_X5_leastBatch_77 (w : kt_W) (gr : kt_g × kt_M) (d : Nat) (P : Option Value → kt_M → Prop) (X : String → Nat → kt_M → Prop) (nx29 : Int32 → Int32 → kt_M → Prop) (a0 : Nat) (v1 : Int32) (v3 : Int32) (v4 : Int32) (M : kt_M) : Prop :=
  
    ((¬ v4 = 0 → vc_X5_leastBatch_87 w gr d P X nx29 a0 v1 v3 (-1 : Int32) M) ∧
    (v4 = 0 → vc_X5_leastBatch_87 w gr d P X nx29 a0 v1 v3 v3 M))
theorem cj_X5_leastBatch_77 {w : kt_W} {x : kt_X} {gr : kt_g × kt_M} {d : Nat} {P : Option Value → kt_M → Prop} {X : String → Nat → kt_M → Prop} {nx29 : Int32 → Int32 → kt_M → Prop} {a0 : Nat} {v1 : Int32} {v3 : Int32} {v4 : Int32} {M : kt_M} (O : kt_O w x gr (d + 1) cX5_leastBatch "KeyTurnsModel" 6 ("leastBatch", "(I)I") (Option.some Jvm.ClassFile.FieldType.int) []) (hn29 : ∀ v2 v3 M, nx29 v2 v3 M → kt_S w x 6 (kt_E w x P X) M 29 [(0, va_rf (some a0)), (1, .int v1), (2, .int v2), (3, .int v3)] []) (h : vc_X5_leastBatch_77 w gr d P X nx29 a0 v1 v3 v4 M) : kt_S w x 6 (kt_E w x P X) M 77 [(0, va_rf (some a0)), (1, .int v1), (3, .int v3), (4, .int v4)] [] := by
  unfold vc_X5_leastBatch_77 at h
  refine kr_iload O dX5_leastBatch_77 3 rfl ?_
  refine kr_if_ne (tgt := 86) O dX5_leastBatch_79 rfl (fun hc => ?_) (fun hc => ?_)
  · replace h := h.1 hc
    refine kr_iconst O dX5_leastBatch_86 (v := (-1 : Int32)) (by decide) ?_
    refine kr_sub [0, 1, 2] rfl ?_
    exact cj_X5_leastBatch_87 O hn29 h
  · replace h := h.2 hc
    refine kr_iload_n O dX5_leastBatch_82 rfl 2 rfl ?_
    refine kr_goto (tgt := 87) O dX5_leastBatch_83 rfl ?_
    refine kr_sub [0, 1, 2] rfl ?_
    exact cj_X5_leastBatch_87 O hn29 h
def vc_X5_leastBatch_54 (w : kt_W) (gr : kt_g × kt_M) (d : Nat) (P : Option Value → kt_M → Prop) (X : String → Nat → kt_M → Prop) (nx29 : Int32 → Int32 → kt_M → Prop) (nx54 : Int32 → Int32 → kt_M → Prop) (a0 : Nat) (v1 : Int32) (v3 : Int32) (v4 : Int32) (v5 : Int32) (M : kt_M) : Prop :=
  
    ((v1 ≤ v5 → vc_X5_leastBatch_77 w gr d P X nx29 a0 v1 v3 v4 M) ∧
    (¬ v1 ≤ v5 → 
      ((¬ v4 = 0 → vc_X5_leastBatch_77 w gr d P X nx29 a0 v1 v3 v4 M) ∧
      (v4 = 0 → (kt_co M a0 = some 12) ∧ 
      kt_Ca w gr d yX5_passHour kc_X5_passHour [va_rf (some a0)] M (kt_pI fun u1 M2 => nx54 u1 (v5 + (1 : Int32)) M2) X))))
theorem cj_X5_leastBatch_54 {w : kt_W} {x : kt_X} {gr : kt_g × kt_M} {d : Nat} {P : Option Value → kt_M → Prop} {X : String → Nat → kt_M → Prop} {nx29 : Int32 → Int32 → kt_M → Prop} {nx54 : Int32 → Int32 → kt_M → Prop} {a0 : Nat} {v1 : Int32} {v3 : Int32} {v4 : Int32} {v5 : Int32} {M : kt_M} (O : kt_O w x gr (d + 1) cX5_leastBatch "KeyTurnsModel" 6 ("leastBatch", "(I)I") (Option.some Jvm.ClassFile.FieldType.int) []) (hn29 : ∀ v2 v3 M, nx29 v2 v3 M → kt_S w x 6 (kt_E w x P X) M 29 [(0, va_rf (some a0)), (1, .int v1), (2, .int v2), (3, .int v3)] []) (hn54 : ∀ v4 v5 M, nx54 v4 v5 M → kt_S w x 6 (kt_E w x P X) M 54 [(0, va_rf (some a0)), (1, .int v1), (3, .int v3), (4, .int v4), (5, .int v5)] []) (h : vc_X5_leastBatch_54 w gr d P X nx29 nx54 a0 v1 v3 v4 v5 M) : kt_S w x 6 (kt_E w x P X) M 54 [(0, va_rf (some a0)), (1, .int v1), (3, .int v3), (4, .int v4), (5, .int v5)] [] := by
  unfold vc_X5_leastBatch_54 at h
  refine kr_iload O dX5_leastBatch_54 4 rfl ?_
  refine kr_iload_n O dX5_leastBatch_56 rfl 1 rfl ?_
  refine kr_icmp_ge (tgt := 77) O dX5_leastBatch_57 rfl (fun hc => ?_) (fun hc => ?_)
  · replace h := h.1 hc
    refine kr_sub [0, 1, 2, 3] rfl ?_
    exact cj_X5_leastBatch_77 O hn29 h
  · replace h := h.2 hc
    refine kr_iload O dX5_leastBatch_60 3 rfl ?_
    refine kr_if_ne (tgt := 77) O dX5_leastBatch_62 rfl (fun hc => ?_) (fun hc => ?_)
    · replace h := h.1 hc
      refine kr_sub [0, 1, 2, 3] rfl ?_
      exact cj_X5_leastBatch_77 O hn29 h
    · replace h := h.2 hc
      refine kr_aload_n O dX5_leastBatch_65 rfl 0 rfl ?_
      obtain ⟨hco, h⟩ := h
      refine kr_caI (rest := []) O cd_X5_passHour h (Nat.le_of_ble_eq_true rfl) (fun ls _ => kt_ivV (ci := 12) O dX5_leastBatch_66 cd_X5_passHour in_X5_passHour (Or.inl q2722) q2724 qs65 hco (by decide) hy_X5_passHour) (fun u1 M2 hq => ?_) (fun E q M9 hx => kr_out O hx)
      replace h := hq
      clear hq
      refine kr_istore O dX5_leastBatch_69 (Nat.le_of_ble_eq_true rfl) rfl rfl ?_
      refine kr_iinc O dX5_leastBatch_71 4 rfl (v := v5 + (1 : Int32)) rfl (Nat.le_of_ble_eq_true rfl) rfl rfl ?_
      refine kr_goto (tgt := 54) O dX5_leastBatch_74 rfl ?_
      refine kr_sub [2, 3, 4, 1, 0] rfl ?_
      exact hn54 _ _ _ h
def vl_X5_leastBatch_54 (w : kt_W) (gr : kt_g × kt_M) (d : Nat) (P : Option Value → kt_M → Prop) (X : String → Nat → kt_M → Prop) (nx29 : Int32 → Int32 → kt_M → Prop) (a0 : Nat) (v1 : Int32) (v3 : Int32) (v4 : Int32) (v5 : Int32) (M : kt_M) : Prop :=
  ∃ Inv : Nat → Int32 → Int32 → kt_M → Prop, (∃ k, Inv k v4 v5 M) ∧ ∀ k v4 v5 M, kt_le gr.1 gr.2 M → Inv k v4 v5 M → vc_X5_leastBatch_54 w gr d P X nx29 (fun v4' v5' M' => ∃ k', k' < k ∧ Inv k' v4' v5' M') a0 v1 v3 v4 v5 M
theorem cl_X5_leastBatch_54 {w : kt_W} {x : kt_X} {gr : kt_g × kt_M} {d : Nat} {P : Option Value → kt_M → Prop} {X : String → Nat → kt_M → Prop} {nx29 : Int32 → Int32 → kt_M → Prop} {a0 : Nat} {v1 : Int32} {v3 : Int32} {v4 : Int32} {v5 : Int32} {M : kt_M} (O : kt_O w x gr (d + 1) cX5_leastBatch "KeyTurnsModel" 6 ("leastBatch", "(I)I") (Option.some Jvm.ClassFile.FieldType.int) []) (hn29 : ∀ v2 v3 M, nx29 v2 v3 M → kt_S w x 6 (kt_E w x P X) M 29 [(0, va_rf (some a0)), (1, .int v1), (2, .int v2), (3, .int v3)] []) (h : vl_X5_leastBatch_54 w gr d P X nx29 a0 v1 v3 v4 v5 M) : kt_S w x 6 (kt_E w x P X) M 54 [(0, va_rf (some a0)), (1, .int v1), (3, .int v3), (4, .int v4), (5, .int v5)] [] := by
  obtain ⟨Inv, ⟨k, hk⟩, hb⟩ := h
  induction k using Nat.strongRecOn generalizing v4 v5 M with
  | ind k ih =>
    exact kr_le O fun hle => cj_X5_leastBatch_54 O hn29 (fun v4' v5' M' hi => let ⟨k', h1, h2⟩ := hi; ih k' h1 h2) (hb k _ _ _ hle hk)
def vc_X5_leastBatch_29 (w : kt_W) (gr : kt_g × kt_M) (d : Nat) (P : Option Value → kt_M → Prop) (X : String → Nat → kt_M → Prop) (nx29 : Int32 → Int32 → kt_M → Prop) (a0 : Nat) (v1 : Int32) (v2 : Int32) (v3 : Int32) (M : kt_M) : Prop :=
  
    (((30 : Int32) < v3 → P (some (.int v2)) M) ∧
    (¬ (30 : Int32) < v3 → 
      ((¬ v2 = (-1 : Int32) → P (some (.int v2)) M) ∧
      (v2 = (-1 : Int32) → ∃ p1, kt_gf M a0 65 = some (va_rf p1) ∧ ∃ b2, p1 = some b2 ∧ kt_hii gr 0 M b2 (7 : Int32) ∧ ∀ M3, M3 = kt_si M b2 (7 : Int32) v3 → vl_X5_leastBatch_54 w gr d P X nx29 a0 v1 v3 (0 : Int32) (0 : Int32) M3))))
theorem cj_X5_leastBatch_29 {w : kt_W} {x : kt_X} {gr : kt_g × kt_M} {d : Nat} {P : Option Value → kt_M → Prop} {X : String → Nat → kt_M → Prop} {nx29 : Int32 → Int32 → kt_M → Prop} {a0 : Nat} {v1 : Int32} {v2 : Int32} {v3 : Int32} {M : kt_M} (O : kt_O w x gr (d + 1) cX5_leastBatch "KeyTurnsModel" 6 ("leastBatch", "(I)I") (Option.some Jvm.ClassFile.FieldType.int) []) (hn29 : ∀ v2 v3 M, nx29 v2 v3 M → kt_S w x 6 (kt_E w x P X) M 29 [(0, va_rf (some a0)), (1, .int v1), (2, .int v2), (3, .int v3)] []) (h : vc_X5_leastBatch_29 w gr d P X nx29 a0 v1 v2 v3 M) : kt_S w x 6 (kt_E w x P X) M 29 [(0, va_rf (some a0)), (1, .int v1), (2, .int v2), (3, .int v3)] [] := by
  unfold vc_X5_leastBatch_29 at h
  refine kr_iload_n O dX5_leastBatch_29 rfl 3 rfl ?_
  refine kr_bipush O dX5_leastBatch_30 (v := (30 : Int32)) (by decide) ?_
  refine kr_icmp_gt (tgt := 98) O dX5_leastBatch_32 rfl (fun hc => ?_) (fun hc => ?_)
  · replace h := h.1 hc
    refine kr_iload_n O dX5_leastBatch_98 rfl 2 rfl ?_
    exact kr_iret O dX5_leastBatch_99 rfl h
  · replace h := h.2 hc
    refine kr_iload_n O dX5_leastBatch_35 rfl 2 rfl ?_
    refine kr_iconst O dX5_leastBatch_36 (v := (-1 : Int32)) (by decide) ?_
    refine kr_icmp_ne (tgt := 98) O dX5_leastBatch_37 rfl (fun hc => ?_) (fun hc => ?_)
    · replace h := h.1 hc
      refine kr_iload_n O dX5_leastBatch_98 rfl 2 rfl ?_
      exact kr_iret O dX5_leastBatch_99 rfl h
    · replace h := h.2 hc
      refine kr_aload_n O dX5_leastBatch_40 rfl 0 rfl ?_
      obtain ⟨p1, ep1, h⟩ := h
      refine kr_getf O dX5_leastBatch_41 fs_X5_9 ep1 ?_
      refine kr_bipush O dX5_leastBatch_44 (v := (7 : Int32)) (by decide) ?_
      refine kr_iload_n O dX5_leastBatch_46 rfl 3 rfl ?_
      obtain ⟨b2, rfl, h⟩ := h
      obtain ⟨hw, h⟩ := h
      refine kr_iastore O dX5_leastBatch_47 hw (kr_nmM fun M3 hM3 => ?_)
      replace h := h M3 hM3
      refine kr_iconst O dX5_leastBatch_48 (v := (0 : Int32)) (by decide) ?_
      refine kr_istore O dX5_leastBatch_49 (Nat.le_of_ble_eq_true rfl) rfl rfl ?_
      refine kr_iconst O dX5_leastBatch_51 (v := (0 : Int32)) (by decide) ?_
      refine kr_istore O dX5_leastBatch_52 (Nat.le_of_ble_eq_true rfl) rfl rfl ?_
      refine kr_sub [2, 3, 5, 1, 0] rfl ?_
      exact cl_X5_leastBatch_54 O hn29 h
def vl_X5_leastBatch_29 (w : kt_W) (gr : kt_g × kt_M) (d : Nat) (P : Option Value → kt_M → Prop) (X : String → Nat → kt_M → Prop)  (a0 : Nat) (v1 : Int32) (v2 : Int32) (v3 : Int32) (M : kt_M) : Prop :=
  ∃ Inv : Nat → Int32 → Int32 → kt_M → Prop, (∃ k, Inv k v2 v3 M) ∧ ∀ k v2 v3 M, kt_le gr.1 gr.2 M → Inv k v2 v3 M → vc_X5_leastBatch_29 w gr d P X (fun v2' v3' M' => ∃ k', k' < k ∧ Inv k' v2' v3' M') a0 v1 v2 v3 M
theorem cl_X5_leastBatch_29 {w : kt_W} {x : kt_X} {gr : kt_g × kt_M} {d : Nat} {P : Option Value → kt_M → Prop} {X : String → Nat → kt_M → Prop}  {a0 : Nat} {v1 : Int32} {v2 : Int32} {v3 : Int32} {M : kt_M} (O : kt_O w x gr (d + 1) cX5_leastBatch "KeyTurnsModel" 6 ("leastBatch", "(I)I") (Option.some Jvm.ClassFile.FieldType.int) [])  (h : vl_X5_leastBatch_29 w gr d P X  a0 v1 v2 v3 M) : kt_S w x 6 (kt_E w x P X) M 29 [(0, va_rf (some a0)), (1, .int v1), (2, .int v2), (3, .int v3)] [] := by
  obtain ⟨Inv, ⟨k, hk⟩, hb⟩ := h
  induction k using Nat.strongRecOn generalizing v2 v3 M with
  | ind k ih =>
    exact kr_le O fun hle => cj_X5_leastBatch_29 O (fun v2' v3' M' hi => let ⟨k', h1, h2⟩ := hi; ih k' h1 h2) (hb k _ _ _ hle hk)
def vc_X5_leastBatch (w : kt_W) (gr : kt_g × kt_M) (d : Nat) (P : Option Value → kt_M → Prop) (X : String → Nat → kt_M → Prop) (a0 : Nat) (v1 : Int32) (M : kt_M) : Prop :=
  kt_hf gr M a0 71 ∧ ∀ M1, M1 = kt_pf M a0 71 (.int (0 : Int32)) → 
  kt_Ca w gr d yX5_inRange kc_X5_inRange [.int v1, .int (1 : Int32), .int (100 : Int32)] M1 (kt_pI fun u2 M3 => 
    ((¬ u2 = 0 → (kt_co M3 a0 = some 12) ∧ 
    kt_Ca w gr d yX5_begin kc_X5_begin [va_rf (some a0)] M3 (kt_pV fun M4 => vl_X5_leastBatch_29 w gr d P X  a0 v1 (-1 : Int32) (1 : Int32) M4) X) ∧
    (u2 = 0 → (kt_co M3 a0 = some 12) ∧ 
    kt_Ca w gr d yX5_raise kc_X5_raise [va_rf (some a0), .int (1 : Int32)] M3 (kt_pI fun u5 M6 => P (some (.int u5)) M6) X))) X
theorem ce_X5_leastBatch {w : kt_W} {g : kt_g} {d : Nat} {P : Option Value → kt_M → Prop} {X : String → Nat → kt_M → Prop} {a0 : Nat} {v1 : Int32} {M : kt_M} (h : vc_X5_leastBatch w (g, M) d P X a0 v1 M) : kt_Sp w g (d + 1) yX5_leastBatch kc_X5_leastBatch [va_rf (some a0), .int v1] M P X := by
  refine kt_of (L0 := [(0, va_rf (some a0)), (1, .int v1)]) (by decide +kernel) (Nat.le_of_ble_eq_true rfl) rfl fun x O => ?_
  replace O : kt_O w x (g, M) (d + 1) cX5_leastBatch "KeyTurnsModel" 6 ("leastBatch", "(I)I") (Option.some Jvm.ClassFile.FieldType.int) [] := O
  unfold vc_X5_leastBatch at h
  refine kr_aload_n O dX5_leastBatch_0 rfl 0 rfl ?_
  refine kr_iconst O dX5_leastBatch_1 (v := (0 : Int32)) (by decide) ?_
  obtain ⟨hw, h⟩ := h
  refine kr_putf O dX5_leastBatch_2 fs_X5_71 (Or.inl rfl) ⟨rfl, rfl⟩ hw (kr_nmM fun M1 hM1 => ?_)
  replace h := h M1 hM1
  refine kr_iload_n O dX5_leastBatch_5 rfl 1 rfl ?_
  refine kr_iconst O dX5_leastBatch_6 (v := (1 : Int32)) (by decide) ?_
  refine kr_bipush O dX5_leastBatch_7 (v := (100 : Int32)) (by decide) ?_
  refine kr_caI (rest := []) O cd_X5_inRange h (Nat.le_of_ble_eq_true rfl) (fun ls _ => kt_ivS O dX5_leastBatch_9 cd_X5_inRange in_X5_inRange q2586 q2587 hy_X5_inRange) (fun u2 M3 hq => ?_) (fun E q M9 hx => kr_out O hx)
  replace h := hq
  clear hq
  refine kr_if_ne (tgt := 21) O dX5_leastBatch_12 rfl (fun hc => ?_) (fun hc => ?_)
  · replace h := h.1 hc
    refine kr_iconst O dX5_leastBatch_21 (v := (-1 : Int32)) (by decide) ?_
    refine kr_istore_n O dX5_leastBatch_22 rfl (Nat.le_of_ble_eq_true rfl) rfl rfl ?_
    refine kr_aload_n O dX5_leastBatch_23 rfl 1 rfl ?_
    obtain ⟨hco, h⟩ := h
    refine kr_caV (rest := []) O cd_X5_begin h (Nat.le_of_ble_eq_true rfl) (fun ls _ => kt_ivV (ci := 12) O dX5_leastBatch_24 cd_X5_begin in_X5_begin (Or.inl q2715) q2717 qs64 hco (by decide) hy_X5_begin) (fun M4 hq => ?_) (fun E q M9 hx => kr_out O hx)
    replace h := hq
    clear hq
    refine kr_iconst O dX5_leastBatch_27 (v := (1 : Int32)) (by decide) ?_
    refine kr_istore_n O dX5_leastBatch_28 rfl (Nat.le_of_ble_eq_true rfl) rfl rfl ?_
    refine kr_sub [2, 3, 1, 0] rfl ?_
    exact cl_X5_leastBatch_29 O  h
  · replace h := h.2 hc
    refine kr_aload_n O dX5_leastBatch_15 rfl 0 rfl ?_
    refine kr_iconst O dX5_leastBatch_16 (v := (1 : Int32)) (by decide) ?_
    obtain ⟨hco, h⟩ := h
    refine kr_caI (rest := []) O cd_X5_raise h (Nat.le_of_ble_eq_true rfl) (fun ls _ => kt_ivV (ci := 12) O dX5_leastBatch_17 cd_X5_raise in_X5_raise (Or.inl q2606) q2608 qs50 hco (by decide) hy_X5_raise) (fun u5 M6 hq => ?_) (fun E q M9 hx => kr_out O hx)
    replace h := hq
    clear hq
    exact kr_iret O dX5_leastBatch_20 rfl h
def vc_X5_damage (w : kt_W) (gr : kt_g × kt_M) (d : Nat) (P : Option Value → kt_M → Prop) (X : String → Nat → kt_M → Prop) (a0 : Nat) (v1 : Int32) (M : kt_M) : Prop :=
  kt_hf gr M a0 71 ∧ ∀ M1, M1 = kt_pf M a0 71 (.int (0 : Int32)) → (kt_co M1 a0 = some 12) ∧ 
  kt_Ca w gr d yX5_isVersion kc_X5_isVersion [va_rf (some a0), .int v1] M1 (kt_pI fun u2 M3 => 
    ((¬ u2 = 0 → (kt_co M3 a0 = some 12) ∧ 
    kt_Ca w gr d yX5_stateOf kc_X5_stateOf [va_rf (some a0), .int v1] M3 (kt_pI fun u4 M5 => 
      ((u4 < (2 : Int32) → (kt_co M5 a0 = some 12) ∧ 
      kt_Ca w gr d yX5_begin kc_X5_begin [va_rf (some a0)] M5 (kt_pV fun M6 => (kt_co M6 a0 = some 12) ∧ 
      kt_Ca w gr d yX5_withdrawNow kc_X5_withdrawNow [va_rf (some a0), .int v1] M6 (kt_pI fun u7 M8 => (kt_co M8 a0 = some 12) ∧ 
      kt_Ca w gr d yX5_end kc_X5_end [va_rf (some a0)] M8 (kt_pV fun M9 => 
      kt_Ca w gr d yJ7_max kc_J7_max [.int (0 : Int32), .int u7] M9 (kt_pI fun u10 M11 => P (some (.int u10)) M11) X) X) X) X) ∧
      (¬ u4 < (2 : Int32) → P (some (.int (0 : Int32))) M5))) X) ∧
    (u2 = 0 → (kt_co M3 a0 = some 12) ∧ 
    kt_Ca w gr d yX5_raise kc_X5_raise [va_rf (some a0), .int (1 : Int32)] M3 (kt_pI fun u12 M13 => P (some (.int u12)) M13) X))) X
theorem ce_X5_damage {w : kt_W} {g : kt_g} {d : Nat} {P : Option Value → kt_M → Prop} {X : String → Nat → kt_M → Prop} {a0 : Nat} {v1 : Int32} {M : kt_M} (h : vc_X5_damage w (g, M) d P X a0 v1 M) : kt_Sp w g (d + 1) yX5_damage kc_X5_damage [va_rf (some a0), .int v1] M P X := by
  refine kt_of (L0 := [(0, va_rf (some a0)), (1, .int v1)]) (by decide +kernel) (Nat.le_of_ble_eq_true rfl) rfl fun x O => ?_
  replace O : kt_O w x (g, M) (d + 1) cX5_damage "KeyTurnsModel" 3 ("damage", "(I)I") (Option.some Jvm.ClassFile.FieldType.int) [] := O
  unfold vc_X5_damage at h
  refine kr_aload_n O dX5_damage_0 rfl 0 rfl ?_
  refine kr_iconst O dX5_damage_1 (v := (0 : Int32)) (by decide) ?_
  obtain ⟨hw, h⟩ := h
  refine kr_putf O dX5_damage_2 fs_X5_71 (Or.inl rfl) ⟨rfl, rfl⟩ hw (kr_nmM fun M1 hM1 => ?_)
  replace h := h M1 hM1
  refine kr_aload_n O dX5_damage_5 rfl 0 rfl ?_
  refine kr_iload_n O dX5_damage_6 rfl 1 rfl ?_
  obtain ⟨hco, h⟩ := h
  refine kr_caI (rest := []) O cd_X5_isVersion h (Nat.le_of_ble_eq_true rfl) (fun ls _ => kt_ivV (ci := 12) O dX5_damage_7 cd_X5_isVersion in_X5_isVersion (Or.inl q2614) q2616 qs51 hco (by decide) hy_X5_isVersion) (fun u2 M3 hq => ?_) (fun E q M9 hx => kr_out O hx)
  replace h := hq
  clear hq
  refine kr_if_ne (tgt := 19) O dX5_damage_10 rfl (fun hc => ?_) (fun hc => ?_)
  · replace h := h.1 hc
    refine kr_aload_n O dX5_damage_19 rfl 0 rfl ?_
    refine kr_iload_n O dX5_damage_20 rfl 1 rfl ?_
    obtain ⟨hco, h⟩ := h
    refine kr_caI (rest := []) O cd_X5_stateOf h (Nat.le_of_ble_eq_true rfl) (fun ls _ => kt_ivV (ci := 12) O dX5_damage_21 cd_X5_stateOf in_X5_stateOf (Or.inl q2618) q2620 qs52 hco (by decide) hy_X5_stateOf) (fun u4 M5 hq => ?_) (fun E q M9 hx => kr_out O hx)
    replace h := hq
    clear hq
    refine kr_iconst O dX5_damage_24 (v := (2 : Int32)) (by decide) ?_
    refine kr_icmp_lt (tgt := 30) O dX5_damage_25 rfl (fun hc => ?_) (fun hc => ?_)
    · replace h := h.1 hc
      refine kr_aload_n O dX5_damage_30 rfl 0 rfl ?_
      obtain ⟨hco, h⟩ := h
      refine kr_caV (rest := []) O cd_X5_begin h (Nat.le_of_ble_eq_true rfl) (fun ls _ => kt_ivV (ci := 12) O dX5_damage_31 cd_X5_begin in_X5_begin (Or.inl q2715) q2717 qs64 hco (by decide) hy_X5_begin) (fun M6 hq => ?_) (fun E q M9 hx => kr_out O hx)
      replace h := hq
      clear hq
      refine kr_aload_n O dX5_damage_34 rfl 0 rfl ?_
      refine kr_iload_n O dX5_damage_35 rfl 1 rfl ?_
      obtain ⟨hco, h⟩ := h
      refine kr_caI (rest := []) O cd_X5_withdrawNow h (Nat.le_of_ble_eq_true rfl) (fun ls _ => kt_ivV (ci := 12) O dX5_damage_36 cd_X5_withdrawNow in_X5_withdrawNow (Or.inl q2766) q2768 qs73 hco (by decide) hy_X5_withdrawNow) (fun u7 M8 hq => ?_) (fun E q M9 hx => kr_out O hx)
      replace h := hq
      clear hq
      refine kr_istore_n O dX5_damage_39 rfl (Nat.le_of_ble_eq_true rfl) rfl rfl ?_
      refine kr_aload_n O dX5_damage_40 rfl 1 rfl ?_
      obtain ⟨hco, h⟩ := h
      refine kr_caV (rest := []) O cd_X5_end h (Nat.le_of_ble_eq_true rfl) (fun ls _ => kt_ivV (ci := 12) O dX5_damage_41 cd_X5_end in_X5_end (Or.inl q2750) q2752 qs72 hco (by decide) hy_X5_end) (fun M9 hq => ?_) (fun E q M9 hx => kr_out O hx)
      replace h := hq
      clear hq
      refine kr_iconst O dX5_damage_44 (v := (0 : Int32)) (by decide) ?_
      refine kr_iload_n O dX5_damage_45 rfl 0 rfl ?_
      refine kr_caI (rest := []) O cd_J7_max h (Nat.le_of_ble_eq_true rfl) (fun ls _ => kt_ivS O dX5_damage_46 cd_J7_max in_J7_max q2637 q367 hy_J7_max) (fun u10 M11 hq => ?_) (fun E q M9 hx => kr_out O hx)
      replace h := hq
      clear hq
      exact kr_iret O dX5_damage_49 rfl h
    · replace h := h.2 hc
      refine kr_iconst O dX5_damage_28 (v := (0 : Int32)) (by decide) ?_
      exact kr_iret O dX5_damage_29 rfl h
  · replace h := h.2 hc
    refine kr_aload_n O dX5_damage_13 rfl 0 rfl ?_
    refine kr_iconst O dX5_damage_14 (v := (1 : Int32)) (by decide) ?_
    obtain ⟨hco, h⟩ := h
    refine kr_caI (rest := []) O cd_X5_raise h (Nat.le_of_ble_eq_true rfl) (fun ls _ => kt_ivV (ci := 12) O dX5_damage_15 cd_X5_raise in_X5_raise (Or.inl q2606) q2608 qs50 hco (by decide) hy_X5_raise) (fun u12 M13 hq => ?_) (fun E q M9 hx => kr_out O hx)
    replace h := hq
    clear hq
    exact kr_iret O dX5_damage_18 rfl h
def vc_X5_withdrawNow_36 (w : kt_W) (gr : kt_g × kt_M) (d : Nat) (P : Option Value → kt_M → Prop) (X : String → Nat → kt_M → Prop)  (a0 : Nat) (M : kt_M) : Prop :=
  (kt_co M a0 = some 12) ∧ 
  kt_Ca w gr d yX5_clean kc_X5_clean [va_rf (some a0)] M (kt_pI fun u1 M2 => P (some (.int u1)) M2) X
theorem cj_X5_withdrawNow_36 {w : kt_W} {x : kt_X} {gr : kt_g × kt_M} {d : Nat} {P : Option Value → kt_M → Prop} {X : String → Nat → kt_M → Prop}  {a0 : Nat} {M : kt_M} (O : kt_O w x gr (d + 1) cX5_withdrawNow "KeyTurnsModel" 3 ("withdrawNow", "(I)I") (Option.some Jvm.ClassFile.FieldType.int) [])  (h : vc_X5_withdrawNow_36 w gr d P X  a0 M) : kt_S w x 3 (kt_E w x P X) M 36 [(0, va_rf (some a0))] [] := by
  unfold vc_X5_withdrawNow_36 at h
  refine kr_aload_n O dX5_withdrawNow_36 rfl 0 rfl ?_
  obtain ⟨hco, h⟩ := h
  refine kr_caI (rest := []) O cd_X5_clean h (Nat.le_of_ble_eq_true rfl) (fun ls _ => kt_ivV (ci := 12) O dX5_withdrawNow_37 cd_X5_clean in_X5_clean (Or.inl q2734) q2736 qs68 hco (by decide) hy_X5_clean) (fun u1 M2 hq => ?_) (fun E q M9 hx => kr_out O hx)
  replace h := hq
  clear hq
  exact kr_iret O dX5_withdrawNow_40 rfl h
def vc_X5_withdrawNow_24 (w : kt_W) (gr : kt_g × kt_M) (d : Nat) (P : Option Value → kt_M → Prop) (X : String → Nat → kt_M → Prop)  (a0 : Nat) (v2 : Int32) (M : kt_M) : Prop :=
  
    ((¬ v2 = 0 → vc_X5_withdrawNow_36 w gr d P X  a0 M) ∧
    (v2 = 0 → (kt_co M a0 = some 12) ∧ 
    kt_Ca w gr d yX5_hour kc_X5_hour [va_rf (some a0)] M (kt_pI fun u1 M2 => (kt_co M2 a0 = some 12) ∧ 
    kt_Ca w gr d yX5_issue kc_X5_issue [va_rf (some a0), .int u1] M2 (kt_pV fun M3 => vc_X5_withdrawNow_36 w gr d P X  a0 M3) X) X))
theorem cj_X5_withdrawNow_24 {w : kt_W} {x : kt_X} {gr : kt_g × kt_M} {d : Nat} {P : Option Value → kt_M → Prop} {X : String → Nat → kt_M → Prop}  {a0 : Nat} {v2 : Int32} {M : kt_M} (O : kt_O w x gr (d + 1) cX5_withdrawNow "KeyTurnsModel" 3 ("withdrawNow", "(I)I") (Option.some Jvm.ClassFile.FieldType.int) [])  (h : vc_X5_withdrawNow_24 w gr d P X  a0 v2 M) : kt_S w x 3 (kt_E w x P X) M 24 [(0, va_rf (some a0)), (2, .int v2)] [] := by
  unfold vc_X5_withdrawNow_24 at h
  refine kr_iload_n O dX5_withdrawNow_24 rfl 1 rfl ?_
  refine kr_if_ne (tgt := 36) O dX5_withdrawNow_25 rfl (fun hc => ?_) (fun hc => ?_)
  · replace h := h.1 hc
    refine kr_sub [0] rfl ?_
    exact cj_X5_withdrawNow_36 O  h
  · replace h := h.2 hc
    refine kr_aload_n O dX5_withdrawNow_28 rfl 0 rfl ?_
    refine kr_aload_n O dX5_withdrawNow_29 rfl 0 rfl ?_
    obtain ⟨hco, h⟩ := h
    refine kr_caI (rest := [va_rf (some a0)]) O cd_X5_hour h (Nat.le_of_ble_eq_true rfl) (fun ls _ => kt_ivV (ci := 12) O dX5_withdrawNow_30 cd_X5_hour in_X5_hour (Or.inl q2582) q2584 qs45 hco (by decide) hy_X5_hour) (fun u1 M2 hq => ?_) (fun E q M9 hx => kr_out O hx)
    replace h := hq
    clear hq
    obtain ⟨hco, h⟩ := h
    refine kr_caV (rest := []) O cd_X5_issue h (Nat.le_of_ble_eq_true rfl) (fun ls _ => kt_ivV (ci := 12) O dX5_withdrawNow_33 cd_X5_issue in_X5_issue (Or.inl q2463) q2465 qs38 hco (by decide) hy_X5_issue) (fun M3 hq => ?_) (fun E q M9 hx => kr_out O hx)
    replace h := hq
    clear hq
    refine kr_sub [0] rfl ?_
    exact cj_X5_withdrawNow_36 O  h
def vc_X5_withdrawNow (w : kt_W) (gr : kt_g × kt_M) (d : Nat) (P : Option Value → kt_M → Prop) (X : String → Nat → kt_M → Prop) (a0 : Nat) (v1 : Int32) (M : kt_M) : Prop :=
  (kt_co M a0 = some 12) ∧ 
  kt_Ca w gr d yX5_takeBack kc_X5_takeBack [va_rf (some a0), .int v1] M (kt_pI fun u1 M2 => 
    ((¬ u1 = 0 → vc_X5_withdrawNow_24 w gr d P X  a0 u1 M2) ∧
    (u1 = 0 → ∃ p3, kt_gf M2 a0 65 = some (va_rf p3) ∧ ∃ b4, p3 = some b4 ∧ ∃ u5, kt_el 0 M2 b4 (1 : Int32) = some (.int u5) ∧ 
      ((¬ u5 = (30 : Int32) → vc_X5_withdrawNow_24 w gr d P X  a0 u1 M2) ∧
      (u5 = (30 : Int32) → P (some (.int (-3 : Int32))) M2))))) X
theorem ce_X5_withdrawNow {w : kt_W} {g : kt_g} {d : Nat} {P : Option Value → kt_M → Prop} {X : String → Nat → kt_M → Prop} {a0 : Nat} {v1 : Int32} {M : kt_M} (h : vc_X5_withdrawNow w (g, M) d P X a0 v1 M) : kt_Sp w g (d + 1) yX5_withdrawNow kc_X5_withdrawNow [va_rf (some a0), .int v1] M P X := by
  refine kt_of (L0 := [(0, va_rf (some a0)), (1, .int v1)]) (by decide +kernel) (Nat.le_of_ble_eq_true rfl) rfl fun x O => ?_
  replace O : kt_O w x (g, M) (d + 1) cX5_withdrawNow "KeyTurnsModel" 3 ("withdrawNow", "(I)I") (Option.some Jvm.ClassFile.FieldType.int) [] := O
  unfold vc_X5_withdrawNow at h
  refine kr_aload_n O dX5_withdrawNow_0 rfl 0 rfl ?_
  refine kr_iload_n O dX5_withdrawNow_1 rfl 1 rfl ?_
  obtain ⟨hco, h⟩ := h
  refine kr_caI (rest := []) O cd_X5_takeBack h (Nat.le_of_ble_eq_true rfl) (fun ls _ => kt_ivV (ci := 12) O dX5_withdrawNow_2 cd_X5_takeBack in_X5_takeBack (Or.inl q2770) q2772 qs74 hco (by decide) hy_X5_takeBack) (fun u1 M2 hq => ?_) (fun E q M9 hx => kr_out O hx)
  replace h := hq
  clear hq
  refine kr_istore_n O dX5_withdrawNow_5 rfl (Nat.le_of_ble_eq_true rfl) rfl rfl ?_
  refine kr_iload_n O dX5_withdrawNow_6 rfl 0 rfl ?_
  refine kr_if_ne (tgt := 24) O dX5_withdrawNow_7 rfl (fun hc => ?_) (fun hc => ?_)
  · replace h := h.1 hc
    refine kr_sub [1, 0] rfl ?_
    exact cj_X5_withdrawNow_24 O  h
  · replace h := h.2 hc
    refine kr_aload_n O dX5_withdrawNow_10 rfl 1 rfl ?_
    obtain ⟨p3, ep3, h⟩ := h
    refine kr_getf O dX5_withdrawNow_11 fs_X5_9 ep3 ?_
    refine kr_iconst O dX5_withdrawNow_14 (v := (1 : Int32)) (by decide) ?_
    obtain ⟨b4, rfl, h⟩ := h
    obtain ⟨u5, eu5, h⟩ := h
    refine kr_iaload O dX5_withdrawNow_15 eu5 ?_
    refine kr_bipush O dX5_withdrawNow_16 (v := (30 : Int32)) (by decide) ?_
    refine kr_icmp_ne (tgt := 24) O dX5_withdrawNow_18 rfl (fun hc => ?_) (fun hc => ?_)
    · replace h := h.1 hc
      refine kr_sub [1, 0] rfl ?_
      exact cj_X5_withdrawNow_24 O  h
    · replace h := h.2 hc
      refine kr_bipush O dX5_withdrawNow_21 (v := (-3 : Int32)) (by decide) ?_
      exact kr_iret O dX5_withdrawNow_23 rfl h
