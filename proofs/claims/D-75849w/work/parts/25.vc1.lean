set_option maxRecDepth 100000
def vc_J1_init (w : kt_W) (gr : kt_g × kt_M) (d : Nat) (P : Option Value → kt_M → Prop) (X : String → Nat → kt_M → Prop) (a0 : Nat) (M : kt_M) : Prop :=
  
  kt_Ca w gr d yJ0_init kc_J0_init [va_rf (some a0)] M (kt_pV fun M1 => ∃ n2, (17 : Int32) = nI n2 ∧ n2 < 2 ^ 31 ∧ kt_fits w M1 n2 ∧ ∃ t3, ∀ M4, M4 = kt_new M1 n2 (t3 + 2, .inl (3, kt_z 3 n2)) → kt_hf gr M4 a0 104 ∧ ∀ M5, M5 = kt_pf M4 a0 104 (va_rf (some M1.1)) → P none M5) X
theorem ce_J1_init {w : kt_W} {g : kt_g} {d : Nat} {P : Option Value → kt_M → Prop} {X : String → Nat → kt_M → Prop} {a0 : Nat} {M : kt_M} (h : vc_J1_init w (g, M) d P X a0 M) : kt_Sp w g (d + 1) yJ1_init kc_J1_init [va_rf (some a0)] M P X := by
  refine kt_of (L0 := [(0, va_rf (some a0))]) (by decide +kernel) (Nat.le_of_ble_eq_true rfl) rfl fun x O => ?_
  replace O : kt_O w x (g, M) (d + 1) cJ1_init "java/util/ArrayDeque" 1 ("<init>", "()V") (Option.none : Option Jvm.ClassFile.FieldType) [] := O
  unfold vc_J1_init at h
  refine kr_aload_n O dJ1_init_0 rfl 0 rfl ?_
  refine kr_caV (rest := []) O cd_J0_init h (Nat.le_of_ble_eq_true rfl) (fun ls _ => kt_ivI O dJ1_init_1 cd_J0_init in_J0_init (Or.inl q180) q181 hi_J0_init) (fun M1 hq => ?_) (fun E q M9 hx => kr_out O hx)
  replace h := hq
  clear hq
  refine kr_aload_n O dJ1_init_4 rfl 0 rfl ?_
  refine kr_bipush O dJ1_init_5 (v := (17 : Int32)) (by decide) ?_
  obtain ⟨n2, hn, hl, hf, t3, h⟩ := h
  refine kr_anew t3 3 O dJ1_init_7 (by decide) (by decide) rfl q184 q185 hn hl hf (kr_nmM fun M4 hM4 => ?_)
  replace h := h M4 hM4
  obtain ⟨hw, h⟩ := h
  refine kr_putf O dJ1_init_10 fs_J1_3 (Or.inl rfl) (kt_ok_ra _ rfl) hw (kr_nmM fun M5 hM5 => ?_)
  replace h := h M5 hM5
  exact kr_vret O dJ1_init_13 h
def vc_J1_size (w : kt_W) (gr : kt_g × kt_M) (d : Nat) (P : Option Value → kt_M → Prop) (X : String → Nat → kt_M → Prop) (a0 : Nat) (M : kt_M) : Prop :=
  ∃ u1, kt_gf M a0 106 = some (.int u1) ∧ ∃ u2, kt_gf M a0 105 = some (.int u2) ∧ ∃ p3, kt_gf M a0 104 = some (va_rf p3) ∧ ∃ b4, p3 = some b4 ∧ ∃ n5, kt_len M b4 = some n5 ∧ 
  kt_Ca w gr d yJ1_sub kc_J1_sub [.int u1, .int u2, .int (nI n5)] M (kt_pI fun u6 M7 => P (some (.int u6)) M7) X
theorem ce_J1_size {w : kt_W} {g : kt_g} {d : Nat} {P : Option Value → kt_M → Prop} {X : String → Nat → kt_M → Prop} {a0 : Nat} {M : kt_M} (h : vc_J1_size w (g, M) d P X a0 M) : kt_Sp w g (d + 1) yJ1_size kc_J1_size [va_rf (some a0)] M P X := by
  refine kt_of (L0 := [(0, va_rf (some a0))]) (by decide +kernel) (Nat.le_of_ble_eq_true rfl) rfl fun x O => ?_
  replace O : kt_O w x (g, M) (d + 1) cJ1_size "java/util/ArrayDeque" 1 ("size", "()I") (Option.some Jvm.ClassFile.FieldType.int) [] := O
  unfold vc_J1_size at h
  refine kr_aload_n O dJ1_size_0 rfl 0 rfl ?_
  obtain ⟨u1, eu1, h⟩ := h
  refine kr_getf O dJ1_size_1 fs_J1_20 eu1 ?_
  refine kr_aload_n O dJ1_size_4 rfl 0 rfl ?_
  obtain ⟨u2, eu2, h⟩ := h
  refine kr_getf O dJ1_size_5 fs_J1_24 eu2 ?_
  refine kr_aload_n O dJ1_size_8 rfl 0 rfl ?_
  obtain ⟨p3, ep3, h⟩ := h
  refine kr_getf O dJ1_size_9 fs_J1_3 ep3 ?_
  obtain ⟨b4, rfl, h⟩ := h
  obtain ⟨n5, en5, h⟩ := h
  refine kr_alen O dJ1_size_12 en5 ?_
  refine kr_caI (rest := []) O cd_J1_sub h (Nat.le_of_ble_eq_true rfl) (fun ls _ => kt_ivS O dJ1_size_13 cd_J1_sub in_J1_sub q634 q635 hy_J1_sub) (fun u6 M7 hq => ?_) (fun E q M9 hx => kr_out O hx)
  replace h := hq
  clear hq
  exact kr_iret O dJ1_size_16 rfl h
def vc_J1_sub (w : kt_W) (gr : kt_g × kt_M) (d : Nat) (P : Option Value → kt_M → Prop) (X : String → Nat → kt_M → Prop) (v0 : Int32) (v1 : Int32) (v2 : Int32) (M : kt_M) : Prop :=
  
    ((0 ≤ (v0 - v1) → P (some (.int (v0 - v1))) M) ∧
    (¬ 0 ≤ (v0 - v1) → P (some (.int ((v0 - v1) + v2))) M))
theorem ce_J1_sub {w : kt_W} {g : kt_g} {d : Nat} {P : Option Value → kt_M → Prop} {X : String → Nat → kt_M → Prop} {v0 : Int32} {v1 : Int32} {v2 : Int32} {M : kt_M} (h : vc_J1_sub w (g, M) d P X v0 v1 v2 M) : kt_Sp w g (d + 1) yJ1_sub kc_J1_sub [.int v0, .int v1, .int v2] M P X := by
  refine kt_of (L0 := [(0, .int v0), (1, .int v1), (2, .int v2)]) (by decide +kernel) (Nat.le_of_ble_eq_true rfl) rfl fun x O => ?_
  replace O : kt_O w x (g, M) (d + 1) cJ1_sub "java/util/ArrayDeque" 3 ("sub", "(III)I") (Option.some Jvm.ClassFile.FieldType.int) [] := O
  unfold vc_J1_sub at h
  refine kr_iload_n O dJ1_sub_0 rfl 0 rfl ?_
  refine kr_iload_n O dJ1_sub_1 rfl 1 rfl ?_
  refine kr_isub O dJ1_sub_2 ?_
  refine kr_dup O dJ1_sub_3 rfl ?_
  refine kr_istore_n O dJ1_sub_4 rfl (Nat.le_of_ble_eq_true rfl) rfl rfl ?_
  refine kr_if_ge (tgt := 12) O dJ1_sub_5 rfl (fun hc => ?_) (fun hc => ?_)
  · replace h := h.1 hc
    refine kr_iload_n O dJ1_sub_12 rfl 0 rfl ?_
    exact kr_iret O dJ1_sub_13 rfl h
  · replace h := h.2 hc
    refine kr_iload_n O dJ1_sub_8 rfl 0 rfl ?_
    refine kr_iload_n O dJ1_sub_9 rfl 2 rfl ?_
    refine kr_iadd O dJ1_sub_10 ?_
    refine kr_istore_n O dJ1_sub_11 rfl (Nat.le_of_ble_eq_true rfl) rfl rfl ?_
    refine kr_iload_n O dJ1_sub_12 rfl 0 rfl ?_
    exact kr_iret O dJ1_sub_13 rfl h
def vc_J1_removeFirst (w : kt_W) (gr : kt_g × kt_M) (d : Nat) (P : Option Value → kt_M → Prop) (X : String → Nat → kt_M → Prop) (a0 : Nat) (M : kt_M) : Prop :=
  (kt_co M a0 = some 17) ∧ 
  kt_Ca w gr d yJ1_pollFirst kc_J1_pollFirst [va_rf (some a0)] M (kt_pR fun p1 M2 => 
    ((p1 = none → False) ∧
    (∀ b3, p1 = some b3 → P (some (va_rf (some b3))) M2))) X
theorem ce_J1_removeFirst {w : kt_W} {g : kt_g} {d : Nat} {P : Option Value → kt_M → Prop} {X : String → Nat → kt_M → Prop} {a0 : Nat} {M : kt_M} (h : vc_J1_removeFirst w (g, M) d P X a0 M) : kt_Sp w g (d + 1) yJ1_removeFirst kc_J1_removeFirst [va_rf (some a0)] M P X := by
  refine kt_of (L0 := [(0, va_rf (some a0))]) (by decide +kernel) (Nat.le_of_ble_eq_true rfl) rfl fun x O => ?_
  replace O : kt_O w x (g, M) (d + 1) cJ1_removeFirst "java/util/ArrayDeque" 2 ("removeFirst", "()Ljava/lang/Object;") (Option.some (Jvm.ClassFile.FieldType.object "java/lang/Object")) [] := O
  unfold vc_J1_removeFirst at h
  refine kr_aload_n O dJ1_removeFirst_0 rfl 0 rfl ?_
  obtain ⟨hco, h⟩ := h
  refine kr_caR (rest := []) O cd_J1_pollFirst h (Nat.le_of_ble_eq_true rfl) (fun ls _ => kt_ivV (ci := 17) O dJ1_removeFirst_1 cd_J1_pollFirst in_J1_pollFirst (Or.inl q641) q642 q643 hco (by decide) hy_J1_pollFirst) (fun p1 M2 hq => ?_) (fun E q M9 hx => kr_out O hx)
  replace h := hq
  clear hq
  refine kr_astore_n O dJ1_removeFirst_4 rfl (Nat.le_of_ble_eq_true rfl) rfl rfl ?_
  refine kr_aload_n O dJ1_removeFirst_5 rfl 0 rfl ?_
  refine kr_ifnonnull (tgt := 17) O dJ1_removeFirst_6 rfl (fun b3 hb => ?_) (fun hc => ?_)
  · subst hb
    replace h := h.2 b3 rfl
    refine kr_aload_n O dJ1_removeFirst_17 rfl 0 rfl ?_
    exact kr_aret O dJ1_removeFirst_18 (by first | exact Or.inl ⟨_, rfl⟩ | exact Or.inr ⟨_, rfl⟩) h
  · subst hc
    replace h := h.1 rfl
    exact h.elim
def vc_J1_pollFirst (w : kt_W) (gr : kt_g × kt_M) (d : Nat) (P : Option Value → kt_M → Prop) (X : String → Nat → kt_M → Prop) (a0 : Nat) (M : kt_M) : Prop :=
  ∃ p1, kt_gf M a0 104 = some (va_rf p1) ∧ ∃ u2, kt_gf M a0 105 = some (.int u2) ∧ 
  kt_Ca w gr d yJ1_elementAt kc_J1_elementAt [va_rf p1, .int u2] M (kt_pR fun p3 M4 => 
    ((p3 = none → P (some (va_rf none)) M4) ∧
    (∀ b5, p3 = some b5 → ∃ b6, p1 = some b6 ∧ ∃ k7, 3 ≤ k7 ∧ kt_hiq gr k7 M4 b6 u2 ∧ (∀ c, none = some c → kt_fo k7 M4 c) ∧ ∀ M8, M8 = kt_sq M4 b6 u2 none → ∃ n9, kt_len M8 b6 = some n9 ∧ 
    kt_Ca w gr d yJ1_inc kc_J1_inc [.int u2, .int (nI n9)] M8 (kt_pI fun u10 M11 => kt_hf gr M11 a0 105 ∧ ∀ M12, M12 = kt_pf M11 a0 105 (.int u10) → P (some (va_rf (some b5))) M12) X))) X
theorem ce_J1_pollFirst {w : kt_W} {g : kt_g} {d : Nat} {P : Option Value → kt_M → Prop} {X : String → Nat → kt_M → Prop} {a0 : Nat} {M : kt_M} (h : vc_J1_pollFirst w (g, M) d P X a0 M) : kt_Sp w g (d + 1) yJ1_pollFirst kc_J1_pollFirst [va_rf (some a0)] M P X := by
  refine kt_of (L0 := [(0, va_rf (some a0))]) (by decide +kernel) (Nat.le_of_ble_eq_true rfl) rfl fun x O => ?_
  replace O : kt_O w x (g, M) (d + 1) cJ1_pollFirst "java/util/ArrayDeque" 4 ("pollFirst", "()Ljava/lang/Object;") (Option.some (Jvm.ClassFile.FieldType.object "java/lang/Object")) [] := O
  unfold vc_J1_pollFirst at h
  refine kr_aload_n O dJ1_pollFirst_0 rfl 0 rfl ?_
  obtain ⟨p1, ep1, h⟩ := h
  refine kr_getf O dJ1_pollFirst_1 fs_J1_3 ep1 ?_
  refine kr_dup O dJ1_pollFirst_4 (kt_nrf _) ?_
  refine kr_astore_n O dJ1_pollFirst_5 rfl (Nat.le_of_ble_eq_true rfl) rfl rfl ?_
  refine kr_aload_n O dJ1_pollFirst_6 rfl 1 rfl ?_
  obtain ⟨u2, eu2, h⟩ := h
  refine kr_getf O dJ1_pollFirst_7 fs_J1_24 eu2 ?_
  refine kr_dup O dJ1_pollFirst_10 rfl ?_
  refine kr_istore_n O dJ1_pollFirst_11 rfl (Nat.le_of_ble_eq_true rfl) (by simp [kt_nw, kt_nrf, kt_cI, kt_cJ, kt_cF, kt_cD, kt_cR, kt_cU]) rfl ?_
  refine kr_caR (rest := []) O cd_J1_elementAt h (Nat.le_of_ble_eq_true rfl) (fun ls _ => kt_ivS O dJ1_pollFirst_12 cd_J1_elementAt in_J1_elementAt q645 q646 hy_J1_elementAt) (fun p3 M4 hq => ?_) (fun E q M9 hx => kr_out O hx)
  replace h := hq
  clear hq
  refine kr_astore_n O dJ1_pollFirst_15 rfl (Nat.le_of_ble_eq_true rfl) rfl rfl ?_
  refine kr_aload_n O dJ1_pollFirst_16 rfl 0 rfl ?_
  refine kr_ifnull (tgt := 34) O dJ1_pollFirst_17 rfl (fun hc => ?_) (fun b5 hb => ?_)
  · subst hc
    replace h := h.1 rfl
    refine kr_aload_n O dJ1_pollFirst_34 rfl 0 rfl ?_
    exact kr_aret O dJ1_pollFirst_35 (by first | exact Or.inl ⟨_, rfl⟩ | exact Or.inr ⟨_, rfl⟩) h
  · subst hb
    replace h := h.2 b5 rfl
    refine kr_aload_n O dJ1_pollFirst_20 rfl 2 rfl ?_
    refine kr_iload_n O dJ1_pollFirst_21 rfl 1 rfl ?_
    refine kr_null O dJ1_pollFirst_22 ?_
    obtain ⟨b6, rfl, h⟩ := h
    obtain ⟨k7, hk7, hw, hfo, h⟩ := h
    refine kr_aastore k7 hk7 O dJ1_pollFirst_23 hw hfo (kr_nmM fun M8 hM8 => ?_)
    replace h := h M8 hM8
    refine kr_aload_n O dJ1_pollFirst_24 rfl 3 rfl ?_
    refine kr_iload_n O dJ1_pollFirst_25 rfl 1 rfl ?_
    refine kr_aload_n O dJ1_pollFirst_26 rfl 2 rfl ?_
    obtain ⟨n9, en9, h⟩ := h
    refine kr_alen O dJ1_pollFirst_27 en9 ?_
    refine kr_caI (rest := [va_rf (some a0)]) O cd_J1_inc h (Nat.le_of_ble_eq_true rfl) (fun ls _ => kt_ivS O dJ1_pollFirst_28 cd_J1_inc in_J1_inc q648 q649 hy_J1_inc) (fun u10 M11 hq => ?_) (fun E q M9 hx => kr_out O hx)
    replace h := hq
    clear hq
    obtain ⟨hw, h⟩ := h
    refine kr_putf O dJ1_pollFirst_31 fs_J1_24 (Or.inl rfl) ⟨rfl, rfl⟩ hw (kr_nmM fun M12 hM12 => ?_)
    replace h := h M12 hM12
    refine kr_aload_n O dJ1_pollFirst_34 rfl 0 rfl ?_
    exact kr_aret O dJ1_pollFirst_35 (by first | exact Or.inl ⟨_, rfl⟩ | exact Or.inr ⟨_, rfl⟩) h
def vc_J1_elementAt (w : kt_W) (gr : kt_g × kt_M) (d : Nat) (P : Option Value → kt_M → Prop) (X : String → Nat → kt_M → Prop) (r0 : Option Nat) (v1 : Int32) (M : kt_M) : Prop :=
  ∃ b1, r0 = some b1 ∧ ∃ k3, 3 ≤ k3 ∧ ∃ p2, kt_el k3 M b1 v1 = some (va_rf p2) ∧ P (some (va_rf p2)) M
theorem ce_J1_elementAt {w : kt_W} {g : kt_g} {d : Nat} {P : Option Value → kt_M → Prop} {X : String → Nat → kt_M → Prop} {r0 : Option Nat} {v1 : Int32} {M : kt_M} (h : vc_J1_elementAt w (g, M) d P X r0 v1 M) : kt_Sp w g (d + 1) yJ1_elementAt kc_J1_elementAt [va_rf r0, .int v1] M P X := by
  refine kt_of (L0 := [(0, va_rf r0), (1, .int v1)]) (by decide +kernel) (by simp only [kt_lgR, kt_lgI, kt_lgN] <;> exact Nat.le_of_ble_eq_true rfl) (by simp only [kt_lvR, kt_lvI, kt_lvN] <;> rfl) fun x O => ?_
  replace O : kt_O w x (g, M) (d + 1) cJ1_elementAt "java/util/ArrayDeque" 2 ("elementAt", "([Ljava/lang/Object;I)Ljava/lang/Object;") (Option.some (Jvm.ClassFile.FieldType.object "java/lang/Object")) [] := O
  unfold vc_J1_elementAt at h
  refine kr_aload_n O dJ1_elementAt_0 rfl 0 rfl ?_
  refine kr_iload_n O dJ1_elementAt_1 rfl 1 rfl ?_
  obtain ⟨b1, rfl, h⟩ := h
  obtain ⟨k3, hk3, p2, ep2, h⟩ := h
  refine kr_aaload k3 hk3 O dJ1_elementAt_2 ep2 ?_
  exact kr_aret O dJ1_elementAt_3 (by first | exact Or.inl ⟨_, rfl⟩ | exact Or.inr ⟨_, rfl⟩) h
def vc_J1_inc (w : kt_W) (gr : kt_g × kt_M) (d : Nat) (P : Option Value → kt_M → Prop) (X : String → Nat → kt_M → Prop) (v0 : Int32) (v1 : Int32) (M : kt_M) : Prop :=
  
    (((v0 + (1 : Int32)) < v1 → P (some (.int (v0 + (1 : Int32)))) M) ∧
    (¬ (v0 + (1 : Int32)) < v1 → P (some (.int (0 : Int32))) M))
theorem ce_J1_inc {w : kt_W} {g : kt_g} {d : Nat} {P : Option Value → kt_M → Prop} {X : String → Nat → kt_M → Prop} {v0 : Int32} {v1 : Int32} {M : kt_M} (h : vc_J1_inc w (g, M) d P X v0 v1 M) : kt_Sp w g (d + 1) yJ1_inc kc_J1_inc [.int v0, .int v1] M P X := by
  refine kt_of (L0 := [(0, .int v0), (1, .int v1)]) (by decide +kernel) (Nat.le_of_ble_eq_true rfl) rfl fun x O => ?_
  replace O : kt_O w x (g, M) (d + 1) cJ1_inc "java/util/ArrayDeque" 2 ("inc", "(II)I") (Option.some Jvm.ClassFile.FieldType.int) [] := O
  unfold vc_J1_inc at h
  refine kr_iinc O dJ1_inc_0 0 rfl (v := v0 + (1 : Int32)) rfl (Nat.le_of_ble_eq_true rfl) rfl rfl ?_
  refine kr_iload_n O dJ1_inc_3 rfl 0 rfl ?_
  refine kr_iload_n O dJ1_inc_4 rfl 1 rfl ?_
  refine kr_icmp_lt (tgt := 10) O dJ1_inc_5 rfl (fun hc => ?_) (fun hc => ?_)
  · replace h := h.1 hc
    refine kr_iload_n O dJ1_inc_10 rfl 0 rfl ?_
    exact kr_iret O dJ1_inc_11 rfl h
  · replace h := h.2 hc
    refine kr_iconst O dJ1_inc_8 (v := (0 : Int32)) (by decide) ?_
    refine kr_istore_n O dJ1_inc_9 rfl (Nat.le_of_ble_eq_true rfl) rfl rfl ?_
    refine kr_iload_n O dJ1_inc_10 rfl 0 rfl ?_
    exact kr_iret O dJ1_inc_11 rfl h
def vc_J1_addLast (w : kt_W) (gr : kt_g × kt_M) (d : Nat) (P : Option Value → kt_M → Prop) (X : String → Nat → kt_M → Prop) (a0 : Nat) (r1 : Option Nat) (M : kt_M) : Prop :=
  
    ((r1 = none → False) ∧
    (∀ b1, r1 = some b1 → ∃ p2, kt_gf M a0 104 = some (va_rf p2) ∧ ∃ u3, kt_gf M a0 106 = some (.int u3) ∧ ∃ b4, p2 = some b4 ∧ ∃ k5, 3 ≤ k5 ∧ kt_hiq gr k5 M b4 u3 ∧ (∀ c, (some b1) = some c → kt_fo k5 M c) ∧ ∀ M6, M6 = kt_sq M b4 u3 (some b1) → ∃ u7, kt_gf M6 a0 105 = some (.int u7) ∧ ∃ u8, kt_gf M6 a0 106 = some (.int u8) ∧ ∃ n9, kt_len M6 b4 = some n9 ∧ 
    kt_Ca w gr d yJ1_inc kc_J1_inc [.int u8, .int (nI n9)] M6 (kt_pI fun u10 M11 => kt_hf gr M11 a0 106 ∧ ∀ M12, M12 = kt_pf M11 a0 106 (.int u10) → 
      ((¬ u7 = u10 → P none M12) ∧
      (u7 = u10 → (kt_co M12 a0 = some 17) ∧ 
      kt_Ca w gr d yJ1_grow kc_J1_grow [va_rf (some a0), .int (1 : Int32)] M12 (kt_pV fun M13 => P none M13) X))) X))
theorem ce_J1_addLast {w : kt_W} {g : kt_g} {d : Nat} {P : Option Value → kt_M → Prop} {X : String → Nat → kt_M → Prop} {a0 : Nat} {r1 : Option Nat} {M : kt_M} (h : vc_J1_addLast w (g, M) d P X a0 r1 M) : kt_Sp w g (d + 1) yJ1_addLast kc_J1_addLast [va_rf (some a0), va_rf r1] M P X := by
  refine kt_of (L0 := [(0, va_rf (some a0)), (1, va_rf r1)]) (by decide +kernel) (by simp only [kt_lgR, kt_lgI, kt_lgN] <;> exact Nat.le_of_ble_eq_true rfl) (by simp only [kt_lvR, kt_lvI, kt_lvN] <;> rfl) fun x O => ?_
  replace O : kt_O w x (g, M) (d + 1) cJ1_addLast "java/util/ArrayDeque" 3 ("addLast", "(Ljava/lang/Object;)V") (Option.none : Option Jvm.ClassFile.FieldType) [] := O
  unfold vc_J1_addLast at h
  refine kr_aload_n O dJ1_addLast_0 rfl 1 rfl ?_
  refine kr_ifnonnull (tgt := 12) O dJ1_addLast_1 rfl (fun b1 hb => ?_) (fun hc => ?_)
  · subst hb
    replace h := h.2 b1 rfl
    refine kr_aload_n O dJ1_addLast_12 rfl 0 rfl ?_
    obtain ⟨p2, ep2, h⟩ := h
    refine kr_getf O dJ1_addLast_13 fs_J1_3 ep2 ?_
    refine kr_astore_n O dJ1_addLast_16 rfl (Nat.le_of_ble_eq_true rfl) rfl rfl ?_
    refine kr_aload_n O dJ1_addLast_17 rfl 0 rfl ?_
    refine kr_aload_n O dJ1_addLast_18 rfl 1 rfl ?_
    obtain ⟨u3, eu3, h⟩ := h
    refine kr_getf O dJ1_addLast_19 fs_J1_20 eu3 ?_
    refine kr_aload_n O dJ1_addLast_22 rfl 2 rfl ?_
    obtain ⟨b4, rfl, h⟩ := h
    obtain ⟨k5, hk5, hw, hfo, h⟩ := h
    refine kr_aastore k5 hk5 O dJ1_addLast_23 hw hfo (kr_nmM fun M6 hM6 => ?_)
    replace h := h M6 hM6
    refine kr_aload_n O dJ1_addLast_24 rfl 1 rfl ?_
    obtain ⟨u7, eu7, h⟩ := h
    refine kr_getf O dJ1_addLast_25 fs_J1_24 eu7 ?_
    refine kr_aload_n O dJ1_addLast_28 rfl 1 rfl ?_
    refine kr_aload_n O dJ1_addLast_29 rfl 1 rfl ?_
    obtain ⟨u8, eu8, h⟩ := h
    refine kr_getf O dJ1_addLast_30 fs_J1_20 eu8 ?_
    refine kr_aload_n O dJ1_addLast_33 rfl 0 rfl ?_
    obtain ⟨n9, en9, h⟩ := h
    refine kr_alen O dJ1_addLast_34 en9 ?_
    refine kr_caI (rest := [va_rf (some a0), .int u7]) O cd_J1_inc h (Nat.le_of_ble_eq_true rfl) (fun ls _ => kt_ivS O dJ1_addLast_35 cd_J1_inc in_J1_inc q648 q649 hy_J1_inc) (fun u10 M11 hq => ?_) (fun E q M9 hx => kr_out O hx)
    replace h := hq
    clear hq
    refine kr_dup_x1 O dJ1_addLast_38 rfl (kt_nrf _) ?_
    obtain ⟨hw, h⟩ := h
    refine kr_putf O dJ1_addLast_39 fs_J1_20 (Or.inl rfl) ⟨rfl, rfl⟩ hw (kr_nmM fun M12 hM12 => ?_)
    replace h := h M12 hM12
    refine kr_icmp_ne (tgt := 50) O dJ1_addLast_42 rfl (fun hc => ?_) (fun hc => ?_)
    · replace h := h.1 hc
      exact kr_vret O dJ1_addLast_50 h
    · replace h := h.2 hc
      refine kr_aload_n O dJ1_addLast_45 rfl 1 rfl ?_
      refine kr_iconst O dJ1_addLast_46 (v := (1 : Int32)) (by decide) ?_
      obtain ⟨hco, h⟩ := h
      refine kr_caV (rest := []) O cd_J1_grow h (Nat.le_of_ble_eq_true rfl) (fun ls _ => kt_ivV (ci := 17) O dJ1_addLast_47 cd_J1_grow in_J1_grow (Or.inl q719) q721 qs8 hco (by decide) hy_J1_grow) (fun M13 hq => ?_) (fun E q M9 hx => kr_out O hx)
      replace h := hq
      clear hq
      exact kr_vret O dJ1_addLast_50 h
  · subst hc
    replace h := h.1 rfl
    exact h.elim
def vc_J1_grow_145 (w : kt_W) (gr : kt_g × kt_M) (d : Nat) (P : Option Value → kt_M → Prop) (X : String → Nat → kt_M → Prop) (nx145 : Int32 → kt_M → Prop) (r5 : Option Nat) (v7 : Int32) (v8 : Int32) (M : kt_M) : Prop :=
  
    ((v8 ≤ v7 → P none M) ∧
    (¬ v8 ≤ v7 → ∃ b1, r5 = some b1 ∧ ∃ k2, 3 ≤ k2 ∧ kt_hiq gr k2 M b1 v7 ∧ (∀ c, none = some c → kt_fo k2 M c) ∧ ∀ M3, M3 = kt_sq M b1 v7 none → nx145 (v7 + (1 : Int32)) M3))
theorem cj_J1_grow_145 {w : kt_W} {x : kt_X} {gr : kt_g × kt_M} {d : Nat} {P : Option Value → kt_M → Prop} {X : String → Nat → kt_M → Prop} {nx145 : Int32 → kt_M → Prop} {r5 : Option Nat} {v7 : Int32} {v8 : Int32} {M : kt_M} (O : kt_O w x gr (d + 1) cJ1_grow "java/util/ArrayDeque" 9 ("grow", "(I)V") (Option.none : Option Jvm.ClassFile.FieldType) []) (hn145 : ∀ v7 M, nx145 v7 M → kt_S w x 9 (kt_E w x P X) M 145 [(5, va_rf r5), (7, .int v7), (8, .int v8)] []) (h : vc_J1_grow_145 w gr d P X nx145 r5 v7 v8 M) : kt_S w x 9 (kt_E w x P X) M 145 [(5, va_rf r5), (7, .int v7), (8, .int v8)] [] := by
  unfold vc_J1_grow_145 at h
  refine kr_iload O dJ1_grow_145 1 rfl ?_
  refine kr_iload O dJ1_grow_147 2 rfl ?_
  refine kr_icmp_ge (tgt := 164) O dJ1_grow_149 rfl (fun hc => ?_) (fun hc => ?_)
  · replace h := h.1 hc
    exact kr_vret O dJ1_grow_164 h
  · replace h := h.2 hc
    refine kr_aload O dJ1_grow_152 0 rfl ?_
    refine kr_iload O dJ1_grow_154 1 rfl ?_
    refine kr_null O dJ1_grow_156 ?_
    obtain ⟨b1, rfl, h⟩ := h
    obtain ⟨k2, hk2, hw, hfo, h⟩ := h
    refine kr_aastore k2 hk2 O dJ1_grow_157 hw hfo (kr_nmM fun M3 hM3 => ?_)
    replace h := h M3 hM3
    refine kr_iinc O dJ1_grow_158 1 rfl (v := v7 + (1 : Int32)) rfl (Nat.le_of_ble_eq_true rfl) rfl rfl ?_
    refine kr_goto (tgt := 145) O dJ1_grow_161 rfl ?_
    refine kr_sub [1, 0, 2] rfl ?_
    exact hn145 _ _ h
def vl_J1_grow_145 (w : kt_W) (gr : kt_g × kt_M) (d : Nat) (P : Option Value → kt_M → Prop) (X : String → Nat → kt_M → Prop)  (r5 : Option Nat) (v7 : Int32) (v8 : Int32) (M : kt_M) : Prop :=
  ∃ Inv : Nat → Int32 → kt_M → Prop, (∃ k, Inv k v7 M) ∧ ∀ k v7 M, kt_le gr.1 gr.2 M → Inv k v7 M → vc_J1_grow_145 w gr d P X (fun v7' M' => ∃ k', k' < k ∧ Inv k' v7' M') r5 v7 v8 M
theorem cl_J1_grow_145 {w : kt_W} {x : kt_X} {gr : kt_g × kt_M} {d : Nat} {P : Option Value → kt_M → Prop} {X : String → Nat → kt_M → Prop}  {r5 : Option Nat} {v7 : Int32} {v8 : Int32} {M : kt_M} (O : kt_O w x gr (d + 1) cJ1_grow "java/util/ArrayDeque" 9 ("grow", "(I)V") (Option.none : Option Jvm.ClassFile.FieldType) [])  (h : vl_J1_grow_145 w gr d P X  r5 v7 v8 M) : kt_S w x 9 (kt_E w x P X) M 145 [(5, va_rf r5), (7, .int v7), (8, .int v8)] [] := by
  obtain ⟨Inv, ⟨k, hk⟩, hb⟩ := h
  induction k using Nat.strongRecOn generalizing v7 M with
  | ind k ih =>
    exact kr_le O fun hle => cj_J1_grow_145 O (fun v7' M' hi => let ⟨k', h1, h2⟩ := hi; ih k' h1 h2) (hb k _ _ hle hk)
def vc_J1_grow_96 (w : kt_W) (gr : kt_g × kt_M) (d : Nat) (P : Option Value → kt_M → Prop) (X : String → Nat → kt_M → Prop)  (a0 : Nat) (v2 : Int32) (v3 : Int32) (r5 : Option Nat) (M : kt_M) : Prop :=
  ∃ u1, kt_gf M a0 105 = some (.int u1) ∧ ∃ u2, kt_gf M a0 105 = some (.int u2) ∧ ∃ u3, kt_gf M a0 105 = some (.int u3) ∧ ∃ b4, r5 = some b4 ∧ kt_ac gr M b4 u1 b4 (u2 + (v3 - v2)) (v2 - u3) ∧ ∀ M5, M5 = kt_acp M b4 u1 b4 (u2 + (v3 - v2)) (v2 - u3) → ∃ u6, kt_gf M5 a0 105 = some (.int u6) ∧ ∃ u7, kt_gf M5 a0 105 = some (.int u7) ∧ kt_hf gr M5 a0 105 ∧ ∀ M8, M8 = kt_pf M5 a0 105 (.int (u7 + (v3 - v2))) → vl_J1_grow_145 w gr d P X  (some b4) u6 (u7 + (v3 - v2)) M8
theorem cj_J1_grow_96 {w : kt_W} {x : kt_X} {gr : kt_g × kt_M} {d : Nat} {P : Option Value → kt_M → Prop} {X : String → Nat → kt_M → Prop}  {a0 : Nat} {v2 : Int32} {v3 : Int32} {r5 : Option Nat} {M : kt_M} (O : kt_O w x gr (d + 1) cJ1_grow "java/util/ArrayDeque" 9 ("grow", "(I)V") (Option.none : Option Jvm.ClassFile.FieldType) [])  (h : vc_J1_grow_96 w gr d P X  a0 v2 v3 r5 M) : kt_S w x 9 (kt_E w x P X) M 96 [(0, va_rf (some a0)), (2, .int v2), (3, .int v3), (5, va_rf r5)] [] := by
  unfold vc_J1_grow_96 at h
  refine kr_iload_n O dJ1_grow_96 rfl 2 rfl ?_
  refine kr_iload_n O dJ1_grow_97 rfl 1 rfl ?_
  refine kr_isub O dJ1_grow_98 ?_
  refine kr_istore O dJ1_grow_99 (Nat.le_of_ble_eq_true rfl) (by simp [kt_nw, kt_nrf, kt_cI, kt_cJ, kt_cF, kt_cD, kt_cR, kt_cU]) rfl ?_
  refine kr_aload O dJ1_grow_101 4 rfl ?_
  refine kr_aload_n O dJ1_grow_103 rfl 1 rfl ?_
  obtain ⟨u1, eu1, h⟩ := h
  refine kr_getf O dJ1_grow_104 fs_J1_24 eu1 ?_
  refine kr_aload O dJ1_grow_107 4 rfl ?_
  refine kr_aload_n O dJ1_grow_109 rfl 1 rfl ?_
  obtain ⟨u2, eu2, h⟩ := h
  refine kr_getf O dJ1_grow_110 fs_J1_24 eu2 ?_
  refine kr_iload O dJ1_grow_113 0 rfl ?_
  refine kr_iadd O dJ1_grow_115 ?_
  refine kr_iload_n O dJ1_grow_116 rfl 2 rfl ?_
  refine kr_aload_n O dJ1_grow_117 rfl 1 rfl ?_
  obtain ⟨u3, eu3, h⟩ := h
  refine kr_getf O dJ1_grow_118 fs_J1_24 eu3 ?_
  refine kr_isub O dJ1_grow_121 ?_
  obtain ⟨b4, rfl, h⟩ := h
  obtain ⟨hw, h⟩ := h
  refine kr_arraycopy O dJ1_grow_122 q730 hw (Nat.le_of_ble_eq_true rfl) (kr_nmM fun M5 hM5 => ?_)
  replace h := h M5 hM5
  refine kr_aload_n O dJ1_grow_125 rfl 1 rfl ?_
  obtain ⟨u6, eu6, h⟩ := h
  refine kr_getf O dJ1_grow_126 fs_J1_24 eu6 ?_
  refine kr_istore O dJ1_grow_129 (Nat.le_of_ble_eq_true rfl) rfl rfl ?_
  refine kr_aload_n O dJ1_grow_131 rfl 2 rfl ?_
  refine kr_dup O dJ1_grow_132 (kt_nrf _) ?_
  obtain ⟨u7, eu7, h⟩ := h
  refine kr_getf O dJ1_grow_133 fs_J1_24 eu7 ?_
  refine kr_iload O dJ1_grow_136 1 rfl ?_
  refine kr_iadd O dJ1_grow_138 ?_
  refine kr_dup_x1 O dJ1_grow_139 rfl (kt_nrf _) ?_
  obtain ⟨hw, h⟩ := h
  refine kr_putf O dJ1_grow_140 fs_J1_24 (Or.inl rfl) ⟨rfl, rfl⟩ hw (kr_nmM fun M8 hM8 => ?_)
  replace h := h M8 hM8
  refine kr_istore O dJ1_grow_143 (Nat.le_of_ble_eq_true rfl) rfl rfl ?_
  refine kr_sub [6, 1, 0] rfl ?_
  exact cl_J1_grow_145 O  h
def vc_J1_grow_49 (w : kt_W) (gr : kt_g × kt_M) (d : Nat) (P : Option Value → kt_M → Prop) (X : String → Nat → kt_M → Prop)  (a0 : Nat) (v2 : Int32) (v3 : Int32) (M : kt_M) : Prop :=
  ∃ p1, kt_gf M a0 104 = some (va_rf p1) ∧ 
  kt_Ca w gr d yJ8_copyOf kc_J8_copyOf [va_rf p1, .int v3] M (kt_pR fun p2 M3 => kt_hf gr M3 a0 104 ∧ ∀ M4, M4 = kt_pf M3 a0 104 (va_rf p2) → ∃ u5, kt_gf M4 a0 106 = some (.int u5) ∧ ∃ u6, kt_gf M4 a0 105 = some (.int u6) ∧ 
    ((u5 < u6 → vc_J1_grow_96 w gr d P X  a0 v2 v3 p2 M4) ∧
    (¬ u5 < u6 → ∃ u7, kt_gf M4 a0 106 = some (.int u7) ∧ ∃ u8, kt_gf M4 a0 105 = some (.int u8) ∧ 
      ((¬ u7 = u8 → P none M4) ∧
      (u7 = u8 → ∃ u9, kt_gf M4 a0 105 = some (.int u9) ∧ ∃ b10, p2 = some b10 ∧ ∃ k12, 3 ≤ k12 ∧ ∃ p11, kt_el k12 M4 b10 u9 = some (va_rf p11) ∧ 
        ((p11 = none → P none M4) ∧
        (∀ b13, p11 = some b13 → vc_J1_grow_96 w gr d P X  a0 v2 v3 (some b10) M4))))))) X
theorem cj_J1_grow_49 {w : kt_W} {x : kt_X} {gr : kt_g × kt_M} {d : Nat} {P : Option Value → kt_M → Prop} {X : String → Nat → kt_M → Prop}  {a0 : Nat} {v2 : Int32} {v3 : Int32} {M : kt_M} (O : kt_O w x gr (d + 1) cJ1_grow "java/util/ArrayDeque" 9 ("grow", "(I)V") (Option.none : Option Jvm.ClassFile.FieldType) [])  (h : vc_J1_grow_49 w gr d P X  a0 v2 v3 M) : kt_S w x 9 (kt_E w x P X) M 49 [(0, va_rf (some a0)), (2, .int v2), (3, .int v3)] [] := by
  unfold vc_J1_grow_49 at h
  refine kr_aload_n O dJ1_grow_49 rfl 0 rfl ?_
  refine kr_aload_n O dJ1_grow_50 rfl 0 rfl ?_
  obtain ⟨p1, ep1, h⟩ := h
  refine kr_getf O dJ1_grow_51 fs_J1_3 ep1 ?_
  refine kr_iload_n O dJ1_grow_54 rfl 2 rfl ?_
  refine kr_caR (rest := [va_rf (some a0)]) O cd_J8_copyOf h (Nat.le_of_ble_eq_true rfl) (fun ls _ => kt_ivS O dJ1_grow_55 cd_J8_copyOf in_J8_copyOf q729 q374 hy_J8_copyOf) (fun p2 M3 hq => ?_) (fun E q M9 hx => kr_out O hx)
  replace h := hq
  clear hq
  refine kr_dup_x1 O dJ1_grow_58 (kt_nrf _) (kt_nrf _) ?_
  obtain ⟨hw, h⟩ := h
  refine kr_putf O dJ1_grow_59 fs_J1_3 (Or.inl rfl) (kt_ok_ra _ rfl) hw (kr_nmM fun M4 hM4 => ?_)
  replace h := h M4 hM4
  refine kr_astore O dJ1_grow_62 (Nat.le_of_ble_eq_true rfl) rfl rfl ?_
  refine kr_aload_n O dJ1_grow_64 rfl 1 rfl ?_
  obtain ⟨u5, eu5, h⟩ := h
  refine kr_getf O dJ1_grow_65 fs_J1_20 eu5 ?_
  refine kr_aload_n O dJ1_grow_68 rfl 1 rfl ?_
  obtain ⟨u6, eu6, h⟩ := h
  refine kr_getf O dJ1_grow_69 fs_J1_24 eu6 ?_
  refine kr_icmp_lt (tgt := 96) O dJ1_grow_72 rfl (fun hc => ?_) (fun hc => ?_)
  · replace h := h.1 hc
    refine kr_sub [1, 2, 3, 0] rfl ?_
    exact cj_J1_grow_96 O  h
  · replace h := h.2 hc
    refine kr_aload_n O dJ1_grow_75 rfl 1 rfl ?_
    obtain ⟨u7, eu7, h⟩ := h
    refine kr_getf O dJ1_grow_76 fs_J1_20 eu7 ?_
    refine kr_aload_n O dJ1_grow_79 rfl 1 rfl ?_
    obtain ⟨u8, eu8, h⟩ := h
    refine kr_getf O dJ1_grow_80 fs_J1_24 eu8 ?_
    refine kr_icmp_ne (tgt := 164) O dJ1_grow_83 rfl (fun hc => ?_) (fun hc => ?_)
    · replace h := h.1 hc
      exact kr_vret O dJ1_grow_164 h
    · replace h := h.2 hc
      refine kr_aload O dJ1_grow_86 0 rfl ?_
      refine kr_aload_n O dJ1_grow_88 rfl 1 rfl ?_
      obtain ⟨u9, eu9, h⟩ := h
      refine kr_getf O dJ1_grow_89 fs_J1_24 eu9 ?_
      obtain ⟨b10, rfl, h⟩ := h
      obtain ⟨k12, hk12, p11, ep11, h⟩ := h
      refine kr_aaload k12 hk12 O dJ1_grow_92 ep11 ?_
      refine kr_ifnull (tgt := 164) O dJ1_grow_93 rfl (fun hc => ?_) (fun b13 hb => ?_)
      · subst hc
        replace h := h.1 rfl
        exact kr_vret O dJ1_grow_164 h
      · subst hb
        replace h := h.2 b13 rfl
        refine kr_sub [1, 2, 3, 0] rfl ?_
        exact cj_J1_grow_96 O  h
def vc_J1_grow_41 (w : kt_W) (gr : kt_g × kt_M) (d : Nat) (P : Option Value → kt_M → Prop) (X : String → Nat → kt_M → Prop)  (a0 : Nat) (v1 : Int32) (v2 : Int32) (v4 : Int32) (M : kt_M) : Prop :=
  (kt_co M a0 = some 17) ∧ 
  kt_Ca w gr d yJ1_newCapacity kc_J1_newCapacity [va_rf (some a0), .int v1, .int v4] M (kt_pI fun u1 M2 => vc_J1_grow_49 w gr d P X  a0 v2 u1 M2) X
theorem cj_J1_grow_41 {w : kt_W} {x : kt_X} {gr : kt_g × kt_M} {d : Nat} {P : Option Value → kt_M → Prop} {X : String → Nat → kt_M → Prop}  {a0 : Nat} {v1 : Int32} {v2 : Int32} {v4 : Int32} {M : kt_M} (O : kt_O w x gr (d + 1) cJ1_grow "java/util/ArrayDeque" 9 ("grow", "(I)V") (Option.none : Option Jvm.ClassFile.FieldType) [])  (h : vc_J1_grow_41 w gr d P X  a0 v1 v2 v4 M) : kt_S w x 9 (kt_E w x P X) M 41 [(0, va_rf (some a0)), (1, .int v1), (2, .int v2), (4, .int v4)] [] := by
  unfold vc_J1_grow_41 at h
  refine kr_aload_n O dJ1_grow_41 rfl 0 rfl ?_
  refine kr_iload_n O dJ1_grow_42 rfl 1 rfl ?_
  refine kr_iload O dJ1_grow_43 3 rfl ?_
  obtain ⟨hco, h⟩ := h
  refine kr_caI (rest := []) O cd_J1_newCapacity h (Nat.le_of_ble_eq_true rfl) (fun ls _ => kt_ivV (ci := 17) O dJ1_grow_45 cd_J1_newCapacity in_J1_newCapacity (Or.inl q724) q726 qs9 hco (by decide) hy_J1_newCapacity) (fun u1 M2 hq => ?_) (fun E q M9 hx => kr_out O hx)
  replace h := hq
  clear hq
  refine kr_istore_n O dJ1_grow_48 rfl (Nat.le_of_ble_eq_true rfl) rfl rfl ?_
  refine kr_sub [1, 3, 0] rfl ?_
  exact cj_J1_grow_49 O  h
def vc_J1_grow_21 (w : kt_W) (gr : kt_g × kt_M) (d : Nat) (P : Option Value → kt_M → Prop) (X : String → Nat → kt_M → Prop)  (a0 : Nat) (v1 : Int32) (v2 : Int32) (s0 : Int32) (M : kt_M) : Prop :=
  
    ((s0 < v1 → vc_J1_grow_41 w gr d P X  a0 v1 v2 s0 M) ∧
    (¬ s0 < v1 → 
      ((((v2 + s0) - (2147483639 : Int32)) ≤ 0 → vc_J1_grow_49 w gr d P X  a0 v2 (v2 + s0) M) ∧
      (¬ ((v2 + s0) - (2147483639 : Int32)) ≤ 0 → vc_J1_grow_41 w gr d P X  a0 v1 v2 s0 M))))
theorem cj_J1_grow_21 {w : kt_W} {x : kt_X} {gr : kt_g × kt_M} {d : Nat} {P : Option Value → kt_M → Prop} {X : String → Nat → kt_M → Prop}  {a0 : Nat} {v1 : Int32} {v2 : Int32} {s0 : Int32} {M : kt_M} (O : kt_O w x gr (d + 1) cJ1_grow "java/util/ArrayDeque" 9 ("grow", "(I)V") (Option.none : Option Jvm.ClassFile.FieldType) [])  (h : vc_J1_grow_21 w gr d P X  a0 v1 v2 s0 M) : kt_S w x 9 (kt_E w x P X) M 21 [(0, va_rf (some a0)), (1, .int v1), (2, .int v2)] [.int s0] := by
  unfold vc_J1_grow_21 at h
  refine kr_istore O dJ1_grow_21 (Nat.le_of_ble_eq_true rfl) rfl rfl ?_
  refine kr_iload O dJ1_grow_23 0 rfl ?_
  refine kr_iload_n O dJ1_grow_25 rfl 2 rfl ?_
  refine kr_icmp_lt (tgt := 41) O dJ1_grow_26 rfl (fun hc => ?_) (fun hc => ?_)
  · replace h := h.1 hc
    refine kr_sub [1, 2, 3, 0] rfl ?_
    exact cj_J1_grow_41 O  h
  · replace h := h.2 hc
    refine kr_iload_n O dJ1_grow_29 rfl 3 rfl ?_
    refine kr_iload O dJ1_grow_30 0 rfl ?_
    refine kr_iadd O dJ1_grow_32 ?_
    refine kr_dup O dJ1_grow_33 rfl ?_
    refine kr_istore_n O dJ1_grow_34 rfl (Nat.le_of_ble_eq_true rfl) rfl rfl ?_
    refine kr_ldc O dJ1_grow_35 q723 ?_
    refine kr_isub O dJ1_grow_37 ?_
    refine kr_if_le (tgt := 49) O dJ1_grow_38 rfl (fun hc => ?_) (fun hc => ?_)
    · replace h := h.1 hc
      refine kr_sub [2, 4, 0] rfl ?_
      exact cj_J1_grow_49 O  h
    · replace h := h.2 hc
      refine kr_sub [2, 3, 4, 1] rfl ?_
      exact cj_J1_grow_41 O  h
def vc_J1_grow (w : kt_W) (gr : kt_g × kt_M) (d : Nat) (P : Option Value → kt_M → Prop) (X : String → Nat → kt_M → Prop) (a0 : Nat) (v1 : Int32) (M : kt_M) : Prop :=
  ∃ p1, kt_gf M a0 104 = some (va_rf p1) ∧ ∃ b2, p1 = some b2 ∧ ∃ n3, kt_len M b2 = some n3 ∧ 
    (((64 : Int32) ≤ (nI n3) → vc_J1_grow_21 w gr d P X  a0 v1 (nI n3) ((nI n3) >>> ((1 : Int32) &&& 31)) M) ∧
    (¬ (64 : Int32) ≤ (nI n3) → vc_J1_grow_21 w gr d P X  a0 v1 (nI n3) ((nI n3) + (2 : Int32)) M))
theorem ce_J1_grow {w : kt_W} {g : kt_g} {d : Nat} {P : Option Value → kt_M → Prop} {X : String → Nat → kt_M → Prop} {a0 : Nat} {v1 : Int32} {M : kt_M} (h : vc_J1_grow w (g, M) d P X a0 v1 M) : kt_Sp w g (d + 1) yJ1_grow kc_J1_grow [va_rf (some a0), .int v1] M P X := by
  refine kt_of (L0 := [(0, va_rf (some a0)), (1, .int v1)]) (by decide +kernel) (Nat.le_of_ble_eq_true rfl) rfl fun x O => ?_
  replace O : kt_O w x (g, M) (d + 1) cJ1_grow "java/util/ArrayDeque" 9 ("grow", "(I)V") (Option.none : Option Jvm.ClassFile.FieldType) [] := O
  unfold vc_J1_grow at h
  refine kr_aload_n O dJ1_grow_0 rfl 0 rfl ?_
  obtain ⟨p1, ep1, h⟩ := h
  refine kr_getf O dJ1_grow_1 fs_J1_3 ep1 ?_
  obtain ⟨b2, rfl, h⟩ := h
  obtain ⟨n3, en3, h⟩ := h
  refine kr_alen O dJ1_grow_4 en3 ?_
  refine kr_istore_n O dJ1_grow_5 rfl (Nat.le_of_ble_eq_true rfl) rfl rfl ?_
  refine kr_iload_n O dJ1_grow_6 rfl 0 rfl ?_
  refine kr_bipush O dJ1_grow_7 (v := (64 : Int32)) (by decide) ?_
  refine kr_icmp_ge (tgt := 18) O dJ1_grow_9 rfl (fun hc => ?_) (fun hc => ?_)
  · replace h := h.1 hc
    refine kr_iload_n O dJ1_grow_18 rfl 0 rfl ?_
    refine kr_iconst O dJ1_grow_19 (v := (1 : Int32)) (by decide) ?_
    refine kr_ishr O dJ1_grow_20 ?_
    refine kr_sub [1, 2, 0] rfl ?_
    exact cj_J1_grow_21 O  h
  · replace h := h.2 hc
    refine kr_iload_n O dJ1_grow_12 rfl 0 rfl ?_
    refine kr_iconst O dJ1_grow_13 (v := (2 : Int32)) (by decide) ?_
    refine kr_iadd O dJ1_grow_14 ?_
    refine kr_goto (tgt := 21) O dJ1_grow_15 rfl ?_
    refine kr_sub [1, 2, 0] rfl ?_
    exact cj_J1_grow_21 O  h
def vc_J1_newCapacity (w : kt_W) (gr : kt_g × kt_M) (d : Nat) (P : Option Value → kt_M → Prop) (X : String → Nat → kt_M → Prop) (a0 : Nat) (v1 : Int32) (v2 : Int32) (M : kt_M) : Prop :=
  ∃ p1, kt_gf M a0 104 = some (va_rf p1) ∧ ∃ b2, p1 = some b2 ∧ ∃ n3, kt_len M b2 = some n3 ∧ 
    (((((nI n3) + v1) - (2147483639 : Int32)) ≤ 0 → 
      ((v1 ≤ v2 → 
        ((0 ≤ (((nI n3) + v2) - (2147483639 : Int32)) → P (some (.int (2147483639 : Int32))) M) ∧
        (¬ 0 ≤ (((nI n3) + v2) - (2147483639 : Int32)) → P (some (.int ((nI n3) + v2))) M))) ∧
      (¬ v1 ≤ v2 → P (some (.int ((nI n3) + v1))) M))) ∧
    (¬ (((nI n3) + v1) - (2147483639 : Int32)) ≤ 0 → 
      ((0 ≤ ((nI n3) + v1) → P (some (.int (2147483647 : Int32))) M) ∧
      (¬ 0 ≤ ((nI n3) + v1) → False))))
theorem ce_J1_newCapacity {w : kt_W} {g : kt_g} {d : Nat} {P : Option Value → kt_M → Prop} {X : String → Nat → kt_M → Prop} {a0 : Nat} {v1 : Int32} {v2 : Int32} {M : kt_M} (h : vc_J1_newCapacity w (g, M) d P X a0 v1 v2 M) : kt_Sp w g (d + 1) yJ1_newCapacity kc_J1_newCapacity [va_rf (some a0), .int v1, .int v2] M P X := by
  refine kt_of (L0 := [(0, va_rf (some a0)), (1, .int v1), (2, .int v2)]) (by decide +kernel) (Nat.le_of_ble_eq_true rfl) rfl fun x O => ?_
  replace O : kt_O w x (g, M) (d + 1) cJ1_newCapacity "java/util/ArrayDeque" 5 ("newCapacity", "(II)I") (Option.some Jvm.ClassFile.FieldType.int) [] := O
  unfold vc_J1_newCapacity at h
  refine kr_aload_n O dJ1_newCapacity_0 rfl 0 rfl ?_
  obtain ⟨p1, ep1, h⟩ := h
  refine kr_getf O dJ1_newCapacity_1 fs_J1_3 ep1 ?_
  obtain ⟨b2, rfl, h⟩ := h
  obtain ⟨n3, en3, h⟩ := h
  refine kr_alen O dJ1_newCapacity_4 en3 ?_
  refine kr_istore_n O dJ1_newCapacity_5 rfl (Nat.le_of_ble_eq_true rfl) rfl rfl ?_
  refine kr_iload_n O dJ1_newCapacity_6 rfl 0 rfl ?_
  refine kr_iload_n O dJ1_newCapacity_7 rfl 2 rfl ?_
  refine kr_iadd O dJ1_newCapacity_8 ?_
  refine kr_dup O dJ1_newCapacity_9 rfl ?_
  refine kr_istore O dJ1_newCapacity_10 (Nat.le_of_ble_eq_true rfl) rfl rfl ?_
  refine kr_ldc O dJ1_newCapacity_12 q723 ?_
  refine kr_isub O dJ1_newCapacity_14 ?_
  refine kr_if_le (tgt := 36) O dJ1_newCapacity_15 rfl (fun hc => ?_) (fun hc => ?_)
  · replace h := h.1 hc
    refine kr_iload_n O dJ1_newCapacity_36 rfl 3 rfl ?_
    refine kr_iload_n O dJ1_newCapacity_37 rfl 4 rfl ?_
    refine kr_icmp_le (tgt := 44) O dJ1_newCapacity_38 rfl (fun hc => ?_) (fun hc => ?_)
    · replace h := h.1 hc
      refine kr_iload_n O dJ1_newCapacity_44 rfl 1 rfl ?_
      refine kr_iload_n O dJ1_newCapacity_45 rfl 4 rfl ?_
      refine kr_iadd O dJ1_newCapacity_46 ?_
      refine kr_ldc O dJ1_newCapacity_47 q723 ?_
      refine kr_isub O dJ1_newCapacity_49 ?_
      refine kr_if_ge (tgt := 59) O dJ1_newCapacity_50 rfl (fun hc => ?_) (fun hc => ?_)
      · replace h := h.1 hc
        refine kr_ldc O dJ1_newCapacity_59 q723 ?_
        exact kr_iret O dJ1_newCapacity_61 rfl h
      · replace h := h.2 hc
        refine kr_iload_n O dJ1_newCapacity_53 rfl 1 rfl ?_
        refine kr_iload_n O dJ1_newCapacity_54 rfl 4 rfl ?_
        refine kr_iadd O dJ1_newCapacity_55 ?_
        refine kr_goto (tgt := 61) O dJ1_newCapacity_56 rfl ?_
        exact kr_iret O dJ1_newCapacity_61 rfl h
    · replace h := h.2 hc
      refine kr_iload O dJ1_newCapacity_41 0 rfl ?_
      exact kr_iret O dJ1_newCapacity_43 rfl h
  · replace h := h.2 hc
    refine kr_iload O dJ1_newCapacity_18 0 rfl ?_
    refine kr_if_ge (tgt := 33) O dJ1_newCapacity_20 rfl (fun hc => ?_) (fun hc => ?_)
    · replace h := h.1 hc
      refine kr_ldc O dJ1_newCapacity_33 q728 ?_
      exact kr_iret O dJ1_newCapacity_35 rfl h
    · replace h := h.2 hc
      exact h.elim
def vc_J1_isEmpty (w : kt_W) (gr : kt_g × kt_M) (d : Nat) (P : Option Value → kt_M → Prop) (X : String → Nat → kt_M → Prop) (a0 : Nat) (M : kt_M) : Prop :=
  ∃ u1, kt_gf M a0 105 = some (.int u1) ∧ ∃ u2, kt_gf M a0 106 = some (.int u2) ∧ 
    ((¬ u1 = u2 → P (some (.int (0 : Int32))) M) ∧
    (u1 = u2 → P (some (.int (1 : Int32))) M))
theorem ce_J1_isEmpty {w : kt_W} {g : kt_g} {d : Nat} {P : Option Value → kt_M → Prop} {X : String → Nat → kt_M → Prop} {a0 : Nat} {M : kt_M} (h : vc_J1_isEmpty w (g, M) d P X a0 M) : kt_Sp w g (d + 1) yJ1_isEmpty kc_J1_isEmpty [va_rf (some a0)] M P X := by
  refine kt_of (L0 := [(0, va_rf (some a0))]) (by decide +kernel) (Nat.le_of_ble_eq_true rfl) rfl fun x O => ?_
  replace O : kt_O w x (g, M) (d + 1) cJ1_isEmpty "java/util/ArrayDeque" 1 ("isEmpty", "()Z") (Option.some Jvm.ClassFile.FieldType.boolean) [] := O
  unfold vc_J1_isEmpty at h
  refine kr_aload_n O dJ1_isEmpty_0 rfl 0 rfl ?_
  obtain ⟨u1, eu1, h⟩ := h
  refine kr_getf O dJ1_isEmpty_1 fs_J1_24 eu1 ?_
  refine kr_aload_n O dJ1_isEmpty_4 rfl 0 rfl ?_
  obtain ⟨u2, eu2, h⟩ := h
  refine kr_getf O dJ1_isEmpty_5 fs_J1_20 eu2 ?_
  refine kr_icmp_ne (tgt := 15) O dJ1_isEmpty_8 rfl (fun hc => ?_) (fun hc => ?_)
  · replace h := h.1 hc
    refine kr_iconst O dJ1_isEmpty_15 (v := (0 : Int32)) (by decide) ?_
    exact kr_iret O dJ1_isEmpty_16 (by decide) h
  · replace h := h.2 hc
    refine kr_iconst O dJ1_isEmpty_11 (v := (1 : Int32)) (by decide) ?_
    refine kr_goto (tgt := 16) O dJ1_isEmpty_12 rfl ?_
    exact kr_iret O dJ1_isEmpty_16 (by decide) h
def vc_J1_removeLast (w : kt_W) (gr : kt_g × kt_M) (d : Nat) (P : Option Value → kt_M → Prop) (X : String → Nat → kt_M → Prop) (a0 : Nat) (M : kt_M) : Prop :=
  (kt_co M a0 = some 17) ∧ 
  kt_Ca w gr d yJ1_pollLast kc_J1_pollLast [va_rf (some a0)] M (kt_pR fun p1 M2 => 
    ((p1 = none → False) ∧
    (∀ b3, p1 = some b3 → P (some (va_rf (some b3))) M2))) X
theorem ce_J1_removeLast {w : kt_W} {g : kt_g} {d : Nat} {P : Option Value → kt_M → Prop} {X : String → Nat → kt_M → Prop} {a0 : Nat} {M : kt_M} (h : vc_J1_removeLast w (g, M) d P X a0 M) : kt_Sp w g (d + 1) yJ1_removeLast kc_J1_removeLast [va_rf (some a0)] M P X := by
  refine kt_of (L0 := [(0, va_rf (some a0))]) (by decide +kernel) (Nat.le_of_ble_eq_true rfl) rfl fun x O => ?_
  replace O : kt_O w x (g, M) (d + 1) cJ1_removeLast "java/util/ArrayDeque" 2 ("removeLast", "()Ljava/lang/Object;") (Option.some (Jvm.ClassFile.FieldType.object "java/lang/Object")) [] := O
  unfold vc_J1_removeLast at h
  refine kr_aload_n O dJ1_removeLast_0 rfl 0 rfl ?_
  obtain ⟨hco, h⟩ := h
  refine kr_caR (rest := []) O cd_J1_pollLast h (Nat.le_of_ble_eq_true rfl) (fun ls _ => kt_ivV (ci := 17) O dJ1_removeLast_1 cd_J1_pollLast in_J1_pollLast (Or.inl q1432) q1433 q1434 hco (by decide) hy_J1_pollLast) (fun p1 M2 hq => ?_) (fun E q M9 hx => kr_out O hx)
  replace h := hq
  clear hq
  refine kr_astore_n O dJ1_removeLast_4 rfl (Nat.le_of_ble_eq_true rfl) rfl rfl ?_
  refine kr_aload_n O dJ1_removeLast_5 rfl 0 rfl ?_
  refine kr_ifnonnull (tgt := 17) O dJ1_removeLast_6 rfl (fun b3 hb => ?_) (fun hc => ?_)
  · subst hb
    replace h := h.2 b3 rfl
    refine kr_aload_n O dJ1_removeLast_17 rfl 0 rfl ?_
    exact kr_aret O dJ1_removeLast_18 (by first | exact Or.inl ⟨_, rfl⟩ | exact Or.inr ⟨_, rfl⟩) h
  · subst hc
    replace h := h.1 rfl
    exact h.elim
def vc_J1_pollLast (w : kt_W) (gr : kt_g × kt_M) (d : Nat) (P : Option Value → kt_M → Prop) (X : String → Nat → kt_M → Prop) (a0 : Nat) (M : kt_M) : Prop :=
  ∃ p1, kt_gf M a0 104 = some (va_rf p1) ∧ ∃ u2, kt_gf M a0 106 = some (.int u2) ∧ ∃ b3, p1 = some b3 ∧ ∃ n4, kt_len M b3 = some n4 ∧ 
  kt_Ca w gr d yJ1_dec kc_J1_dec [.int u2, .int (nI n4)] M (kt_pI fun u5 M6 => 
  kt_Ca w gr d yJ1_elementAt kc_J1_elementAt [va_rf (some b3), .int u5] M6 (kt_pR fun p7 M8 => 
    ((p7 = none → P (some (va_rf none)) M8) ∧
    (∀ b9, p7 = some b9 → kt_hf gr M8 a0 106 ∧ ∀ M10, M10 = kt_pf M8 a0 106 (.int u5) → ∃ k11, 3 ≤ k11 ∧ kt_hiq gr k11 M10 b3 u5 ∧ (∀ c, none = some c → kt_fo k11 M10 c) ∧ ∀ M12, M12 = kt_sq M10 b3 u5 none → P (some (va_rf (some b9))) M12))) X) X
theorem ce_J1_pollLast {w : kt_W} {g : kt_g} {d : Nat} {P : Option Value → kt_M → Prop} {X : String → Nat → kt_M → Prop} {a0 : Nat} {M : kt_M} (h : vc_J1_pollLast w (g, M) d P X a0 M) : kt_Sp w g (d + 1) yJ1_pollLast kc_J1_pollLast [va_rf (some a0)] M P X := by
  refine kt_of (L0 := [(0, va_rf (some a0))]) (by decide +kernel) (Nat.le_of_ble_eq_true rfl) rfl fun x O => ?_
  replace O : kt_O w x (g, M) (d + 1) cJ1_pollLast "java/util/ArrayDeque" 4 ("pollLast", "()Ljava/lang/Object;") (Option.some (Jvm.ClassFile.FieldType.object "java/lang/Object")) [] := O
  unfold vc_J1_pollLast at h
  refine kr_aload_n O dJ1_pollLast_0 rfl 0 rfl ?_
  obtain ⟨p1, ep1, h⟩ := h
  refine kr_getf O dJ1_pollLast_1 fs_J1_3 ep1 ?_
  refine kr_dup O dJ1_pollLast_4 (kt_nrf _) ?_
  refine kr_astore_n O dJ1_pollLast_5 rfl (Nat.le_of_ble_eq_true rfl) rfl rfl ?_
  refine kr_aload_n O dJ1_pollLast_6 rfl 1 rfl ?_
  obtain ⟨u2, eu2, h⟩ := h
  refine kr_getf O dJ1_pollLast_7 fs_J1_20 eu2 ?_
  refine kr_aload_n O dJ1_pollLast_10 rfl 0 rfl ?_
  obtain ⟨b3, rfl, h⟩ := h
  obtain ⟨n4, en4, h⟩ := h
  refine kr_alen O dJ1_pollLast_11 en4 ?_
  refine kr_caI (rest := [va_rf (some b3)]) O cd_J1_dec h (Nat.le_of_ble_eq_true rfl) (fun ls _ => kt_ivS O dJ1_pollLast_12 cd_J1_dec in_J1_dec q1436 q1437 hy_J1_dec) (fun u5 M6 hq => ?_) (fun E q M9 hx => kr_out O hx)
  replace h := hq
  clear hq
  refine kr_dup O dJ1_pollLast_15 rfl ?_
  refine kr_istore_n O dJ1_pollLast_16 rfl (Nat.le_of_ble_eq_true rfl) rfl rfl ?_
  refine kr_caR (rest := []) O cd_J1_elementAt h (Nat.le_of_ble_eq_true rfl) (fun ls _ => kt_ivS O dJ1_pollLast_17 cd_J1_elementAt in_J1_elementAt q645 q646 hy_J1_elementAt) (fun p7 M8 hq => ?_) (fun E q M9 hx => kr_out O hx)
  replace h := hq
  clear hq
  refine kr_astore_n O dJ1_pollLast_20 rfl (Nat.le_of_ble_eq_true rfl) rfl rfl ?_
  refine kr_aload_n O dJ1_pollLast_21 rfl 0 rfl ?_
  refine kr_ifnull (tgt := 34) O dJ1_pollLast_22 rfl (fun hc => ?_) (fun b9 hb => ?_)
  · subst hc
    replace h := h.1 rfl
    refine kr_aload_n O dJ1_pollLast_34 rfl 0 rfl ?_
    exact kr_aret O dJ1_pollLast_35 (by first | exact Or.inl ⟨_, rfl⟩ | exact Or.inr ⟨_, rfl⟩) h
  · subst hb
    replace h := h.2 b9 rfl
    refine kr_aload_n O dJ1_pollLast_25 rfl 2 rfl ?_
    refine kr_aload_n O dJ1_pollLast_26 rfl 3 rfl ?_
    refine kr_iload_n O dJ1_pollLast_27 rfl 1 rfl ?_
    refine kr_dup_x1 O dJ1_pollLast_28 rfl (kt_nrf _) ?_
    obtain ⟨hw, h⟩ := h
    refine kr_putf O dJ1_pollLast_29 fs_J1_20 (Or.inl rfl) ⟨rfl, rfl⟩ hw (kr_nmM fun M10 hM10 => ?_)
    replace h := h M10 hM10
    refine kr_null O dJ1_pollLast_32 ?_
    obtain ⟨k11, hk11, hw, hfo, h⟩ := h
    refine kr_aastore k11 hk11 O dJ1_pollLast_33 hw hfo (kr_nmM fun M12 hM12 => ?_)
    replace h := h M12 hM12
    refine kr_aload_n O dJ1_pollLast_34 rfl 0 rfl ?_
    exact kr_aret O dJ1_pollLast_35 (by first | exact Or.inl ⟨_, rfl⟩ | exact Or.inr ⟨_, rfl⟩) h
def vc_J1_dec (w : kt_W) (gr : kt_g × kt_M) (d : Nat) (P : Option Value → kt_M → Prop) (X : String → Nat → kt_M → Prop) (v0 : Int32) (v1 : Int32) (M : kt_M) : Prop :=
  
    ((0 ≤ (v0 + (-1 : Int32)) → P (some (.int (v0 + (-1 : Int32)))) M) ∧
    (¬ 0 ≤ (v0 + (-1 : Int32)) → P (some (.int (v1 - (1 : Int32)))) M))
theorem ce_J1_dec {w : kt_W} {g : kt_g} {d : Nat} {P : Option Value → kt_M → Prop} {X : String → Nat → kt_M → Prop} {v0 : Int32} {v1 : Int32} {M : kt_M} (h : vc_J1_dec w (g, M) d P X v0 v1 M) : kt_Sp w g (d + 1) yJ1_dec kc_J1_dec [.int v0, .int v1] M P X := by
  refine kt_of (L0 := [(0, .int v0), (1, .int v1)]) (by decide +kernel) (Nat.le_of_ble_eq_true rfl) rfl fun x O => ?_
  replace O : kt_O w x (g, M) (d + 1) cJ1_dec "java/util/ArrayDeque" 2 ("dec", "(II)I") (Option.some Jvm.ClassFile.FieldType.int) [] := O
  unfold vc_J1_dec at h
  refine kr_iinc O dJ1_dec_0 0 rfl (v := v0 + (-1 : Int32)) rfl (Nat.le_of_ble_eq_true rfl) rfl rfl ?_
  refine kr_iload_n O dJ1_dec_3 rfl 0 rfl ?_
  refine kr_if_ge (tgt := 11) O dJ1_dec_4 rfl (fun hc => ?_) (fun hc => ?_)
  · replace h := h.1 hc
    refine kr_iload_n O dJ1_dec_11 rfl 0 rfl ?_
    exact kr_iret O dJ1_dec_12 rfl h
  · replace h := h.2 hc
    refine kr_iload_n O dJ1_dec_7 rfl 1 rfl ?_
    refine kr_iconst O dJ1_dec_8 (v := (1 : Int32)) (by decide) ?_
    refine kr_isub O dJ1_dec_9 ?_
    refine kr_istore_n O dJ1_dec_10 rfl (Nat.le_of_ble_eq_true rfl) rfl rfl ?_
    refine kr_iload_n O dJ1_dec_11 rfl 0 rfl ?_
    exact kr_iret O dJ1_dec_12 rfl h
def vc_J1_clear (w : kt_W) (gr : kt_g × kt_M) (d : Nat) (P : Option Value → kt_M → Prop) (X : String → Nat → kt_M → Prop) (a0 : Nat) (M : kt_M) : Prop :=
  ∃ p1, kt_gf M a0 104 = some (va_rf p1) ∧ ∃ u2, kt_gf M a0 105 = some (.int u2) ∧ ∃ u3, kt_gf M a0 106 = some (.int u3) ∧ 
  kt_Ca w gr d yJ1_circularClear kc_J1_circularClear [va_rf p1, .int u2, .int u3] M (kt_pV fun M4 => kt_hf gr M4 a0 106 ∧ ∀ M5, M5 = kt_pf M4 a0 106 (.int (0 : Int32)) → kt_hf gr M5 a0 105 ∧ ∀ M6, M6 = kt_pf M5 a0 105 (.int (0 : Int32)) → P none M6) X
theorem ce_J1_clear {w : kt_W} {g : kt_g} {d : Nat} {P : Option Value → kt_M → Prop} {X : String → Nat → kt_M → Prop} {a0 : Nat} {M : kt_M} (h : vc_J1_clear w (g, M) d P X a0 M) : kt_Sp w g (d + 1) yJ1_clear kc_J1_clear [va_rf (some a0)] M P X := by
  refine kt_of (L0 := [(0, va_rf (some a0))]) (by decide +kernel) (Nat.le_of_ble_eq_true rfl) rfl fun x O => ?_
  replace O : kt_O w x (g, M) (d + 1) cJ1_clear "java/util/ArrayDeque" 1 ("clear", "()V") (Option.none : Option Jvm.ClassFile.FieldType) [] := O
  unfold vc_J1_clear at h
  refine kr_aload_n O dJ1_clear_0 rfl 0 rfl ?_
  obtain ⟨p1, ep1, h⟩ := h
  refine kr_getf O dJ1_clear_1 fs_J1_3 ep1 ?_
  refine kr_aload_n O dJ1_clear_4 rfl 0 rfl ?_
  obtain ⟨u2, eu2, h⟩ := h
  refine kr_getf O dJ1_clear_5 fs_J1_24 eu2 ?_
  refine kr_aload_n O dJ1_clear_8 rfl 0 rfl ?_
  obtain ⟨u3, eu3, h⟩ := h
  refine kr_getf O dJ1_clear_9 fs_J1_20 eu3 ?_
  refine kr_caV (rest := []) O cd_J1_circularClear h (Nat.le_of_ble_eq_true rfl) (fun ls _ => kt_ivS O dJ1_clear_12 cd_J1_circularClear in_J1_circularClear q1451 q1452 hy_J1_circularClear) (fun M4 hq => ?_) (fun E q M9 hx => kr_out O hx)
  replace h := hq
  clear hq
  refine kr_aload_n O dJ1_clear_15 rfl 0 rfl ?_
  refine kr_aload_n O dJ1_clear_16 rfl 0 rfl ?_
  refine kr_iconst O dJ1_clear_17 (v := (0 : Int32)) (by decide) ?_
  refine kr_dup_x1 O dJ1_clear_18 rfl (kt_nrf _) ?_
  obtain ⟨hw, h⟩ := h
  refine kr_putf O dJ1_clear_19 fs_J1_20 (Or.inl rfl) ⟨rfl, rfl⟩ hw (kr_nmM fun M5 hM5 => ?_)
  replace h := h M5 hM5
  obtain ⟨hw, h⟩ := h
  refine kr_putf O dJ1_clear_22 fs_J1_24 (Or.inl rfl) ⟨rfl, rfl⟩ hw (kr_nmM fun M6 hM6 => ?_)
  replace h := h M6 hM6
  exact kr_vret O dJ1_clear_25 h
def vc_J1_circularClear_12 (w : kt_W) (gr : kt_g × kt_M) (d : Nat) (P : Option Value → kt_M → Prop) (X : String → Nat → kt_M → Prop) (nx12 : Int32 → Int32 → kt_M → Prop) (r0 : Option Nat) (v1 : Int32) (v2 : Int32) (v3 : Int32) (M : kt_M) : Prop :=
  
    ((v3 ≤ v1 → 
      ((¬ v3 = v2 → nx12 (0 : Int32) v2 M) ∧
      (v3 = v2 → P none M))) ∧
    (¬ v3 ≤ v1 → ∃ b1, r0 = some b1 ∧ ∃ k2, 3 ≤ k2 ∧ kt_hiq gr k2 M b1 v1 ∧ (∀ c, none = some c → kt_fo k2 M c) ∧ ∀ M3, M3 = kt_sq M b1 v1 none → nx12 (v1 + (1 : Int32)) v3 M3))
theorem cj_J1_circularClear_12 {w : kt_W} {x : kt_X} {gr : kt_g × kt_M} {d : Nat} {P : Option Value → kt_M → Prop} {X : String → Nat → kt_M → Prop} {nx12 : Int32 → Int32 → kt_M → Prop} {r0 : Option Nat} {v1 : Int32} {v2 : Int32} {v3 : Int32} {M : kt_M} (O : kt_O w x gr (d + 1) cJ1_circularClear "java/util/ArrayDeque" 4 ("circularClear", "([Ljava/lang/Object;II)V") (Option.none : Option Jvm.ClassFile.FieldType) []) (hn12 : ∀ v1 v3 M, nx12 v1 v3 M → kt_S w x 4 (kt_E w x P X) M 12 [(0, va_rf r0), (1, .int v1), (2, .int v2), (3, .int v3)] []) (h : vc_J1_circularClear_12 w gr d P X nx12 r0 v1 v2 v3 M) : kt_S w x 4 (kt_E w x P X) M 12 [(0, va_rf r0), (1, .int v1), (2, .int v2), (3, .int v3)] [] := by
  unfold vc_J1_circularClear_12 at h
  refine kr_iload_n O dJ1_circularClear_12 rfl 1 rfl ?_
  refine kr_iload_n O dJ1_circularClear_13 rfl 3 rfl ?_
  refine kr_icmp_ge (tgt := 27) O dJ1_circularClear_14 rfl (fun hc => ?_) (fun hc => ?_)
  · replace h := h.1 hc
    refine kr_iload_n O dJ1_circularClear_27 rfl 3 rfl ?_
    refine kr_iload_n O dJ1_circularClear_28 rfl 2 rfl ?_
    refine kr_icmp_ne (tgt := 35) O dJ1_circularClear_29 rfl (fun hc => ?_) (fun hc => ?_)
    · replace h := h.1 hc
      refine kr_iconst O dJ1_circularClear_35 (v := (0 : Int32)) (by decide) ?_
      refine kr_istore_n O dJ1_circularClear_36 rfl (Nat.le_of_ble_eq_true rfl) (by simp [kt_nw, kt_nrf, kt_cI, kt_cJ, kt_cF, kt_cD, kt_cR, kt_cU]) rfl ?_
      refine kr_iload_n O dJ1_circularClear_37 rfl 2 rfl ?_
      refine kr_istore_n O dJ1_circularClear_38 rfl (Nat.le_of_ble_eq_true rfl) rfl rfl ?_
      refine kr_goto (tgt := 12) O dJ1_circularClear_39 rfl ?_
      refine kr_sub [2, 1, 3, 0] rfl ?_
      exact hn12 _ _ _ h
    · replace h := h.2 hc
      refine kr_goto (tgt := 42) O dJ1_circularClear_32 rfl ?_
      exact kr_vret O dJ1_circularClear_42 h
  · replace h := h.2 hc
    refine kr_aload_n O dJ1_circularClear_17 rfl 0 rfl ?_
    refine kr_iload_n O dJ1_circularClear_18 rfl 1 rfl ?_
    refine kr_null O dJ1_circularClear_19 ?_
    obtain ⟨b1, rfl, h⟩ := h
    obtain ⟨k2, hk2, hw, hfo, h⟩ := h
    refine kr_aastore k2 hk2 O dJ1_circularClear_20 hw hfo (kr_nmM fun M3 hM3 => ?_)
    replace h := h M3 hM3
    refine kr_iinc O dJ1_circularClear_21 1 rfl (v := v1 + (1 : Int32)) rfl (Nat.le_of_ble_eq_true rfl) rfl rfl ?_
    refine kr_goto (tgt := 12) O dJ1_circularClear_24 rfl ?_
    refine kr_sub [1, 0, 2, 3] rfl ?_
    exact hn12 _ _ _ h
def vl_J1_circularClear_12 (w : kt_W) (gr : kt_g × kt_M) (d : Nat) (P : Option Value → kt_M → Prop) (X : String → Nat → kt_M → Prop)  (r0 : Option Nat) (v1 : Int32) (v2 : Int32) (v3 : Int32) (M : kt_M) : Prop :=
  ∃ Inv : Nat → Int32 → Int32 → kt_M → Prop, (∃ k, Inv k v1 v3 M) ∧ ∀ k v1 v3 M, kt_le gr.1 gr.2 M → Inv k v1 v3 M → vc_J1_circularClear_12 w gr d P X (fun v1' v3' M' => ∃ k', k' < k ∧ Inv k' v1' v3' M') r0 v1 v2 v3 M
theorem cl_J1_circularClear_12 {w : kt_W} {x : kt_X} {gr : kt_g × kt_M} {d : Nat} {P : Option Value → kt_M → Prop} {X : String → Nat → kt_M → Prop}  {r0 : Option Nat} {v1 : Int32} {v2 : Int32} {v3 : Int32} {M : kt_M} (O : kt_O w x gr (d + 1) cJ1_circularClear "java/util/ArrayDeque" 4 ("circularClear", "([Ljava/lang/Object;II)V") (Option.none : Option Jvm.ClassFile.FieldType) [])  (h : vl_J1_circularClear_12 w gr d P X  r0 v1 v2 v3 M) : kt_S w x 4 (kt_E w x P X) M 12 [(0, va_rf r0), (1, .int v1), (2, .int v2), (3, .int v3)] [] := by
  obtain ⟨Inv, ⟨k, hk⟩, hb⟩ := h
  induction k using Nat.strongRecOn generalizing v1 v3 M with
  | ind k ih =>
    exact kr_le O fun hle => cj_J1_circularClear_12 O (fun v1' v3' M' hi => let ⟨k', h1, h2⟩ := hi; ih k' h1 h2) (hb k _ _ _ hle hk)
def vc_J1_circularClear (w : kt_W) (gr : kt_g × kt_M) (d : Nat) (P : Option Value → kt_M → Prop) (X : String → Nat → kt_M → Prop) (r0 : Option Nat) (v1 : Int32) (v2 : Int32) (M : kt_M) : Prop :=
  
    ((v2 < v1 → ∃ b1, r0 = some b1 ∧ ∃ n2, kt_len M b1 = some n2 ∧ vl_J1_circularClear_12 w gr d P X  (some b1) v1 v2 (nI n2) M) ∧
    (¬ v2 < v1 → vl_J1_circularClear_12 w gr d P X  r0 v1 v2 v2 M))
theorem ce_J1_circularClear {w : kt_W} {g : kt_g} {d : Nat} {P : Option Value → kt_M → Prop} {X : String → Nat → kt_M → Prop} {r0 : Option Nat} {v1 : Int32} {v2 : Int32} {M : kt_M} (h : vc_J1_circularClear w (g, M) d P X r0 v1 v2 M) : kt_Sp w g (d + 1) yJ1_circularClear kc_J1_circularClear [va_rf r0, .int v1, .int v2] M P X := by
  refine kt_of (L0 := [(0, va_rf r0), (1, .int v1), (2, .int v2)]) (by decide +kernel) (by simp only [kt_lgR, kt_lgI, kt_lgN] <;> exact Nat.le_of_ble_eq_true rfl) (by simp only [kt_lvR, kt_lvI, kt_lvN] <;> rfl) fun x O => ?_
  replace O : kt_O w x (g, M) (d + 1) cJ1_circularClear "java/util/ArrayDeque" 4 ("circularClear", "([Ljava/lang/Object;II)V") (Option.none : Option Jvm.ClassFile.FieldType) [] := O
  unfold vc_J1_circularClear at h
  refine kr_iload_n O dJ1_circularClear_0 rfl 1 rfl ?_
  refine kr_iload_n O dJ1_circularClear_1 rfl 2 rfl ?_
  refine kr_icmp_gt (tgt := 9) O dJ1_circularClear_2 rfl (fun hc => ?_) (fun hc => ?_)
  · replace h := h.1 hc
    refine kr_aload_n O dJ1_circularClear_9 rfl 0 rfl ?_
    obtain ⟨b1, rfl, h⟩ := h
    obtain ⟨n2, en2, h⟩ := h
    refine kr_alen O dJ1_circularClear_10 en2 ?_
    refine kr_istore_n O dJ1_circularClear_11 rfl (Nat.le_of_ble_eq_true rfl) rfl rfl ?_
    refine kr_sub [1, 2, 3, 0] rfl ?_
    exact cl_J1_circularClear_12 O  h
  · replace h := h.2 hc
    refine kr_iload_n O dJ1_circularClear_5 rfl 2 rfl ?_
    refine kr_goto (tgt := 11) O dJ1_circularClear_6 rfl ?_
    refine kr_istore_n O dJ1_circularClear_11 rfl (Nat.le_of_ble_eq_true rfl) rfl rfl ?_
    refine kr_sub [1, 2, 3, 0] rfl ?_
    exact cl_J1_circularClear_12 O  h
def vc_X2_init (w : kt_W) (gr : kt_g × kt_M) (d : Nat) (P : Option Value → kt_M → Prop) (X : String → Nat → kt_M → Prop) (a0 : Nat) (v1 : Int32) (v2 : Int32) (v3 : Int32) (v4 : Int32) (M : kt_M) : Prop :=
  kt_fits w M 3 ∧ ∃ t1, ∀ M2, M2 = kt_new M 3 (t1 + 2, .inr (13, [.int 0, va_rf none, .int 0])) → 
  kt_Ca w gr d yJ3_init kc_J3_init [va_rf (some M.1)] M2 (kt_pV fun M3 => kt_hf gr M3 a0 10 ∧ ∀ M4, M4 = kt_pf M3 a0 10 (va_rf (some M.1)) → kt_fits w M4 3 ∧ ∃ t5, ∀ M6, M6 = kt_new M4 3 (t5 + 2, .inr (13, [.int 0, va_rf none, .int 0])) → 
  kt_Ca w gr d yJ3_init kc_J3_init [va_rf (some M4.1)] M6 (kt_pV fun M7 => kt_hf gr M7 a0 11 ∧ ∀ M8, M8 = kt_pf M7 a0 11 (va_rf (some M4.1)) → kt_fits w M8 3 ∧ ∃ t9, ∀ M10, M10 = kt_new M8 3 (t9 + 2, .inr (13, [.int 0, va_rf none, .int 0])) → 
  kt_Ca w gr d yJ3_init kc_J3_init [va_rf (some M8.1)] M10 (kt_pV fun M11 => kt_hf gr M11 a0 12 ∧ ∀ M12, M12 = kt_pf M11 a0 12 (va_rf (some M8.1)) → kt_fits w M12 4 ∧ ∃ t13, ∀ M14, M14 = kt_new M12 4 (t13 + 2, .inr (14, [.int 0, .int 0, va_rf none, va_rf none])) → 
  kt_Ca w gr d yJ5_init kc_J5_init [va_rf (some M12.1)] M14 (kt_pV fun M15 => kt_hf gr M15 a0 13 ∧ ∀ M16, M16 = kt_pf M15 a0 13 (va_rf (some M12.1)) → ∃ n17, (30 : Int32) = nI n17 ∧ n17 < 2 ^ 31 ∧ kt_fits w M16 n17 ∧ ∃ t18, ∀ M19, M19 = kt_new M16 n17 (t18 + 2, .inl (0, kt_z 0 n17)) → kt_hf gr M19 a0 18 ∧ ∀ M20, M20 = kt_pf M19 a0 18 (va_rf (some M16.1)) → ∃ n21, (30 : Int32) = nI n21 ∧ n21 < 2 ^ 31 ∧ kt_fits w M20 n21 ∧ ∃ t22, ∀ M23, M23 = kt_new M20 n21 (t22 + 2, .inl (0, kt_z 0 n21)) → kt_hf gr M23 a0 19 ∧ ∀ M24, M24 = kt_pf M23 a0 19 (va_rf (some M20.1)) → kt_hf gr M24 a0 7 ∧ ∀ M25, M25 = kt_pf M24 a0 7 (.int v1) → kt_hf gr M25 a0 8 ∧ ∀ M26, M26 = kt_pf M25 a0 8 (.int v2) → kt_hf gr M26 a0 9 ∧ ∀ M27, M27 = kt_pf M26 a0 9 (.int v3) → kt_hf gr M27 a0 15 ∧ ∀ M28, M28 = kt_pf M27 a0 15 (.int v4) → P none M28) X) X) X) X
theorem ce_X2_init {w : kt_W} {g : kt_g} {d : Nat} {P : Option Value → kt_M → Prop} {X : String → Nat → kt_M → Prop} {a0 : Nat} {v1 : Int32} {v2 : Int32} {v3 : Int32} {v4 : Int32} {M : kt_M} (h : vc_X2_init w (g, M) d P X a0 v1 v2 v3 v4 M) : kt_Sp w g (d + 1) yX2_init kc_X2_init [va_rf (some a0), .int v1, .int v2, .int v3, .int v4] M P X := by
  refine kt_of (L0 := [(0, va_rf (some a0)), (1, .int v1), (2, .int v2), (3, .int v3), (4, .int v4)]) (by decide +kernel) (Nat.le_of_ble_eq_true rfl) rfl fun x O => ?_
  replace O : kt_O w x (g, M) (d + 1) cX2_init "KeyTurns$State" 5 ("<init>", "(IIII)V") (Option.none : Option Jvm.ClassFile.FieldType) [] := O
  unfold vc_X2_init at h
  refine kr_aload_n O dX2_init_0 rfl 0 rfl ?_
  refine kr_objinit O dX2_init_1 q205 q173 q174 (Nat.le_of_ble_eq_true rfl) ?_
  refine kr_aload_n O dX2_init_4 rfl 0 rfl ?_
  obtain ⟨hf, t1, h⟩ := h
  refine kr_new (c := 13) (r := (RJ3, TJ3, 3)) (fs := [.int 0, va_rf none, .int 0]) t1 O dX2_init_5 rfl q206 q207 q114 rfl hf (kr_nmM fun M2 hM2 => ?_)
  replace h := h M2 hM2
  refine kr_dup O dX2_init_8 (kt_nrf _) ?_
  refine kr_caV (rest := [va_rf (some M.1), va_rf (some a0)]) O cd_J3_init h (Nat.le_of_ble_eq_true rfl) (fun ls _ => kt_ivI O dX2_init_9 cd_J3_init in_J3_init (Or.inl q208) q209 hi_J3_init) (fun M3 hq => ?_) (fun E q M9 hx => kr_out O hx)
  replace h := hq
  clear hq
  obtain ⟨hw, h⟩ := h
  refine kr_putf O dX2_init_12 fs_X2_12 (Or.inr ⟨rfl, rfl⟩) (kt_ok_rf _ rfl) hw (kr_nmM fun M4 hM4 => ?_)
  replace h := h M4 hM4
  refine kr_aload_n O dX2_init_15 rfl 0 rfl ?_
  obtain ⟨hf, t5, h⟩ := h
  refine kr_new (c := 13) (r := (RJ3, TJ3, 3)) (fs := [.int 0, va_rf none, .int 0]) t5 O dX2_init_16 rfl q206 q207 q114 rfl hf (kr_nmM fun M6 hM6 => ?_)
  replace h := h M6 hM6
  refine kr_dup O dX2_init_19 (kt_nrf _) ?_
  refine kr_caV (rest := [va_rf (some M4.1), va_rf (some a0)]) O cd_J3_init h (Nat.le_of_ble_eq_true rfl) (fun ls _ => kt_ivI O dX2_init_20 cd_J3_init in_J3_init (Or.inl q208) q209 hi_J3_init) (fun M7 hq => ?_) (fun E q M9 hx => kr_out O hx)
  replace h := hq
  clear hq
  obtain ⟨hw, h⟩ := h
  refine kr_putf O dX2_init_23 fs_X2_18 (Or.inr ⟨rfl, rfl⟩) (kt_ok_rf _ rfl) hw (kr_nmM fun M8 hM8 => ?_)
  replace h := h M8 hM8
  refine kr_aload_n O dX2_init_26 rfl 0 rfl ?_
  obtain ⟨hf, t9, h⟩ := h
  refine kr_new (c := 13) (r := (RJ3, TJ3, 3)) (fs := [.int 0, va_rf none, .int 0]) t9 O dX2_init_27 rfl q206 q207 q114 rfl hf (kr_nmM fun M10 hM10 => ?_)
  replace h := h M10 hM10
  refine kr_dup O dX2_init_30 (kt_nrf _) ?_
  refine kr_caV (rest := [va_rf (some M8.1), va_rf (some a0)]) O cd_J3_init h (Nat.le_of_ble_eq_true rfl) (fun ls _ => kt_ivI O dX2_init_31 cd_J3_init in_J3_init (Or.inl q208) q209 hi_J3_init) (fun M11 hq => ?_) (fun E q M9 hx => kr_out O hx)
  replace h := hq
  clear hq
  obtain ⟨hw, h⟩ := h
  refine kr_putf O dX2_init_34 fs_X2_21 (Or.inr ⟨rfl, rfl⟩) (kt_ok_rf _ rfl) hw (kr_nmM fun M12 hM12 => ?_)
  replace h := h M12 hM12
  refine kr_aload_n O dX2_init_37 rfl 0 rfl ?_
  obtain ⟨hf, t13, h⟩ := h
  refine kr_new (c := 14) (r := (RJ5, TJ5, 4)) (fs := [.int 0, .int 0, va_rf none, va_rf none]) t13 O dX2_init_38 rfl q237 q238 q116 rfl hf (kr_nmM fun M14 hM14 => ?_)
  replace h := h M14 hM14
  refine kr_dup O dX2_init_41 (kt_nrf _) ?_
  refine kr_caV (rest := [va_rf (some M12.1), va_rf (some a0)]) O cd_J5_init h (Nat.le_of_ble_eq_true rfl) (fun ls _ => kt_ivI O dX2_init_42 cd_J5_init in_J5_init (Or.inl q239) q240 hi_J5_init) (fun M15 hq => ?_) (fun E q M9 hx => kr_out O hx)
  replace h := hq
  clear hq
  obtain ⟨hw, h⟩ := h
  refine kr_putf O dX2_init_45 fs_X2_27 (Or.inr ⟨rfl, rfl⟩) (kt_ok_rf _ rfl) hw (kr_nmM fun M16 hM16 => ?_)
  replace h := h M16 hM16
  refine kr_aload_n O dX2_init_48 rfl 0 rfl ?_
  refine kr_bipush O dX2_init_49 (v := (30 : Int32)) (by decide) ?_
  obtain ⟨n17, hn, hl, hf, t18, h⟩ := h
  refine kr_newarr t18 0 O dX2_init_51 (by decide) rfl q312 hn hl hf (kr_nmM fun M19 hM19 => ?_)
  replace h := h M19 hM19
  obtain ⟨hw, h⟩ := h
  refine kr_putf O dX2_init_53 fs_X2_31 (Or.inr ⟨rfl, rfl⟩) (kt_ok_ra _ rfl) hw (kr_nmM fun M20 hM20 => ?_)
  replace h := h M20 hM20
  refine kr_aload_n O dX2_init_56 rfl 0 rfl ?_
  refine kr_bipush O dX2_init_57 (v := (30 : Int32)) (by decide) ?_
  obtain ⟨n21, hn, hl, hf, t22, h⟩ := h
  refine kr_newarr t22 0 O dX2_init_59 (by decide) rfl q312 hn hl hf (kr_nmM fun M23 hM23 => ?_)
  replace h := h M23 hM23
  obtain ⟨hw, h⟩ := h
  refine kr_putf O dX2_init_61 fs_X2_35 (Or.inr ⟨rfl, rfl⟩) (kt_ok_ra _ rfl) hw (kr_nmM fun M24 hM24 => ?_)
  replace h := h M24 hM24
  refine kr_aload_n O dX2_init_64 rfl 0 rfl ?_
  refine kr_iload_n O dX2_init_65 rfl 1 rfl ?_
  obtain ⟨hw, h⟩ := h
  refine kr_putf O dX2_init_66 fs_X2_38 (Or.inr ⟨rfl, rfl⟩) ⟨rfl, rfl⟩ hw (kr_nmM fun M25 hM25 => ?_)
  replace h := h M25 hM25
  refine kr_aload_n O dX2_init_69 rfl 0 rfl ?_
  refine kr_iload_n O dX2_init_70 rfl 2 rfl ?_
  obtain ⟨hw, h⟩ := h
  refine kr_putf O dX2_init_71 fs_X2_42 (Or.inr ⟨rfl, rfl⟩) ⟨rfl, rfl⟩ hw (kr_nmM fun M26 hM26 => ?_)
  replace h := h M26 hM26
  refine kr_aload_n O dX2_init_74 rfl 0 rfl ?_
  refine kr_iload_n O dX2_init_75 rfl 3 rfl ?_
  obtain ⟨hw, h⟩ := h
  refine kr_putf O dX2_init_76 fs_X2_45 (Or.inr ⟨rfl, rfl⟩) ⟨rfl, rfl⟩ hw (kr_nmM fun M27 hM27 => ?_)
  replace h := h M27 hM27
  refine kr_aload_n O dX2_init_79 rfl 0 rfl ?_
  refine kr_iload O dX2_init_80 4 rfl ?_
  obtain ⟨hw, h⟩ := h
  refine kr_putf O dX2_init_82 fs_X2_48 (Or.inl rfl) ⟨rfl, rfl⟩ hw (kr_nmM fun M28 hM28 => ?_)
  replace h := h M28 hM28
  exact kr_vret O dX2_init_85 h
def vc_X2_dueAt (w : kt_W) (gr : kt_g × kt_M) (d : Nat) (P : Option Value → kt_M → Prop) (X : String → Nat → kt_M → Prop) (a0 : Nat) (v1 : Int32) (M : kt_M) : Prop :=
  (kt_co M a0 = some 1) ∧ 
  kt_Ca w gr d yX2_layDue kc_X2_layDue [va_rf (some a0)] M (kt_pV fun M1 => ∃ u2, kt_gf M1 a0 20 = some (.int u2) ∧ 
  kt_Ca w gr d yX1_isIn kc_X1_isIn [.long v1.toInt64, .long (0 : Int64), .long ((u2 - (1 : Int32)).toInt64)] M1 (kt_pI fun u3 M4 => 
    ((u3 = 0 → P (some (.int (-1 : Int32))) M4) ∧
    (¬ u3 = 0 → ∃ p5, kt_gf M4 a0 18 = some (va_rf p5) ∧ ∃ b6, p5 = some b6 ∧ ∃ u7, kt_el 0 M4 b6 v1 = some (.int u7) ∧ P (some (.int u7)) M4))) X) X
theorem ce_X2_dueAt {w : kt_W} {g : kt_g} {d : Nat} {P : Option Value → kt_M → Prop} {X : String → Nat → kt_M → Prop} {a0 : Nat} {v1 : Int32} {M : kt_M} (h : vc_X2_dueAt w (g, M) d P X a0 v1 M) : kt_Sp w g (d + 1) yX2_dueAt kc_X2_dueAt [va_rf (some a0), .int v1] M P X := by
  refine kt_of (L0 := [(0, va_rf (some a0)), (1, .int v1)]) (by decide +kernel) (Nat.le_of_ble_eq_true rfl) rfl fun x O => ?_
  replace O : kt_O w x (g, M) (d + 1) cX2_dueAt "KeyTurns$State" 2 ("dueAt", "(I)I") (Option.some Jvm.ClassFile.FieldType.int) [] := O
  unfold vc_X2_dueAt at h
  refine kr_aload_n O dX2_dueAt_0 rfl 0 rfl ?_
  obtain ⟨hco, h⟩ := h
  refine kr_caV (rest := []) O cd_X2_layDue h (Nat.le_of_ble_eq_true rfl) (fun ls _ => kt_ivV (ci := 1) O dX2_dueAt_1 cd_X2_layDue in_X2_layDue (Or.inl q469) q471 qs4 hco (by decide) hy_X2_layDue) (fun M1 hq => ?_) (fun E q M9 hx => kr_out O hx)
  replace h := hq
  clear hq
  refine kr_iload_n O dX2_dueAt_4 rfl 1 rfl ?_
  refine kr_i2l O dX2_dueAt_5 ?_
  refine kr_lconst O dX2_dueAt_6 (v := (0 : Int64)) (by decide) ?_
  refine kr_aload_n O dX2_dueAt_7 rfl 0 rfl ?_
  obtain ⟨u2, eu2, h⟩ := h
  refine kr_getf O dX2_dueAt_8 fs_X2_229 eu2 ?_
  refine kr_iconst O dX2_dueAt_11 (v := (1 : Int32)) (by decide) ?_
  refine kr_isub O dX2_dueAt_12 ?_
  refine kr_i2l O dX2_dueAt_13 ?_
  refine kr_caI (rest := []) O cd_X1_isIn h (Nat.le_of_ble_eq_true rfl) (fun ls _ => kt_ivSN O dX2_dueAt_14 cd_X1_isIn in_X1_isIn q516 q510 hy_X1_isIn) (fun u3 M4 hq => ?_) (fun E q M9 hx => kr_out O hx)
  replace h := hq
  clear hq
  refine kr_if_eq (tgt := 29) O dX2_dueAt_17 rfl (fun hc => ?_) (fun hc => ?_)
  · replace h := h.1 hc
    refine kr_iconst O dX2_dueAt_29 (v := (-1 : Int32)) (by decide) ?_
    exact kr_iret O dX2_dueAt_30 rfl h
  · replace h := h.2 hc
    refine kr_aload_n O dX2_dueAt_20 rfl 0 rfl ?_
    obtain ⟨p5, ep5, h⟩ := h
    refine kr_getf O dX2_dueAt_21 fs_X2_31 ep5 ?_
    refine kr_iload_n O dX2_dueAt_24 rfl 1 rfl ?_
    obtain ⟨b6, rfl, h⟩ := h
    obtain ⟨u7, eu7, h⟩ := h
    refine kr_iaload O dX2_dueAt_25 eu7 ?_
    refine kr_goto (tgt := 30) O dX2_dueAt_26 rfl ?_
    exact kr_iret O dX2_dueAt_30 rfl h
def vc_X2_layDue_132 (w : kt_W) (gr : kt_g × kt_M) (d : Nat) (P : Option Value → kt_M → Prop) (X : String → Nat → kt_M → Prop) (nx12 : Int32 → kt_M → Prop) (a0 : Nat) (v1 : Int32) (v2 : Int32) (v3 : Int32) (M : kt_M) : Prop :=
  ∃ p1, kt_gf M a0 18 = some (va_rf p1) ∧ ∃ b2, p1 = some b2 ∧ kt_hii gr 0 M b2 v3 ∧ ∀ M3, M3 = kt_si M b2 v3 v2 → ∃ u4, kt_gf M3 a0 20 = some (.int u4) ∧ kt_hf gr M3 a0 20 ∧ ∀ M5, M5 = kt_pf M3 a0 20 (.int (u4 + (1 : Int32))) → nx12 (v2 + (1 : Int32)) M5
theorem cj_X2_layDue_132 {w : kt_W} {x : kt_X} {gr : kt_g × kt_M} {d : Nat} {P : Option Value → kt_M → Prop} {X : String → Nat → kt_M → Prop} {nx12 : Int32 → kt_M → Prop} {a0 : Nat} {v1 : Int32} {v2 : Int32} {v3 : Int32} {M : kt_M} (O : kt_O w x gr (d + 1) cX2_layDue "KeyTurns$State" 4 ("layDue", "()V") (Option.none : Option Jvm.ClassFile.FieldType) []) (hn12 : ∀ v2 M, nx12 v2 M → kt_S w x 4 (kt_E w x P X) M 12 [(0, va_rf (some a0)), (1, .int v1), (2, .int v2)] []) (h : vc_X2_layDue_132 w gr d P X nx12 a0 v1 v2 v3 M) : kt_S w x 4 (kt_E w x P X) M 132 [(0, va_rf (some a0)), (1, .int v1), (2, .int v2), (3, .int v3)] [] := by
  unfold vc_X2_layDue_132 at h
  refine kr_aload_n O dX2_layDue_132 rfl 0 rfl ?_
  obtain ⟨p1, ep1, h⟩ := h
  refine kr_getf O dX2_layDue_133 fs_X2_31 ep1 ?_
  refine kr_iload_n O dX2_layDue_136 rfl 3 rfl ?_
  refine kr_iload_n O dX2_layDue_137 rfl 2 rfl ?_
  obtain ⟨b2, rfl, h⟩ := h
  obtain ⟨hw, h⟩ := h
  refine kr_iastore O dX2_layDue_138 hw (kr_nmM fun M3 hM3 => ?_)
  replace h := h M3 hM3
  refine kr_aload_n O dX2_layDue_139 rfl 0 rfl ?_
  refine kr_dup O dX2_layDue_140 (kt_nrf _) ?_
  obtain ⟨u4, eu4, h⟩ := h
  refine kr_getf O dX2_layDue_141 fs_X2_229 eu4 ?_
  refine kr_iconst O dX2_layDue_144 (v := (1 : Int32)) (by decide) ?_
  refine kr_iadd O dX2_layDue_145 ?_
  obtain ⟨hw, h⟩ := h
  refine kr_putf O dX2_layDue_146 fs_X2_229 (Or.inl rfl) ⟨rfl, rfl⟩ hw (kr_nmM fun M5 hM5 => ?_)
  replace h := h M5 hM5
  refine kr_iinc O dX2_layDue_149 2 rfl (v := v2 + (1 : Int32)) rfl (Nat.le_of_ble_eq_true rfl) rfl rfl ?_
  refine kr_goto (tgt := 12) O dX2_layDue_152 rfl ?_
  refine kr_sub [1, 2, 0] rfl ?_
  exact hn12 _ _ h
def vc_X2_layDue_86 (w : kt_W) (gr : kt_g × kt_M) (d : Nat) (P : Option Value → kt_M → Prop) (X : String → Nat → kt_M → Prop) (nx12 : Int32 → kt_M → Prop) (nx86 : Int32 → kt_M → Prop) (a0 : Nat) (v1 : Int32) (v2 : Int32) (v3 : Int32) (M : kt_M) : Prop :=
  
    ((v3 ≤ 0 → vc_X2_layDue_132 w gr d P X nx12 a0 v1 v2 v3 M) ∧
    (¬ v3 ≤ 0 → ∃ p1, kt_gf M a0 19 = some (va_rf p1) ∧ ∃ p2, kt_gf M a0 18 = some (va_rf p2) ∧ ∃ b3, p2 = some b3 ∧ ∃ u4, kt_el 0 M b3 (v3 - (1 : Int32)) = some (.int u4) ∧ ∃ b5, p1 = some b5 ∧ ∃ u6, kt_el 0 M b5 u4 = some (.int u6) ∧ ∃ p7, kt_gf M a0 19 = some (va_rf p7) ∧ ∃ b8, p7 = some b8 ∧ ∃ u9, kt_el 0 M b8 v2 = some (.int u9) ∧ 
      ((u6 ≤ u9 → vc_X2_layDue_132 w gr d P X nx12 a0 v1 v2 v3 M) ∧
      (¬ u6 ≤ u9 → ∃ p10, kt_gf M a0 18 = some (va_rf p10) ∧ ∃ p11, kt_gf M a0 18 = some (va_rf p11) ∧ ∃ b12, p11 = some b12 ∧ ∃ u13, kt_el 0 M b12 (v3 - (1 : Int32)) = some (.int u13) ∧ ∃ b14, p10 = some b14 ∧ kt_hii gr 0 M b14 v3 ∧ ∀ M15, M15 = kt_si M b14 v3 u13 → nx86 (v3 + (-1 : Int32)) M15))))
theorem cj_X2_layDue_86 {w : kt_W} {x : kt_X} {gr : kt_g × kt_M} {d : Nat} {P : Option Value → kt_M → Prop} {X : String → Nat → kt_M → Prop} {nx12 : Int32 → kt_M → Prop} {nx86 : Int32 → kt_M → Prop} {a0 : Nat} {v1 : Int32} {v2 : Int32} {v3 : Int32} {M : kt_M} (O : kt_O w x gr (d + 1) cX2_layDue "KeyTurns$State" 4 ("layDue", "()V") (Option.none : Option Jvm.ClassFile.FieldType) []) (hn12 : ∀ v2 M, nx12 v2 M → kt_S w x 4 (kt_E w x P X) M 12 [(0, va_rf (some a0)), (1, .int v1), (2, .int v2)] []) (hn86 : ∀ v3 M, nx86 v3 M → kt_S w x 4 (kt_E w x P X) M 86 [(0, va_rf (some a0)), (1, .int v1), (2, .int v2), (3, .int v3)] []) (h : vc_X2_layDue_86 w gr d P X nx12 nx86 a0 v1 v2 v3 M) : kt_S w x 4 (kt_E w x P X) M 86 [(0, va_rf (some a0)), (1, .int v1), (2, .int v2), (3, .int v3)] [] := by
  unfold vc_X2_layDue_86 at h
  refine kr_iload_n O dX2_layDue_86 rfl 3 rfl ?_
  refine kr_if_le (tgt := 132) O dX2_layDue_87 rfl (fun hc => ?_) (fun hc => ?_)
  · replace h := h.1 hc
    exact cj_X2_layDue_132 O hn12 h
  · replace h := h.2 hc
    refine kr_aload_n O dX2_layDue_90 rfl 0 rfl ?_
    obtain ⟨p1, ep1, h⟩ := h
    refine kr_getf O dX2_layDue_91 fs_X2_35 ep1 ?_
    refine kr_aload_n O dX2_layDue_94 rfl 0 rfl ?_
    obtain ⟨p2, ep2, h⟩ := h
    refine kr_getf O dX2_layDue_95 fs_X2_31 ep2 ?_
    refine kr_iload_n O dX2_layDue_98 rfl 3 rfl ?_
    refine kr_iconst O dX2_layDue_99 (v := (1 : Int32)) (by decide) ?_
    refine kr_isub O dX2_layDue_100 ?_
    obtain ⟨b3, rfl, h⟩ := h
    obtain ⟨u4, eu4, h⟩ := h
    refine kr_iaload O dX2_layDue_101 eu4 ?_
    obtain ⟨b5, rfl, h⟩ := h
    obtain ⟨u6, eu6, h⟩ := h
    refine kr_iaload O dX2_layDue_102 eu6 ?_
    refine kr_aload_n O dX2_layDue_103 rfl 0 rfl ?_
    obtain ⟨p7, ep7, h⟩ := h
    refine kr_getf O dX2_layDue_104 fs_X2_35 ep7 ?_
    refine kr_iload_n O dX2_layDue_107 rfl 2 rfl ?_
    obtain ⟨b8, rfl, h⟩ := h
    obtain ⟨u9, eu9, h⟩ := h
    refine kr_iaload O dX2_layDue_108 eu9 ?_
    refine kr_icmp_le (tgt := 132) O dX2_layDue_109 rfl (fun hc => ?_) (fun hc => ?_)
    · replace h := h.1 hc
      exact cj_X2_layDue_132 O hn12 h
    · replace h := h.2 hc
      refine kr_aload_n O dX2_layDue_112 rfl 0 rfl ?_
      obtain ⟨p10, ep10, h⟩ := h
      refine kr_getf O dX2_layDue_113 fs_X2_31 ep10 ?_
      refine kr_iload_n O dX2_layDue_116 rfl 3 rfl ?_
      refine kr_aload_n O dX2_layDue_117 rfl 0 rfl ?_
      obtain ⟨p11, ep11, h⟩ := h
      refine kr_getf O dX2_layDue_118 fs_X2_31 ep11 ?_
      refine kr_iload_n O dX2_layDue_121 rfl 3 rfl ?_
      refine kr_iconst O dX2_layDue_122 (v := (1 : Int32)) (by decide) ?_
      refine kr_isub O dX2_layDue_123 ?_
      obtain ⟨b12, rfl, h⟩ := h
      obtain ⟨u13, eu13, h⟩ := h
      refine kr_iaload O dX2_layDue_124 eu13 ?_
      obtain ⟨b14, rfl, h⟩ := h
      obtain ⟨hw, h⟩ := h
      refine kr_iastore O dX2_layDue_125 hw (kr_nmM fun M15 hM15 => ?_)
      replace h := h M15 hM15
      refine kr_iinc O dX2_layDue_126 3 rfl (v := v3 + (-1 : Int32)) rfl (Nat.le_of_ble_eq_true rfl) rfl rfl ?_
      refine kr_goto (tgt := 86) O dX2_layDue_129 rfl ?_
      refine kr_sub [1, 2, 3, 0] rfl ?_
      exact hn86 _ _ h
def vl_X2_layDue_86 (w : kt_W) (gr : kt_g × kt_M) (d : Nat) (P : Option Value → kt_M → Prop) (X : String → Nat → kt_M → Prop) (nx12 : Int32 → kt_M → Prop) (a0 : Nat) (v1 : Int32) (v2 : Int32) (v3 : Int32) (M : kt_M) : Prop :=
  ∃ Inv : Nat → Int32 → kt_M → Prop, (∃ k, Inv k v3 M) ∧ ∀ k v3 M, kt_le gr.1 gr.2 M → Inv k v3 M → vc_X2_layDue_86 w gr d P X nx12 (fun v3' M' => ∃ k', k' < k ∧ Inv k' v3' M') a0 v1 v2 v3 M
theorem cl_X2_layDue_86 {w : kt_W} {x : kt_X} {gr : kt_g × kt_M} {d : Nat} {P : Option Value → kt_M → Prop} {X : String → Nat → kt_M → Prop} {nx12 : Int32 → kt_M → Prop} {a0 : Nat} {v1 : Int32} {v2 : Int32} {v3 : Int32} {M : kt_M} (O : kt_O w x gr (d + 1) cX2_layDue "KeyTurns$State" 4 ("layDue", "()V") (Option.none : Option Jvm.ClassFile.FieldType) []) (hn12 : ∀ v2 M, nx12 v2 M → kt_S w x 4 (kt_E w x P X) M 12 [(0, va_rf (some a0)), (1, .int v1), (2, .int v2)] []) (h : vl_X2_layDue_86 w gr d P X nx12 a0 v1 v2 v3 M) : kt_S w x 4 (kt_E w x P X) M 86 [(0, va_rf (some a0)), (1, .int v1), (2, .int v2), (3, .int v3)] [] := by
  obtain ⟨Inv, ⟨k, hk⟩, hb⟩ := h
  induction k using Nat.strongRecOn generalizing v3 M with
  | ind k ih =>
    exact kr_le O fun hle => cj_X2_layDue_86 O hn12 (fun v3' M' hi => let ⟨k', h1, h2⟩ := hi; ih k' h1 h2) (hb k _ _ hle hk)
def vc_X2_layDue_12 (w : kt_W) (gr : kt_g × kt_M) (d : Nat) (P : Option Value → kt_M → Prop) (X : String → Nat → kt_M → Prop) (nx12 : Int32 → kt_M → Prop) (a0 : Nat) (v1 : Int32) (v2 : Int32) (M : kt_M) : Prop :=
  ∃ p1, kt_gf M a0 11 = some (va_rf p1) ∧ ∃ b2, p1 = some b2 ∧ (kt_co M b2 = some 13) ∧ 
  kt_Ca w gr d yJ3_size kc_J3_size [va_rf (some b2)] M (kt_pI fun u3 M4 => 
    ((u3 ≤ v2 → P none M4) ∧
    (¬ u3 ≤ v2 → 
      ((v1 = (-1 : Int32) → P none M4) ∧
      (¬ v1 = (-1 : Int32) → (kt_co M4 a0 = some 1) ∧ 
      kt_Ca w gr d yX2_isThere kc_X2_isThere [va_rf (some a0), .int v2] M4 (kt_pI fun u5 M6 => 
        ((u5 = 0 → nx12 (v2 + (1 : Int32)) M6) ∧
        (¬ u5 = 0 → ∃ p7, kt_gf M6 a0 11 = some (va_rf p7) ∧ ∃ b8, p7 = some b8 ∧ (kt_co M6 b8 = some 13) ∧ 
        kt_Ca w gr d yJ3_get kc_J3_get [va_rf (some b8), .int v2] M6 (kt_pR fun p9 M10 => ∃ b11, p9 = some b11 ∧ (∃ c, kt_co M10 b11 = some c ∧ kt_is c "KeyTurns$Sealed") ∧ ∃ p12, kt_gf M10 b11 26 = some (va_rf p12) ∧ ∃ b13, p12 = some b13 ∧ (kt_co M10 b13 = some 18) ∧ 
        kt_Ca w gr d yJ21_get kc_J21_get [va_rf (some b13), .int v1] M10 (kt_pI fun u14 M15 => 
          ((u14 = 0 → ∃ p16, kt_gf M15 a0 19 = some (va_rf p16) ∧ ∃ p17, kt_gf M15 a0 11 = some (va_rf p17) ∧ ∃ b18, p17 = some b18 ∧ (kt_co M15 b18 = some 13) ∧ 
          kt_Ca w gr d yJ3_get kc_J3_get [va_rf (some b18), .int v2] M15 (kt_pR fun p19 M20 => ∃ b21, p19 = some b21 ∧ (∃ c, kt_co M20 b21 = some c ∧ kt_is c "KeyTurns$Sealed") ∧ (kt_co M20 a0 = some 1) ∧ 
          kt_Ca w gr d yX2_endOf kc_X2_endOf [va_rf (some a0), va_rf (some b21)] M20 (kt_pI fun u22 M23 => ∃ b24, p16 = some b24 ∧ kt_hii gr 0 M23 b24 v2 ∧ ∀ M25, M25 = kt_si M23 b24 v2 u22 → ∃ u26, kt_gf M25 a0 20 = some (.int u26) ∧ vl_X2_layDue_86 w gr d P X nx12 a0 v1 v2 u26 M25) X) X) ∧
          (¬ u14 = 0 → nx12 (v2 + (1 : Int32)) M15))) X) X))) X))))) X
theorem cj_X2_layDue_12 {w : kt_W} {x : kt_X} {gr : kt_g × kt_M} {d : Nat} {P : Option Value → kt_M → Prop} {X : String → Nat → kt_M → Prop} {nx12 : Int32 → kt_M → Prop} {a0 : Nat} {v1 : Int32} {v2 : Int32} {M : kt_M} (O : kt_O w x gr (d + 1) cX2_layDue "KeyTurns$State" 4 ("layDue", "()V") (Option.none : Option Jvm.ClassFile.FieldType) []) (hn12 : ∀ v2 M, nx12 v2 M → kt_S w x 4 (kt_E w x P X) M 12 [(0, va_rf (some a0)), (1, .int v1), (2, .int v2)] []) (h : vc_X2_layDue_12 w gr d P X nx12 a0 v1 v2 M) : kt_S w x 4 (kt_E w x P X) M 12 [(0, va_rf (some a0)), (1, .int v1), (2, .int v2)] [] := by
  unfold vc_X2_layDue_12 at h
  refine kr_iload_n O dX2_layDue_12 rfl 2 rfl ?_
  refine kr_aload_n O dX2_layDue_13 rfl 0 rfl ?_
  obtain ⟨p1, ep1, h⟩ := h
  refine kr_getf O dX2_layDue_14 fs_X2_18 ep1 ?_
  obtain ⟨b2, rfl, h⟩ := h
  obtain ⟨hco, h⟩ := h
  refine kr_caI (rest := [.int v2]) O cd_J3_size h (Nat.le_of_ble_eq_true rfl) (fun ls _ => kt_ivV (ci := 13) O dX2_layDue_17 cd_J3_size in_J3_size (Or.inl q477) q478 q479 hco (by decide) hy_J3_size) (fun u3 M4 hq => ?_) (fun E q M9 hx => kr_out O hx)
  replace h := hq
  clear hq
  refine kr_icmp_ge (tgt := 155) O dX2_layDue_20 rfl (fun hc => ?_) (fun hc => ?_)
  · replace h := h.1 hc
    exact kr_vret O dX2_layDue_155 h
  · replace h := h.2 hc
    refine kr_iload_n O dX2_layDue_23 rfl 1 rfl ?_
    refine kr_iconst O dX2_layDue_24 (v := (-1 : Int32)) (by decide) ?_
    refine kr_icmp_eq (tgt := 155) O dX2_layDue_25 rfl (fun hc => ?_) (fun hc => ?_)
    · replace h := h.1 hc
      exact kr_vret O dX2_layDue_155 h
    · replace h := h.2 hc
      refine kr_aload_n O dX2_layDue_28 rfl 0 rfl ?_
      refine kr_iload_n O dX2_layDue_29 rfl 2 rfl ?_
      obtain ⟨hco, h⟩ := h
      refine kr_caI (rest := []) O cd_X2_isThere h (Nat.le_of_ble_eq_true rfl) (fun ls _ => kt_ivV (ci := 1) O dX2_layDue_30 cd_X2_isThere in_X2_isThere (Or.inl q512) q513 q514 hco (by decide) hy_X2_isThere) (fun u5 M6 hq => ?_) (fun E q M9 hx => kr_out O hx)
      replace h := hq
      clear hq
      refine kr_if_eq (tgt := 149) O dX2_layDue_33 rfl (fun hc => ?_) (fun hc => ?_)
      · replace h := h.1 hc
        refine kr_iinc O dX2_layDue_149 2 rfl (v := v2 + (1 : Int32)) rfl (Nat.le_of_ble_eq_true rfl) rfl rfl ?_
        refine kr_goto (tgt := 12) O dX2_layDue_152 rfl ?_
        refine kr_sub [1, 2, 0] rfl ?_
        exact hn12 _ _ h
      · replace h := h.2 hc
        refine kr_aload_n O dX2_layDue_36 rfl 0 rfl ?_
        obtain ⟨p7, ep7, h⟩ := h
        refine kr_getf O dX2_layDue_37 fs_X2_18 ep7 ?_
        refine kr_iload_n O dX2_layDue_40 rfl 2 rfl ?_
        obtain ⟨b8, rfl, h⟩ := h
        obtain ⟨hco, h⟩ := h
        refine kr_caR (rest := []) O cd_J3_get h (Nat.le_of_ble_eq_true rfl) (fun ls _ => kt_ivV (ci := 13) O dX2_layDue_41 cd_J3_get in_J3_get (Or.inl q481) q482 q483 hco (by decide) hy_J3_get) (fun p9 M10 hq => ?_) (fun E q M9 hx => kr_out O hx)
        replace h := hq
        clear hq
        obtain ⟨b11, rfl, h⟩ := h
        obtain ⟨⟨cc1, hc1, hc2⟩, h⟩ := h
        refine kr_cast O dX2_layDue_44 q517 hc1 hc2 ?_
        obtain ⟨p12, ep12, h⟩ := h
        refine kr_getf O dX2_layDue_47 fs_X2_199 ep12 ?_
        refine kr_iload_n O dX2_layDue_50 rfl 1 rfl ?_
        obtain ⟨b13, rfl, h⟩ := h
        obtain ⟨hco, h⟩ := h
        refine kr_caI (rest := []) O cd_J21_get h (Nat.le_of_ble_eq_true rfl) (fun ls _ => kt_ivV (ci := 18) O dX2_layDue_51 cd_J21_get in_J21_get (Or.inl q518) q519 q520 hco (by decide) hy_J21_get) (fun u14 M15 hq => ?_) (fun E q M9 hx => kr_out O hx)
        replace h := hq
        clear hq
        refine kr_if_eq (tgt := 60) O dX2_layDue_54 rfl (fun hc => ?_) (fun hc => ?_)
        · replace h := h.1 hc
          refine kr_aload_n O dX2_layDue_60 rfl 0 rfl ?_
          obtain ⟨p16, ep16, h⟩ := h
          refine kr_getf O dX2_layDue_61 fs_X2_35 ep16 ?_
          refine kr_iload_n O dX2_layDue_64 rfl 2 rfl ?_
          refine kr_aload_n O dX2_layDue_65 rfl 0 rfl ?_
          refine kr_aload_n O dX2_layDue_66 rfl 0 rfl ?_
          obtain ⟨p17, ep17, h⟩ := h
          refine kr_getf O dX2_layDue_67 fs_X2_18 ep17 ?_
          refine kr_iload_n O dX2_layDue_70 rfl 2 rfl ?_
          obtain ⟨b18, rfl, h⟩ := h
          obtain ⟨hco, h⟩ := h
          refine kr_caR (rest := [va_rf (some a0), .int v2, va_rf p16]) O cd_J3_get h (Nat.le_of_ble_eq_true rfl) (fun ls _ => kt_ivV (ci := 13) O dX2_layDue_71 cd_J3_get in_J3_get (Or.inl q481) q482 q483 hco (by decide) hy_J3_get) (fun p19 M20 hq => ?_) (fun E q M9 hx => kr_out O hx)
          replace h := hq
          clear hq
          obtain ⟨b21, rfl, h⟩ := h
          obtain ⟨⟨cc1, hc1, hc2⟩, h⟩ := h
          refine kr_cast O dX2_layDue_74 q517 hc1 hc2 ?_
          obtain ⟨hco, h⟩ := h
          refine kr_caI (rest := [.int v2, va_rf p16]) O cd_X2_endOf h (Nat.le_of_ble_eq_true rfl) (fun ls _ => kt_ivV (ci := 1) O dX2_layDue_77 cd_X2_endOf in_X2_endOf (Or.inl q532) q533 q534 hco (by decide) hy_X2_endOf) (fun u22 M23 hq => ?_) (fun E q M9 hx => kr_out O hx)
          replace h := hq
          clear hq
          obtain ⟨b24, rfl, h⟩ := h
          obtain ⟨hw, h⟩ := h
          refine kr_iastore O dX2_layDue_80 hw (kr_nmM fun M25 hM25 => ?_)
          replace h := h M25 hM25
          refine kr_aload_n O dX2_layDue_81 rfl 0 rfl ?_
          obtain ⟨u26, eu26, h⟩ := h
          refine kr_getf O dX2_layDue_82 fs_X2_229 eu26 ?_
          refine kr_istore_n O dX2_layDue_85 rfl (Nat.le_of_ble_eq_true rfl) rfl rfl ?_
          refine kr_sub [1, 2, 3, 0] rfl ?_
          exact cl_X2_layDue_86 O hn12 h
        · replace h := h.2 hc
          refine kr_goto (tgt := 149) O dX2_layDue_57 rfl ?_
          refine kr_iinc O dX2_layDue_149 2 rfl (v := v2 + (1 : Int32)) rfl (Nat.le_of_ble_eq_true rfl) rfl rfl ?_
          refine kr_goto (tgt := 12) O dX2_layDue_152 rfl ?_
          refine kr_sub [1, 2, 0] rfl ?_
          exact hn12 _ _ h
def vl_X2_layDue_12 (w : kt_W) (gr : kt_g × kt_M) (d : Nat) (P : Option Value → kt_M → Prop) (X : String → Nat → kt_M → Prop)  (a0 : Nat) (v1 : Int32) (v2 : Int32) (M : kt_M) : Prop :=
  ∃ Inv : Nat → Int32 → kt_M → Prop, (∃ k, Inv k v2 M) ∧ ∀ k v2 M, kt_le gr.1 gr.2 M → Inv k v2 M → vc_X2_layDue_12 w gr d P X (fun v2' M' => ∃ k', k' < k ∧ Inv k' v2' M') a0 v1 v2 M
theorem cl_X2_layDue_12 {w : kt_W} {x : kt_X} {gr : kt_g × kt_M} {d : Nat} {P : Option Value → kt_M → Prop} {X : String → Nat → kt_M → Prop}  {a0 : Nat} {v1 : Int32} {v2 : Int32} {M : kt_M} (O : kt_O w x gr (d + 1) cX2_layDue "KeyTurns$State" 4 ("layDue", "()V") (Option.none : Option Jvm.ClassFile.FieldType) [])  (h : vl_X2_layDue_12 w gr d P X  a0 v1 v2 M) : kt_S w x 4 (kt_E w x P X) M 12 [(0, va_rf (some a0)), (1, .int v1), (2, .int v2)] [] := by
  obtain ⟨Inv, ⟨k, hk⟩, hb⟩ := h
  induction k using Nat.strongRecOn generalizing v2 M with
  | ind k ih =>
    exact kr_le O fun hle => cj_X2_layDue_12 O (fun v2' M' hi => let ⟨k', h1, h2⟩ := hi; ih k' h1 h2) (hb k _ _ hle hk)
def vc_X2_layDue (w : kt_W) (gr : kt_g × kt_M) (d : Nat) (P : Option Value → kt_M → Prop) (X : String → Nat → kt_M → Prop) (a0 : Nat) (M : kt_M) : Prop :=
  (kt_co M a0 = some 1) ∧ 
  kt_Ca w gr d yX2_writing kc_X2_writing [va_rf (some a0)] M (kt_pI fun u1 M2 => kt_hf gr M2 a0 20 ∧ ∀ M3, M3 = kt_pf M2 a0 20 (.int (0 : Int32)) → vl_X2_layDue_12 w gr d P X  a0 u1 (0 : Int32) M3) X
theorem ce_X2_layDue {w : kt_W} {g : kt_g} {d : Nat} {P : Option Value → kt_M → Prop} {X : String → Nat → kt_M → Prop} {a0 : Nat} {M : kt_M} (h : vc_X2_layDue w (g, M) d P X a0 M) : kt_Sp w g (d + 1) yX2_layDue kc_X2_layDue [va_rf (some a0)] M P X := by
  refine kt_of (L0 := [(0, va_rf (some a0))]) (by decide +kernel) (Nat.le_of_ble_eq_true rfl) rfl fun x O => ?_
  replace O : kt_O w x (g, M) (d + 1) cX2_layDue "KeyTurns$State" 4 ("layDue", "()V") (Option.none : Option Jvm.ClassFile.FieldType) [] := O
  unfold vc_X2_layDue at h
  refine kr_aload_n O dX2_layDue_0 rfl 0 rfl ?_
  obtain ⟨hco, h⟩ := h
  refine kr_caI (rest := []) O cd_X2_writing h (Nat.le_of_ble_eq_true rfl) (fun ls _ => kt_ivV (ci := 1) O dX2_layDue_1 cd_X2_writing in_X2_writing (Or.inl q473) q474 q475 hco (by decide) hy_X2_writing) (fun u1 M2 hq => ?_) (fun E q M9 hx => kr_out O hx)
  replace h := hq
  clear hq
  refine kr_istore_n O dX2_layDue_4 rfl (Nat.le_of_ble_eq_true rfl) rfl rfl ?_
  refine kr_aload_n O dX2_layDue_5 rfl 1 rfl ?_
  refine kr_iconst O dX2_layDue_6 (v := (0 : Int32)) (by decide) ?_
  obtain ⟨hw, h⟩ := h
  refine kr_putf O dX2_layDue_7 fs_X2_229 (Or.inl rfl) ⟨rfl, rfl⟩ hw (kr_nmM fun M3 hM3 => ?_)
  replace h := h M3 hM3
  refine kr_iconst O dX2_layDue_10 (v := (0 : Int32)) (by decide) ?_
  refine kr_istore_n O dX2_layDue_11 rfl (Nat.le_of_ble_eq_true rfl) rfl rfl ?_
  refine kr_sub [2, 1, 0] rfl ?_
  exact cl_X2_layDue_12 O  h
def vc_X2_writing_10 (w : kt_W) (gr : kt_g × kt_M) (d : Nat) (P : Option Value → kt_M → Prop) (X : String → Nat → kt_M → Prop) (nx10 : Int32 → kt_M → Prop) (a0 : Nat) (v1 : Int32) (M : kt_M) : Prop :=
  
    ((v1 < 0 → P (some (.int v1)) M) ∧
    (¬ v1 < 0 → ∃ p1, kt_gf M a0 10 = some (va_rf p1) ∧ ∃ b2, p1 = some b2 ∧ (kt_co M b2 = some 13) ∧ 
    kt_Ca w gr d yJ3_get kc_J3_get [va_rf (some b2), .int v1] M (kt_pR fun p3 M4 => ∃ b5, p3 = some b5 ∧ (∃ c, kt_co M4 b5 = some c ∧ kt_is c "KeyTurns$Version") ∧ ∃ u6, kt_gf M4 a0 14 = some (.int u6) ∧ (kt_co M4 b5 = some 2 ∨ kt_co M4 b5 = some 3) ∧ 
    kt_Ca w gr d yX3_isInForce kc_X3_isInForce [va_rf (some b5), .int u6] M4 (kt_pI fun u7 M8 => 
      ((¬ u7 = 0 → P (some (.int v1)) M8) ∧
      (u7 = 0 → nx10 (v1 + (-1 : Int32)) M8))) X) X))
theorem cj_X2_writing_10 {w : kt_W} {x : kt_X} {gr : kt_g × kt_M} {d : Nat} {P : Option Value → kt_M → Prop} {X : String → Nat → kt_M → Prop} {nx10 : Int32 → kt_M → Prop} {a0 : Nat} {v1 : Int32} {M : kt_M} (O : kt_O w x gr (d + 1) cX2_writing "KeyTurns$State" 2 ("writing", "()I") (Option.some Jvm.ClassFile.FieldType.int) []) (hn10 : ∀ v1 M, nx10 v1 M → kt_S w x 2 (kt_E w x P X) M 10 [(0, va_rf (some a0)), (1, .int v1)] []) (h : vc_X2_writing_10 w gr d P X nx10 a0 v1 M) : kt_S w x 2 (kt_E w x P X) M 10 [(0, va_rf (some a0)), (1, .int v1)] [] := by
  unfold vc_X2_writing_10 at h
  refine kr_iload_n O dX2_writing_10 rfl 1 rfl ?_
  refine kr_if_lt (tgt := 41) O dX2_writing_11 rfl (fun hc => ?_) (fun hc => ?_)
  · replace h := h.1 hc
    refine kr_iload_n O dX2_writing_41 rfl 1 rfl ?_
    exact kr_iret O dX2_writing_42 rfl h
  · replace h := h.2 hc
    refine kr_aload_n O dX2_writing_14 rfl 0 rfl ?_
    obtain ⟨p1, ep1, h⟩ := h
    refine kr_getf O dX2_writing_15 fs_X2_12 ep1 ?_
    refine kr_iload_n O dX2_writing_18 rfl 1 rfl ?_
    obtain ⟨b2, rfl, h⟩ := h
    obtain ⟨hco, h⟩ := h
    refine kr_caR (rest := []) O cd_J3_get h (Nat.le_of_ble_eq_true rfl) (fun ls _ => kt_ivV (ci := 13) O dX2_writing_19 cd_J3_get in_J3_get (Or.inl q481) q482 q483 hco (by decide) hy_J3_get) (fun p3 M4 hq => ?_) (fun E q M9 hx => kr_out O hx)
    replace h := hq
    clear hq
    obtain ⟨b5, rfl, h⟩ := h
    obtain ⟨⟨cc1, hc1, hc2⟩, h⟩ := h
    refine kr_cast O dX2_writing_22 q495 hc1 hc2 ?_
    refine kr_aload_n O dX2_writing_25 rfl 0 rfl ?_
    obtain ⟨u6, eu6, h⟩ := h
    refine kr_getf O dX2_writing_26 fs_X2_98 eu6 ?_
    obtain ⟨hco, h⟩ := h
    refine kr_caI (rest := []) O cd_X3_isInForce h (Nat.le_of_ble_eq_true rfl) (fun ls _ => by rcases hco with hco | hco <;> first | exact kt_ivV (ci := 2) O dX2_writing_29 cd_X3_isInForce in_X3_isInForce (Or.inl q496) q497 q499 hco (by decide) hy_X3_isInForce | exact kt_ivV (ci := 3) O dX2_writing_29 cd_X3_isInForce in_X3_isInForce (Or.inl q496) q497 q500 hco (by decide) hy_X3_isInForce) (fun u7 M8 hq => ?_) (fun E q M9 hx => kr_out O hx)
    replace h := hq
    clear hq
    refine kr_if_ne (tgt := 41) O dX2_writing_32 rfl (fun hc => ?_) (fun hc => ?_)
    · replace h := h.1 hc
      refine kr_iload_n O dX2_writing_41 rfl 1 rfl ?_
      exact kr_iret O dX2_writing_42 rfl h
    · replace h := h.2 hc
      refine kr_iinc O dX2_writing_35 1 rfl (v := v1 + (-1 : Int32)) rfl (Nat.le_of_ble_eq_true rfl) rfl rfl ?_
      refine kr_goto (tgt := 10) O dX2_writing_38 rfl ?_
      refine kr_sub [1, 0] rfl ?_
      exact hn10 _ _ h
def vl_X2_writing_10 (w : kt_W) (gr : kt_g × kt_M) (d : Nat) (P : Option Value → kt_M → Prop) (X : String → Nat → kt_M → Prop)  (a0 : Nat) (v1 : Int32) (M : kt_M) : Prop :=
  ∃ Inv : Nat → Int32 → kt_M → Prop, (∃ k, Inv k v1 M) ∧ ∀ k v1 M, kt_le gr.1 gr.2 M → Inv k v1 M → vc_X2_writing_10 w gr d P X (fun v1' M' => ∃ k', k' < k ∧ Inv k' v1' M') a0 v1 M
theorem cl_X2_writing_10 {w : kt_W} {x : kt_X} {gr : kt_g × kt_M} {d : Nat} {P : Option Value → kt_M → Prop} {X : String → Nat → kt_M → Prop}  {a0 : Nat} {v1 : Int32} {M : kt_M} (O : kt_O w x gr (d + 1) cX2_writing "KeyTurns$State" 2 ("writing", "()I") (Option.some Jvm.ClassFile.FieldType.int) [])  (h : vl_X2_writing_10 w gr d P X  a0 v1 M) : kt_S w x 2 (kt_E w x P X) M 10 [(0, va_rf (some a0)), (1, .int v1)] [] := by
  obtain ⟨Inv, ⟨k, hk⟩, hb⟩ := h
  induction k using Nat.strongRecOn generalizing v1 M with
  | ind k ih =>
    exact kr_le O fun hle => cj_X2_writing_10 O (fun v1' M' hi => let ⟨k', h1, h2⟩ := hi; ih k' h1 h2) (hb k _ _ hle hk)
def vc_X2_writing (w : kt_W) (gr : kt_g × kt_M) (d : Nat) (P : Option Value → kt_M → Prop) (X : String → Nat → kt_M → Prop) (a0 : Nat) (M : kt_M) : Prop :=
  ∃ p1, kt_gf M a0 10 = some (va_rf p1) ∧ ∃ b2, p1 = some b2 ∧ (kt_co M b2 = some 13) ∧ 
  kt_Ca w gr d yJ3_size kc_J3_size [va_rf (some b2)] M (kt_pI fun u3 M4 => vl_X2_writing_10 w gr d P X  a0 (u3 - (1 : Int32)) M4) X
theorem ce_X2_writing {w : kt_W} {g : kt_g} {d : Nat} {P : Option Value → kt_M → Prop} {X : String → Nat → kt_M → Prop} {a0 : Nat} {M : kt_M} (h : vc_X2_writing w (g, M) d P X a0 M) : kt_Sp w g (d + 1) yX2_writing kc_X2_writing [va_rf (some a0)] M P X := by
  refine kt_of (L0 := [(0, va_rf (some a0))]) (by decide +kernel) (Nat.le_of_ble_eq_true rfl) rfl fun x O => ?_
  replace O : kt_O w x (g, M) (d + 1) cX2_writing "KeyTurns$State" 2 ("writing", "()I") (Option.some Jvm.ClassFile.FieldType.int) [] := O
  unfold vc_X2_writing at h
  refine kr_aload_n O dX2_writing_0 rfl 0 rfl ?_
  obtain ⟨p1, ep1, h⟩ := h
  refine kr_getf O dX2_writing_1 fs_X2_12 ep1 ?_
  obtain ⟨b2, rfl, h⟩ := h
  obtain ⟨hco, h⟩ := h
  refine kr_caI (rest := []) O cd_J3_size h (Nat.le_of_ble_eq_true rfl) (fun ls _ => kt_ivV (ci := 13) O dX2_writing_4 cd_J3_size in_J3_size (Or.inl q477) q478 q479 hco (by decide) hy_J3_size) (fun u3 M4 hq => ?_) (fun E q M9 hx => kr_out O hx)
  replace h := hq
  clear hq
  refine kr_iconst O dX2_writing_7 (v := (1 : Int32)) (by decide) ?_
  refine kr_isub O dX2_writing_8 ?_
  refine kr_istore_n O dX2_writing_9 rfl (Nat.le_of_ble_eq_true rfl) rfl rfl ?_
  refine kr_sub [1, 0] rfl ?_
  exact cl_X2_writing_10 O  h
def vc_X2_isThere (w : kt_W) (gr : kt_g × kt_M) (d : Nat) (P : Option Value → kt_M → Prop) (X : String → Nat → kt_M → Prop) (a0 : Nat) (v1 : Int32) (M : kt_M) : Prop :=
  ∃ p1, kt_gf M a0 11 = some (va_rf p1) ∧ ∃ b2, p1 = some b2 ∧ (kt_co M b2 = some 13) ∧ 
  kt_Ca w gr d yJ3_size kc_J3_size [va_rf (some b2)] M (kt_pI fun u3 M4 => 
  kt_Ca w gr d yX1_isIn kc_X1_isIn [.long v1.toInt64, .long (0 : Int64), .long ((u3 - (1 : Int32)).toInt64)] M4 (kt_pI fun u5 M6 => 
    ((u5 = 0 → P (some (.int (0 : Int32))) M6) ∧
    (¬ u5 = 0 → ∃ p7, kt_gf M6 a0 11 = some (va_rf p7) ∧ ∃ b8, p7 = some b8 ∧ (kt_co M6 b8 = some 13) ∧ 
    kt_Ca w gr d yJ3_get kc_J3_get [va_rf (some b8), .int v1] M6 (kt_pR fun p9 M10 => ∃ b11, p9 = some b11 ∧ (∃ c, kt_co M10 b11 = some c ∧ kt_is c "KeyTurns$Sealed") ∧ ∃ u12, kt_gf M10 b11 28 = some (.int u12) ∧ 
      ((¬ u12 = 0 → P (some (.int (0 : Int32))) M10) ∧
      (u12 = 0 → P (some (.int (1 : Int32))) M10))) X))) X) X
theorem ce_X2_isThere {w : kt_W} {g : kt_g} {d : Nat} {P : Option Value → kt_M → Prop} {X : String → Nat → kt_M → Prop} {a0 : Nat} {v1 : Int32} {M : kt_M} (h : vc_X2_isThere w (g, M) d P X a0 v1 M) : kt_Sp w g (d + 1) yX2_isThere kc_X2_isThere [va_rf (some a0), .int v1] M P X := by
  refine kt_of (L0 := [(0, va_rf (some a0)), (1, .int v1)]) (by decide +kernel) (Nat.le_of_ble_eq_true rfl) rfl fun x O => ?_
  replace O : kt_O w x (g, M) (d + 1) cX2_isThere "KeyTurns$State" 2 ("isThere", "(I)Z") (Option.some Jvm.ClassFile.FieldType.boolean) [] := O
  unfold vc_X2_isThere at h
  refine kr_iload_n O dX2_isThere_0 rfl 1 rfl ?_
  refine kr_i2l O dX2_isThere_1 ?_
  refine kr_lconst O dX2_isThere_2 (v := (0 : Int64)) (by decide) ?_
  refine kr_aload_n O dX2_isThere_3 rfl 0 rfl ?_
  obtain ⟨p1, ep1, h⟩ := h
  refine kr_getf O dX2_isThere_4 fs_X2_18 ep1 ?_
  obtain ⟨b2, rfl, h⟩ := h
  obtain ⟨hco, h⟩ := h
  refine kr_caI (rest := [.long (0 : Int64), .long v1.toInt64]) O cd_J3_size h (Nat.le_of_ble_eq_true rfl) (fun ls _ => kt_ivV (ci := 13) O dX2_isThere_7 cd_J3_size in_J3_size (Or.inl q477) q478 q479 hco (by decide) hy_J3_size) (fun u3 M4 hq => ?_) (fun E q M9 hx => kr_out O hx)
  replace h := hq
  clear hq
  refine kr_iconst O dX2_isThere_10 (v := (1 : Int32)) (by decide) ?_
  refine kr_isub O dX2_isThere_11 ?_
  refine kr_i2l O dX2_isThere_12 ?_
  refine kr_caI (rest := []) O cd_X1_isIn h (Nat.le_of_ble_eq_true rfl) (fun ls _ => kt_ivSN O dX2_isThere_13 cd_X1_isIn in_X1_isIn q516 q510 hy_X1_isIn) (fun u5 M6 hq => ?_) (fun E q M9 hx => kr_out O hx)
  replace h := hq
  clear hq
  refine kr_if_eq (tgt := 40) O dX2_isThere_16 rfl (fun hc => ?_) (fun hc => ?_)
  · replace h := h.1 hc
    refine kr_iconst O dX2_isThere_40 (v := (0 : Int32)) (by decide) ?_
    exact kr_iret O dX2_isThere_41 (by decide) h
  · replace h := h.2 hc
    refine kr_aload_n O dX2_isThere_19 rfl 0 rfl ?_
    obtain ⟨p7, ep7, h⟩ := h
    refine kr_getf O dX2_isThere_20 fs_X2_18 ep7 ?_
    refine kr_iload_n O dX2_isThere_23 rfl 1 rfl ?_
    obtain ⟨b8, rfl, h⟩ := h
    obtain ⟨hco, h⟩ := h
    refine kr_caR (rest := []) O cd_J3_get h (Nat.le_of_ble_eq_true rfl) (fun ls _ => kt_ivV (ci := 13) O dX2_isThere_24 cd_J3_get in_J3_get (Or.inl q481) q482 q483 hco (by decide) hy_J3_get) (fun p9 M10 hq => ?_) (fun E q M9 hx => kr_out O hx)
    replace h := hq
    clear hq
    obtain ⟨b11, rfl, h⟩ := h
    obtain ⟨⟨cc1, hc1, hc2⟩, h⟩ := h
    refine kr_cast O dX2_isThere_27 q517 hc1 hc2 ?_
    obtain ⟨u12, eu12, h⟩ := h
    refine kr_getf O dX2_isThere_30 fs_X2_211 eu12 ?_
    refine kr_if_ne (tgt := 40) O dX2_isThere_33 rfl (fun hc => ?_) (fun hc => ?_)
    · replace h := h.1 hc
      refine kr_iconst O dX2_isThere_40 (v := (0 : Int32)) (by decide) ?_
      exact kr_iret O dX2_isThere_41 (by decide) h
    · replace h := h.2 hc
      refine kr_iconst O dX2_isThere_36 (v := (1 : Int32)) (by decide) ?_
      refine kr_goto (tgt := 41) O dX2_isThere_37 rfl ?_
      exact kr_iret O dX2_isThere_41 (by decide) h
def vc_X2_endOf_11 (w : kt_W) (gr : kt_g × kt_M) (d : Nat) (P : Option Value → kt_M → Prop) (X : String → Nat → kt_M → Prop) (nx11 : Int32 → Int32 → kt_M → Prop) (a0 : Nat) (a1 : Nat) (v2 : Int32) (v3 : Int32) (M : kt_M) : Prop :=
  
    ((v3 < 0 → P (some (.int v2)) M) ∧
    (¬ v3 < 0 → ∃ p1, kt_gf M a0 10 = some (va_rf p1) ∧ ∃ b2, p1 = some b2 ∧ (kt_co M b2 = some 13) ∧ 
    kt_Ca w gr d yJ3_get kc_J3_get [va_rf (some b2), .int v3] M (kt_pR fun p3 M4 => ∃ b5, p3 = some b5 ∧ (∃ c, kt_co M4 b5 = some c ∧ kt_is c "KeyTurns$Version") ∧ ∃ u6, kt_gf M4 b5 23 = some (.int u6) ∧ 
    kt_Ca w gr d yJ7_max kc_J7_max [.int v2, .int u6] M4 (kt_pI fun u7 M8 => ∃ p9, kt_gf M8 a1 26 = some (va_rf p9) ∧ ∃ b10, p9 = some b10 ∧ (kt_co M8 b10 = some 18) ∧ 
    kt_Ca w gr d yJ21_nextSetBit kc_J21_nextSetBit [va_rf (some b10), .int (v3 + (1 : Int32))] M8 (kt_pI fun u11 M12 => nx11 u7 u11 M12) X) X) X))
theorem cj_X2_endOf_11 {w : kt_W} {x : kt_X} {gr : kt_g × kt_M} {d : Nat} {P : Option Value → kt_M → Prop} {X : String → Nat → kt_M → Prop} {nx11 : Int32 → Int32 → kt_M → Prop} {a0 : Nat} {a1 : Nat} {v2 : Int32} {v3 : Int32} {M : kt_M} (O : kt_O w x gr (d + 1) cX2_endOf "KeyTurns$State" 4 ("endOf", "(LKeyTurns$Sealed;)I") (Option.some Jvm.ClassFile.FieldType.int) []) (hn11 : ∀ v2 v3 M, nx11 v2 v3 M → kt_S w x 4 (kt_E w x P X) M 11 [(0, va_rf (some a0)), (1, va_rf (some a1)), (2, .int v2), (3, .int v3)] []) (h : vc_X2_endOf_11 w gr d P X nx11 a0 a1 v2 v3 M) : kt_S w x 4 (kt_E w x P X) M 11 [(0, va_rf (some a0)), (1, va_rf (some a1)), (2, .int v2), (3, .int v3)] [] := by
  unfold vc_X2_endOf_11 at h
  refine kr_iload_n O dX2_endOf_11 rfl 3 rfl ?_
  refine kr_if_lt (tgt := 48) O dX2_endOf_12 rfl (fun hc => ?_) (fun hc => ?_)
  · replace h := h.1 hc
    refine kr_iload_n O dX2_endOf_48 rfl 2 rfl ?_
    exact kr_iret O dX2_endOf_49 rfl h
  · replace h := h.2 hc
    refine kr_iload_n O dX2_endOf_15 rfl 2 rfl ?_
    refine kr_aload_n O dX2_endOf_16 rfl 0 rfl ?_
    obtain ⟨p1, ep1, h⟩ := h
    refine kr_getf O dX2_endOf_17 fs_X2_12 ep1 ?_
    refine kr_iload_n O dX2_endOf_20 rfl 3 rfl ?_
    obtain ⟨b2, rfl, h⟩ := h
    obtain ⟨hco, h⟩ := h
    refine kr_caR (rest := [.int v2]) O cd_J3_get h (Nat.le_of_ble_eq_true rfl) (fun ls _ => kt_ivV (ci := 13) O dX2_endOf_21 cd_J3_get in_J3_get (Or.inl q481) q482 q483 hco (by decide) hy_J3_get) (fun p3 M4 hq => ?_) (fun E q M9 hx => kr_out O hx)
    replace h := hq
    clear hq
    obtain ⟨b5, rfl, h⟩ := h
    obtain ⟨⟨cc1, hc1, hc2⟩, h⟩ := h
    refine kr_cast O dX2_endOf_24 q495 hc1 hc2 ?_
    obtain ⟨u6, eu6, h⟩ := h
    refine kr_getf O dX2_endOf_27 fs_X2_128 eu6 ?_
    refine kr_caI (rest := []) O cd_J7_max h (Nat.le_of_ble_eq_true rfl) (fun ls _ => kt_ivS O dX2_endOf_30 cd_J7_max in_J7_max q548 q367 hy_J7_max) (fun u7 M8 hq => ?_) (fun E q M9 hx => kr_out O hx)
    replace h := hq
    clear hq
    refine kr_istore_n O dX2_endOf_33 rfl (Nat.le_of_ble_eq_true rfl) rfl rfl ?_
    refine kr_aload_n O dX2_endOf_34 rfl 2 rfl ?_
    obtain ⟨p9, ep9, h⟩ := h
    refine kr_getf O dX2_endOf_35 fs_X2_199 ep9 ?_
    refine kr_iload_n O dX2_endOf_38 rfl 3 rfl ?_
    refine kr_iconst O dX2_endOf_39 (v := (1 : Int32)) (by decide) ?_
    refine kr_iadd O dX2_endOf_40 ?_
    obtain ⟨b10, rfl, h⟩ := h
    obtain ⟨hco, h⟩ := h
    refine kr_caI (rest := []) O cd_J21_nextSetBit h (Nat.le_of_ble_eq_true rfl) (fun ls _ => kt_ivV (ci := 18) O dX2_endOf_41 cd_J21_nextSetBit in_J21_nextSetBit (Or.inl q536) q537 q538 hco (by decide) hy_J21_nextSetBit) (fun u11 M12 hq => ?_) (fun E q M9 hx => kr_out O hx)
    replace h := hq
    clear hq
    refine kr_istore_n O dX2_endOf_44 rfl (Nat.le_of_ble_eq_true rfl) rfl rfl ?_
    refine kr_goto (tgt := 11) O dX2_endOf_45 rfl ?_
    refine kr_sub [2, 3, 1, 0] rfl ?_
    exact hn11 _ _ _ h
def vl_X2_endOf_11 (w : kt_W) (gr : kt_g × kt_M) (d : Nat) (P : Option Value → kt_M → Prop) (X : String → Nat → kt_M → Prop)  (a0 : Nat) (a1 : Nat) (v2 : Int32) (v3 : Int32) (M : kt_M) : Prop :=
  ∃ Inv : Nat → Int32 → Int32 → kt_M → Prop, (∃ k, Inv k v2 v3 M) ∧ ∀ k v2 v3 M, kt_le gr.1 gr.2 M → Inv k v2 v3 M → vc_X2_endOf_11 w gr d P X (fun v2' v3' M' => ∃ k', k' < k ∧ Inv k' v2' v3' M') a0 a1 v2 v3 M
theorem cl_X2_endOf_11 {w : kt_W} {x : kt_X} {gr : kt_g × kt_M} {d : Nat} {P : Option Value → kt_M → Prop} {X : String → Nat → kt_M → Prop}  {a0 : Nat} {a1 : Nat} {v2 : Int32} {v3 : Int32} {M : kt_M} (O : kt_O w x gr (d + 1) cX2_endOf "KeyTurns$State" 4 ("endOf", "(LKeyTurns$Sealed;)I") (Option.some Jvm.ClassFile.FieldType.int) [])  (h : vl_X2_endOf_11 w gr d P X  a0 a1 v2 v3 M) : kt_S w x 4 (kt_E w x P X) M 11 [(0, va_rf (some a0)), (1, va_rf (some a1)), (2, .int v2), (3, .int v3)] [] := by
  obtain ⟨Inv, ⟨k, hk⟩, hb⟩ := h
  induction k using Nat.strongRecOn generalizing v2 v3 M with
  | ind k ih =>
    exact kr_le O fun hle => cj_X2_endOf_11 O (fun v2' v3' M' hi => let ⟨k', h1, h2⟩ := hi; ih k' h1 h2) (hb k _ _ _ hle hk)
def vc_X2_endOf (w : kt_W) (gr : kt_g × kt_M) (d : Nat) (P : Option Value → kt_M → Prop) (X : String → Nat → kt_M → Prop) (a0 : Nat) (r1 : Option Nat) (M : kt_M) : Prop :=
  ∃ b1, r1 = some b1 ∧ ∃ p2, kt_gf M b1 26 = some (va_rf p2) ∧ ∃ b3, p2 = some b3 ∧ (kt_co M b3 = some 18) ∧ 
  kt_Ca w gr d yJ21_nextSetBit kc_J21_nextSetBit [va_rf (some b3), .int (0 : Int32)] M (kt_pI fun u4 M5 => vl_X2_endOf_11 w gr d P X  a0 b1 (-1 : Int32) u4 M5) X
theorem ce_X2_endOf {w : kt_W} {g : kt_g} {d : Nat} {P : Option Value → kt_M → Prop} {X : String → Nat → kt_M → Prop} {a0 : Nat} {r1 : Option Nat} {M : kt_M} (h : vc_X2_endOf w (g, M) d P X a0 r1 M) : kt_Sp w g (d + 1) yX2_endOf kc_X2_endOf [va_rf (some a0), va_rf r1] M P X := by
  refine kt_of (L0 := [(0, va_rf (some a0)), (1, va_rf r1)]) (by decide +kernel) (by simp only [kt_lgR, kt_lgI, kt_lgN] <;> exact Nat.le_of_ble_eq_true rfl) (by simp only [kt_lvR, kt_lvI, kt_lvN] <;> rfl) fun x O => ?_
  replace O : kt_O w x (g, M) (d + 1) cX2_endOf "KeyTurns$State" 4 ("endOf", "(LKeyTurns$Sealed;)I") (Option.some Jvm.ClassFile.FieldType.int) [] := O
  unfold vc_X2_endOf at h
  refine kr_iconst O dX2_endOf_0 (v := (-1 : Int32)) (by decide) ?_
  refine kr_istore_n O dX2_endOf_1 rfl (Nat.le_of_ble_eq_true rfl) (by simp [kt_nw, kt_nrf, kt_cI, kt_cJ, kt_cF, kt_cD, kt_cR, kt_cU]) rfl ?_
  refine kr_aload_n O dX2_endOf_2 rfl 2 rfl ?_
  obtain ⟨b1, rfl, h⟩ := h
  obtain ⟨p2, ep2, h⟩ := h
  refine kr_getf O dX2_endOf_3 fs_X2_199 ep2 ?_
  refine kr_iconst O dX2_endOf_6 (v := (0 : Int32)) (by decide) ?_
  obtain ⟨b3, rfl, h⟩ := h
  obtain ⟨hco, h⟩ := h
  refine kr_caI (rest := []) O cd_J21_nextSetBit h (Nat.le_of_ble_eq_true rfl) (fun ls _ => kt_ivV (ci := 18) O dX2_endOf_7 cd_J21_nextSetBit in_J21_nextSetBit (Or.inl q536) q537 q538 hco (by decide) hy_J21_nextSetBit) (fun u4 M5 hq => ?_) (fun E q M9 hx => kr_out O hx)
  replace h := hq
  clear hq
  refine kr_istore_n O dX2_endOf_10 rfl (Nat.le_of_ble_eq_true rfl) rfl rfl ?_
  refine kr_sub [2, 3, 1, 0] rfl ?_
  exact cl_X2_endOf_11 O  h
def vc_X2_isDue (w : kt_W) (gr : kt_g × kt_M) (d : Nat) (P : Option Value → kt_M → Prop) (X : String → Nat → kt_M → Prop) (a0 : Nat) (v1 : Int32) (M : kt_M) : Prop :=
  ∃ p1, kt_gf M a0 10 = some (va_rf p1) ∧ ∃ b2, p1 = some b2 ∧ (kt_co M b2 = some 13) ∧ 
  kt_Ca w gr d yJ3_size kc_J3_size [va_rf (some b2)] M (kt_pI fun u3 M4 => 
    (((30 : Int32) ≤ u3 → P (some (.int (0 : Int32))) M4) ∧
    (¬ (30 : Int32) ≤ u3 → (kt_co M4 a0 = some 1) ∧ 
    kt_Ca w gr d yX2_latest kc_X2_latest [va_rf (some a0)] M4 (kt_pR fun p5 M6 => ∃ b7, p5 = some b7 ∧ ∃ u8, kt_gf M6 b7 22 = some (.int u8) ∧ ∃ u9, kt_gf M6 a0 7 = some (.int u9) ∧ ∃ u10, kt_gf M6 a0 9 = some (.int u10) ∧ 
      ((v1 < ((u8 + u9) - u10) → P (some (.int (0 : Int32))) M6) ∧
      (¬ v1 < ((u8 + u9) - u10) → (kt_co M6 a0 = some 1) ∧ 
      kt_Ca w gr d yX2_dueFirst kc_X2_dueFirst [va_rf (some a0), .int v1] M6 (kt_pI fun u11 M12 => 
        (((9999 : Int32) < u11 → P (some (.int (0 : Int32))) M12) ∧
        (¬ (9999 : Int32) < u11 → P (some (.int (1 : Int32))) M12))) X))) X))) X
theorem ce_X2_isDue {w : kt_W} {g : kt_g} {d : Nat} {P : Option Value → kt_M → Prop} {X : String → Nat → kt_M → Prop} {a0 : Nat} {v1 : Int32} {M : kt_M} (h : vc_X2_isDue w (g, M) d P X a0 v1 M) : kt_Sp w g (d + 1) yX2_isDue kc_X2_isDue [va_rf (some a0), .int v1] M P X := by
  refine kt_of (L0 := [(0, va_rf (some a0)), (1, .int v1)]) (by decide +kernel) (Nat.le_of_ble_eq_true rfl) rfl fun x O => ?_
  replace O : kt_O w x (g, M) (d + 1) cX2_isDue "KeyTurns$State" 2 ("isDue", "(I)Z") (Option.some Jvm.ClassFile.FieldType.boolean) [] := O
  unfold vc_X2_isDue at h
  refine kr_aload_n O dX2_isDue_0 rfl 0 rfl ?_
  obtain ⟨p1, ep1, h⟩ := h
  refine kr_getf O dX2_isDue_1 fs_X2_12 ep1 ?_
  obtain ⟨b2, rfl, h⟩ := h
  obtain ⟨hco, h⟩ := h
  refine kr_caI (rest := []) O cd_J3_size h (Nat.le_of_ble_eq_true rfl) (fun ls _ => kt_ivV (ci := 13) O dX2_isDue_4 cd_J3_size in_J3_size (Or.inl q477) q478 q479 hco (by decide) hy_J3_size) (fun u3 M4 hq => ?_) (fun E q M9 hx => kr_out O hx)
  replace h := hq
  clear hq
  refine kr_bipush O dX2_isDue_7 (v := (30 : Int32)) (by decide) ?_
  refine kr_icmp_ge (tgt := 48) O dX2_isDue_9 rfl (fun hc => ?_) (fun hc => ?_)
  · replace h := h.1 hc
    refine kr_iconst O dX2_isDue_48 (v := (0 : Int32)) (by decide) ?_
    exact kr_iret O dX2_isDue_49 (by decide) h
  · replace h := h.2 hc
    refine kr_aload_n O dX2_isDue_12 rfl 0 rfl ?_
    obtain ⟨hco, h⟩ := h
    refine kr_caR (rest := []) O cd_X2_latest h (Nat.le_of_ble_eq_true rfl) (fun ls _ => kt_ivV (ci := 1) O dX2_isDue_13 cd_X2_latest in_X2_latest (Or.inl q557) q558 q559 hco (by decide) hy_X2_latest) (fun p5 M6 hq => ?_) (fun E q M9 hx => kr_out O hx)
    replace h := hq
    clear hq
    obtain ⟨b7, rfl, h⟩ := h
    obtain ⟨u8, eu8, h⟩ := h
    refine kr_getf O dX2_isDue_16 fs_X2_159 eu8 ?_
    refine kr_aload_n O dX2_isDue_19 rfl 0 rfl ?_
    obtain ⟨u9, eu9, h⟩ := h
    refine kr_getf O dX2_isDue_20 fs_X2_38 eu9 ?_
    refine kr_iadd O dX2_isDue_23 ?_
    refine kr_aload_n O dX2_isDue_24 rfl 0 rfl ?_
    obtain ⟨u10, eu10, h⟩ := h
    refine kr_getf O dX2_isDue_25 fs_X2_45 eu10 ?_
    refine kr_isub O dX2_isDue_28 ?_
    refine kr_iload_n O dX2_isDue_29 rfl 1 rfl ?_
    refine kr_icmp_gt (tgt := 48) O dX2_isDue_30 rfl (fun hc => ?_) (fun hc => ?_)
    · replace h := h.1 hc
      refine kr_iconst O dX2_isDue_48 (v := (0 : Int32)) (by decide) ?_
      exact kr_iret O dX2_isDue_49 (by decide) h
    · replace h := h.2 hc
      refine kr_aload_n O dX2_isDue_33 rfl 0 rfl ?_
      refine kr_iload_n O dX2_isDue_34 rfl 1 rfl ?_
      obtain ⟨hco, h⟩ := h
      refine kr_caI (rest := []) O cd_X2_dueFirst h (Nat.le_of_ble_eq_true rfl) (fun ls _ => kt_ivV (ci := 1) O dX2_isDue_35 cd_X2_dueFirst in_X2_dueFirst (Or.inl q561) q562 q563 hco (by decide) hy_X2_dueFirst) (fun u11 M12 hq => ?_) (fun E q M9 hx => kr_out O hx)
      replace h := hq
      clear hq
      refine kr_sipush O dX2_isDue_38 (v := (9999 : Int32)) (by decide) ?_
      refine kr_icmp_gt (tgt := 48) O dX2_isDue_41 rfl (fun hc => ?_) (fun hc => ?_)
      · replace h := h.1 hc
        refine kr_iconst O dX2_isDue_48 (v := (0 : Int32)) (by decide) ?_
        exact kr_iret O dX2_isDue_49 (by decide) h
      · replace h := h.2 hc
        refine kr_iconst O dX2_isDue_44 (v := (1 : Int32)) (by decide) ?_
        refine kr_goto (tgt := 49) O dX2_isDue_45 rfl ?_
        exact kr_iret O dX2_isDue_49 (by decide) h
def vc_X2_latest (w : kt_W) (gr : kt_g × kt_M) (d : Nat) (P : Option Value → kt_M → Prop) (X : String → Nat → kt_M → Prop) (a0 : Nat) (M : kt_M) : Prop :=
  ∃ p1, kt_gf M a0 10 = some (va_rf p1) ∧ ∃ p2, kt_gf M a0 10 = some (va_rf p2) ∧ ∃ b3, p2 = some b3 ∧ (kt_co M b3 = some 13) ∧ 
  kt_Ca w gr d yJ3_size kc_J3_size [va_rf (some b3)] M (kt_pI fun u4 M5 => ∃ b6, p1 = some b6 ∧ (kt_co M5 b6 = some 13) ∧ 
  kt_Ca w gr d yJ3_get kc_J3_get [va_rf (some b6), .int (u4 - (1 : Int32))] M5 (kt_pR fun p7 M8 => ∃ b9, p7 = some b9 ∧ (∃ c, kt_co M8 b9 = some c ∧ kt_is c "KeyTurns$Version") ∧ P (some (va_rf (some b9))) M8) X) X
theorem ce_X2_latest {w : kt_W} {g : kt_g} {d : Nat} {P : Option Value → kt_M → Prop} {X : String → Nat → kt_M → Prop} {a0 : Nat} {M : kt_M} (h : vc_X2_latest w (g, M) d P X a0 M) : kt_Sp w g (d + 1) yX2_latest kc_X2_latest [va_rf (some a0)] M P X := by
  refine kt_of (L0 := [(0, va_rf (some a0))]) (by decide +kernel) (Nat.le_of_ble_eq_true rfl) rfl fun x O => ?_
  replace O : kt_O w x (g, M) (d + 1) cX2_latest "KeyTurns$State" 1 ("latest", "()LKeyTurns$Version;") (Option.some (Jvm.ClassFile.FieldType.object "KeyTurns$Version")) [] := O
  unfold vc_X2_latest at h
  refine kr_aload_n O dX2_latest_0 rfl 0 rfl ?_
  obtain ⟨p1, ep1, h⟩ := h
  refine kr_getf O dX2_latest_1 fs_X2_12 ep1 ?_
  refine kr_aload_n O dX2_latest_4 rfl 0 rfl ?_
  obtain ⟨p2, ep2, h⟩ := h
  refine kr_getf O dX2_latest_5 fs_X2_12 ep2 ?_
  obtain ⟨b3, rfl, h⟩ := h
  obtain ⟨hco, h⟩ := h
  refine kr_caI (rest := [va_rf p1]) O cd_J3_size h (Nat.le_of_ble_eq_true rfl) (fun ls _ => kt_ivV (ci := 13) O dX2_latest_8 cd_J3_size in_J3_size (Or.inl q477) q478 q479 hco (by decide) hy_J3_size) (fun u4 M5 hq => ?_) (fun E q M9 hx => kr_out O hx)
  replace h := hq
  clear hq
  refine kr_iconst O dX2_latest_11 (v := (1 : Int32)) (by decide) ?_
  refine kr_isub O dX2_latest_12 ?_
  obtain ⟨b6, rfl, h⟩ := h
  obtain ⟨hco, h⟩ := h
  refine kr_caR (rest := []) O cd_J3_get h (Nat.le_of_ble_eq_true rfl) (fun ls _ => kt_ivV (ci := 13) O dX2_latest_13 cd_J3_get in_J3_get (Or.inl q481) q482 q483 hco (by decide) hy_J3_get) (fun p7 M8 hq => ?_) (fun E q M9 hx => kr_out O hx)
  replace h := hq
  clear hq
  obtain ⟨b9, rfl, h⟩ := h
  obtain ⟨⟨cc1, hc1, hc2⟩, h⟩ := h
  refine kr_cast O dX2_latest_16 q495 hc1 hc2 ?_
  exact kr_aret O dX2_latest_19 (by first | exact Or.inl ⟨_, rfl⟩ | exact Or.inr ⟨_, rfl⟩) h
def vc_X2_dueFirst (w : kt_W) (gr : kt_g × kt_M) (d : Nat) (P : Option Value → kt_M → Prop) (X : String → Nat → kt_M → Prop) (a0 : Nat) (v1 : Int32) (M : kt_M) : Prop :=
  (kt_co M a0 = some 1) ∧ 
  kt_Ca w gr d yX2_latest kc_X2_latest [va_rf (some a0)] M (kt_pR fun p1 M2 => ∃ b3, p1 = some b3 ∧ ∃ u4, kt_gf M2 b3 22 = some (.int u4) ∧ ∃ u5, kt_gf M2 a0 7 = some (.int u5) ∧ 
  kt_Ca w gr d yJ7_max kc_J7_max [.int v1, .int (u4 + u5)] M2 (kt_pI fun u6 M7 => P (some (.int u6)) M7) X) X
theorem ce_X2_dueFirst {w : kt_W} {g : kt_g} {d : Nat} {P : Option Value → kt_M → Prop} {X : String → Nat → kt_M → Prop} {a0 : Nat} {v1 : Int32} {M : kt_M} (h : vc_X2_dueFirst w (g, M) d P X a0 v1 M) : kt_Sp w g (d + 1) yX2_dueFirst kc_X2_dueFirst [va_rf (some a0), .int v1] M P X := by
  refine kt_of (L0 := [(0, va_rf (some a0)), (1, .int v1)]) (by decide +kernel) (Nat.le_of_ble_eq_true rfl) rfl fun x O => ?_
  replace O : kt_O w x (g, M) (d + 1) cX2_dueFirst "KeyTurns$State" 2 ("dueFirst", "(I)I") (Option.some Jvm.ClassFile.FieldType.int) [] := O
  unfold vc_X2_dueFirst at h
  refine kr_iload_n O dX2_dueFirst_0 rfl 1 rfl ?_
  refine kr_aload_n O dX2_dueFirst_1 rfl 0 rfl ?_
  obtain ⟨hco, h⟩ := h
  refine kr_caR (rest := [.int v1]) O cd_X2_latest h (Nat.le_of_ble_eq_true rfl) (fun ls _ => kt_ivV (ci := 1) O dX2_dueFirst_2 cd_X2_latest in_X2_latest (Or.inl q557) q558 q559 hco (by decide) hy_X2_latest) (fun p1 M2 hq => ?_) (fun E q M9 hx => kr_out O hx)
  replace h := hq
  clear hq
  obtain ⟨b3, rfl, h⟩ := h
  obtain ⟨u4, eu4, h⟩ := h
  refine kr_getf O dX2_dueFirst_5 fs_X2_159 eu4 ?_
  refine kr_aload_n O dX2_dueFirst_8 rfl 0 rfl ?_
  obtain ⟨u5, eu5, h⟩ := h
  refine kr_getf O dX2_dueFirst_9 fs_X2_38 eu5 ?_
  refine kr_iadd O dX2_dueFirst_12 ?_
  refine kr_caI (rest := []) O cd_J7_max h (Nat.le_of_ble_eq_true rfl) (fun ls _ => kt_ivS O dX2_dueFirst_13 cd_J7_max in_J7_max q548 q367 hy_J7_max) (fun u6 M7 hq => ?_) (fun E q M9 hx => kr_out O hx)
  replace h := hq
  clear hq
  exact kr_iret O dX2_dueFirst_16 rfl h
def vc_X2_recordCount_4 (w : kt_W) (gr : kt_g × kt_M) (d : Nat) (P : Option Value → kt_M → Prop) (X : String → Nat → kt_M → Prop) (nx4 : Int32 → Int32 → kt_M → Prop) (a0 : Nat) (v1 : Int32) (v2 : Int32) (M : kt_M) : Prop :=
  ∃ p1, kt_gf M a0 11 = some (va_rf p1) ∧ ∃ b2, p1 = some b2 ∧ (kt_co M b2 = some 13) ∧ 
  kt_Ca w gr d yJ3_size kc_J3_size [va_rf (some b2)] M (kt_pI fun u3 M4 => 
    ((u3 ≤ v2 → P (some (.int v1)) M4) ∧
    (¬ u3 ≤ v2 → (kt_co M4 a0 = some 1) ∧ 
    kt_Ca w gr d yX2_isThere kc_X2_isThere [va_rf (some a0), .int v2] M4 (kt_pI fun u5 M6 => 
    kt_Ca w gr d yX1_asInt kc_X1_asInt [.int u5] M6 (kt_pI fun u7 M8 => nx4 (v1 + u7) (v2 + (1 : Int32)) M8) X) X))) X
theorem cj_X2_recordCount_4 {w : kt_W} {x : kt_X} {gr : kt_g × kt_M} {d : Nat} {P : Option Value → kt_M → Prop} {X : String → Nat → kt_M → Prop} {nx4 : Int32 → Int32 → kt_M → Prop} {a0 : Nat} {v1 : Int32} {v2 : Int32} {M : kt_M} (O : kt_O w x gr (d + 1) cX2_recordCount "KeyTurns$State" 3 ("recordCount", "()I") (Option.some Jvm.ClassFile.FieldType.int) []) (hn4 : ∀ v1 v2 M, nx4 v1 v2 M → kt_S w x 3 (kt_E w x P X) M 4 [(0, va_rf (some a0)), (1, .int v1), (2, .int v2)] []) (h : vc_X2_recordCount_4 w gr d P X nx4 a0 v1 v2 M) : kt_S w x 3 (kt_E w x P X) M 4 [(0, va_rf (some a0)), (1, .int v1), (2, .int v2)] [] := by
  unfold vc_X2_recordCount_4 at h
  refine kr_iload_n O dX2_recordCount_4 rfl 2 rfl ?_
  refine kr_aload_n O dX2_recordCount_5 rfl 0 rfl ?_
  obtain ⟨p1, ep1, h⟩ := h
  refine kr_getf O dX2_recordCount_6 fs_X2_18 ep1 ?_
  obtain ⟨b2, rfl, h⟩ := h
  obtain ⟨hco, h⟩ := h
  refine kr_caI (rest := [.int v2]) O cd_J3_size h (Nat.le_of_ble_eq_true rfl) (fun ls _ => kt_ivV (ci := 13) O dX2_recordCount_9 cd_J3_size in_J3_size (Or.inl q477) q478 q479 hco (by decide) hy_J3_size) (fun u3 M4 hq => ?_) (fun E q M9 hx => kr_out O hx)
  replace h := hq
  clear hq
  refine kr_icmp_ge (tgt := 32) O dX2_recordCount_12 rfl (fun hc => ?_) (fun hc => ?_)
  · replace h := h.1 hc
    refine kr_iload_n O dX2_recordCount_32 rfl 1 rfl ?_
    exact kr_iret O dX2_recordCount_33 rfl h
  · replace h := h.2 hc
    refine kr_iload_n O dX2_recordCount_15 rfl 1 rfl ?_
    refine kr_aload_n O dX2_recordCount_16 rfl 0 rfl ?_
    refine kr_iload_n O dX2_recordCount_17 rfl 2 rfl ?_
    obtain ⟨hco, h⟩ := h
    refine kr_caI (rest := [.int v1]) O cd_X2_isThere h (Nat.le_of_ble_eq_true rfl) (fun ls _ => kt_ivV (ci := 1) O dX2_recordCount_18 cd_X2_isThere in_X2_isThere (Or.inl q512) q513 q514 hco (by decide) hy_X2_isThere) (fun u5 M6 hq => ?_) (fun E q M9 hx => kr_out O hx)
    replace h := hq
    clear hq
    refine kr_caI (rest := [.int v1]) O cd_X1_asInt h (Nat.le_of_ble_eq_true rfl) (fun ls _ => kt_ivSN O dX2_recordCount_21 cd_X1_asInt in_X1_asInt q573 q574 hy_X1_asInt) (fun u7 M8 hq => ?_) (fun E q M9 hx => kr_out O hx)
    replace h := hq
    clear hq
    refine kr_iadd O dX2_recordCount_24 ?_
    refine kr_istore_n O dX2_recordCount_25 rfl (Nat.le_of_ble_eq_true rfl) rfl rfl ?_
    refine kr_iinc O dX2_recordCount_26 2 rfl (v := v2 + (1 : Int32)) rfl (Nat.le_of_ble_eq_true rfl) rfl rfl ?_
    refine kr_goto (tgt := 4) O dX2_recordCount_29 rfl ?_
    refine kr_sub [2, 1, 0] rfl ?_
    exact hn4 _ _ _ h
def vl_X2_recordCount_4 (w : kt_W) (gr : kt_g × kt_M) (d : Nat) (P : Option Value → kt_M → Prop) (X : String → Nat → kt_M → Prop)  (a0 : Nat) (v1 : Int32) (v2 : Int32) (M : kt_M) : Prop :=
  ∃ Inv : Nat → Int32 → Int32 → kt_M → Prop, (∃ k, Inv k v1 v2 M) ∧ ∀ k v1 v2 M, kt_le gr.1 gr.2 M → Inv k v1 v2 M → vc_X2_recordCount_4 w gr d P X (fun v1' v2' M' => ∃ k', k' < k ∧ Inv k' v1' v2' M') a0 v1 v2 M
theorem cl_X2_recordCount_4 {w : kt_W} {x : kt_X} {gr : kt_g × kt_M} {d : Nat} {P : Option Value → kt_M → Prop} {X : String → Nat → kt_M → Prop}  {a0 : Nat} {v1 : Int32} {v2 : Int32} {M : kt_M} (O : kt_O w x gr (d + 1) cX2_recordCount "KeyTurns$State" 3 ("recordCount", "()I") (Option.some Jvm.ClassFile.FieldType.int) [])  (h : vl_X2_recordCount_4 w gr d P X  a0 v1 v2 M) : kt_S w x 3 (kt_E w x P X) M 4 [(0, va_rf (some a0)), (1, .int v1), (2, .int v2)] [] := by
  obtain ⟨Inv, ⟨k, hk⟩, hb⟩ := h
  induction k using Nat.strongRecOn generalizing v1 v2 M with
  | ind k ih =>
    exact kr_le O fun hle => cj_X2_recordCount_4 O (fun v1' v2' M' hi => let ⟨k', h1, h2⟩ := hi; ih k' h1 h2) (hb k _ _ _ hle hk)
def vc_X2_recordCount (w : kt_W) (gr : kt_g × kt_M) (d : Nat) (P : Option Value → kt_M → Prop) (X : String → Nat → kt_M → Prop) (a0 : Nat) (M : kt_M) : Prop :=
  vl_X2_recordCount_4 w gr d P X  a0 (0 : Int32) (0 : Int32) M
theorem ce_X2_recordCount {w : kt_W} {g : kt_g} {d : Nat} {P : Option Value → kt_M → Prop} {X : String → Nat → kt_M → Prop} {a0 : Nat} {M : kt_M} (h : vc_X2_recordCount w (g, M) d P X a0 M) : kt_Sp w g (d + 1) yX2_recordCount kc_X2_recordCount [va_rf (some a0)] M P X := by
  refine kt_of (L0 := [(0, va_rf (some a0))]) (by decide +kernel) (Nat.le_of_ble_eq_true rfl) rfl fun x O => ?_
  replace O : kt_O w x (g, M) (d + 1) cX2_recordCount "KeyTurns$State" 3 ("recordCount", "()I") (Option.some Jvm.ClassFile.FieldType.int) [] := O
  unfold vc_X2_recordCount at h
  refine kr_iconst O dX2_recordCount_0 (v := (0 : Int32)) (by decide) ?_
  refine kr_istore_n O dX2_recordCount_1 rfl (Nat.le_of_ble_eq_true rfl) rfl rfl ?_
  refine kr_iconst O dX2_recordCount_2 (v := (0 : Int32)) (by decide) ?_
  refine kr_istore_n O dX2_recordCount_3 rfl (Nat.le_of_ble_eq_true rfl) rfl rfl ?_
  refine kr_sub [2, 1, 0] rfl ?_
  exact cl_X2_recordCount_4 O  h
def vc_X2_wrapCount_4 (w : kt_W) (gr : kt_g × kt_M) (d : Nat) (P : Option Value → kt_M → Prop) (X : String → Nat → kt_M → Prop) (nx4 : Int32 → Int32 → kt_M → Prop) (a0 : Nat) (v1 : Int32) (v2 : Int32) (M : kt_M) : Prop :=
  ∃ p1, kt_gf M a0 11 = some (va_rf p1) ∧ ∃ b2, p1 = some b2 ∧ (kt_co M b2 = some 13) ∧ 
  kt_Ca w gr d yJ3_size kc_J3_size [va_rf (some b2)] M (kt_pI fun u3 M4 => 
    ((u3 ≤ v2 → P (some (.int v1)) M4) ∧
    (¬ u3 ≤ v2 → (kt_co M4 a0 = some 1) ∧ 
    kt_Ca w gr d yX2_isThere kc_X2_isThere [va_rf (some a0), .int v2] M4 (kt_pI fun u5 M6 => 
      ((u5 = 0 → nx4 (v1 + (0 : Int32)) (v2 + (1 : Int32)) M6) ∧
      (¬ u5 = 0 → ∃ p7, kt_gf M6 a0 11 = some (va_rf p7) ∧ ∃ b8, p7 = some b8 ∧ (kt_co M6 b8 = some 13) ∧ 
      kt_Ca w gr d yJ3_get kc_J3_get [va_rf (some b8), .int v2] M6 (kt_pR fun p9 M10 => ∃ b11, p9 = some b11 ∧ (∃ c, kt_co M10 b11 = some c ∧ kt_is c "KeyTurns$Sealed") ∧ ∃ p12, kt_gf M10 b11 26 = some (va_rf p12) ∧ ∃ b13, p12 = some b13 ∧ (kt_co M10 b13 = some 18) ∧ 
      kt_Ca w gr d yJ21_cardinality kc_J21_cardinality [va_rf (some b13)] M10 (kt_pI fun u14 M15 => nx4 (v1 + u14) (v2 + (1 : Int32)) M15) X) X))) X))) X
theorem cj_X2_wrapCount_4 {w : kt_W} {x : kt_X} {gr : kt_g × kt_M} {d : Nat} {P : Option Value → kt_M → Prop} {X : String → Nat → kt_M → Prop} {nx4 : Int32 → Int32 → kt_M → Prop} {a0 : Nat} {v1 : Int32} {v2 : Int32} {M : kt_M} (O : kt_O w x gr (d + 1) cX2_wrapCount "KeyTurns$State" 3 ("wrapCount", "()I") (Option.some Jvm.ClassFile.FieldType.int) []) (hn4 : ∀ v1 v2 M, nx4 v1 v2 M → kt_S w x 3 (kt_E w x P X) M 4 [(0, va_rf (some a0)), (1, .int v1), (2, .int v2)] []) (h : vc_X2_wrapCount_4 w gr d P X nx4 a0 v1 v2 M) : kt_S w x 3 (kt_E w x P X) M 4 [(0, va_rf (some a0)), (1, .int v1), (2, .int v2)] [] := by
  unfold vc_X2_wrapCount_4 at h
  refine kr_iload_n O dX2_wrapCount_4 rfl 2 rfl ?_
  refine kr_aload_n O dX2_wrapCount_5 rfl 0 rfl ?_
  obtain ⟨p1, ep1, h⟩ := h
  refine kr_getf O dX2_wrapCount_6 fs_X2_18 ep1 ?_
  obtain ⟨b2, rfl, h⟩ := h
  obtain ⟨hco, h⟩ := h
  refine kr_caI (rest := [.int v2]) O cd_J3_size h (Nat.le_of_ble_eq_true rfl) (fun ls _ => kt_ivV (ci := 13) O dX2_wrapCount_9 cd_J3_size in_J3_size (Or.inl q477) q478 q479 hco (by decide) hy_J3_size) (fun u3 M4 hq => ?_) (fun E q M9 hx => kr_out O hx)
  replace h := hq
  clear hq
  refine kr_icmp_ge (tgt := 53) O dX2_wrapCount_12 rfl (fun hc => ?_) (fun hc => ?_)
  · replace h := h.1 hc
    refine kr_iload_n O dX2_wrapCount_53 rfl 1 rfl ?_
    exact kr_iret O dX2_wrapCount_54 rfl h
  · replace h := h.2 hc
    refine kr_iload_n O dX2_wrapCount_15 rfl 1 rfl ?_
    refine kr_aload_n O dX2_wrapCount_16 rfl 0 rfl ?_
    refine kr_iload_n O dX2_wrapCount_17 rfl 2 rfl ?_
    obtain ⟨hco, h⟩ := h
    refine kr_caI (rest := [.int v1]) O cd_X2_isThere h (Nat.le_of_ble_eq_true rfl) (fun ls _ => kt_ivV (ci := 1) O dX2_wrapCount_18 cd_X2_isThere in_X2_isThere (Or.inl q512) q513 q514 hco (by decide) hy_X2_isThere) (fun u5 M6 hq => ?_) (fun E q M9 hx => kr_out O hx)
    replace h := hq
    clear hq
    refine kr_if_eq (tgt := 44) O dX2_wrapCount_21 rfl (fun hc => ?_) (fun hc => ?_)
    · replace h := h.1 hc
      refine kr_iconst O dX2_wrapCount_44 (v := (0 : Int32)) (by decide) ?_
      refine kr_iadd O dX2_wrapCount_45 ?_
      refine kr_istore_n O dX2_wrapCount_46 rfl (Nat.le_of_ble_eq_true rfl) rfl rfl ?_
      refine kr_iinc O dX2_wrapCount_47 2 rfl (v := v2 + (1 : Int32)) rfl (Nat.le_of_ble_eq_true rfl) rfl rfl ?_
      refine kr_goto (tgt := 4) O dX2_wrapCount_50 rfl ?_
      refine kr_sub [2, 1, 0] rfl ?_
      exact hn4 _ _ _ h
    · replace h := h.2 hc
      refine kr_aload_n O dX2_wrapCount_24 rfl 0 rfl ?_
      obtain ⟨p7, ep7, h⟩ := h
      refine kr_getf O dX2_wrapCount_25 fs_X2_18 ep7 ?_
      refine kr_iload_n O dX2_wrapCount_28 rfl 2 rfl ?_
      obtain ⟨b8, rfl, h⟩ := h
      obtain ⟨hco, h⟩ := h
      refine kr_caR (rest := [.int v1]) O cd_J3_get h (Nat.le_of_ble_eq_true rfl) (fun ls _ => kt_ivV (ci := 13) O dX2_wrapCount_29 cd_J3_get in_J3_get (Or.inl q481) q482 q483 hco (by decide) hy_J3_get) (fun p9 M10 hq => ?_) (fun E q M9 hx => kr_out O hx)
      replace h := hq
      clear hq
      obtain ⟨b11, rfl, h⟩ := h
      obtain ⟨⟨cc1, hc1, hc2⟩, h⟩ := h
      refine kr_cast O dX2_wrapCount_32 q517 hc1 hc2 ?_
      obtain ⟨p12, ep12, h⟩ := h
      refine kr_getf O dX2_wrapCount_35 fs_X2_199 ep12 ?_
      obtain ⟨b13, rfl, h⟩ := h
      obtain ⟨hco, h⟩ := h
      refine kr_caI (rest := [.int v1]) O cd_J21_cardinality h (Nat.le_of_ble_eq_true rfl) (fun ls _ => kt_ivV (ci := 18) O dX2_wrapCount_38 cd_J21_cardinality in_J21_cardinality (Or.inl q580) q581 q582 hco (by decide) hy_J21_cardinality) (fun u14 M15 hq => ?_) (fun E q M9 hx => kr_out O hx)
      replace h := hq
      clear hq
      refine kr_goto (tgt := 45) O dX2_wrapCount_41 rfl ?_
      refine kr_iadd O dX2_wrapCount_45 ?_
      refine kr_istore_n O dX2_wrapCount_46 rfl (Nat.le_of_ble_eq_true rfl) rfl rfl ?_
      refine kr_iinc O dX2_wrapCount_47 2 rfl (v := v2 + (1 : Int32)) rfl (Nat.le_of_ble_eq_true rfl) rfl rfl ?_
      refine kr_goto (tgt := 4) O dX2_wrapCount_50 rfl ?_
      refine kr_sub [2, 1, 0] rfl ?_
      exact hn4 _ _ _ h
def vl_X2_wrapCount_4 (w : kt_W) (gr : kt_g × kt_M) (d : Nat) (P : Option Value → kt_M → Prop) (X : String → Nat → kt_M → Prop)  (a0 : Nat) (v1 : Int32) (v2 : Int32) (M : kt_M) : Prop :=
  ∃ Inv : Nat → Int32 → Int32 → kt_M → Prop, (∃ k, Inv k v1 v2 M) ∧ ∀ k v1 v2 M, kt_le gr.1 gr.2 M → Inv k v1 v2 M → vc_X2_wrapCount_4 w gr d P X (fun v1' v2' M' => ∃ k', k' < k ∧ Inv k' v1' v2' M') a0 v1 v2 M
theorem cl_X2_wrapCount_4 {w : kt_W} {x : kt_X} {gr : kt_g × kt_M} {d : Nat} {P : Option Value → kt_M → Prop} {X : String → Nat → kt_M → Prop}  {a0 : Nat} {v1 : Int32} {v2 : Int32} {M : kt_M} (O : kt_O w x gr (d + 1) cX2_wrapCount "KeyTurns$State" 3 ("wrapCount", "()I") (Option.some Jvm.ClassFile.FieldType.int) [])  (h : vl_X2_wrapCount_4 w gr d P X  a0 v1 v2 M) : kt_S w x 3 (kt_E w x P X) M 4 [(0, va_rf (some a0)), (1, .int v1), (2, .int v2)] [] := by
  obtain ⟨Inv, ⟨k, hk⟩, hb⟩ := h
  induction k using Nat.strongRecOn generalizing v1 v2 M with
  | ind k ih =>
    exact kr_le O fun hle => cj_X2_wrapCount_4 O (fun v1' v2' M' hi => let ⟨k', h1, h2⟩ := hi; ih k' h1 h2) (hb k _ _ _ hle hk)
def vc_X2_wrapCount (w : kt_W) (gr : kt_g × kt_M) (d : Nat) (P : Option Value → kt_M → Prop) (X : String → Nat → kt_M → Prop) (a0 : Nat) (M : kt_M) : Prop :=
  vl_X2_wrapCount_4 w gr d P X  a0 (0 : Int32) (0 : Int32) M
theorem ce_X2_wrapCount {w : kt_W} {g : kt_g} {d : Nat} {P : Option Value → kt_M → Prop} {X : String → Nat → kt_M → Prop} {a0 : Nat} {M : kt_M} (h : vc_X2_wrapCount w (g, M) d P X a0 M) : kt_Sp w g (d + 1) yX2_wrapCount kc_X2_wrapCount [va_rf (some a0)] M P X := by
  refine kt_of (L0 := [(0, va_rf (some a0))]) (by decide +kernel) (Nat.le_of_ble_eq_true rfl) rfl fun x O => ?_
  replace O : kt_O w x (g, M) (d + 1) cX2_wrapCount "KeyTurns$State" 3 ("wrapCount", "()I") (Option.some Jvm.ClassFile.FieldType.int) [] := O
  unfold vc_X2_wrapCount at h
  refine kr_iconst O dX2_wrapCount_0 (v := (0 : Int32)) (by decide) ?_
  refine kr_istore_n O dX2_wrapCount_1 rfl (Nat.le_of_ble_eq_true rfl) rfl rfl ?_
  refine kr_iconst O dX2_wrapCount_2 (v := (0 : Int32)) (by decide) ?_
  refine kr_istore_n O dX2_wrapCount_3 rfl (Nat.le_of_ble_eq_true rfl) rfl rfl ?_
  refine kr_sub [2, 1, 0] rfl ?_
  exact cl_X2_wrapCount_4 O  h
def vc_X2_readable_39 (w : kt_W) (gr : kt_g × kt_M) (d : Nat) (P : Option Value → kt_M → Prop) (X : String → Nat → kt_M → Prop) (nx4 : Int32 → Int32 → kt_M → Prop) (a0 : Nat) (v1 : Int32) (v3 : Int32) (s0 : Int32) (s1 : Int32) (M : kt_M) : Prop :=
  
  kt_Ca w gr d yX1_asInt kc_X1_asInt [.int s0] M (kt_pI fun u1 M2 => nx4 (s1 + u1) (v3 + (1 : Int32)) M2) X
theorem cj_X2_readable_39 {w : kt_W} {x : kt_X} {gr : kt_g × kt_M} {d : Nat} {P : Option Value → kt_M → Prop} {X : String → Nat → kt_M → Prop} {nx4 : Int32 → Int32 → kt_M → Prop} {a0 : Nat} {v1 : Int32} {v3 : Int32} {s0 : Int32} {s1 : Int32} {M : kt_M} (O : kt_O w x gr (d + 1) cX2_readable "KeyTurns$State" 4 ("readable", "(I)I") (Option.some Jvm.ClassFile.FieldType.int) []) (hn4 : ∀ v2 v3 M, nx4 v2 v3 M → kt_S w x 4 (kt_E w x P X) M 4 [(0, va_rf (some a0)), (1, .int v1), (2, .int v2), (3, .int v3)] []) (h : vc_X2_readable_39 w gr d P X nx4 a0 v1 v3 s0 s1 M) : kt_S w x 4 (kt_E w x P X) M 39 [(0, va_rf (some a0)), (1, .int v1), (3, .int v3)] [.int s0, .int s1] := by
  unfold vc_X2_readable_39 at h
  refine kr_caI (rest := [.int s1]) O cd_X1_asInt h (Nat.le_of_ble_eq_true rfl) (fun ls _ => kt_ivSN O dX2_readable_39 cd_X1_asInt in_X1_asInt q573 q574 hy_X1_asInt) (fun u1 M2 hq => ?_) (fun E q M9 hx => kr_out O hx)
  replace h := hq
  clear hq
  refine kr_iadd O dX2_readable_42 ?_
  refine kr_istore_n O dX2_readable_43 rfl (Nat.le_of_ble_eq_true rfl) rfl rfl ?_
  refine kr_iinc O dX2_readable_44 3 rfl (v := v3 + (1 : Int32)) rfl (Nat.le_of_ble_eq_true rfl) rfl rfl ?_
  refine kr_goto (tgt := 4) O dX2_readable_47 rfl ?_
  refine kr_sub [2, 3, 1, 0] rfl ?_
  exact hn4 _ _ _ h
def vc_X2_readable_38 (w : kt_W) (gr : kt_g × kt_M) (d : Nat) (P : Option Value → kt_M → Prop) (X : String → Nat → kt_M → Prop) (nx4 : Int32 → Int32 → kt_M → Prop) (a0 : Nat) (v1 : Int32) (v3 : Int32) (s0 : Int32) (M : kt_M) : Prop :=
  vc_X2_readable_39 w gr d P X nx4 a0 v1 v3 (0 : Int32) s0 M
theorem cj_X2_readable_38 {w : kt_W} {x : kt_X} {gr : kt_g × kt_M} {d : Nat} {P : Option Value → kt_M → Prop} {X : String → Nat → kt_M → Prop} {nx4 : Int32 → Int32 → kt_M → Prop} {a0 : Nat} {v1 : Int32} {v3 : Int32} {s0 : Int32} {M : kt_M} (O : kt_O w x gr (d + 1) cX2_readable "KeyTurns$State" 4 ("readable", "(I)I") (Option.some Jvm.ClassFile.FieldType.int) []) (hn4 : ∀ v2 v3 M, nx4 v2 v3 M → kt_S w x 4 (kt_E w x P X) M 4 [(0, va_rf (some a0)), (1, .int v1), (2, .int v2), (3, .int v3)] []) (h : vc_X2_readable_38 w gr d P X nx4 a0 v1 v3 s0 M) : kt_S w x 4 (kt_E w x P X) M 38 [(0, va_rf (some a0)), (1, .int v1), (3, .int v3)] [.int s0] := by
  unfold vc_X2_readable_38 at h
  refine kr_iconst O dX2_readable_38 (v := (0 : Int32)) (by decide) ?_
  exact cj_X2_readable_39 O hn4 h
def vc_X2_readable_4 (w : kt_W) (gr : kt_g × kt_M) (d : Nat) (P : Option Value → kt_M → Prop) (X : String → Nat → kt_M → Prop) (nx4 : Int32 → Int32 → kt_M → Prop) (a0 : Nat) (v1 : Int32) (v2 : Int32) (v3 : Int32) (M : kt_M) : Prop :=
  ∃ p1, kt_gf M a0 11 = some (va_rf p1) ∧ ∃ b2, p1 = some b2 ∧ (kt_co M b2 = some 13) ∧ 
  kt_Ca w gr d yJ3_size kc_J3_size [va_rf (some b2)] M (kt_pI fun u3 M4 => 
    ((u3 ≤ v3 → P (some (.int v2)) M4) ∧
    (¬ u3 ≤ v3 → (kt_co M4 a0 = some 1) ∧ 
    kt_Ca w gr d yX2_isThere kc_X2_isThere [va_rf (some a0), .int v3] M4 (kt_pI fun u5 M6 => 
      ((u5 = 0 → vc_X2_readable_38 w gr d P X nx4 a0 v1 v3 v2 M6) ∧
      (¬ u5 = 0 → (kt_co M6 a0 = some 1) ∧ 
      kt_Ca w gr d yX2_readsBy kc_X2_readsBy [va_rf (some a0), .int v1, .int v3] M6 (kt_pI fun u7 M8 => 
        ((u7 = (-1 : Int32) → vc_X2_readable_38 w gr d P X nx4 a0 v1 v3 v2 M8) ∧
        (¬ u7 = (-1 : Int32) → vc_X2_readable_39 w gr d P X nx4 a0 v1 v3 (1 : Int32) v2 M8))) X))) X))) X
theorem cj_X2_readable_4 {w : kt_W} {x : kt_X} {gr : kt_g × kt_M} {d : Nat} {P : Option Value → kt_M → Prop} {X : String → Nat → kt_M → Prop} {nx4 : Int32 → Int32 → kt_M → Prop} {a0 : Nat} {v1 : Int32} {v2 : Int32} {v3 : Int32} {M : kt_M} (O : kt_O w x gr (d + 1) cX2_readable "KeyTurns$State" 4 ("readable", "(I)I") (Option.some Jvm.ClassFile.FieldType.int) []) (hn4 : ∀ v2 v3 M, nx4 v2 v3 M → kt_S w x 4 (kt_E w x P X) M 4 [(0, va_rf (some a0)), (1, .int v1), (2, .int v2), (3, .int v3)] []) (h : vc_X2_readable_4 w gr d P X nx4 a0 v1 v2 v3 M) : kt_S w x 4 (kt_E w x P X) M 4 [(0, va_rf (some a0)), (1, .int v1), (2, .int v2), (3, .int v3)] [] := by
  unfold vc_X2_readable_4 at h
  refine kr_iload_n O dX2_readable_4 rfl 3 rfl ?_
  refine kr_aload_n O dX2_readable_5 rfl 0 rfl ?_
  obtain ⟨p1, ep1, h⟩ := h
  refine kr_getf O dX2_readable_6 fs_X2_18 ep1 ?_
  obtain ⟨b2, rfl, h⟩ := h
  obtain ⟨hco, h⟩ := h
  refine kr_caI (rest := [.int v3]) O cd_J3_size h (Nat.le_of_ble_eq_true rfl) (fun ls _ => kt_ivV (ci := 13) O dX2_readable_9 cd_J3_size in_J3_size (Or.inl q477) q478 q479 hco (by decide) hy_J3_size) (fun u3 M4 hq => ?_) (fun E q M9 hx => kr_out O hx)
  replace h := hq
  clear hq
  refine kr_icmp_ge (tgt := 50) O dX2_readable_12 rfl (fun hc => ?_) (fun hc => ?_)
  · replace h := h.1 hc
    refine kr_iload_n O dX2_readable_50 rfl 2 rfl ?_
    exact kr_iret O dX2_readable_51 rfl h
  · replace h := h.2 hc
    refine kr_iload_n O dX2_readable_15 rfl 2 rfl ?_
    refine kr_aload_n O dX2_readable_16 rfl 0 rfl ?_
    refine kr_iload_n O dX2_readable_17 rfl 3 rfl ?_
    obtain ⟨hco, h⟩ := h
    refine kr_caI (rest := [.int v2]) O cd_X2_isThere h (Nat.le_of_ble_eq_true rfl) (fun ls _ => kt_ivV (ci := 1) O dX2_readable_18 cd_X2_isThere in_X2_isThere (Or.inl q512) q513 q514 hco (by decide) hy_X2_isThere) (fun u5 M6 hq => ?_) (fun E q M9 hx => kr_out O hx)
    replace h := hq
    clear hq
    refine kr_if_eq (tgt := 38) O dX2_readable_21 rfl (fun hc => ?_) (fun hc => ?_)
    · replace h := h.1 hc
      refine kr_sub [0, 1, 3] rfl ?_
      exact cj_X2_readable_38 O hn4 h
    · replace h := h.2 hc
      refine kr_aload_n O dX2_readable_24 rfl 0 rfl ?_
      refine kr_iload_n O dX2_readable_25 rfl 1 rfl ?_
      refine kr_iload_n O dX2_readable_26 rfl 3 rfl ?_
      obtain ⟨hco, h⟩ := h
      refine kr_caI (rest := [.int v2]) O cd_X2_readsBy h (Nat.le_of_ble_eq_true rfl) (fun ls _ => kt_ivV (ci := 1) O dX2_readable_27 cd_X2_readsBy in_X2_readsBy (Or.inl q599) q600 q601 hco (by decide) hy_X2_readsBy) (fun u7 M8 hq => ?_) (fun E q M9 hx => kr_out O hx)
      replace h := hq
      clear hq
      refine kr_iconst O dX2_readable_30 (v := (-1 : Int32)) (by decide) ?_
      refine kr_icmp_eq (tgt := 38) O dX2_readable_31 rfl (fun hc => ?_) (fun hc => ?_)
      · replace h := h.1 hc
        refine kr_sub [0, 1, 3] rfl ?_
        exact cj_X2_readable_38 O hn4 h
      · replace h := h.2 hc
        refine kr_iconst O dX2_readable_34 (v := (1 : Int32)) (by decide) ?_
        refine kr_goto (tgt := 39) O dX2_readable_35 rfl ?_
        refine kr_sub [0, 1, 3] rfl ?_
        exact cj_X2_readable_39 O hn4 h
def vl_X2_readable_4 (w : kt_W) (gr : kt_g × kt_M) (d : Nat) (P : Option Value → kt_M → Prop) (X : String → Nat → kt_M → Prop)  (a0 : Nat) (v1 : Int32) (v2 : Int32) (v3 : Int32) (M : kt_M) : Prop :=
  ∃ Inv : Nat → Int32 → Int32 → kt_M → Prop, (∃ k, Inv k v2 v3 M) ∧ ∀ k v2 v3 M, kt_le gr.1 gr.2 M → Inv k v2 v3 M → vc_X2_readable_4 w gr d P X (fun v2' v3' M' => ∃ k', k' < k ∧ Inv k' v2' v3' M') a0 v1 v2 v3 M
theorem cl_X2_readable_4 {w : kt_W} {x : kt_X} {gr : kt_g × kt_M} {d : Nat} {P : Option Value → kt_M → Prop} {X : String → Nat → kt_M → Prop}  {a0 : Nat} {v1 : Int32} {v2 : Int32} {v3 : Int32} {M : kt_M} (O : kt_O w x gr (d + 1) cX2_readable "KeyTurns$State" 4 ("readable", "(I)I") (Option.some Jvm.ClassFile.FieldType.int) [])  (h : vl_X2_readable_4 w gr d P X  a0 v1 v2 v3 M) : kt_S w x 4 (kt_E w x P X) M 4 [(0, va_rf (some a0)), (1, .int v1), (2, .int v2), (3, .int v3)] [] := by
  obtain ⟨Inv, ⟨k, hk⟩, hb⟩ := h
  induction k using Nat.strongRecOn generalizing v2 v3 M with
  | ind k ih =>
    exact kr_le O fun hle => cj_X2_readable_4 O (fun v2' v3' M' hi => let ⟨k', h1, h2⟩ := hi; ih k' h1 h2) (hb k _ _ _ hle hk)
def vc_X2_readable (w : kt_W) (gr : kt_g × kt_M) (d : Nat) (P : Option Value → kt_M → Prop) (X : String → Nat → kt_M → Prop) (a0 : Nat) (v1 : Int32) (M : kt_M) : Prop :=
  vl_X2_readable_4 w gr d P X  a0 v1 (0 : Int32) (0 : Int32) M
theorem ce_X2_readable {w : kt_W} {g : kt_g} {d : Nat} {P : Option Value → kt_M → Prop} {X : String → Nat → kt_M → Prop} {a0 : Nat} {v1 : Int32} {M : kt_M} (h : vc_X2_readable w (g, M) d P X a0 v1 M) : kt_Sp w g (d + 1) yX2_readable kc_X2_readable [va_rf (some a0), .int v1] M P X := by
  refine kt_of (L0 := [(0, va_rf (some a0)), (1, .int v1)]) (by decide +kernel) (Nat.le_of_ble_eq_true rfl) rfl fun x O => ?_
  replace O : kt_O w x (g, M) (d + 1) cX2_readable "KeyTurns$State" 4 ("readable", "(I)I") (Option.some Jvm.ClassFile.FieldType.int) [] := O
  unfold vc_X2_readable at h
  refine kr_iconst O dX2_readable_0 (v := (0 : Int32)) (by decide) ?_
  refine kr_istore_n O dX2_readable_1 rfl (Nat.le_of_ble_eq_true rfl) rfl rfl ?_
  refine kr_iconst O dX2_readable_2 (v := (0 : Int32)) (by decide) ?_
  refine kr_istore_n O dX2_readable_3 rfl (Nat.le_of_ble_eq_true rfl) rfl rfl ?_
  refine kr_sub [2, 3, 1, 0] rfl ?_
  exact cl_X2_readable_4 O  h
def vc_X2_readsBy (w : kt_W) (gr : kt_g × kt_M) (d : Nat) (P : Option Value → kt_M → Prop) (X : String → Nat → kt_M → Prop) (a0 : Nat) (v1 : Int32) (v2 : Int32) (M : kt_M) : Prop :=
  ∃ p1, kt_gf M a0 12 = some (va_rf p1) ∧ ∃ b2, p1 = some b2 ∧ (kt_co M b2 = some 13) ∧ 
  kt_Ca w gr d yJ3_get kc_J3_get [va_rf (some b2), .int v1] M (kt_pR fun p3 M4 => ∃ b5, p3 = some b5 ∧ (∃ c, kt_co M4 b5 = some c ∧ kt_is c "KeyTurns$Client") ∧ ∃ p6, kt_gf M4 a0 11 = some (va_rf p6) ∧ ∃ b7, p6 = some b7 ∧ (kt_co M4 b7 = some 13) ∧ 
  kt_Ca w gr d yJ3_get kc_J3_get [va_rf (some b7), .int v2] M4 (kt_pR fun p8 M9 => ∃ b10, p8 = some b10 ∧ (∃ c, kt_co M9 b10 = some c ∧ kt_is c "KeyTurns$Sealed") ∧ (kt_co M9 b10 = some 4) ∧ 
  kt_Ca w gr d yX10_set kc_X10_set [va_rf (some b10)] M9 (kt_pI fun u11 M12 => ∃ u13, kt_gf M12 a0 14 = some (.int u13) ∧ (kt_co M12 b5 = some 5) ∧ 
  kt_Ca w gr d yX9_greatest kc_X9_greatest [va_rf (some b5), .int u11, .int u13] M12 (kt_pI fun u14 M15 => P (some (.int u14)) M15) X) X) X) X
theorem ce_X2_readsBy {w : kt_W} {g : kt_g} {d : Nat} {P : Option Value → kt_M → Prop} {X : String → Nat → kt_M → Prop} {a0 : Nat} {v1 : Int32} {v2 : Int32} {M : kt_M} (h : vc_X2_readsBy w (g, M) d P X a0 v1 v2 M) : kt_Sp w g (d + 1) yX2_readsBy kc_X2_readsBy [va_rf (some a0), .int v1, .int v2] M P X := by
  refine kt_of (L0 := [(0, va_rf (some a0)), (1, .int v1), (2, .int v2)]) (by decide +kernel) (Nat.le_of_ble_eq_true rfl) rfl fun x O => ?_
  replace O : kt_O w x (g, M) (d + 1) cX2_readsBy "KeyTurns$State" 3 ("readsBy", "(II)I") (Option.some Jvm.ClassFile.FieldType.int) [] := O
  unfold vc_X2_readsBy at h
  refine kr_aload_n O dX2_readsBy_0 rfl 0 rfl ?_
  obtain ⟨p1, ep1, h⟩ := h
  refine kr_getf O dX2_readsBy_1 fs_X2_21 ep1 ?_
  refine kr_iload_n O dX2_readsBy_4 rfl 1 rfl ?_
  obtain ⟨b2, rfl, h⟩ := h
  obtain ⟨hco, h⟩ := h
  refine kr_caR (rest := []) O cd_J3_get h (Nat.le_of_ble_eq_true rfl) (fun ls _ => kt_ivV (ci := 13) O dX2_readsBy_5 cd_J3_get in_J3_get (Or.inl q481) q482 q483 hco (by decide) hy_J3_get) (fun p3 M4 hq => ?_) (fun E q M9 hx => kr_out O hx)
  replace h := hq
  clear hq
  obtain ⟨b5, rfl, h⟩ := h
  obtain ⟨⟨cc1, hc1, hc2⟩, h⟩ := h
  refine kr_cast O dX2_readsBy_8 q603 hc1 hc2 ?_
  refine kr_aload_n O dX2_readsBy_11 rfl 0 rfl ?_
  obtain ⟨p6, ep6, h⟩ := h
  refine kr_getf O dX2_readsBy_12 fs_X2_18 ep6 ?_
  refine kr_iload_n O dX2_readsBy_15 rfl 2 rfl ?_
  obtain ⟨b7, rfl, h⟩ := h
  obtain ⟨hco, h⟩ := h
  refine kr_caR (rest := [va_rf (some b5)]) O cd_J3_get h (Nat.le_of_ble_eq_true rfl) (fun ls _ => kt_ivV (ci := 13) O dX2_readsBy_16 cd_J3_get in_J3_get (Or.inl q481) q482 q483 hco (by decide) hy_J3_get) (fun p8 M9 hq => ?_) (fun E q M9 hx => kr_out O hx)
  replace h := hq
  clear hq
  obtain ⟨b10, rfl, h⟩ := h
  obtain ⟨⟨cc1, hc1, hc2⟩, h⟩ := h
  refine kr_cast O dX2_readsBy_19 q517 hc1 hc2 ?_
  obtain ⟨hco, h⟩ := h
  refine kr_caI (rest := [va_rf (some b5)]) O cd_X10_set h (Nat.le_of_ble_eq_true rfl) (fun ls _ => kt_ivV (ci := 4) O dX2_readsBy_22 cd_X10_set in_X10_set (Or.inl q604) q605 q606 hco (by decide) hy_X10_set) (fun u11 M12 hq => ?_) (fun E q M9 hx => kr_out O hx)
  replace h := hq
  clear hq
  refine kr_aload_n O dX2_readsBy_25 rfl 0 rfl ?_
  obtain ⟨u13, eu13, h⟩ := h
  refine kr_getf O dX2_readsBy_26 fs_X2_98 eu13 ?_
  obtain ⟨hco, h⟩ := h
  refine kr_caI (rest := []) O cd_X9_greatest h (Nat.le_of_ble_eq_true rfl) (fun ls _ => kt_ivV (ci := 5) O dX2_readsBy_29 cd_X9_greatest in_X9_greatest (Or.inl q609) q610 q611 hco (by decide) hy_X9_greatest) (fun u14 M15 hq => ?_) (fun E q M9 hx => kr_out O hx)
  replace h := hq
  clear hq
  exact kr_iret O dX2_readsBy_32 rfl h
def vc_X2_copy_204 (w : kt_W) (gr : kt_g × kt_M) (d : Nat) (P : Option Value → kt_M → Prop) (X : String → Nat → kt_M → Prop)  (a0 : Nat) (a3 : Nat) (M : kt_M) : Prop :=
  ∃ u1, kt_gf M a0 14 = some (.int u1) ∧ kt_hf gr M a3 14 ∧ ∀ M2, M2 = kt_pf M a3 14 (.int u1) → ∃ u3, kt_gf M2 a0 16 = some (.int u3) ∧ kt_hf gr M2 a3 16 ∧ ∀ M4, M4 = kt_pf M2 a3 16 (.int u3) → ∃ u5, kt_gf M4 a0 17 = some (.int u5) ∧ kt_hf gr M4 a3 17 ∧ ∀ M6, M6 = kt_pf M4 a3 17 (.int u5) → P (some (va_rf (some a3))) M6
theorem cj_X2_copy_204 {w : kt_W} {x : kt_X} {gr : kt_g × kt_M} {d : Nat} {P : Option Value → kt_M → Prop} {X : String → Nat → kt_M → Prop}  {a0 : Nat} {a3 : Nat} {M : kt_M} (O : kt_O w x gr (d + 1) cX2_copy "KeyTurns$State" 6 ("copy", "(ZZ)LKeyTurns$State;") (Option.some (Jvm.ClassFile.FieldType.object "KeyTurns$State")) [])  (h : vc_X2_copy_204 w gr d P X  a0 a3 M) : kt_S w x 6 (kt_E w x P X) M 204 [(0, va_rf (some a0)), (3, va_rf (some a3))] [] := by
  unfold vc_X2_copy_204 at h
  refine kr_aload_n O dX2_copy_204 rfl 1 rfl ?_
  refine kr_aload_n O dX2_copy_205 rfl 0 rfl ?_
  obtain ⟨u1, eu1, h⟩ := h
  refine kr_getf O dX2_copy_206 fs_X2_98 eu1 ?_
  obtain ⟨hw, h⟩ := h
  refine kr_putf O dX2_copy_209 fs_X2_98 (Or.inl rfl) ⟨rfl, rfl⟩ hw (kr_nmM fun M2 hM2 => ?_)
  replace h := h M2 hM2
  refine kr_aload_n O dX2_copy_212 rfl 1 rfl ?_
  refine kr_aload_n O dX2_copy_213 rfl 0 rfl ?_
  obtain ⟨u3, eu3, h⟩ := h
  refine kr_getf O dX2_copy_214 fs_X2_101 eu3 ?_
  obtain ⟨hw, h⟩ := h
  refine kr_putf O dX2_copy_217 fs_X2_101 (Or.inl rfl) ⟨rfl, rfl⟩ hw (kr_nmM fun M4 hM4 => ?_)
  replace h := h M4 hM4
  refine kr_aload_n O dX2_copy_220 rfl 1 rfl ?_
  refine kr_aload_n O dX2_copy_221 rfl 0 rfl ?_
  obtain ⟨u5, eu5, h⟩ := h
  refine kr_getf O dX2_copy_222 fs_X2_104 eu5 ?_
  obtain ⟨hw, h⟩ := h
  refine kr_putf O dX2_copy_225 fs_X2_104 (Or.inl rfl) ⟨rfl, rfl⟩ hw (kr_nmM fun M6 hM6 => ?_)
  replace h := h M6 hM6
  refine kr_aload_n O dX2_copy_228 rfl 1 rfl ?_
  exact kr_aret O dX2_copy_229 (by first | exact Or.inl ⟨_, rfl⟩ | exact Or.inr ⟨_, rfl⟩) h
def vc_X2_copy_170 (w : kt_W) (gr : kt_g × kt_M) (d : Nat) (P : Option Value → kt_M → Prop) (X : String → Nat → kt_M → Prop) (nx170 : kt_M → Prop) (a0 : Nat) (a3 : Nat) (r4 : Option Nat) (M : kt_M) : Prop :=
  ∃ b1, r4 = some b1 ∧ (kt_co M b1 = some 16) ∧ 
  kt_Ca w gr d yJ28_hasNext kc_J28_hasNext [va_rf (some b1)] M (kt_pI fun u2 M3 => 
    ((u2 = 0 → vc_X2_copy_204 w gr d P X  a0 a3 M3) ∧
    (¬ u2 = 0 → (kt_co M3 b1 = some 16) ∧ 
    kt_Ca w gr d yJ28_next kc_J28_next [va_rf (some b1)] M3 (kt_pR fun p4 M5 => ∃ b6, p4 = some b6 ∧ (∃ t y, M5.2.2 b6 = (t + 2, .inl (0, y))) ∧ ∃ p7, kt_gf M5 a3 13 = some (va_rf p7) ∧ ∃ b8, p7 = some b8 ∧ (kt_co M5 b8 = some 14) ∧ 
    kt_Ca w gr d yJ5_addLast kc_J5_addLast [va_rf (some b8), va_rf (some b6)] M5 (kt_pV fun M9 => nx170  M9) X) X))) X
theorem cj_X2_copy_170 {w : kt_W} {x : kt_X} {gr : kt_g × kt_M} {d : Nat} {P : Option Value → kt_M → Prop} {X : String → Nat → kt_M → Prop} {nx170 : kt_M → Prop} {a0 : Nat} {a3 : Nat} {r4 : Option Nat} {M : kt_M} (O : kt_O w x gr (d + 1) cX2_copy "KeyTurns$State" 6 ("copy", "(ZZ)LKeyTurns$State;") (Option.some (Jvm.ClassFile.FieldType.object "KeyTurns$State")) []) (hn170 : ∀ M, nx170  M → kt_S w x 6 (kt_E w x P X) M 170 [(0, va_rf (some a0)), (3, va_rf (some a3)), (4, va_rf r4)] []) (h : vc_X2_copy_170 w gr d P X nx170 a0 a3 r4 M) : kt_S w x 6 (kt_E w x P X) M 170 [(0, va_rf (some a0)), (3, va_rf (some a3)), (4, va_rf r4)] [] := by
  unfold vc_X2_copy_170 at h
  refine kr_aload O dX2_copy_170 2 rfl ?_
  obtain ⟨b1, rfl, h⟩ := h
  obtain ⟨hco, h⟩ := h
  refine kr_caI (rest := []) O cd_J28_hasNext h (Nat.le_of_ble_eq_true rfl) (fun ls _ => kt_ivF (C := "java/util/LinkedList$ListItr") O dX2_copy_172 cd_J28_hasNext q948 q950 q949 q971 q973 q974 q972 q970 (kt_cls_co hco (by decide)) ⟨by decide, by decide, rfl⟩) (fun u2 M3 hq => ?_) (fun E q M9 hx => kr_out O hx)
  replace h := hq
  clear hq
  refine kr_if_eq (tgt := 204) O dX2_copy_177 rfl (fun hc => ?_) (fun hc => ?_)
  · replace h := h.1 hc
    refine kr_sub [0, 1] rfl ?_
    exact cj_X2_copy_204 O  h
  · replace h := h.2 hc
    refine kr_aload O dX2_copy_180 2 rfl ?_
    obtain ⟨hco, h⟩ := h
    refine kr_caR (rest := []) O cd_J28_next h (Nat.le_of_ble_eq_true rfl) (fun ls _ => kt_ivF (C := "java/util/LinkedList$ListItr") O dX2_copy_182 cd_J28_next q977 q979 q978 q1304 q1306 q1307 q1305 q970 (kt_cls_co hco (by decide)) ⟨by decide, by decide, rfl⟩) (fun p4 M5 hq => ?_) (fun E q M9 hx => kr_out O hx)
    replace h := hq
    clear hq
    obtain ⟨b6, rfl, h⟩ := h
    obtain ⟨⟨tc, yc, hc⟩, h⟩ := h
    refine kr_castA O dX2_copy_187 q1316 (by decide) hc ?_
    refine kr_astore O dX2_copy_190 (Nat.le_of_ble_eq_true rfl) rfl rfl ?_
    refine kr_aload_n O dX2_copy_192 rfl 2 rfl ?_
    obtain ⟨p7, ep7, h⟩ := h
    refine kr_getf O dX2_copy_193 fs_X2_27 ep7 ?_
    refine kr_aload O dX2_copy_196 0 rfl ?_
    obtain ⟨b8, rfl, h⟩ := h
    obtain ⟨hco, h⟩ := h
    refine kr_caV (rest := []) O cd_J5_addLast h (Nat.le_of_ble_eq_true rfl) (fun ls _ => kt_ivV (ci := 14) O dX2_copy_198 cd_J5_addLast in_J5_addLast (Or.inl q1317) q1318 q1319 hco (by decide) hy_J5_addLast) (fun M9 hq => ?_) (fun E q M9 hx => kr_out O hx)
    replace h := hq
    clear hq
    refine kr_goto (tgt := 170) O dX2_copy_201 rfl ?_
    refine kr_sub [1, 2, 3] rfl ?_
    exact hn170  _ h
def vl_X2_copy_170 (w : kt_W) (gr : kt_g × kt_M) (d : Nat) (P : Option Value → kt_M → Prop) (X : String → Nat → kt_M → Prop)  (a0 : Nat) (a3 : Nat) (r4 : Option Nat) (M : kt_M) : Prop :=
  ∃ Inv : Nat → kt_M → Prop, (∃ k, Inv k  M) ∧ ∀ k  M, kt_le gr.1 gr.2 M → Inv k  M → vc_X2_copy_170 w gr d P X (fun M' => ∃ k', k' < k ∧ Inv k'  M') a0 a3 r4 M
theorem cl_X2_copy_170 {w : kt_W} {x : kt_X} {gr : kt_g × kt_M} {d : Nat} {P : Option Value → kt_M → Prop} {X : String → Nat → kt_M → Prop}  {a0 : Nat} {a3 : Nat} {r4 : Option Nat} {M : kt_M} (O : kt_O w x gr (d + 1) cX2_copy "KeyTurns$State" 6 ("copy", "(ZZ)LKeyTurns$State;") (Option.some (Jvm.ClassFile.FieldType.object "KeyTurns$State")) [])  (h : vl_X2_copy_170 w gr d P X  a0 a3 r4 M) : kt_S w x 6 (kt_E w x P X) M 170 [(0, va_rf (some a0)), (3, va_rf (some a3)), (4, va_rf r4)] [] := by
  obtain ⟨Inv, ⟨k, hk⟩, hb⟩ := h
  induction k using Nat.strongRecOn generalizing  M with
  | ind k ih =>
    exact kr_le O fun hle => cj_X2_copy_170 O (fun  M' hi => let ⟨k', h1, h2⟩ := hi; ih k' h1 h2) (hb k  _ hle hk)
def vc_X2_copy_157 (w : kt_W) (gr : kt_g × kt_M) (d : Nat) (P : Option Value → kt_M → Prop) (X : String → Nat → kt_M → Prop)  (a0 : Nat) (v1 : Int32) (a3 : Nat) (M : kt_M) : Prop :=
  
    ((v1 = 0 → vc_X2_copy_204 w gr d P X  a0 a3 M) ∧
    (¬ v1 = 0 → ∃ p1, kt_gf M a0 13 = some (va_rf p1) ∧ ∃ b2, p1 = some b2 ∧ (kt_co M b2 = some 14) ∧ 
    kt_Ca w gr d yJ4_iterator kc_J4_iterator [va_rf (some b2)] M (kt_pR fun p3 M4 => vl_X2_copy_170 w gr d P X  a0 a3 p3 M4) X))
theorem cj_X2_copy_157 {w : kt_W} {x : kt_X} {gr : kt_g × kt_M} {d : Nat} {P : Option Value → kt_M → Prop} {X : String → Nat → kt_M → Prop}  {a0 : Nat} {v1 : Int32} {a3 : Nat} {M : kt_M} (O : kt_O w x gr (d + 1) cX2_copy "KeyTurns$State" 6 ("copy", "(ZZ)LKeyTurns$State;") (Option.some (Jvm.ClassFile.FieldType.object "KeyTurns$State")) [])  (h : vc_X2_copy_157 w gr d P X  a0 v1 a3 M) : kt_S w x 6 (kt_E w x P X) M 157 [(0, va_rf (some a0)), (1, .int v1), (3, va_rf (some a3))] [] := by
  unfold vc_X2_copy_157 at h
  refine kr_iload_n O dX2_copy_157 rfl 1 rfl ?_
  refine kr_if_eq (tgt := 204) O dX2_copy_158 rfl (fun hc => ?_) (fun hc => ?_)
  · replace h := h.1 hc
    refine kr_sub [0, 2] rfl ?_
    exact cj_X2_copy_204 O  h
  · replace h := h.2 hc
    refine kr_aload_n O dX2_copy_161 rfl 0 rfl ?_
    obtain ⟨p1, ep1, h⟩ := h
    refine kr_getf O dX2_copy_162 fs_X2_27 ep1 ?_
    obtain ⟨b2, rfl, h⟩ := h
    obtain ⟨hco, h⟩ := h
    refine kr_caR (rest := []) O cd_J4_iterator h (Nat.le_of_ble_eq_true rfl) (fun ls _ => kt_ivU (ci := 14) O dX2_copy_165 cd_J4_iterator q860 q861 (Or.inr q862) q864 q863 hco (by decide) ⟨by decide, by decide, rfl⟩) (fun p3 M4 hq => ?_) (fun E q M9 hx => kr_out O hx)
    replace h := hq
    clear hq
    refine kr_astore O dX2_copy_168 (Nat.le_of_ble_eq_true rfl) rfl rfl ?_
    refine kr_sub [1, 3, 0] rfl ?_
    exact cl_X2_copy_170 O  h
def vc_X2_copy_112 (w : kt_W) (gr : kt_g × kt_M) (d : Nat) (P : Option Value → kt_M → Prop) (X : String → Nat → kt_M → Prop) (nx112 : Int32 → kt_M → Prop) (a0 : Nat) (v1 : Int32) (v2 : Int32) (a3 : Nat) (v4 : Int32) (M : kt_M) : Prop :=
  ∃ p1, kt_gf M a0 12 = some (va_rf p1) ∧ ∃ b2, p1 = some b2 ∧ (kt_co M b2 = some 13) ∧ 
  kt_Ca w gr d yJ3_size kc_J3_size [va_rf (some b2)] M (kt_pI fun u3 M4 => 
    ((u3 ≤ v4 → vc_X2_copy_157 w gr d P X  a0 v1 a3 M4) ∧
    (¬ u3 ≤ v4 → 
      ((v2 = 0 → vc_X2_copy_157 w gr d P X  a0 v1 a3 M4) ∧
      (¬ v2 = 0 → ∃ p5, kt_gf M4 a3 12 = some (va_rf p5) ∧ ∃ p6, kt_gf M4 a0 12 = some (va_rf p6) ∧ ∃ b7, p6 = some b7 ∧ (kt_co M4 b7 = some 13) ∧ 
      kt_Ca w gr d yJ3_get kc_J3_get [va_rf (some b7), .int v4] M4 (kt_pR fun p8 M9 => ∃ b10, p8 = some b10 ∧ (∃ c, kt_co M9 b10 = some c ∧ kt_is c "KeyTurns$Client") ∧ (kt_co M9 b10 = some 5) ∧ 
      kt_Ca w gr d yX9_copy kc_X9_copy [va_rf (some b10)] M9 (kt_pR fun p11 M12 => ∃ b13, p5 = some b13 ∧ (kt_co M12 b13 = some 13) ∧ 
      kt_Ca w gr d yJ3_add kc_J3_add [va_rf (some b13), va_rf p11] M12 (kt_pI fun u14 M15 => nx112 (v4 + (1 : Int32)) M15) X) X) X))))) X
theorem cj_X2_copy_112 {w : kt_W} {x : kt_X} {gr : kt_g × kt_M} {d : Nat} {P : Option Value → kt_M → Prop} {X : String → Nat → kt_M → Prop} {nx112 : Int32 → kt_M → Prop} {a0 : Nat} {v1 : Int32} {v2 : Int32} {a3 : Nat} {v4 : Int32} {M : kt_M} (O : kt_O w x gr (d + 1) cX2_copy "KeyTurns$State" 6 ("copy", "(ZZ)LKeyTurns$State;") (Option.some (Jvm.ClassFile.FieldType.object "KeyTurns$State")) []) (hn112 : ∀ v4 M, nx112 v4 M → kt_S w x 6 (kt_E w x P X) M 112 [(0, va_rf (some a0)), (1, .int v1), (2, .int v2), (3, va_rf (some a3)), (4, .int v4)] []) (h : vc_X2_copy_112 w gr d P X nx112 a0 v1 v2 a3 v4 M) : kt_S w x 6 (kt_E w x P X) M 112 [(0, va_rf (some a0)), (1, .int v1), (2, .int v2), (3, va_rf (some a3)), (4, .int v4)] [] := by
  unfold vc_X2_copy_112 at h
  refine kr_iload O dX2_copy_112 4 rfl ?_
  refine kr_aload_n O dX2_copy_114 rfl 0 rfl ?_
  obtain ⟨p1, ep1, h⟩ := h
  refine kr_getf O dX2_copy_115 fs_X2_21 ep1 ?_
  obtain ⟨b2, rfl, h⟩ := h
  obtain ⟨hco, h⟩ := h
  refine kr_caI (rest := [.int v4]) O cd_J3_size h (Nat.le_of_ble_eq_true rfl) (fun ls _ => kt_ivV (ci := 13) O dX2_copy_118 cd_J3_size in_J3_size (Or.inl q477) q478 q479 hco (by decide) hy_J3_size) (fun u3 M4 hq => ?_) (fun E q M9 hx => kr_out O hx)
  replace h := hq
  clear hq
  refine kr_icmp_ge (tgt := 157) O dX2_copy_121 rfl (fun hc => ?_) (fun hc => ?_)
  · replace h := h.1 hc
    refine kr_sub [0, 1, 3] rfl ?_
    exact cj_X2_copy_157 O  h
  · replace h := h.2 hc
    refine kr_iload_n O dX2_copy_124 rfl 2 rfl ?_
    refine kr_if_eq (tgt := 157) O dX2_copy_125 rfl (fun hc => ?_) (fun hc => ?_)
    · replace h := h.1 hc
      refine kr_sub [0, 1, 3] rfl ?_
      exact cj_X2_copy_157 O  h
    · replace h := h.2 hc
      refine kr_aload_n O dX2_copy_128 rfl 3 rfl ?_
      obtain ⟨p5, ep5, h⟩ := h
      refine kr_getf O dX2_copy_129 fs_X2_21 ep5 ?_
      refine kr_aload_n O dX2_copy_132 rfl 0 rfl ?_
      obtain ⟨p6, ep6, h⟩ := h
      refine kr_getf O dX2_copy_133 fs_X2_21 ep6 ?_
      refine kr_iload O dX2_copy_136 4 rfl ?_
      obtain ⟨b7, rfl, h⟩ := h
      obtain ⟨hco, h⟩ := h
      refine kr_caR (rest := [va_rf p5]) O cd_J3_get h (Nat.le_of_ble_eq_true rfl) (fun ls _ => kt_ivV (ci := 13) O dX2_copy_138 cd_J3_get in_J3_get (Or.inl q481) q482 q483 hco (by decide) hy_J3_get) (fun p8 M9 hq => ?_) (fun E q M9 hx => kr_out O hx)
      replace h := hq
      clear hq
      obtain ⟨b10, rfl, h⟩ := h
      obtain ⟨⟨cc1, hc1, hc2⟩, h⟩ := h
      refine kr_cast O dX2_copy_141 q603 hc1 hc2 ?_
      obtain ⟨hco, h⟩ := h
      refine kr_caR (rest := [va_rf p5]) O cd_X9_copy h (Nat.le_of_ble_eq_true rfl) (fun ls _ => kt_ivV (ci := 5) O dX2_copy_144 cd_X9_copy in_X9_copy (Or.inl q809) q810 q811 hco (by decide) hy_X9_copy) (fun p11 M12 hq => ?_) (fun E q M9 hx => kr_out O hx)
      replace h := hq
      clear hq
      obtain ⟨b13, rfl, h⟩ := h
      obtain ⟨hco, h⟩ := h
      refine kr_caI (rest := []) O cd_J3_add h (Nat.le_of_ble_eq_true rfl) (fun ls _ => kt_ivV (ci := 13) O dX2_copy_147 cd_J3_add in_J3_add (Or.inl q737) q348 q349 hco (by decide) hy_J3_add) (fun u14 M15 hq => ?_) (fun E q M9 hx => kr_out O hx)
      replace h := hq
      clear hq
      refine kr_pop O dX2_copy_150 rfl ?_
      refine kr_iinc O dX2_copy_151 4 rfl (v := v4 + (1 : Int32)) rfl (Nat.le_of_ble_eq_true rfl) rfl rfl ?_
      refine kr_goto (tgt := 112) O dX2_copy_154 rfl ?_
      refine kr_sub [1, 2, 3, 4, 0] rfl ?_
      exact hn112 _ _ h
def vl_X2_copy_112 (w : kt_W) (gr : kt_g × kt_M) (d : Nat) (P : Option Value → kt_M → Prop) (X : String → Nat → kt_M → Prop)  (a0 : Nat) (v1 : Int32) (v2 : Int32) (a3 : Nat) (v4 : Int32) (M : kt_M) : Prop :=
  ∃ Inv : Nat → Int32 → kt_M → Prop, (∃ k, Inv k v4 M) ∧ ∀ k v4 M, kt_le gr.1 gr.2 M → Inv k v4 M → vc_X2_copy_112 w gr d P X (fun v4' M' => ∃ k', k' < k ∧ Inv k' v4' M') a0 v1 v2 a3 v4 M
theorem cl_X2_copy_112 {w : kt_W} {x : kt_X} {gr : kt_g × kt_M} {d : Nat} {P : Option Value → kt_M → Prop} {X : String → Nat → kt_M → Prop}  {a0 : Nat} {v1 : Int32} {v2 : Int32} {a3 : Nat} {v4 : Int32} {M : kt_M} (O : kt_O w x gr (d + 1) cX2_copy "KeyTurns$State" 6 ("copy", "(ZZ)LKeyTurns$State;") (Option.some (Jvm.ClassFile.FieldType.object "KeyTurns$State")) [])  (h : vl_X2_copy_112 w gr d P X  a0 v1 v2 a3 v4 M) : kt_S w x 6 (kt_E w x P X) M 112 [(0, va_rf (some a0)), (1, .int v1), (2, .int v2), (3, va_rf (some a3)), (4, .int v4)] [] := by
  obtain ⟨Inv, ⟨k, hk⟩, hb⟩ := h
  induction k using Nat.strongRecOn generalizing v4 M with
  | ind k ih =>
    exact kr_le O fun hle => cj_X2_copy_112 O (fun v4' M' hi => let ⟨k', h1, h2⟩ := hi; ih k' h1 h2) (hb k _ _ hle hk)
def vc_X2_copy_68 (w : kt_W) (gr : kt_g × kt_M) (d : Nat) (P : Option Value → kt_M → Prop) (X : String → Nat → kt_M → Prop) (nx68 : Int32 → kt_M → Prop) (a0 : Nat) (v1 : Int32) (v2 : Int32) (a3 : Nat) (v4 : Int32) (M : kt_M) : Prop :=
  ∃ p1, kt_gf M a0 11 = some (va_rf p1) ∧ ∃ b2, p1 = some b2 ∧ (kt_co M b2 = some 13) ∧ 
  kt_Ca w gr d yJ3_size kc_J3_size [va_rf (some b2)] M (kt_pI fun u3 M4 => 
    ((u3 ≤ v4 → vl_X2_copy_112 w gr d P X  a0 v1 v2 a3 (0 : Int32) M4) ∧
    (¬ u3 ≤ v4 → ∃ p5, kt_gf M4 a3 11 = some (va_rf p5) ∧ ∃ p6, kt_gf M4 a0 11 = some (va_rf p6) ∧ ∃ b7, p6 = some b7 ∧ (kt_co M4 b7 = some 13) ∧ 
    kt_Ca w gr d yJ3_get kc_J3_get [va_rf (some b7), .int v4] M4 (kt_pR fun p8 M9 => ∃ b10, p8 = some b10 ∧ (∃ c, kt_co M9 b10 = some c ∧ kt_is c "KeyTurns$Sealed") ∧ (kt_co M9 b10 = some 4) ∧ 
    kt_Ca w gr d yX10_copy kc_X10_copy [va_rf (some b10)] M9 (kt_pR fun p11 M12 => ∃ b13, p5 = some b13 ∧ (kt_co M12 b13 = some 13) ∧ 
    kt_Ca w gr d yJ3_add kc_J3_add [va_rf (some b13), va_rf p11] M12 (kt_pI fun u14 M15 => nx68 (v4 + (1 : Int32)) M15) X) X) X))) X
theorem cj_X2_copy_68 {w : kt_W} {x : kt_X} {gr : kt_g × kt_M} {d : Nat} {P : Option Value → kt_M → Prop} {X : String → Nat → kt_M → Prop} {nx68 : Int32 → kt_M → Prop} {a0 : Nat} {v1 : Int32} {v2 : Int32} {a3 : Nat} {v4 : Int32} {M : kt_M} (O : kt_O w x gr (d + 1) cX2_copy "KeyTurns$State" 6 ("copy", "(ZZ)LKeyTurns$State;") (Option.some (Jvm.ClassFile.FieldType.object "KeyTurns$State")) []) (hn68 : ∀ v4 M, nx68 v4 M → kt_S w x 6 (kt_E w x P X) M 68 [(0, va_rf (some a0)), (1, .int v1), (2, .int v2), (3, va_rf (some a3)), (4, .int v4)] []) (h : vc_X2_copy_68 w gr d P X nx68 a0 v1 v2 a3 v4 M) : kt_S w x 6 (kt_E w x P X) M 68 [(0, va_rf (some a0)), (1, .int v1), (2, .int v2), (3, va_rf (some a3)), (4, .int v4)] [] := by
  unfold vc_X2_copy_68 at h
  refine kr_iload O dX2_copy_68 4 rfl ?_
  refine kr_aload_n O dX2_copy_70 rfl 0 rfl ?_
  obtain ⟨p1, ep1, h⟩ := h
  refine kr_getf O dX2_copy_71 fs_X2_18 ep1 ?_
  obtain ⟨b2, rfl, h⟩ := h
  obtain ⟨hco, h⟩ := h
  refine kr_caI (rest := [.int v4]) O cd_J3_size h (Nat.le_of_ble_eq_true rfl) (fun ls _ => kt_ivV (ci := 13) O dX2_copy_74 cd_J3_size in_J3_size (Or.inl q477) q478 q479 hco (by decide) hy_J3_size) (fun u3 M4 hq => ?_) (fun E q M9 hx => kr_out O hx)
  replace h := hq
  clear hq
  refine kr_icmp_ge (tgt := 109) O dX2_copy_77 rfl (fun hc => ?_) (fun hc => ?_)
  · replace h := h.1 hc
    refine kr_iconst O dX2_copy_109 (v := (0 : Int32)) (by decide) ?_
    refine kr_istore O dX2_copy_110 (Nat.le_of_ble_eq_true rfl) rfl rfl ?_
    refine kr_sub [1, 2, 3, 4, 0] rfl ?_
    exact cl_X2_copy_112 O  h
  · replace h := h.2 hc
    refine kr_aload_n O dX2_copy_80 rfl 3 rfl ?_
    obtain ⟨p5, ep5, h⟩ := h
    refine kr_getf O dX2_copy_81 fs_X2_18 ep5 ?_
    refine kr_aload_n O dX2_copy_84 rfl 0 rfl ?_
    obtain ⟨p6, ep6, h⟩ := h
    refine kr_getf O dX2_copy_85 fs_X2_18 ep6 ?_
    refine kr_iload O dX2_copy_88 4 rfl ?_
    obtain ⟨b7, rfl, h⟩ := h
    obtain ⟨hco, h⟩ := h
    refine kr_caR (rest := [va_rf p5]) O cd_J3_get h (Nat.le_of_ble_eq_true rfl) (fun ls _ => kt_ivV (ci := 13) O dX2_copy_90 cd_J3_get in_J3_get (Or.inl q481) q482 q483 hco (by decide) hy_J3_get) (fun p8 M9 hq => ?_) (fun E q M9 hx => kr_out O hx)
    replace h := hq
    clear hq
    obtain ⟨b10, rfl, h⟩ := h
    obtain ⟨⟨cc1, hc1, hc2⟩, h⟩ := h
    refine kr_cast O dX2_copy_93 q517 hc1 hc2 ?_
    obtain ⟨hco, h⟩ := h
    refine kr_caR (rest := [va_rf p5]) O cd_X10_copy h (Nat.le_of_ble_eq_true rfl) (fun ls _ => kt_ivV (ci := 4) O dX2_copy_96 cd_X10_copy in_X10_copy (Or.inl q738) q739 q740 hco (by decide) hy_X10_copy) (fun p11 M12 hq => ?_) (fun E q M9 hx => kr_out O hx)
    replace h := hq
    clear hq
    obtain ⟨b13, rfl, h⟩ := h
    obtain ⟨hco, h⟩ := h
    refine kr_caI (rest := []) O cd_J3_add h (Nat.le_of_ble_eq_true rfl) (fun ls _ => kt_ivV (ci := 13) O dX2_copy_99 cd_J3_add in_J3_add (Or.inl q737) q348 q349 hco (by decide) hy_J3_add) (fun u14 M15 hq => ?_) (fun E q M9 hx => kr_out O hx)
    replace h := hq
    clear hq
    refine kr_pop O dX2_copy_102 rfl ?_
    refine kr_iinc O dX2_copy_103 4 rfl (v := v4 + (1 : Int32)) rfl (Nat.le_of_ble_eq_true rfl) rfl rfl ?_
    refine kr_goto (tgt := 68) O dX2_copy_106 rfl ?_
    refine kr_sub [1, 2, 3, 4, 0] rfl ?_
    exact hn68 _ _ h
def vl_X2_copy_68 (w : kt_W) (gr : kt_g × kt_M) (d : Nat) (P : Option Value → kt_M → Prop) (X : String → Nat → kt_M → Prop)  (a0 : Nat) (v1 : Int32) (v2 : Int32) (a3 : Nat) (v4 : Int32) (M : kt_M) : Prop :=
  ∃ Inv : Nat → Int32 → kt_M → Prop, (∃ k, Inv k v4 M) ∧ ∀ k v4 M, kt_le gr.1 gr.2 M → Inv k v4 M → vc_X2_copy_68 w gr d P X (fun v4' M' => ∃ k', k' < k ∧ Inv k' v4' M') a0 v1 v2 a3 v4 M
theorem cl_X2_copy_68 {w : kt_W} {x : kt_X} {gr : kt_g × kt_M} {d : Nat} {P : Option Value → kt_M → Prop} {X : String → Nat → kt_M → Prop}  {a0 : Nat} {v1 : Int32} {v2 : Int32} {a3 : Nat} {v4 : Int32} {M : kt_M} (O : kt_O w x gr (d + 1) cX2_copy "KeyTurns$State" 6 ("copy", "(ZZ)LKeyTurns$State;") (Option.some (Jvm.ClassFile.FieldType.object "KeyTurns$State")) [])  (h : vl_X2_copy_68 w gr d P X  a0 v1 v2 a3 v4 M) : kt_S w x 6 (kt_E w x P X) M 68 [(0, va_rf (some a0)), (1, .int v1), (2, .int v2), (3, va_rf (some a3)), (4, .int v4)] [] := by
  obtain ⟨Inv, ⟨k, hk⟩, hb⟩ := h
  induction k using Nat.strongRecOn generalizing v4 M with
  | ind k ih =>
    exact kr_le O fun hle => cj_X2_copy_68 O (fun v4' M' hi => let ⟨k', h1, h2⟩ := hi; ih k' h1 h2) (hb k _ _ hle hk)
def vc_X2_copy_27 (w : kt_W) (gr : kt_g × kt_M) (d : Nat) (P : Option Value → kt_M → Prop) (X : String → Nat → kt_M → Prop) (nx27 : Int32 → kt_M → Prop) (a0 : Nat) (v1 : Int32) (v2 : Int32) (a3 : Nat) (v4 : Int32) (M : kt_M) : Prop :=
  ∃ p1, kt_gf M a0 10 = some (va_rf p1) ∧ ∃ b2, p1 = some b2 ∧ (kt_co M b2 = some 13) ∧ 
  kt_Ca w gr d yJ3_size kc_J3_size [va_rf (some b2)] M (kt_pI fun u3 M4 => 
    ((u3 ≤ v4 → vl_X2_copy_68 w gr d P X  a0 v1 v2 a3 (0 : Int32) M4) ∧
    (¬ u3 ≤ v4 → ∃ p5, kt_gf M4 a3 10 = some (va_rf p5) ∧ ∃ p6, kt_gf M4 a0 10 = some (va_rf p6) ∧ ∃ b7, p6 = some b7 ∧ (kt_co M4 b7 = some 13) ∧ 
    kt_Ca w gr d yJ3_get kc_J3_get [va_rf (some b7), .int v4] M4 (kt_pR fun p8 M9 => ∃ b10, p8 = some b10 ∧ (∃ c, kt_co M9 b10 = some c ∧ kt_is c "KeyTurns$Version") ∧ ∃ b11, p5 = some b11 ∧ (kt_co M9 b11 = some 13) ∧ 
    kt_Ca w gr d yJ3_add kc_J3_add [va_rf (some b11), va_rf (some b10)] M9 (kt_pI fun u12 M13 => nx27 (v4 + (1 : Int32)) M13) X) X))) X
theorem cj_X2_copy_27 {w : kt_W} {x : kt_X} {gr : kt_g × kt_M} {d : Nat} {P : Option Value → kt_M → Prop} {X : String → Nat → kt_M → Prop} {nx27 : Int32 → kt_M → Prop} {a0 : Nat} {v1 : Int32} {v2 : Int32} {a3 : Nat} {v4 : Int32} {M : kt_M} (O : kt_O w x gr (d + 1) cX2_copy "KeyTurns$State" 6 ("copy", "(ZZ)LKeyTurns$State;") (Option.some (Jvm.ClassFile.FieldType.object "KeyTurns$State")) []) (hn27 : ∀ v4 M, nx27 v4 M → kt_S w x 6 (kt_E w x P X) M 27 [(0, va_rf (some a0)), (1, .int v1), (2, .int v2), (3, va_rf (some a3)), (4, .int v4)] []) (h : vc_X2_copy_27 w gr d P X nx27 a0 v1 v2 a3 v4 M) : kt_S w x 6 (kt_E w x P X) M 27 [(0, va_rf (some a0)), (1, .int v1), (2, .int v2), (3, va_rf (some a3)), (4, .int v4)] [] := by
  unfold vc_X2_copy_27 at h
  refine kr_iload O dX2_copy_27 4 rfl ?_
  refine kr_aload_n O dX2_copy_29 rfl 0 rfl ?_
  obtain ⟨p1, ep1, h⟩ := h
  refine kr_getf O dX2_copy_30 fs_X2_12 ep1 ?_
  obtain ⟨b2, rfl, h⟩ := h
  obtain ⟨hco, h⟩ := h
  refine kr_caI (rest := [.int v4]) O cd_J3_size h (Nat.le_of_ble_eq_true rfl) (fun ls _ => kt_ivV (ci := 13) O dX2_copy_33 cd_J3_size in_J3_size (Or.inl q477) q478 q479 hco (by decide) hy_J3_size) (fun u3 M4 hq => ?_) (fun E q M9 hx => kr_out O hx)
  replace h := hq
  clear hq
  refine kr_icmp_ge (tgt := 65) O dX2_copy_36 rfl (fun hc => ?_) (fun hc => ?_)
  · replace h := h.1 hc
    refine kr_iconst O dX2_copy_65 (v := (0 : Int32)) (by decide) ?_
    refine kr_istore O dX2_copy_66 (Nat.le_of_ble_eq_true rfl) rfl rfl ?_
    refine kr_sub [1, 2, 3, 4, 0] rfl ?_
    exact cl_X2_copy_68 O  h
  · replace h := h.2 hc
    refine kr_aload_n O dX2_copy_39 rfl 3 rfl ?_
    obtain ⟨p5, ep5, h⟩ := h
    refine kr_getf O dX2_copy_40 fs_X2_12 ep5 ?_
    refine kr_aload_n O dX2_copy_43 rfl 0 rfl ?_
    obtain ⟨p6, ep6, h⟩ := h
    refine kr_getf O dX2_copy_44 fs_X2_12 ep6 ?_
    refine kr_iload O dX2_copy_47 4 rfl ?_
    obtain ⟨b7, rfl, h⟩ := h
    obtain ⟨hco, h⟩ := h
    refine kr_caR (rest := [va_rf p5]) O cd_J3_get h (Nat.le_of_ble_eq_true rfl) (fun ls _ => kt_ivV (ci := 13) O dX2_copy_49 cd_J3_get in_J3_get (Or.inl q481) q482 q483 hco (by decide) hy_J3_get) (fun p8 M9 hq => ?_) (fun E q M9 hx => kr_out O hx)
    replace h := hq
    clear hq
    obtain ⟨b10, rfl, h⟩ := h
    obtain ⟨⟨cc1, hc1, hc2⟩, h⟩ := h
    refine kr_cast O dX2_copy_52 q495 hc1 hc2 ?_
    obtain ⟨b11, rfl, h⟩ := h
    obtain ⟨hco, h⟩ := h
    refine kr_caI (rest := []) O cd_J3_add h (Nat.le_of_ble_eq_true rfl) (fun ls _ => kt_ivV (ci := 13) O dX2_copy_55 cd_J3_add in_J3_add (Or.inl q737) q348 q349 hco (by decide) hy_J3_add) (fun u12 M13 hq => ?_) (fun E q M9 hx => kr_out O hx)
    replace h := hq
    clear hq
    refine kr_pop O dX2_copy_58 rfl ?_
    refine kr_iinc O dX2_copy_59 4 rfl (v := v4 + (1 : Int32)) rfl (Nat.le_of_ble_eq_true rfl) rfl rfl ?_
    refine kr_goto (tgt := 27) O dX2_copy_62 rfl ?_
    refine kr_sub [1, 2, 3, 4, 0] rfl ?_
    exact hn27 _ _ h
def vl_X2_copy_27 (w : kt_W) (gr : kt_g × kt_M) (d : Nat) (P : Option Value → kt_M → Prop) (X : String → Nat → kt_M → Prop)  (a0 : Nat) (v1 : Int32) (v2 : Int32) (a3 : Nat) (v4 : Int32) (M : kt_M) : Prop :=
  ∃ Inv : Nat → Int32 → kt_M → Prop, (∃ k, Inv k v4 M) ∧ ∀ k v4 M, kt_le gr.1 gr.2 M → Inv k v4 M → vc_X2_copy_27 w gr d P X (fun v4' M' => ∃ k', k' < k ∧ Inv k' v4' M') a0 v1 v2 a3 v4 M
theorem cl_X2_copy_27 {w : kt_W} {x : kt_X} {gr : kt_g × kt_M} {d : Nat} {P : Option Value → kt_M → Prop} {X : String → Nat → kt_M → Prop}  {a0 : Nat} {v1 : Int32} {v2 : Int32} {a3 : Nat} {v4 : Int32} {M : kt_M} (O : kt_O w x gr (d + 1) cX2_copy "KeyTurns$State" 6 ("copy", "(ZZ)LKeyTurns$State;") (Option.some (Jvm.ClassFile.FieldType.object "KeyTurns$State")) [])  (h : vl_X2_copy_27 w gr d P X  a0 v1 v2 a3 v4 M) : kt_S w x 6 (kt_E w x P X) M 27 [(0, va_rf (some a0)), (1, .int v1), (2, .int v2), (3, va_rf (some a3)), (4, .int v4)] [] := by
  obtain ⟨Inv, ⟨k, hk⟩, hb⟩ := h
  induction k using Nat.strongRecOn generalizing v4 M with
  | ind k ih =>
    exact kr_le O fun hle => cj_X2_copy_27 O (fun v4' M' hi => let ⟨k', h1, h2⟩ := hi; ih k' h1 h2) (hb k _ _ hle hk)
def vc_X2_copy (w : kt_W) (gr : kt_g × kt_M) (d : Nat) (P : Option Value → kt_M → Prop) (X : String → Nat → kt_M → Prop) (a0 : Nat) (v1 : Int32) (v2 : Int32) (M : kt_M) : Prop :=
  kt_fits w M 14 ∧ ∃ t1, ∀ M2, M2 = kt_new M 14 (t1 + 2, .inr (1, [.int 0, .int 0, .int 0, va_rf none, va_rf none, va_rf none, va_rf none, .int 0, .int 0, .int 0, .int 0, va_rf none, va_rf none, .int 0])) → ∃ u3, kt_gf M2 a0 7 = some (.int u3) ∧ ∃ u4, kt_gf M2 a0 8 = some (.int u4) ∧ ∃ u5, kt_gf M2 a0 9 = some (.int u5) ∧ ∃ u6, kt_gf M2 a0 15 = some (.int u6) ∧ 
  kt_Ca w gr d yX2_init kc_X2_init [va_rf (some M.1), .int u3, .int u4, .int u5, .int u6] M2 (kt_pV fun M7 => vl_X2_copy_27 w gr d P X  a0 v1 v2 M.1 (0 : Int32) M7) X
theorem ce_X2_copy {w : kt_W} {g : kt_g} {d : Nat} {P : Option Value → kt_M → Prop} {X : String → Nat → kt_M → Prop} {a0 : Nat} {v1 : Int32} {v2 : Int32} {M : kt_M} (h : vc_X2_copy w (g, M) d P X a0 v1 v2 M) : kt_Sp w g (d + 1) yX2_copy kc_X2_copy [va_rf (some a0), .int v1, .int v2] M P X := by
  refine kt_of (L0 := [(0, va_rf (some a0)), (1, .int v1), (2, .int v2)]) (by decide +kernel) (Nat.le_of_ble_eq_true rfl) rfl fun x O => ?_
  replace O : kt_O w x (g, M) (d + 1) cX2_copy "KeyTurns$State" 6 ("copy", "(ZZ)LKeyTurns$State;") (Option.some (Jvm.ClassFile.FieldType.object "KeyTurns$State")) [] := O
  unfold vc_X2_copy at h
  obtain ⟨hf, t1, h⟩ := h
  refine kr_new (c := 1) (r := (RX2, TX2, 14)) (fs := [.int 0, .int 0, .int 0, va_rf none, va_rf none, va_rf none, va_rf none, .int 0, .int 0, .int 0, .int 0, va_rf none, va_rf none, .int 0]) t1 O dX2_copy_0 rfl q735 q201 q112 rfl hf (kr_nmM fun M2 hM2 => ?_)
  replace h := h M2 hM2
  refine kr_dup O dX2_copy_3 (kt_nrf _) ?_
  refine kr_aload_n O dX2_copy_4 rfl 0 rfl ?_
  obtain ⟨u3, eu3, h⟩ := h
  refine kr_getf O dX2_copy_5 fs_X2_38 eu3 ?_
  refine kr_aload_n O dX2_copy_8 rfl 0 rfl ?_
  obtain ⟨u4, eu4, h⟩ := h
  refine kr_getf O dX2_copy_9 fs_X2_42 eu4 ?_
  refine kr_aload_n O dX2_copy_12 rfl 0 rfl ?_
  obtain ⟨u5, eu5, h⟩ := h
  refine kr_getf O dX2_copy_13 fs_X2_45 eu5 ?_
  refine kr_aload_n O dX2_copy_16 rfl 0 rfl ?_
  obtain ⟨u6, eu6, h⟩ := h
  refine kr_getf O dX2_copy_17 fs_X2_48 eu6 ?_
  refine kr_caV (rest := [va_rf (some M.1)]) O cd_X2_init h (Nat.le_of_ble_eq_true rfl) (fun ls _ => kt_ivI O dX2_copy_20 cd_X2_init in_X2_init (Or.inl q736) q203 hi_X2_init) (fun M7 hq => ?_) (fun E q M9 hx => kr_out O hx)
  replace h := hq
  clear hq
  refine kr_astore_n O dX2_copy_23 rfl (Nat.le_of_ble_eq_true rfl) rfl rfl ?_
  refine kr_iconst O dX2_copy_24 (v := (0 : Int32)) (by decide) ?_
  refine kr_istore O dX2_copy_25 (Nat.le_of_ble_eq_true rfl) rfl rfl ?_
  refine kr_sub [2, 3, 4, 1, 0] rfl ?_
  exact cl_X2_copy_27 O  h
def vc_X2_issue_11 (w : kt_W) (gr : kt_g × kt_M) (d : Nat) (P : Option Value → kt_M → Prop) (X : String → Nat → kt_M → Prop) (nx11 : Int32 → kt_M → Prop) (a0 : Nat) (v1 : Int32) (v2 : Int32) (v3 : Int32) (M : kt_M) : Prop :=
  ∃ p1, kt_gf M a0 10 = some (va_rf p1) ∧ ∃ b2, p1 = some b2 ∧ (kt_co M b2 = some 13) ∧ 
  kt_Ca w gr d yJ3_size kc_J3_size [va_rf (some b2)] M (kt_pI fun u3 M4 => 
    ((u3 ≤ v3 → ∃ p5, kt_gf M4 a0 10 = some (va_rf p5) ∧ kt_fits w M4 3 ∧ ∃ t6, ∀ M7, M7 = kt_new M4 3 (t6 + 2, .inr (2, [.int 0, .int 0, .int 0])) → ∃ p8, kt_gf M7 a0 10 = some (va_rf p8) ∧ ∃ b9, p8 = some b9 ∧ (kt_co M7 b9 = some 13) ∧ 
    kt_Ca w gr d yJ3_size kc_J3_size [va_rf (some b9)] M7 (kt_pI fun u10 M11 => 
    kt_Ca w gr d yX4_init kc_X4_init [va_rf (some M4.1), .int u10, .int v1, .int (9999 : Int32)] M11 (kt_pV fun M12 => ∃ b13, p5 = some b13 ∧ (kt_co M12 b13 = some 13) ∧ 
    kt_Ca w gr d yJ3_add kc_J3_add [va_rf (some b13), va_rf (some M4.1)] M12 (kt_pI fun u14 M15 => ∃ p16, kt_gf M15 a0 10 = some (va_rf p16) ∧ ∃ b17, p16 = some b17 ∧ (kt_co M15 b17 = some 13) ∧ 
    kt_Ca w gr d yJ3_size kc_J3_size [va_rf (some b17)] M15 (kt_pI fun u18 M19 => P (some (.int (u18 - (1 : Int32)))) M19) X) X) X) X) ∧
    (¬ u3 ≤ v3 → ∃ p20, kt_gf M4 a0 10 = some (va_rf p20) ∧ ∃ b21, p20 = some b21 ∧ (kt_co M4 b21 = some 13) ∧ 
    kt_Ca w gr d yJ3_get kc_J3_get [va_rf (some b21), .int v3] M4 (kt_pR fun p22 M23 => ∃ b24, p22 = some b24 ∧ (∃ c, kt_co M23 b24 = some c ∧ kt_is c "KeyTurns$Version") ∧ ∃ u25, kt_gf M23 b24 23 = some (.int u25) ∧ 
      ((v2 < u25 → ∃ z26, kt_io M23 b24 "KeyTurns$Issued" z26 ∧ 
        ((z26 = 0 → ∃ z27, kt_io M23 b24 "KeyTurns$Withdrawn" z27 ∧ 
          ((z27 = 0 → nx11 (v3 + (1 : Int32)) M23) ∧
          (¬ z27 = 0 → (∃ c, kt_co M23 b24 = some c ∧ kt_is c "KeyTurns$Withdrawn") ∧ ∃ p28, kt_gf M23 a0 10 = some (va_rf p28) ∧ kt_fits w M23 4 ∧ ∃ t29, ∀ M30, M30 = kt_new M23 4 (t29 + 2, .inr (3, [.int 0, .int 0, .int 0, .int 0])) → kt_fits w M30 3 ∧ ∃ t31, ∀ M32, M32 = kt_new M30 3 (t31 + 2, .inr (2, [.int 0, .int 0, .int 0])) → ∃ u33, kt_gf M32 b24 22 = some (.int u33) ∧ 
          kt_Ca w gr d yX4_init kc_X4_init [va_rf (some M30.1), .int v3, .int u33, .int v2] M32 (kt_pV fun M34 => ∃ u35, kt_gf M34 b24 24 = some (.int u35) ∧ 
          kt_Ca w gr d yX12_init kc_X12_init [va_rf (some M23.1), va_rf (some M30.1), .int u35] M34 (kt_pV fun M36 => ∃ b37, p28 = some b37 ∧ (kt_co M36 b37 = some 13) ∧ 
          kt_Ca w gr d yJ3_set kc_J3_set [va_rf (some b37), .int v3, va_rf (some M23.1)] M36 (kt_pR fun p38 M39 => nx11 (v3 + (1 : Int32)) M39) X) X) X))) ∧
        (¬ z26 = 0 → (∃ c, kt_co M23 b24 = some c ∧ kt_is c "KeyTurns$Issued") ∧ ∃ p40, kt_gf M23 a0 10 = some (va_rf p40) ∧ (kt_co M23 b24 = some 2) ∧ 
        kt_Ca w gr d yX4_endingAt kc_X4_endingAt [va_rf (some b24), .int v2] M23 (kt_pR fun p41 M42 => ∃ b43, p40 = some b43 ∧ (kt_co M42 b43 = some 13) ∧ 
        kt_Ca w gr d yJ3_set kc_J3_set [va_rf (some b43), .int v3, va_rf p41] M42 (kt_pR fun p44 M45 => nx11 (v3 + (1 : Int32)) M45) X) X))) ∧
      (¬ v2 < u25 → nx11 (v3 + (1 : Int32)) M23))) X))) X
theorem cj_X2_issue_11 {w : kt_W} {x : kt_X} {gr : kt_g × kt_M} {d : Nat} {P : Option Value → kt_M → Prop} {X : String → Nat → kt_M → Prop} {nx11 : Int32 → kt_M → Prop} {a0 : Nat} {v1 : Int32} {v2 : Int32} {v3 : Int32} {M : kt_M} (O : kt_O w x gr (d + 1) cX2_issue "KeyTurns$State" 7 ("issue", "(I)I") (Option.some Jvm.ClassFile.FieldType.int) []) (hn11 : ∀ v3 M, nx11 v3 M → kt_S w x 7 (kt_E w x P X) M 11 [(0, va_rf (some a0)), (1, .int v1), (2, .int v2), (3, .int v3)] []) (h : vc_X2_issue_11 w gr d P X nx11 a0 v1 v2 v3 M) : kt_S w x 7 (kt_E w x P X) M 11 [(0, va_rf (some a0)), (1, .int v1), (2, .int v2), (3, .int v3)] [] := by
  unfold vc_X2_issue_11 at h
  refine kr_iload_n O dX2_issue_11 rfl 3 rfl ?_
  refine kr_aload_n O dX2_issue_12 rfl 0 rfl ?_
  obtain ⟨p1, ep1, h⟩ := h
  refine kr_getf O dX2_issue_13 fs_X2_12 ep1 ?_
  obtain ⟨b2, rfl, h⟩ := h
  obtain ⟨hco, h⟩ := h
  refine kr_caI (rest := [.int v3]) O cd_J3_size h (Nat.le_of_ble_eq_true rfl) (fun ls _ => kt_ivV (ci := 13) O dX2_issue_16 cd_J3_size in_J3_size (Or.inl q477) q478 q479 hco (by decide) hy_J3_size) (fun u3 M4 hq => ?_) (fun E q M9 hx => kr_out O hx)
  replace h := hq
  clear hq
  refine kr_icmp_ge (tgt := 136) O dX2_issue_19 rfl (fun hc => ?_) (fun hc => ?_)
  · replace h := h.1 hc
    refine kr_aload_n O dX2_issue_136 rfl 0 rfl ?_
    obtain ⟨p5, ep5, h⟩ := h
    refine kr_getf O dX2_issue_137 fs_X2_12 ep5 ?_
    obtain ⟨hf, t6, h⟩ := h
    refine kr_new (c := 2) (r := (RX4, TX4, 3)) (fs := [.int 0, .int 0, .int 0]) t6 O dX2_issue_140 rfl q1350 q314 q118 rfl hf (kr_nmM fun M7 hM7 => ?_)
    replace h := h M7 hM7
    refine kr_dup O dX2_issue_143 (kt_nrf _) ?_
    refine kr_aload_n O dX2_issue_144 rfl 0 rfl ?_
    obtain ⟨p8, ep8, h⟩ := h
    refine kr_getf O dX2_issue_145 fs_X2_12 ep8 ?_
    obtain ⟨b9, rfl, h⟩ := h
    obtain ⟨hco, h⟩ := h
    refine kr_caI (rest := [va_rf (some M4.1), va_rf (some M4.1), va_rf p5]) O cd_J3_size h (Nat.le_of_ble_eq_true rfl) (fun ls _ => kt_ivV (ci := 13) O dX2_issue_148 cd_J3_size in_J3_size (Or.inl q477) q478 q479 hco (by decide) hy_J3_size) (fun u10 M11 hq => ?_) (fun E q M9 hx => kr_out O hx)
    replace h := hq
    clear hq
    refine kr_iload_n O dX2_issue_151 rfl 1 rfl ?_
    refine kr_sipush O dX2_issue_152 (v := (9999 : Int32)) (by decide) ?_
    refine kr_caV (rest := [va_rf (some M4.1), va_rf p5]) O cd_X4_init h (Nat.le_of_ble_eq_true rfl) (fun ls _ => kt_ivI O dX2_issue_155 cd_X4_init in_X4_init (Or.inl q1363) q316 hi_X4_init) (fun M12 hq => ?_) (fun E q M9 hx => kr_out O hx)
    replace h := hq
    clear hq
    obtain ⟨b13, rfl, h⟩ := h
    obtain ⟨hco, h⟩ := h
    refine kr_caI (rest := []) O cd_J3_add h (Nat.le_of_ble_eq_true rfl) (fun ls _ => kt_ivV (ci := 13) O dX2_issue_158 cd_J3_add in_J3_add (Or.inl q737) q348 q349 hco (by decide) hy_J3_add) (fun u14 M15 hq => ?_) (fun E q M9 hx => kr_out O hx)
    replace h := hq
    clear hq
    refine kr_pop O dX2_issue_161 rfl ?_
    refine kr_aload_n O dX2_issue_162 rfl 0 rfl ?_
    obtain ⟨p16, ep16, h⟩ := h
    refine kr_getf O dX2_issue_163 fs_X2_12 ep16 ?_
    obtain ⟨b17, rfl, h⟩ := h
    obtain ⟨hco, h⟩ := h
    refine kr_caI (rest := []) O cd_J3_size h (Nat.le_of_ble_eq_true rfl) (fun ls _ => kt_ivV (ci := 13) O dX2_issue_166 cd_J3_size in_J3_size (Or.inl q477) q478 q479 hco (by decide) hy_J3_size) (fun u18 M19 hq => ?_) (fun E q M9 hx => kr_out O hx)
    replace h := hq
    clear hq
    refine kr_iconst O dX2_issue_169 (v := (1 : Int32)) (by decide) ?_
    refine kr_isub O dX2_issue_170 ?_
    exact kr_iret O dX2_issue_171 rfl h
  · replace h := h.2 hc
    refine kr_aload_n O dX2_issue_22 rfl 0 rfl ?_
    obtain ⟨p20, ep20, h⟩ := h
    refine kr_getf O dX2_issue_23 fs_X2_12 ep20 ?_
    refine kr_iload_n O dX2_issue_26 rfl 3 rfl ?_
    obtain ⟨b21, rfl, h⟩ := h
    obtain ⟨hco, h⟩ := h
    refine kr_caR (rest := []) O cd_J3_get h (Nat.le_of_ble_eq_true rfl) (fun ls _ => kt_ivV (ci := 13) O dX2_issue_27 cd_J3_get in_J3_get (Or.inl q481) q482 q483 hco (by decide) hy_J3_get) (fun p22 M23 hq => ?_) (fun E q M9 hx => kr_out O hx)
    replace h := hq
    clear hq
    obtain ⟨b24, rfl, h⟩ := h
    obtain ⟨⟨cc1, hc1, hc2⟩, h⟩ := h
    refine kr_cast O dX2_issue_30 q495 hc1 hc2 ?_
    refine kr_astore O dX2_issue_33 (Nat.le_of_ble_eq_true rfl) rfl rfl ?_
    refine kr_aload O dX2_issue_35 0 rfl ?_
    obtain ⟨u25, eu25, h⟩ := h
    refine kr_getf O dX2_issue_37 fs_X2_128 eu25 ?_
    refine kr_iload_n O dX2_issue_40 rfl 3 rfl ?_
    refine kr_icmp_gt (tgt := 47) O dX2_issue_41 rfl (fun hc => ?_) (fun hc => ?_)
    · replace h := h.1 hc
      refine kr_aload O dX2_issue_47 0 rfl ?_
      obtain ⟨z26, hz26, h⟩ := h
      refine kr_inst O dX2_issue_49 q1350 hz26 ?_
      refine kr_if_eq (tgt := 80) O dX2_issue_52 rfl (fun hc => ?_) (fun hc => ?_)
      · replace h := h.1 hc
        refine kr_aload O dX2_issue_80 0 rfl ?_
        obtain ⟨z27, hz27, h⟩ := h
        refine kr_inst O dX2_issue_82 q1361 hz27 ?_
        refine kr_if_eq (tgt := 130) O dX2_issue_85 rfl (fun hc => ?_) (fun hc => ?_)
        · replace h := h.1 hc
          refine kr_iinc O dX2_issue_130 4 rfl (v := v3 + (1 : Int32)) rfl (Nat.le_of_ble_eq_true rfl) rfl rfl ?_
          refine kr_goto (tgt := 11) O dX2_issue_133 rfl ?_
          refine kr_sub [2, 3, 4, 0] rfl ?_
          exact hn11 _ _ h
        · replace h := h.2 hc
          refine kr_aload O dX2_issue_88 0 rfl ?_
          obtain ⟨⟨cc1, hc1, hc2⟩, h⟩ := h
          refine kr_cast O dX2_issue_90 q1361 hc1 hc2 ?_
          refine kr_astore O dX2_issue_93 (Nat.le_of_ble_eq_true rfl) rfl rfl ?_
          refine kr_aload_n O dX2_issue_95 rfl 2 rfl ?_
          obtain ⟨p28, ep28, h⟩ := h
          refine kr_getf O dX2_issue_96 fs_X2_12 ep28 ?_
          refine kr_iload_n O dX2_issue_99 rfl 5 rfl ?_
          obtain ⟨hf, t29, h⟩ := h
          refine kr_new (c := 3) (r := (RX12, TX12, 4)) (fs := [.int 0, .int 0, .int 0, .int 0]) t29 O dX2_issue_100 rfl q1361 q1362 q154 rfl hf (kr_nmM fun M30 hM30 => ?_)
          replace h := h M30 hM30
          refine kr_dup O dX2_issue_103 (kt_nrf _) ?_
          obtain ⟨hf, t31, h⟩ := h
          refine kr_new (c := 2) (r := (RX4, TX4, 3)) (fs := [.int 0, .int 0, .int 0]) t31 O dX2_issue_104 rfl q1350 q314 q118 rfl hf (kr_nmM fun M32 hM32 => ?_)
          replace h := h M32 hM32
          refine kr_dup O dX2_issue_107 (kt_nrf _) ?_
          refine kr_iload_n O dX2_issue_108 rfl 5 rfl ?_
          refine kr_aload O dX2_issue_109 0 rfl ?_
          obtain ⟨u33, eu33, h⟩ := h
          refine kr_getf O dX2_issue_111 fs_X2_143 eu33 ?_
          refine kr_iload_n O dX2_issue_114 rfl 4 rfl ?_
          refine kr_caV (rest := [va_rf (some M30.1), va_rf (some M23.1), va_rf (some M23.1), .int v3, va_rf p28]) O cd_X4_init h (Nat.le_of_ble_eq_true rfl) (fun ls _ => kt_ivI O dX2_issue_115 cd_X4_init in_X4_init (Or.inl q1363) q316 hi_X4_init) (fun M34 hq => ?_) (fun E q M9 hx => kr_out O hx)
          replace h := hq
          clear hq
          refine kr_aload O dX2_issue_118 0 rfl ?_
          obtain ⟨u35, eu35, h⟩ := h
          refine kr_getf O dX2_issue_120 fs_X2_149 eu35 ?_
          refine kr_caV (rest := [va_rf (some M23.1), .int v3, va_rf p28]) O cd_X12_init h (Nat.le_of_ble_eq_true rfl) (fun ls _ => kt_ivI O dX2_issue_123 cd_X12_init in_X12_init (Or.inl q1364) q1365 hi_X12_init) (fun M36 hq => ?_) (fun E q M9 hx => kr_out O hx)
          replace h := hq
          clear hq
          obtain ⟨b37, rfl, h⟩ := h
          obtain ⟨hco, h⟩ := h
          refine kr_caR (rest := []) O cd_J3_set h (Nat.le_of_ble_eq_true rfl) (fun ls _ => kt_ivV (ci := 13) O dX2_issue_126 cd_J3_set in_J3_set (Or.inl q1357) q1358 q1359 hco (by decide) hy_J3_set) (fun p38 M39 hq => ?_) (fun E q M9 hx => kr_out O hx)
          replace h := hq
          clear hq
          refine kr_pop O dX2_issue_129 (kt_nrf _) ?_
          refine kr_iinc O dX2_issue_130 5 rfl (v := v3 + (1 : Int32)) rfl (Nat.le_of_ble_eq_true rfl) rfl rfl ?_
          refine kr_goto (tgt := 11) O dX2_issue_133 rfl ?_
          refine kr_sub [3, 4, 5, 0] rfl ?_
          exact hn11 _ _ h
      · replace h := h.2 hc
        refine kr_aload O dX2_issue_55 0 rfl ?_
        obtain ⟨⟨cc1, hc1, hc2⟩, h⟩ := h
        refine kr_cast O dX2_issue_57 q1350 hc1 hc2 ?_
        refine kr_astore O dX2_issue_60 (Nat.le_of_ble_eq_true rfl) rfl rfl ?_
        refine kr_aload_n O dX2_issue_62 rfl 2 rfl ?_
        obtain ⟨p40, ep40, h⟩ := h
        refine kr_getf O dX2_issue_63 fs_X2_12 ep40 ?_
        refine kr_iload_n O dX2_issue_66 rfl 5 rfl ?_
        refine kr_aload O dX2_issue_67 0 rfl ?_
        refine kr_iload_n O dX2_issue_69 rfl 4 rfl ?_
        obtain ⟨hco, h⟩ := h
        refine kr_caR (rest := [.int v3, va_rf p40]) O cd_X4_endingAt h (Nat.le_of_ble_eq_true rfl) (fun ls _ => kt_ivV (ci := 2) O dX2_issue_70 cd_X4_endingAt in_X4_endingAt (Or.inl q1351) q1352 q1353 hco (by decide) hy_X4_endingAt) (fun p41 M42 hq => ?_) (fun E q M9 hx => kr_out O hx)
        replace h := hq
        clear hq
        obtain ⟨b43, rfl, h⟩ := h
        obtain ⟨hco, h⟩ := h
        refine kr_caR (rest := []) O cd_J3_set h (Nat.le_of_ble_eq_true rfl) (fun ls _ => kt_ivV (ci := 13) O dX2_issue_73 cd_J3_set in_J3_set (Or.inl q1357) q1358 q1359 hco (by decide) hy_J3_set) (fun p44 M45 hq => ?_) (fun E q M9 hx => kr_out O hx)
        replace h := hq
        clear hq
        refine kr_pop O dX2_issue_76 (kt_nrf _) ?_
        refine kr_goto (tgt := 130) O dX2_issue_77 rfl ?_
        refine kr_iinc O dX2_issue_130 5 rfl (v := v3 + (1 : Int32)) rfl (Nat.le_of_ble_eq_true rfl) rfl rfl ?_
        refine kr_goto (tgt := 11) O dX2_issue_133 rfl ?_
        refine kr_sub [3, 4, 5, 0] rfl ?_
        exact hn11 _ _ h
    · replace h := h.2 hc
      refine kr_goto (tgt := 130) O dX2_issue_44 rfl ?_
      refine kr_iinc O dX2_issue_130 4 rfl (v := v3 + (1 : Int32)) rfl (Nat.le_of_ble_eq_true rfl) rfl rfl ?_
      refine kr_goto (tgt := 11) O dX2_issue_133 rfl ?_
      refine kr_sub [2, 3, 4, 0] rfl ?_
      exact hn11 _ _ h
def vl_X2_issue_11 (w : kt_W) (gr : kt_g × kt_M) (d : Nat) (P : Option Value → kt_M → Prop) (X : String → Nat → kt_M → Prop)  (a0 : Nat) (v1 : Int32) (v2 : Int32) (v3 : Int32) (M : kt_M) : Prop :=
  ∃ Inv : Nat → Int32 → kt_M → Prop, (∃ k, Inv k v3 M) ∧ ∀ k v3 M, kt_le gr.1 gr.2 M → Inv k v3 M → vc_X2_issue_11 w gr d P X (fun v3' M' => ∃ k', k' < k ∧ Inv k' v3' M') a0 v1 v2 v3 M
theorem cl_X2_issue_11 {w : kt_W} {x : kt_X} {gr : kt_g × kt_M} {d : Nat} {P : Option Value → kt_M → Prop} {X : String → Nat → kt_M → Prop}  {a0 : Nat} {v1 : Int32} {v2 : Int32} {v3 : Int32} {M : kt_M} (O : kt_O w x gr (d + 1) cX2_issue "KeyTurns$State" 7 ("issue", "(I)I") (Option.some Jvm.ClassFile.FieldType.int) [])  (h : vl_X2_issue_11 w gr d P X  a0 v1 v2 v3 M) : kt_S w x 7 (kt_E w x P X) M 11 [(0, va_rf (some a0)), (1, .int v1), (2, .int v2), (3, .int v3)] [] := by
  obtain ⟨Inv, ⟨k, hk⟩, hb⟩ := h
  induction k using Nat.strongRecOn generalizing v3 M with
  | ind k ih =>
    exact kr_le O fun hle => cj_X2_issue_11 O (fun v3' M' hi => let ⟨k', h1, h2⟩ := hi; ih k' h1 h2) (hb k _ _ hle hk)
def vc_X2_issue (w : kt_W) (gr : kt_g × kt_M) (d : Nat) (P : Option Value → kt_M → Prop) (X : String → Nat → kt_M → Prop) (a0 : Nat) (v1 : Int32) (M : kt_M) : Prop :=
  ∃ u1, kt_gf M a0 8 = some (.int u1) ∧ vl_X2_issue_11 w gr d P X  a0 v1 ((v1 + u1) - (1 : Int32)) (0 : Int32) M
theorem ce_X2_issue {w : kt_W} {g : kt_g} {d : Nat} {P : Option Value → kt_M → Prop} {X : String → Nat → kt_M → Prop} {a0 : Nat} {v1 : Int32} {M : kt_M} (h : vc_X2_issue w (g, M) d P X a0 v1 M) : kt_Sp w g (d + 1) yX2_issue kc_X2_issue [va_rf (some a0), .int v1] M P X := by
  refine kt_of (L0 := [(0, va_rf (some a0)), (1, .int v1)]) (by decide +kernel) (Nat.le_of_ble_eq_true rfl) rfl fun x O => ?_
  replace O : kt_O w x (g, M) (d + 1) cX2_issue "KeyTurns$State" 7 ("issue", "(I)I") (Option.some Jvm.ClassFile.FieldType.int) [] := O
  unfold vc_X2_issue at h
  refine kr_iload_n O dX2_issue_0 rfl 1 rfl ?_
  refine kr_aload_n O dX2_issue_1 rfl 0 rfl ?_
  obtain ⟨u1, eu1, h⟩ := h
  refine kr_getf O dX2_issue_2 fs_X2_42 eu1 ?_
  refine kr_iadd O dX2_issue_5 ?_
  refine kr_iconst O dX2_issue_6 (v := (1 : Int32)) (by decide) ?_
  refine kr_isub O dX2_issue_7 ?_
  refine kr_istore_n O dX2_issue_8 rfl (Nat.le_of_ble_eq_true rfl) rfl rfl ?_
  refine kr_iconst O dX2_issue_9 (v := (0 : Int32)) (by decide) ?_
  refine kr_istore_n O dX2_issue_10 rfl (Nat.le_of_ble_eq_true rfl) rfl rfl ?_
  refine kr_sub [2, 3, 1, 0] rfl ?_
  exact cl_X2_issue_11 O  h
def vc_X2_clean_4 (w : kt_W) (gr : kt_g × kt_M) (d : Nat) (P : Option Value → kt_M → Prop) (X : String → Nat → kt_M → Prop) (nx4 : Int32 → Int32 → kt_M → Prop) (a0 : Nat) (v1 : Int32) (v2 : Int32) (M : kt_M) : Prop :=
  ∃ p1, kt_gf M a0 11 = some (va_rf p1) ∧ ∃ b2, p1 = some b2 ∧ (kt_co M b2 = some 13) ∧ 
  kt_Ca w gr d yJ3_size kc_J3_size [va_rf (some b2)] M (kt_pI fun u3 M4 => 
    ((u3 ≤ v2 → ∃ u5, kt_gf M4 a0 16 = some (.int u5) ∧ kt_hf gr M4 a0 16 ∧ ∀ M6, M6 = kt_pf M4 a0 16 (.int (u5 + v1)) → P (some (.int v1)) M6) ∧
    (¬ u3 ≤ v2 → (kt_co M4 a0 = some 1) ∧ 
    kt_Ca w gr d yX2_isThere kc_X2_isThere [va_rf (some a0), .int v2] M4 (kt_pI fun u7 M8 => 
      ((u7 = 0 → nx4 v1 (v2 + (1 : Int32)) M8) ∧
      (¬ u7 = 0 → ∃ p9, kt_gf M8 a0 11 = some (va_rf p9) ∧ ∃ b10, p9 = some b10 ∧ (kt_co M8 b10 = some 13) ∧ 
      kt_Ca w gr d yJ3_get kc_J3_get [va_rf (some b10), .int v2] M8 (kt_pR fun p11 M12 => ∃ b13, p11 = some b13 ∧ (∃ c, kt_co M12 b13 = some c ∧ kt_is c "KeyTurns$Sealed") ∧ (kt_co M12 a0 = some 1) ∧ 
      kt_Ca w gr d yX2_cleans kc_X2_cleans [va_rf (some a0), va_rf (some b13)] M12 (kt_pI fun u14 M15 => 
      kt_Ca w gr d yX1_asInt kc_X1_asInt [.int u14] M15 (kt_pI fun u16 M17 => nx4 (v1 + u16) (v2 + (1 : Int32)) M17) X) X) X))) X))) X
theorem cj_X2_clean_4 {w : kt_W} {x : kt_X} {gr : kt_g × kt_M} {d : Nat} {P : Option Value → kt_M → Prop} {X : String → Nat → kt_M → Prop} {nx4 : Int32 → Int32 → kt_M → Prop} {a0 : Nat} {v1 : Int32} {v2 : Int32} {M : kt_M} (O : kt_O w x gr (d + 1) cX2_clean "KeyTurns$State" 3 ("clean", "()I") (Option.some Jvm.ClassFile.FieldType.int) []) (hn4 : ∀ v1 v2 M, nx4 v1 v2 M → kt_S w x 3 (kt_E w x P X) M 4 [(0, va_rf (some a0)), (1, .int v1), (2, .int v2)] []) (h : vc_X2_clean_4 w gr d P X nx4 a0 v1 v2 M) : kt_S w x 3 (kt_E w x P X) M 4 [(0, va_rf (some a0)), (1, .int v1), (2, .int v2)] [] := by
  unfold vc_X2_clean_4 at h
  refine kr_iload_n O dX2_clean_4 rfl 2 rfl ?_
  refine kr_aload_n O dX2_clean_5 rfl 0 rfl ?_
  obtain ⟨p1, ep1, h⟩ := h
  refine kr_getf O dX2_clean_6 fs_X2_18 ep1 ?_
  obtain ⟨b2, rfl, h⟩ := h
  obtain ⟨hco, h⟩ := h
  refine kr_caI (rest := [.int v2]) O cd_J3_size h (Nat.le_of_ble_eq_true rfl) (fun ls _ => kt_ivV (ci := 13) O dX2_clean_9 cd_J3_size in_J3_size (Or.inl q477) q478 q479 hco (by decide) hy_J3_size) (fun u3 M4 hq => ?_) (fun E q M9 hx => kr_out O hx)
  replace h := hq
  clear hq
  refine kr_icmp_ge (tgt := 50) O dX2_clean_12 rfl (fun hc => ?_) (fun hc => ?_)
  · replace h := h.1 hc
    refine kr_aload_n O dX2_clean_50 rfl 0 rfl ?_
    refine kr_dup O dX2_clean_51 (kt_nrf _) ?_
    obtain ⟨u5, eu5, h⟩ := h
    refine kr_getf O dX2_clean_52 fs_X2_101 eu5 ?_
    refine kr_iload_n O dX2_clean_55 rfl 1 rfl ?_
    refine kr_iadd O dX2_clean_56 ?_
    obtain ⟨hw, h⟩ := h
    refine kr_putf O dX2_clean_57 fs_X2_101 (Or.inl rfl) ⟨rfl, rfl⟩ hw (kr_nmM fun M6 hM6 => ?_)
    replace h := h M6 hM6
    refine kr_iload_n O dX2_clean_60 rfl 1 rfl ?_
    exact kr_iret O dX2_clean_61 rfl h
  · replace h := h.2 hc
    refine kr_aload_n O dX2_clean_15 rfl 0 rfl ?_
    refine kr_iload_n O dX2_clean_16 rfl 2 rfl ?_
    obtain ⟨hco, h⟩ := h
    refine kr_caI (rest := []) O cd_X2_isThere h (Nat.le_of_ble_eq_true rfl) (fun ls _ => kt_ivV (ci := 1) O dX2_clean_17 cd_X2_isThere in_X2_isThere (Or.inl q512) q513 q514 hco (by decide) hy_X2_isThere) (fun u7 M8 hq => ?_) (fun E q M9 hx => kr_out O hx)
    replace h := hq
    clear hq
    refine kr_if_eq (tgt := 44) O dX2_clean_20 rfl (fun hc => ?_) (fun hc => ?_)
    · replace h := h.1 hc
      refine kr_iinc O dX2_clean_44 2 rfl (v := v2 + (1 : Int32)) rfl (Nat.le_of_ble_eq_true rfl) rfl rfl ?_
      refine kr_goto (tgt := 4) O dX2_clean_47 rfl ?_
      refine kr_sub [1, 2, 0] rfl ?_
      exact hn4 _ _ _ h
    · replace h := h.2 hc
      refine kr_iload_n O dX2_clean_23 rfl 1 rfl ?_
      refine kr_aload_n O dX2_clean_24 rfl 0 rfl ?_
      refine kr_aload_n O dX2_clean_25 rfl 0 rfl ?_
      obtain ⟨p9, ep9, h⟩ := h
      refine kr_getf O dX2_clean_26 fs_X2_18 ep9 ?_
      refine kr_iload_n O dX2_clean_29 rfl 2 rfl ?_
      obtain ⟨b10, rfl, h⟩ := h
      obtain ⟨hco, h⟩ := h
      refine kr_caR (rest := [va_rf (some a0), .int v1]) O cd_J3_get h (Nat.le_of_ble_eq_true rfl) (fun ls _ => kt_ivV (ci := 13) O dX2_clean_30 cd_J3_get in_J3_get (Or.inl q481) q482 q483 hco (by decide) hy_J3_get) (fun p11 M12 hq => ?_) (fun E q M9 hx => kr_out O hx)
      replace h := hq
      clear hq
      obtain ⟨b13, rfl, h⟩ := h
      obtain ⟨⟨cc1, hc1, hc2⟩, h⟩ := h
      refine kr_cast O dX2_clean_33 q517 hc1 hc2 ?_
      obtain ⟨hco, h⟩ := h
      refine kr_caI (rest := [.int v1]) O cd_X2_cleans h (Nat.le_of_ble_eq_true rfl) (fun ls _ => kt_ivV (ci := 1) O dX2_clean_36 cd_X2_cleans in_X2_cleans (Or.inl q1381) q1383 qs17 hco (by decide) hy_X2_cleans) (fun u14 M15 hq => ?_) (fun E q M9 hx => kr_out O hx)
      replace h := hq
      clear hq
      refine kr_caI (rest := [.int v1]) O cd_X1_asInt h (Nat.le_of_ble_eq_true rfl) (fun ls _ => kt_ivSN O dX2_clean_39 cd_X1_asInt in_X1_asInt q573 q574 hy_X1_asInt) (fun u16 M17 hq => ?_) (fun E q M9 hx => kr_out O hx)
      replace h := hq
      clear hq
      refine kr_iadd O dX2_clean_42 ?_
      refine kr_istore_n O dX2_clean_43 rfl (Nat.le_of_ble_eq_true rfl) rfl rfl ?_
      refine kr_iinc O dX2_clean_44 2 rfl (v := v2 + (1 : Int32)) rfl (Nat.le_of_ble_eq_true rfl) rfl rfl ?_
      refine kr_goto (tgt := 4) O dX2_clean_47 rfl ?_
      refine kr_sub [2, 1, 0] rfl ?_
      exact hn4 _ _ _ h
def vl_X2_clean_4 (w : kt_W) (gr : kt_g × kt_M) (d : Nat) (P : Option Value → kt_M → Prop) (X : String → Nat → kt_M → Prop)  (a0 : Nat) (v1 : Int32) (v2 : Int32) (M : kt_M) : Prop :=
  ∃ Inv : Nat → Int32 → Int32 → kt_M → Prop, (∃ k, Inv k v1 v2 M) ∧ ∀ k v1 v2 M, kt_le gr.1 gr.2 M → Inv k v1 v2 M → vc_X2_clean_4 w gr d P X (fun v1' v2' M' => ∃ k', k' < k ∧ Inv k' v1' v2' M') a0 v1 v2 M
theorem cl_X2_clean_4 {w : kt_W} {x : kt_X} {gr : kt_g × kt_M} {d : Nat} {P : Option Value → kt_M → Prop} {X : String → Nat → kt_M → Prop}  {a0 : Nat} {v1 : Int32} {v2 : Int32} {M : kt_M} (O : kt_O w x gr (d + 1) cX2_clean "KeyTurns$State" 3 ("clean", "()I") (Option.some Jvm.ClassFile.FieldType.int) [])  (h : vl_X2_clean_4 w gr d P X  a0 v1 v2 M) : kt_S w x 3 (kt_E w x P X) M 4 [(0, va_rf (some a0)), (1, .int v1), (2, .int v2)] [] := by
  obtain ⟨Inv, ⟨k, hk⟩, hb⟩ := h
  induction k using Nat.strongRecOn generalizing v1 v2 M with
  | ind k ih =>
    exact kr_le O fun hle => cj_X2_clean_4 O (fun v1' v2' M' hi => let ⟨k', h1, h2⟩ := hi; ih k' h1 h2) (hb k _ _ _ hle hk)
def vc_X2_clean (w : kt_W) (gr : kt_g × kt_M) (d : Nat) (P : Option Value → kt_M → Prop) (X : String → Nat → kt_M → Prop) (a0 : Nat) (M : kt_M) : Prop :=
  vl_X2_clean_4 w gr d P X  a0 (0 : Int32) (0 : Int32) M
theorem ce_X2_clean {w : kt_W} {g : kt_g} {d : Nat} {P : Option Value → kt_M → Prop} {X : String → Nat → kt_M → Prop} {a0 : Nat} {M : kt_M} (h : vc_X2_clean w (g, M) d P X a0 M) : kt_Sp w g (d + 1) yX2_clean kc_X2_clean [va_rf (some a0)] M P X := by
  refine kt_of (L0 := [(0, va_rf (some a0))]) (by decide +kernel) (Nat.le_of_ble_eq_true rfl) rfl fun x O => ?_
  replace O : kt_O w x (g, M) (d + 1) cX2_clean "KeyTurns$State" 3 ("clean", "()I") (Option.some Jvm.ClassFile.FieldType.int) [] := O
  unfold vc_X2_clean at h
  refine kr_iconst O dX2_clean_0 (v := (0 : Int32)) (by decide) ?_
  refine kr_istore_n O dX2_clean_1 rfl (Nat.le_of_ble_eq_true rfl) rfl rfl ?_
  refine kr_iconst O dX2_clean_2 (v := (0 : Int32)) (by decide) ?_
  refine kr_istore_n O dX2_clean_3 rfl (Nat.le_of_ble_eq_true rfl) rfl rfl ?_
  refine kr_sub [2, 1, 0] rfl ?_
  exact cl_X2_clean_4 O  h
def vc_X2_cleans_71 (w : kt_W) (gr : kt_g × kt_M) (d : Nat) (P : Option Value → kt_M → Prop) (X : String → Nat → kt_M → Prop) (nx11 : Int32 → Int32 → kt_M → Prop) (a0 : Nat) (a1 : Nat) (v2 : Int32) (v3 : Int32) (M : kt_M) : Prop :=
  ∃ p1, kt_gf M a1 26 = some (va_rf p1) ∧ ∃ b2, p1 = some b2 ∧ (kt_co M b2 = some 18) ∧ 
  kt_Ca w gr d yJ21_nextSetBit kc_J21_nextSetBit [va_rf (some b2), .int (v3 + (1 : Int32))] M (kt_pI fun u3 M4 => nx11 v2 u3 M4) X
theorem cj_X2_cleans_71 {w : kt_W} {x : kt_X} {gr : kt_g × kt_M} {d : Nat} {P : Option Value → kt_M → Prop} {X : String → Nat → kt_M → Prop} {nx11 : Int32 → Int32 → kt_M → Prop} {a0 : Nat} {a1 : Nat} {v2 : Int32} {v3 : Int32} {M : kt_M} (O : kt_O w x gr (d + 1) cX2_cleans "KeyTurns$State" 5 ("cleans", "(LKeyTurns$Sealed;)Z") (Option.some Jvm.ClassFile.FieldType.boolean) []) (hn11 : ∀ v2 v3 M, nx11 v2 v3 M → kt_S w x 5 (kt_E w x P X) M 11 [(0, va_rf (some a0)), (1, va_rf (some a1)), (2, .int v2), (3, .int v3)] []) (h : vc_X2_cleans_71 w gr d P X nx11 a0 a1 v2 v3 M) : kt_S w x 5 (kt_E w x P X) M 71 [(0, va_rf (some a0)), (1, va_rf (some a1)), (2, .int v2), (3, .int v3)] [] := by
  unfold vc_X2_cleans_71 at h
  refine kr_aload_n O dX2_cleans_71 rfl 1 rfl ?_
  obtain ⟨p1, ep1, h⟩ := h
  refine kr_getf O dX2_cleans_72 fs_X2_199 ep1 ?_
  refine kr_iload_n O dX2_cleans_75 rfl 3 rfl ?_
  refine kr_iconst O dX2_cleans_76 (v := (1 : Int32)) (by decide) ?_
  refine kr_iadd O dX2_cleans_77 ?_
  obtain ⟨b2, rfl, h⟩ := h
  obtain ⟨hco, h⟩ := h
  refine kr_caI (rest := []) O cd_J21_nextSetBit h (Nat.le_of_ble_eq_true rfl) (fun ls _ => kt_ivV (ci := 18) O dX2_cleans_78 cd_J21_nextSetBit in_J21_nextSetBit (Or.inl q536) q537 q538 hco (by decide) hy_J21_nextSetBit) (fun u3 M4 hq => ?_) (fun E q M9 hx => kr_out O hx)
  replace h := hq
  clear hq
  refine kr_istore_n O dX2_cleans_81 rfl (Nat.le_of_ble_eq_true rfl) rfl rfl ?_
  refine kr_goto (tgt := 11) O dX2_cleans_82 rfl ?_
  refine kr_sub [1, 2, 3, 0] rfl ?_
  exact hn11 _ _ _ h
def vc_X2_cleans_48 (w : kt_W) (gr : kt_g × kt_M) (d : Nat) (P : Option Value → kt_M → Prop) (X : String → Nat → kt_M → Prop) (nx11 : Int32 → Int32 → kt_M → Prop) (a0 : Nat) (a1 : Nat) (v2 : Int32) (v3 : Int32) (M : kt_M) : Prop :=
  ∃ p1, kt_gf M a1 26 = some (va_rf p1) ∧ ∃ b2, p1 = some b2 ∧ (kt_co M b2 = some 18) ∧ 
  kt_Ca w gr d yJ21_clear kc_J21_clear [va_rf (some b2), .int v3] M (kt_pV fun M3 => vc_X2_cleans_71 w gr d P X nx11 a0 a1 v2 v3 M3) X
theorem cj_X2_cleans_48 {w : kt_W} {x : kt_X} {gr : kt_g × kt_M} {d : Nat} {P : Option Value → kt_M → Prop} {X : String → Nat → kt_M → Prop} {nx11 : Int32 → Int32 → kt_M → Prop} {a0 : Nat} {a1 : Nat} {v2 : Int32} {v3 : Int32} {M : kt_M} (O : kt_O w x gr (d + 1) cX2_cleans "KeyTurns$State" 5 ("cleans", "(LKeyTurns$Sealed;)Z") (Option.some Jvm.ClassFile.FieldType.boolean) []) (hn11 : ∀ v2 v3 M, nx11 v2 v3 M → kt_S w x 5 (kt_E w x P X) M 11 [(0, va_rf (some a0)), (1, va_rf (some a1)), (2, .int v2), (3, .int v3)] []) (h : vc_X2_cleans_48 w gr d P X nx11 a0 a1 v2 v3 M) : kt_S w x 5 (kt_E w x P X) M 48 [(0, va_rf (some a0)), (1, va_rf (some a1)), (2, .int v2), (3, .int v3)] [] := by
  unfold vc_X2_cleans_48 at h
  refine kr_aload_n O dX2_cleans_48 rfl 1 rfl ?_
  obtain ⟨p1, ep1, h⟩ := h
  refine kr_getf O dX2_cleans_49 fs_X2_199 ep1 ?_
  refine kr_iload_n O dX2_cleans_52 rfl 3 rfl ?_
  obtain ⟨b2, rfl, h⟩ := h
  obtain ⟨hco, h⟩ := h
  refine kr_caV (rest := []) O cd_J21_clear h (Nat.le_of_ble_eq_true rfl) (fun ls _ => kt_ivV (ci := 18) O dX2_cleans_53 cd_J21_clear in_J21_clear (Or.inl q1391) q1392 q1393 hco (by decide) hy_J21_clear) (fun M3 hq => ?_) (fun E q M9 hx => kr_out O hx)
  replace h := hq
  clear hq
  refine kr_goto (tgt := 71) O dX2_cleans_56 rfl ?_
  exact cj_X2_cleans_71 O hn11 h
def vc_X2_cleans_11 (w : kt_W) (gr : kt_g × kt_M) (d : Nat) (P : Option Value → kt_M → Prop) (X : String → Nat → kt_M → Prop) (nx11 : Int32 → Int32 → kt_M → Prop) (a0 : Nat) (a1 : Nat) (v2 : Int32) (v3 : Int32) (M : kt_M) : Prop :=
  
    ((v3 < 0 → 
      ((¬ v2 = 0 → P (some (.int (0 : Int32))) M) ∧
      (v2 = 0 → (kt_co M a0 = some 1) ∧ 
      kt_Ca w gr d yX2_writing kc_X2_writing [va_rf (some a0)] M (kt_pI fun u1 M2 => 
        ((¬ u1 = (-1 : Int32) → ∃ p3, kt_gf M2 a1 26 = some (va_rf p3) ∧ (kt_co M2 a0 = some 1) ∧ 
        kt_Ca w gr d yX2_writing kc_X2_writing [va_rf (some a0)] M2 (kt_pI fun u4 M5 => ∃ b6, p3 = some b6 ∧ (kt_co M5 b6 = some 18) ∧ 
        kt_Ca w gr d yJ21_set kc_J21_set [va_rf (some b6), .int u4] M5 (kt_pV fun M7 => ∃ u8, kt_gf M7 a1 27 = some (.int u8) ∧ kt_hf gr M7 a1 27 ∧ ∀ M9, M9 = kt_pf M7 a1 27 (.int (u8 + (1 : Int32))) → P (some (.int (1 : Int32))) M9) X) X) ∧
        (u1 = (-1 : Int32) → P (some (.int (0 : Int32))) M2))) X))) ∧
    (¬ v3 < 0 → ∃ p10, kt_gf M a0 10 = some (va_rf p10) ∧ ∃ b11, p10 = some b11 ∧ (kt_co M b11 = some 13) ∧ 
    kt_Ca w gr d yJ3_get kc_J3_get [va_rf (some b11), .int v3] M (kt_pR fun p12 M13 => ∃ b14, p12 = some b14 ∧ (∃ c, kt_co M13 b14 = some c ∧ kt_is c "KeyTurns$Version") ∧ ∃ z15, kt_io M13 b14 "KeyTurns$Withdrawn" z15 ∧ 
      ((¬ z15 = 0 → vc_X2_cleans_48 w gr d P X nx11 a0 a1 v2 v3 M13) ∧
      (z15 = 0 → ∃ u16, kt_gf M13 a0 14 = some (.int u16) ∧ (kt_co M13 b14 = some 2 ∨ kt_co M13 b14 = some 3) ∧ 
      kt_Ca w gr d yX3_hasEnded kc_X3_hasEnded [va_rf (some b14), .int u16] M13 (kt_pI fun u17 M18 => 
        ((u17 = 0 → ∃ u19, kt_gf M18 a0 14 = some (.int u19) ∧ (kt_co M18 b14 = some 2 ∨ kt_co M18 b14 = some 3) ∧ 
        kt_Ca w gr d yX3_isInForce kc_X3_isInForce [va_rf (some b14), .int u19] M18 (kt_pI fun u20 M21 => vc_X2_cleans_71 w gr d P X nx11 a0 a1 (v2 ||| u20) v3 M21) X) ∧
        (¬ u17 = 0 → vc_X2_cleans_48 w gr d P X nx11 a0 a1 v2 v3 M18))) X))) X))
theorem cj_X2_cleans_11 {w : kt_W} {x : kt_X} {gr : kt_g × kt_M} {d : Nat} {P : Option Value → kt_M → Prop} {X : String → Nat → kt_M → Prop} {nx11 : Int32 → Int32 → kt_M → Prop} {a0 : Nat} {a1 : Nat} {v2 : Int32} {v3 : Int32} {M : kt_M} (O : kt_O w x gr (d + 1) cX2_cleans "KeyTurns$State" 5 ("cleans", "(LKeyTurns$Sealed;)Z") (Option.some Jvm.ClassFile.FieldType.boolean) []) (hn11 : ∀ v2 v3 M, nx11 v2 v3 M → kt_S w x 5 (kt_E w x P X) M 11 [(0, va_rf (some a0)), (1, va_rf (some a1)), (2, .int v2), (3, .int v3)] []) (h : vc_X2_cleans_11 w gr d P X nx11 a0 a1 v2 v3 M) : kt_S w x 5 (kt_E w x P X) M 11 [(0, va_rf (some a0)), (1, va_rf (some a1)), (2, .int v2), (3, .int v3)] [] := by
  unfold vc_X2_cleans_11 at h
  refine kr_iload_n O dX2_cleans_11 rfl 3 rfl ?_
  refine kr_if_lt (tgt := 85) O dX2_cleans_12 rfl (fun hc => ?_) (fun hc => ?_)
  · replace h := h.1 hc
    refine kr_iload_n O dX2_cleans_85 rfl 2 rfl ?_
    refine kr_if_ne (tgt := 97) O dX2_cleans_86 rfl (fun hc => ?_) (fun hc => ?_)
    · replace h := h.1 hc
      refine kr_iconst O dX2_cleans_97 (v := (0 : Int32)) (by decide) ?_
      exact kr_iret O dX2_cleans_98 (by decide) h
    · replace h := h.2 hc
      refine kr_aload_n O dX2_cleans_89 rfl 0 rfl ?_
      obtain ⟨hco, h⟩ := h
      refine kr_caI (rest := []) O cd_X2_writing h (Nat.le_of_ble_eq_true rfl) (fun ls _ => kt_ivV (ci := 1) O dX2_cleans_90 cd_X2_writing in_X2_writing (Or.inl q473) q474 q475 hco (by decide) hy_X2_writing) (fun u1 M2 hq => ?_) (fun E q M9 hx => kr_out O hx)
      replace h := hq
      clear hq
      refine kr_iconst O dX2_cleans_93 (v := (-1 : Int32)) (by decide) ?_
      refine kr_icmp_ne (tgt := 99) O dX2_cleans_94 rfl (fun hc => ?_) (fun hc => ?_)
      · replace h := h.1 hc
        refine kr_aload_n O dX2_cleans_99 rfl 1 rfl ?_
        obtain ⟨p3, ep3, h⟩ := h
        refine kr_getf O dX2_cleans_100 fs_X2_199 ep3 ?_
        refine kr_aload_n O dX2_cleans_103 rfl 0 rfl ?_
        obtain ⟨hco, h⟩ := h
        refine kr_caI (rest := [va_rf p3]) O cd_X2_writing h (Nat.le_of_ble_eq_true rfl) (fun ls _ => kt_ivV (ci := 1) O dX2_cleans_104 cd_X2_writing in_X2_writing (Or.inl q473) q474 q475 hco (by decide) hy_X2_writing) (fun u4 M5 hq => ?_) (fun E q M9 hx => kr_out O hx)
        replace h := hq
        clear hq
        obtain ⟨b6, rfl, h⟩ := h
        obtain ⟨hco, h⟩ := h
        refine kr_caV (rest := []) O cd_J21_set h (Nat.le_of_ble_eq_true rfl) (fun ls _ => kt_ivV (ci := 18) O dX2_cleans_107 cd_J21_set in_J21_set (Or.inl q1399) q1400 q1401 hco (by decide) hy_J21_set) (fun M7 hq => ?_) (fun E q M9 hx => kr_out O hx)
        replace h := hq
        clear hq
        refine kr_aload_n O dX2_cleans_110 rfl 1 rfl ?_
        refine kr_dup O dX2_cleans_111 (kt_nrf _) ?_
        obtain ⟨u8, eu8, h⟩ := h
        refine kr_getf O dX2_cleans_112 fs_X2_228 eu8 ?_
        refine kr_iconst O dX2_cleans_115 (v := (1 : Int32)) (by decide) ?_
        refine kr_iadd O dX2_cleans_116 ?_
        obtain ⟨hw, h⟩ := h
        refine kr_putf O dX2_cleans_117 fs_X2_228 (Or.inl rfl) ⟨rfl, rfl⟩ hw (kr_nmM fun M9 hM9 => ?_)
        replace h := h M9 hM9
        refine kr_iconst O dX2_cleans_120 (v := (1 : Int32)) (by decide) ?_
        exact kr_iret O dX2_cleans_121 (by decide) h
      · replace h := h.2 hc
        refine kr_iconst O dX2_cleans_97 (v := (0 : Int32)) (by decide) ?_
        exact kr_iret O dX2_cleans_98 (by decide) h
  · replace h := h.2 hc
    refine kr_aload_n O dX2_cleans_15 rfl 0 rfl ?_
    obtain ⟨p10, ep10, h⟩ := h
    refine kr_getf O dX2_cleans_16 fs_X2_12 ep10 ?_
    refine kr_iload_n O dX2_cleans_19 rfl 3 rfl ?_
    obtain ⟨b11, rfl, h⟩ := h
    obtain ⟨hco, h⟩ := h
    refine kr_caR (rest := []) O cd_J3_get h (Nat.le_of_ble_eq_true rfl) (fun ls _ => kt_ivV (ci := 13) O dX2_cleans_20 cd_J3_get in_J3_get (Or.inl q481) q482 q483 hco (by decide) hy_J3_get) (fun p12 M13 hq => ?_) (fun E q M9 hx => kr_out O hx)
    replace h := hq
    clear hq
    obtain ⟨b14, rfl, h⟩ := h
    obtain ⟨⟨cc1, hc1, hc2⟩, h⟩ := h
    refine kr_cast O dX2_cleans_23 q495 hc1 hc2 ?_
    refine kr_astore O dX2_cleans_26 (Nat.le_of_ble_eq_true rfl) rfl rfl ?_
    refine kr_aload O dX2_cleans_28 0 rfl ?_
    obtain ⟨z15, hz15, h⟩ := h
    refine kr_inst O dX2_cleans_30 q1361 hz15 ?_
    refine kr_if_ne (tgt := 48) O dX2_cleans_33 rfl (fun hc => ?_) (fun hc => ?_)
    · replace h := h.1 hc
      refine kr_sub [1, 2, 3, 4] rfl ?_
      exact cj_X2_cleans_48 O hn11 h
    · replace h := h.2 hc
      refine kr_aload O dX2_cleans_36 0 rfl ?_
      refine kr_aload_n O dX2_cleans_38 rfl 1 rfl ?_
      obtain ⟨u16, eu16, h⟩ := h
      refine kr_getf O dX2_cleans_39 fs_X2_98 eu16 ?_
      obtain ⟨hco, h⟩ := h
      refine kr_caI (rest := []) O cd_X3_hasEnded h (Nat.le_of_ble_eq_true rfl) (fun ls _ => by rcases hco with hco | hco <;> first | exact kt_ivV (ci := 2) O dX2_cleans_42 cd_X3_hasEnded in_X3_hasEnded (Or.inl q1385) q1386 q1388 hco (by decide) hy_X3_hasEnded | exact kt_ivV (ci := 3) O dX2_cleans_42 cd_X3_hasEnded in_X3_hasEnded (Or.inl q1385) q1386 q1389 hco (by decide) hy_X3_hasEnded) (fun u17 M18 hq => ?_) (fun E q M9 hx => kr_out O hx)
      replace h := hq
      clear hq
      refine kr_if_eq (tgt := 59) O dX2_cleans_45 rfl (fun hc => ?_) (fun hc => ?_)
      · replace h := h.1 hc
        refine kr_iload_n O dX2_cleans_59 rfl 3 rfl ?_
        refine kr_aload O dX2_cleans_60 0 rfl ?_
        refine kr_aload_n O dX2_cleans_62 rfl 1 rfl ?_
        obtain ⟨u19, eu19, h⟩ := h
        refine kr_getf O dX2_cleans_63 fs_X2_98 eu19 ?_
        obtain ⟨hco, h⟩ := h
        refine kr_caI (rest := [.int v2]) O cd_X3_isInForce h (Nat.le_of_ble_eq_true rfl) (fun ls _ => by rcases hco with hco | hco <;> first | exact kt_ivV (ci := 2) O dX2_cleans_66 cd_X3_isInForce in_X3_isInForce (Or.inl q496) q497 q499 hco (by decide) hy_X3_isInForce | exact kt_ivV (ci := 3) O dX2_cleans_66 cd_X3_isInForce in_X3_isInForce (Or.inl q496) q497 q500 hco (by decide) hy_X3_isInForce) (fun u20 M21 hq => ?_) (fun E q M9 hx => kr_out O hx)
        replace h := hq
        clear hq
        refine kr_ior O dX2_cleans_69 ?_
        refine kr_istore_n O dX2_cleans_70 rfl (Nat.le_of_ble_eq_true rfl) rfl rfl ?_
        refine kr_sub [2, 3, 0, 4] rfl ?_
        exact cj_X2_cleans_71 O hn11 h
      · replace h := h.2 hc
        refine kr_sub [1, 2, 3, 4] rfl ?_
        exact cj_X2_cleans_48 O hn11 h
def vl_X2_cleans_11 (w : kt_W) (gr : kt_g × kt_M) (d : Nat) (P : Option Value → kt_M → Prop) (X : String → Nat → kt_M → Prop)  (a0 : Nat) (a1 : Nat) (v2 : Int32) (v3 : Int32) (M : kt_M) : Prop :=
  ∃ Inv : Nat → Int32 → Int32 → kt_M → Prop, (∃ k, Inv k v2 v3 M) ∧ ∀ k v2 v3 M, kt_le gr.1 gr.2 M → Inv k v2 v3 M → vc_X2_cleans_11 w gr d P X (fun v2' v3' M' => ∃ k', k' < k ∧ Inv k' v2' v3' M') a0 a1 v2 v3 M
theorem cl_X2_cleans_11 {w : kt_W} {x : kt_X} {gr : kt_g × kt_M} {d : Nat} {P : Option Value → kt_M → Prop} {X : String → Nat → kt_M → Prop}  {a0 : Nat} {a1 : Nat} {v2 : Int32} {v3 : Int32} {M : kt_M} (O : kt_O w x gr (d + 1) cX2_cleans "KeyTurns$State" 5 ("cleans", "(LKeyTurns$Sealed;)Z") (Option.some Jvm.ClassFile.FieldType.boolean) [])  (h : vl_X2_cleans_11 w gr d P X  a0 a1 v2 v3 M) : kt_S w x 5 (kt_E w x P X) M 11 [(0, va_rf (some a0)), (1, va_rf (some a1)), (2, .int v2), (3, .int v3)] [] := by
  obtain ⟨Inv, ⟨k, hk⟩, hb⟩ := h
  induction k using Nat.strongRecOn generalizing v2 v3 M with
  | ind k ih =>
    exact kr_le O fun hle => cj_X2_cleans_11 O (fun v2' v3' M' hi => let ⟨k', h1, h2⟩ := hi; ih k' h1 h2) (hb k _ _ _ hle hk)
def vc_X2_cleans (w : kt_W) (gr : kt_g × kt_M) (d : Nat) (P : Option Value → kt_M → Prop) (X : String → Nat → kt_M → Prop) (a0 : Nat) (r1 : Option Nat) (M : kt_M) : Prop :=
  ∃ b1, r1 = some b1 ∧ ∃ p2, kt_gf M b1 26 = some (va_rf p2) ∧ ∃ b3, p2 = some b3 ∧ (kt_co M b3 = some 18) ∧ 
  kt_Ca w gr d yJ21_nextSetBit kc_J21_nextSetBit [va_rf (some b3), .int (0 : Int32)] M (kt_pI fun u4 M5 => vl_X2_cleans_11 w gr d P X  a0 b1 (0 : Int32) u4 M5) X
theorem ce_X2_cleans {w : kt_W} {g : kt_g} {d : Nat} {P : Option Value → kt_M → Prop} {X : String → Nat → kt_M → Prop} {a0 : Nat} {r1 : Option Nat} {M : kt_M} (h : vc_X2_cleans w (g, M) d P X a0 r1 M) : kt_Sp w g (d + 1) yX2_cleans kc_X2_cleans [va_rf (some a0), va_rf r1] M P X := by
  refine kt_of (L0 := [(0, va_rf (some a0)), (1, va_rf r1)]) (by decide +kernel) (by simp only [kt_lgR, kt_lgI, kt_lgN] <;> exact Nat.le_of_ble_eq_true rfl) (by simp only [kt_lvR, kt_lvI, kt_lvN] <;> rfl) fun x O => ?_
  replace O : kt_O w x (g, M) (d + 1) cX2_cleans "KeyTurns$State" 5 ("cleans", "(LKeyTurns$Sealed;)Z") (Option.some Jvm.ClassFile.FieldType.boolean) [] := O
  unfold vc_X2_cleans at h
  refine kr_iconst O dX2_cleans_0 (v := (0 : Int32)) (by decide) ?_
  refine kr_istore_n O dX2_cleans_1 rfl (Nat.le_of_ble_eq_true rfl) (by simp [kt_nw, kt_nrf, kt_cI, kt_cJ, kt_cF, kt_cD, kt_cR, kt_cU]) rfl ?_
  refine kr_aload_n O dX2_cleans_2 rfl 2 rfl ?_
  obtain ⟨b1, rfl, h⟩ := h
  obtain ⟨p2, ep2, h⟩ := h
  refine kr_getf O dX2_cleans_3 fs_X2_199 ep2 ?_
  refine kr_iconst O dX2_cleans_6 (v := (0 : Int32)) (by decide) ?_
  obtain ⟨b3, rfl, h⟩ := h
  obtain ⟨hco, h⟩ := h
  refine kr_caI (rest := []) O cd_J21_nextSetBit h (Nat.le_of_ble_eq_true rfl) (fun ls _ => kt_ivV (ci := 18) O dX2_cleans_7 cd_J21_nextSetBit in_J21_nextSetBit (Or.inl q536) q537 q538 hco (by decide) hy_J21_nextSetBit) (fun u4 M5 hq => ?_) (fun E q M9 hx => kr_out O hx)
  replace h := hq
  clear hq
  refine kr_istore_n O dX2_cleans_10 rfl (Nat.le_of_ble_eq_true rfl) rfl rfl ?_
  refine kr_sub [2, 3, 1, 0] rfl ?_
  exact cl_X2_cleans_11 O  h
def vc_X2_make_31 (w : kt_W) (gr : kt_g × kt_M) (d : Nat) (P : Option Value → kt_M → Prop) (X : String → Nat → kt_M → Prop)  (a0 : Nat) (a1 : Nat) (M : kt_M) : Prop :=
  ∃ p1, kt_gf M a0 11 = some (va_rf p1) ∧ ∃ b2, p1 = some b2 ∧ (kt_co M b2 = some 13) ∧ 
  kt_Ca w gr d yJ3_add kc_J3_add [va_rf (some b2), va_rf (some a1)] M (kt_pI fun u3 M4 => P (some (va_rf (some a1))) M4) X
theorem cj_X2_make_31 {w : kt_W} {x : kt_X} {gr : kt_g × kt_M} {d : Nat} {P : Option Value → kt_M → Prop} {X : String → Nat → kt_M → Prop}  {a0 : Nat} {a1 : Nat} {M : kt_M} (O : kt_O w x gr (d + 1) cX2_make "KeyTurns$State" 2 ("make", "()LKeyTurns$Sealed;") (Option.some (Jvm.ClassFile.FieldType.object "KeyTurns$Sealed")) [])  (h : vc_X2_make_31 w gr d P X  a0 a1 M) : kt_S w x 2 (kt_E w x P X) M 31 [(0, va_rf (some a0)), (1, va_rf (some a1))] [] := by
  unfold vc_X2_make_31 at h
  refine kr_aload_n O dX2_make_31 rfl 0 rfl ?_
  obtain ⟨p1, ep1, h⟩ := h
  refine kr_getf O dX2_make_32 fs_X2_18 ep1 ?_
  refine kr_aload_n O dX2_make_35 rfl 1 rfl ?_
  obtain ⟨b2, rfl, h⟩ := h
  obtain ⟨hco, h⟩ := h
  refine kr_caI (rest := []) O cd_J3_add h (Nat.le_of_ble_eq_true rfl) (fun ls _ => kt_ivV (ci := 13) O dX2_make_36 cd_J3_add in_J3_add (Or.inl q737) q348 q349 hco (by decide) hy_J3_add) (fun u3 M4 hq => ?_) (fun E q M9 hx => kr_out O hx)
  replace h := hq
  clear hq
  refine kr_pop O dX2_make_39 rfl ?_
  refine kr_aload_n O dX2_make_40 rfl 1 rfl ?_
  exact kr_aret O dX2_make_41 (by first | exact Or.inl ⟨_, rfl⟩ | exact Or.inr ⟨_, rfl⟩) h
def vc_X2_make (w : kt_W) (gr : kt_g × kt_M) (d : Nat) (P : Option Value → kt_M → Prop) (X : String → Nat → kt_M → Prop) (a0 : Nat) (M : kt_M) : Prop :=
  kt_fits w M 4 ∧ ∃ t1, ∀ M2, M2 = kt_new M 4 (t1 + 2, .inr (4, [.int 0, va_rf none, .int 0, .int 0])) → ∃ u3, kt_gf M2 a0 14 = some (.int u3) ∧ 
  kt_Ca w gr d yX10_init kc_X10_init [va_rf (some M.1), .int u3] M2 (kt_pV fun M4 => (kt_co M4 a0 = some 1) ∧ 
  kt_Ca w gr d yX2_writing kc_X2_writing [va_rf (some a0)] M4 (kt_pI fun u5 M6 => 
    ((u5 = (-1 : Int32) → vc_X2_make_31 w gr d P X  a0 M.1 M6) ∧
    (¬ u5 = (-1 : Int32) → ∃ p7, kt_gf M6 M.1 26 = some (va_rf p7) ∧ (kt_co M6 a0 = some 1) ∧ 
    kt_Ca w gr d yX2_writing kc_X2_writing [va_rf (some a0)] M6 (kt_pI fun u8 M9 => ∃ b10, p7 = some b10 ∧ (kt_co M9 b10 = some 18) ∧ 
    kt_Ca w gr d yJ21_set kc_J21_set [va_rf (some b10), .int u8] M9 (kt_pV fun M11 => vc_X2_make_31 w gr d P X  a0 M.1 M11) X) X))) X) X
theorem ce_X2_make {w : kt_W} {g : kt_g} {d : Nat} {P : Option Value → kt_M → Prop} {X : String → Nat → kt_M → Prop} {a0 : Nat} {M : kt_M} (h : vc_X2_make w (g, M) d P X a0 M) : kt_Sp w g (d + 1) yX2_make kc_X2_make [va_rf (some a0)] M P X := by
  refine kt_of (L0 := [(0, va_rf (some a0))]) (by decide +kernel) (Nat.le_of_ble_eq_true rfl) rfl fun x O => ?_
  replace O : kt_O w x (g, M) (d + 1) cX2_make "KeyTurns$State" 2 ("make", "()LKeyTurns$Sealed;") (Option.some (Jvm.ClassFile.FieldType.object "KeyTurns$Sealed")) [] := O
  unfold vc_X2_make at h
  obtain ⟨hf, t1, h⟩ := h
  refine kr_new (c := 4) (r := (RX10, TX10, 4)) (fs := [.int 0, va_rf none, .int 0, .int 0]) t1 O dX2_make_0 rfl q517 q743 q142 rfl hf (kr_nmM fun M2 hM2 => ?_)
  replace h := h M2 hM2
  refine kr_dup O dX2_make_3 (kt_nrf _) ?_
  refine kr_aload_n O dX2_make_4 rfl 0 rfl ?_
  obtain ⟨u3, eu3, h⟩ := h
  refine kr_getf O dX2_make_5 fs_X2_98 eu3 ?_
  refine kr_caV (rest := [va_rf (some M.1)]) O cd_X10_init h (Nat.le_of_ble_eq_true rfl) (fun ls _ => kt_ivI O dX2_make_8 cd_X10_init in_X10_init (Or.inl q1415) q745 hi_X10_init) (fun M4 hq => ?_) (fun E q M9 hx => kr_out O hx)
  replace h := hq
  clear hq
  refine kr_astore_n O dX2_make_11 rfl (Nat.le_of_ble_eq_true rfl) rfl rfl ?_
  refine kr_aload_n O dX2_make_12 rfl 1 rfl ?_
  obtain ⟨hco, h⟩ := h
  refine kr_caI (rest := []) O cd_X2_writing h (Nat.le_of_ble_eq_true rfl) (fun ls _ => kt_ivV (ci := 1) O dX2_make_13 cd_X2_writing in_X2_writing (Or.inl q473) q474 q475 hco (by decide) hy_X2_writing) (fun u5 M6 hq => ?_) (fun E q M9 hx => kr_out O hx)
  replace h := hq
  clear hq
  refine kr_iconst O dX2_make_16 (v := (-1 : Int32)) (by decide) ?_
  refine kr_icmp_eq (tgt := 31) O dX2_make_17 rfl (fun hc => ?_) (fun hc => ?_)
  · replace h := h.1 hc
    refine kr_sub [1, 0] rfl ?_
    exact cj_X2_make_31 O  h
  · replace h := h.2 hc
    refine kr_aload_n O dX2_make_20 rfl 0 rfl ?_
    obtain ⟨p7, ep7, h⟩ := h
    refine kr_getf O dX2_make_21 fs_X2_199 ep7 ?_
    refine kr_aload_n O dX2_make_24 rfl 1 rfl ?_
    obtain ⟨hco, h⟩ := h
    refine kr_caI (rest := [va_rf p7]) O cd_X2_writing h (Nat.le_of_ble_eq_true rfl) (fun ls _ => kt_ivV (ci := 1) O dX2_make_25 cd_X2_writing in_X2_writing (Or.inl q473) q474 q475 hco (by decide) hy_X2_writing) (fun u8 M9 hq => ?_) (fun E q M9 hx => kr_out O hx)
    replace h := hq
    clear hq
    obtain ⟨b10, rfl, h⟩ := h
    obtain ⟨hco, h⟩ := h
    refine kr_caV (rest := []) O cd_J21_set h (Nat.le_of_ble_eq_true rfl) (fun ls _ => kt_ivV (ci := 18) O dX2_make_28 cd_J21_set in_J21_set (Or.inl q1399) q1400 q1401 hco (by decide) hy_J21_set) (fun M11 hq => ?_) (fun E q M9 hx => kr_out O hx)
    replace h := hq
    clear hq
    refine kr_sub [1, 0] rfl ?_
    exact cj_X2_make_31 O  h
def vc_X2_ask_105 (w : kt_W) (gr : kt_g × kt_M) (d : Nat) (P : Option Value → kt_M → Prop) (X : String → Nat → kt_M → Prop) (nx31 : Int32 → kt_M → Prop) (a0 : Nat) (a1 : Nat) (v2 : Int32) (v3 : Int32) (s0 : Int32) (s1 : Int32) (sa2 : Nat) (M : kt_M) : Prop :=
  kt_hf gr M sa2 34 ∧ ∀ M1, M1 = kt_pf M sa2 34 (.int (s1 ||| s0)) → nx31 (v3 + (1 : Int32)) M1
theorem cj_X2_ask_105 {w : kt_W} {x : kt_X} {gr : kt_g × kt_M} {d : Nat} {P : Option Value → kt_M → Prop} {X : String → Nat → kt_M → Prop} {nx31 : Int32 → kt_M → Prop} {a0 : Nat} {a1 : Nat} {v2 : Int32} {v3 : Int32} {s0 : Int32} {s1 : Int32} {sa2 : Nat} {M : kt_M} (O : kt_O w x gr (d + 1) cX2_ask "KeyTurns$State" 4 ("ask", "(LKeyTurns$Client;)I") (Option.some Jvm.ClassFile.FieldType.int) []) (hn31 : ∀ v3 M, nx31 v3 M → kt_S w x 4 (kt_E w x P X) M 31 [(0, va_rf (some a0)), (1, va_rf (some a1)), (2, .int v2), (3, .int v3)] []) (h : vc_X2_ask_105 w gr d P X nx31 a0 a1 v2 v3 s0 s1 sa2 M) : kt_S w x 4 (kt_E w x P X) M 105 [(0, va_rf (some a0)), (1, va_rf (some a1)), (2, .int v2), (3, .int v3)] [.int s0, .int s1, va_rf (some sa2)] := by
  unfold vc_X2_ask_105 at h
  refine kr_ior O dX2_ask_105 ?_
  obtain ⟨hw, h⟩ := h
  refine kr_putf O dX2_ask_106 fs_X2_250 (Or.inl rfl) ⟨rfl, rfl⟩ hw (kr_nmM fun M1 hM1 => ?_)
  replace h := h M1 hM1
  refine kr_iinc O dX2_ask_109 3 rfl (v := v3 + (1 : Int32)) rfl (Nat.le_of_ble_eq_true rfl) rfl rfl ?_
  refine kr_goto (tgt := 31) O dX2_ask_112 rfl ?_
  refine kr_sub [1, 2, 3, 0] rfl ?_
  exact hn31 _ _ h
def vc_X2_ask_31 (w : kt_W) (gr : kt_g × kt_M) (d : Nat) (P : Option Value → kt_M → Prop) (X : String → Nat → kt_M → Prop) (nx31 : Int32 → kt_M → Prop) (a0 : Nat) (a1 : Nat) (v2 : Int32) (v3 : Int32) (M : kt_M) : Prop :=
  ∃ u1, kt_gf M a1 33 = some (.int u1) ∧ 
    ((u1 ≤ v3 → ∃ u2, kt_gf M a1 33 = some (.int u2) ∧ P (some (.int (u2 - v2))) M) ∧
    (¬ u1 ≤ v3 → ∃ p3, kt_gf M a1 35 = some (va_rf p3) ∧ ∃ p4, kt_gf M a0 10 = some (va_rf p4) ∧ ∃ b5, p4 = some b5 ∧ (kt_co M b5 = some 13) ∧ 
    kt_Ca w gr d yJ3_get kc_J3_get [va_rf (some b5), .int v3] M (kt_pR fun p6 M7 => ∃ b8, p6 = some b8 ∧ (∃ c, kt_co M7 b8 = some c ∧ kt_is c "KeyTurns$Version") ∧ ∃ u9, kt_gf M7 b8 22 = some (.int u9) ∧ ∃ b10, p3 = some b10 ∧ kt_hii gr 0 M7 b10 v3 ∧ ∀ M11, M11 = kt_si M7 b10 v3 u9 → ∃ p12, kt_gf M11 a1 36 = some (va_rf p12) ∧ ∃ p13, kt_gf M11 a0 10 = some (va_rf p13) ∧ ∃ b14, p13 = some b14 ∧ (kt_co M11 b14 = some 13) ∧ 
    kt_Ca w gr d yJ3_get kc_J3_get [va_rf (some b14), .int v3] M11 (kt_pR fun p15 M16 => ∃ b17, p15 = some b17 ∧ (∃ c, kt_co M16 b17 = some c ∧ kt_is c "KeyTurns$Version") ∧ ∃ u18, kt_gf M16 b17 23 = some (.int u18) ∧ ∃ b19, p12 = some b19 ∧ kt_hii gr 0 M16 b19 v3 ∧ ∀ M20, M20 = kt_si M16 b19 v3 u18 → ∃ u21, kt_gf M20 a1 34 = some (.int u21) ∧ ∃ p22, kt_gf M20 a0 10 = some (va_rf p22) ∧ ∃ b23, p22 = some b23 ∧ (kt_co M20 b23 = some 13) ∧ 
    kt_Ca w gr d yJ3_get kc_J3_get [va_rf (some b23), .int v3] M20 (kt_pR fun p24 M25 => ∃ b26, p24 = some b26 ∧ ∃ z27, kt_io M25 b26 "KeyTurns$Withdrawn" z27 ∧ 
      ((z27 = 0 → vc_X2_ask_105 w gr d P X nx31 a0 a1 v2 v3 (0 : Int32) u21 a1 M25) ∧
      (¬ z27 = 0 → vc_X2_ask_105 w gr d P X nx31 a0 a1 v2 v3 ((1 : Int32) <<< (v3 &&& 31)) u21 a1 M25))) X) X) X))
theorem cj_X2_ask_31 {w : kt_W} {x : kt_X} {gr : kt_g × kt_M} {d : Nat} {P : Option Value → kt_M → Prop} {X : String → Nat → kt_M → Prop} {nx31 : Int32 → kt_M → Prop} {a0 : Nat} {a1 : Nat} {v2 : Int32} {v3 : Int32} {M : kt_M} (O : kt_O w x gr (d + 1) cX2_ask "KeyTurns$State" 4 ("ask", "(LKeyTurns$Client;)I") (Option.some Jvm.ClassFile.FieldType.int) []) (hn31 : ∀ v3 M, nx31 v3 M → kt_S w x 4 (kt_E w x P X) M 31 [(0, va_rf (some a0)), (1, va_rf (some a1)), (2, .int v2), (3, .int v3)] []) (h : vc_X2_ask_31 w gr d P X nx31 a0 a1 v2 v3 M) : kt_S w x 4 (kt_E w x P X) M 31 [(0, va_rf (some a0)), (1, va_rf (some a1)), (2, .int v2), (3, .int v3)] [] := by
  unfold vc_X2_ask_31 at h
  refine kr_iload_n O dX2_ask_31 rfl 3 rfl ?_
  refine kr_aload_n O dX2_ask_32 rfl 1 rfl ?_
  obtain ⟨u1, eu1, h⟩ := h
  refine kr_getf O dX2_ask_33 fs_X2_244 eu1 ?_
  refine kr_icmp_ge (tgt := 115) O dX2_ask_36 rfl (fun hc => ?_) (fun hc => ?_)
  · replace h := h.1 hc
    refine kr_aload_n O dX2_ask_115 rfl 1 rfl ?_
    obtain ⟨u2, eu2, h⟩ := h
    refine kr_getf O dX2_ask_116 fs_X2_244 eu2 ?_
    refine kr_iload_n O dX2_ask_119 rfl 2 rfl ?_
    refine kr_isub O dX2_ask_120 ?_
    exact kr_iret O dX2_ask_121 rfl h
  · replace h := h.2 hc
    refine kr_aload_n O dX2_ask_39 rfl 1 rfl ?_
    obtain ⟨p3, ep3, h⟩ := h
    refine kr_getf O dX2_ask_40 fs_X2_253 ep3 ?_
    refine kr_iload_n O dX2_ask_43 rfl 3 rfl ?_
    refine kr_aload_n O dX2_ask_44 rfl 0 rfl ?_
    obtain ⟨p4, ep4, h⟩ := h
    refine kr_getf O dX2_ask_45 fs_X2_12 ep4 ?_
    refine kr_iload_n O dX2_ask_48 rfl 3 rfl ?_
    obtain ⟨b5, rfl, h⟩ := h
    obtain ⟨hco, h⟩ := h
    refine kr_caR (rest := [.int v3, va_rf p3]) O cd_J3_get h (Nat.le_of_ble_eq_true rfl) (fun ls _ => kt_ivV (ci := 13) O dX2_ask_49 cd_J3_get in_J3_get (Or.inl q481) q482 q483 hco (by decide) hy_J3_get) (fun p6 M7 hq => ?_) (fun E q M9 hx => kr_out O hx)
    replace h := hq
    clear hq
    obtain ⟨b8, rfl, h⟩ := h
    obtain ⟨⟨cc1, hc1, hc2⟩, h⟩ := h
    refine kr_cast O dX2_ask_52 q495 hc1 hc2 ?_
    obtain ⟨u9, eu9, h⟩ := h
    refine kr_getf O dX2_ask_55 fs_X2_159 eu9 ?_
    obtain ⟨b10, rfl, h⟩ := h
    obtain ⟨hw, h⟩ := h
    refine kr_iastore O dX2_ask_58 hw (kr_nmM fun M11 hM11 => ?_)
    replace h := h M11 hM11
    refine kr_aload_n O dX2_ask_59 rfl 1 rfl ?_
    obtain ⟨p12, ep12, h⟩ := h
    refine kr_getf O dX2_ask_60 fs_X2_256 ep12 ?_
    refine kr_iload_n O dX2_ask_63 rfl 3 rfl ?_
    refine kr_aload_n O dX2_ask_64 rfl 0 rfl ?_
    obtain ⟨p13, ep13, h⟩ := h
    refine kr_getf O dX2_ask_65 fs_X2_12 ep13 ?_
    refine kr_iload_n O dX2_ask_68 rfl 3 rfl ?_
    obtain ⟨b14, rfl, h⟩ := h
    obtain ⟨hco, h⟩ := h
    refine kr_caR (rest := [.int v3, va_rf p12]) O cd_J3_get h (Nat.le_of_ble_eq_true rfl) (fun ls _ => kt_ivV (ci := 13) O dX2_ask_69 cd_J3_get in_J3_get (Or.inl q481) q482 q483 hco (by decide) hy_J3_get) (fun p15 M16 hq => ?_) (fun E q M9 hx => kr_out O hx)
    replace h := hq
    clear hq
    obtain ⟨b17, rfl, h⟩ := h
    obtain ⟨⟨cc1, hc1, hc2⟩, h⟩ := h
    refine kr_cast O dX2_ask_72 q495 hc1 hc2 ?_
    obtain ⟨u18, eu18, h⟩ := h
    refine kr_getf O dX2_ask_75 fs_X2_128 eu18 ?_
    obtain ⟨b19, rfl, h⟩ := h
    obtain ⟨hw, h⟩ := h
    refine kr_iastore O dX2_ask_78 hw (kr_nmM fun M20 hM20 => ?_)
    replace h := h M20 hM20
    refine kr_aload_n O dX2_ask_79 rfl 1 rfl ?_
    refine kr_dup O dX2_ask_80 (kt_nrf _) ?_
    obtain ⟨u21, eu21, h⟩ := h
    refine kr_getf O dX2_ask_81 fs_X2_250 eu21 ?_
    refine kr_aload_n O dX2_ask_84 rfl 0 rfl ?_
    obtain ⟨p22, ep22, h⟩ := h
    refine kr_getf O dX2_ask_85 fs_X2_12 ep22 ?_
    refine kr_iload_n O dX2_ask_88 rfl 3 rfl ?_
    obtain ⟨b23, rfl, h⟩ := h
    obtain ⟨hco, h⟩ := h
    refine kr_caR (rest := [.int u21, va_rf (some a1)]) O cd_J3_get h (Nat.le_of_ble_eq_true rfl) (fun ls _ => kt_ivV (ci := 13) O dX2_ask_89 cd_J3_get in_J3_get (Or.inl q481) q482 q483 hco (by decide) hy_J3_get) (fun p24 M25 hq => ?_) (fun E q M9 hx => kr_out O hx)
    replace h := hq
    clear hq
    obtain ⟨b26, rfl, h⟩ := h
    obtain ⟨z27, hz27, h⟩ := h
    refine kr_inst O dX2_ask_92 q1361 hz27 ?_
    refine kr_if_eq (tgt := 104) O dX2_ask_95 rfl (fun hc => ?_) (fun hc => ?_)
    · replace h := h.1 hc
      refine kr_iconst O dX2_ask_104 (v := (0 : Int32)) (by decide) ?_
      exact cj_X2_ask_105 O hn31 h
    · replace h := h.2 hc
      refine kr_iconst O dX2_ask_98 (v := (1 : Int32)) (by decide) ?_
      refine kr_iload_n O dX2_ask_99 rfl 3 rfl ?_
      refine kr_ishl O dX2_ask_100 ?_
      refine kr_goto (tgt := 105) O dX2_ask_101 rfl ?_
      exact cj_X2_ask_105 O hn31 h
def vl_X2_ask_31 (w : kt_W) (gr : kt_g × kt_M) (d : Nat) (P : Option Value → kt_M → Prop) (X : String → Nat → kt_M → Prop)  (a0 : Nat) (a1 : Nat) (v2 : Int32) (v3 : Int32) (M : kt_M) : Prop :=
  ∃ Inv : Nat → Int32 → kt_M → Prop, (∃ k, Inv k v3 M) ∧ ∀ k v3 M, kt_le gr.1 gr.2 M → Inv k v3 M → vc_X2_ask_31 w gr d P X (fun v3' M' => ∃ k', k' < k ∧ Inv k' v3' M') a0 a1 v2 v3 M
theorem cl_X2_ask_31 {w : kt_W} {x : kt_X} {gr : kt_g × kt_M} {d : Nat} {P : Option Value → kt_M → Prop} {X : String → Nat → kt_M → Prop}  {a0 : Nat} {a1 : Nat} {v2 : Int32} {v3 : Int32} {M : kt_M} (O : kt_O w x gr (d + 1) cX2_ask "KeyTurns$State" 4 ("ask", "(LKeyTurns$Client;)I") (Option.some Jvm.ClassFile.FieldType.int) [])  (h : vl_X2_ask_31 w gr d P X  a0 a1 v2 v3 M) : kt_S w x 4 (kt_E w x P X) M 31 [(0, va_rf (some a0)), (1, va_rf (some a1)), (2, .int v2), (3, .int v3)] [] := by
  obtain ⟨Inv, ⟨k, hk⟩, hb⟩ := h
  induction k using Nat.strongRecOn generalizing v3 M with
  | ind k ih =>
    exact kr_le O fun hle => cj_X2_ask_31 O (fun v3' M' hi => let ⟨k', h1, h2⟩ := hi; ih k' h1 h2) (hb k _ _ hle hk)
def vc_X2_ask (w : kt_W) (gr : kt_g × kt_M) (d : Nat) (P : Option Value → kt_M → Prop) (X : String → Nat → kt_M → Prop) (a0 : Nat) (r1 : Option Nat) (M : kt_M) : Prop :=
  ∃ b1, r1 = some b1 ∧ ∃ u2, kt_gf M b1 33 = some (.int u2) ∧ ∃ u3, kt_gf M a0 14 = some (.int u3) ∧ kt_hf gr M b1 31 ∧ ∀ M4, M4 = kt_pf M b1 31 (.int u3) → ∃ p5, kt_gf M4 a0 10 = some (va_rf p5) ∧ ∃ b6, p5 = some b6 ∧ (kt_co M4 b6 = some 13) ∧ 
  kt_Ca w gr d yJ3_size kc_J3_size [va_rf (some b6)] M4 (kt_pI fun u7 M8 => kt_hf gr M8 b1 33 ∧ ∀ M9, M9 = kt_pf M8 b1 33 (.int u7) → kt_hf gr M9 b1 34 ∧ ∀ M10, M10 = kt_pf M9 b1 34 (.int (0 : Int32)) → vl_X2_ask_31 w gr d P X  a0 b1 u2 (0 : Int32) M10) X
theorem ce_X2_ask {w : kt_W} {g : kt_g} {d : Nat} {P : Option Value → kt_M → Prop} {X : String → Nat → kt_M → Prop} {a0 : Nat} {r1 : Option Nat} {M : kt_M} (h : vc_X2_ask w (g, M) d P X a0 r1 M) : kt_Sp w g (d + 1) yX2_ask kc_X2_ask [va_rf (some a0), va_rf r1] M P X := by
  refine kt_of (L0 := [(0, va_rf (some a0)), (1, va_rf r1)]) (by decide +kernel) (by simp only [kt_lgR, kt_lgI, kt_lgN] <;> exact Nat.le_of_ble_eq_true rfl) (by simp only [kt_lvR, kt_lvI, kt_lvN] <;> rfl) fun x O => ?_
  replace O : kt_O w x (g, M) (d + 1) cX2_ask "KeyTurns$State" 4 ("ask", "(LKeyTurns$Client;)I") (Option.some Jvm.ClassFile.FieldType.int) [] := O
  unfold vc_X2_ask at h
  refine kr_aload_n O dX2_ask_0 rfl 1 rfl ?_
  obtain ⟨b1, rfl, h⟩ := h
  obtain ⟨u2, eu2, h⟩ := h
  refine kr_getf O dX2_ask_1 fs_X2_244 eu2 ?_
  refine kr_istore_n O dX2_ask_4 rfl (Nat.le_of_ble_eq_true rfl) rfl rfl ?_
  refine kr_aload_n O dX2_ask_5 rfl 2 rfl ?_
  refine kr_aload_n O dX2_ask_6 rfl 1 rfl ?_
  obtain ⟨u3, eu3, h⟩ := h
  refine kr_getf O dX2_ask_7 fs_X2_98 eu3 ?_
  obtain ⟨hw, h⟩ := h
  refine kr_putf O dX2_ask_10 fs_X2_247 (Or.inl rfl) ⟨rfl, rfl⟩ hw (kr_nmM fun M4 hM4 => ?_)
  replace h := h M4 hM4
  refine kr_aload_n O dX2_ask_13 rfl 2 rfl ?_
  refine kr_aload_n O dX2_ask_14 rfl 1 rfl ?_
  obtain ⟨p5, ep5, h⟩ := h
  refine kr_getf O dX2_ask_15 fs_X2_12 ep5 ?_
  obtain ⟨b6, rfl, h⟩ := h
  obtain ⟨hco, h⟩ := h
  refine kr_caI (rest := [va_rf (some b1)]) O cd_J3_size h (Nat.le_of_ble_eq_true rfl) (fun ls _ => kt_ivV (ci := 13) O dX2_ask_18 cd_J3_size in_J3_size (Or.inl q477) q478 q479 hco (by decide) hy_J3_size) (fun u7 M8 hq => ?_) (fun E q M9 hx => kr_out O hx)
  replace h := hq
  clear hq
  obtain ⟨hw, h⟩ := h
  refine kr_putf O dX2_ask_21 fs_X2_244 (Or.inl rfl) ⟨rfl, rfl⟩ hw (kr_nmM fun M9 hM9 => ?_)
  replace h := h M9 hM9
  refine kr_aload_n O dX2_ask_24 rfl 2 rfl ?_
  refine kr_iconst O dX2_ask_25 (v := (0 : Int32)) (by decide) ?_
  obtain ⟨hw, h⟩ := h
  refine kr_putf O dX2_ask_26 fs_X2_250 (Or.inl rfl) ⟨rfl, rfl⟩ hw (kr_nmM fun M10 hM10 => ?_)
  replace h := h M10 hM10
  refine kr_iconst O dX2_ask_29 (v := (0 : Int32)) (by decide) ?_
  refine kr_istore_n O dX2_ask_30 rfl (Nat.le_of_ble_eq_true rfl) rfl rfl ?_
  refine kr_sub [2, 3, 1, 0] rfl ?_
  exact cl_X2_ask_31 O  h
def vc_X2_isWriting (w : kt_W) (gr : kt_g × kt_M) (d : Nat) (P : Option Value → kt_M → Prop) (X : String → Nat → kt_M → Prop) (a0 : Nat) (r1 : Option Nat) (M : kt_M) : Prop :=
  ∃ u1, kt_gf M a0 14 = some (.int u1) ∧ ∃ b2, r1 = some b2 ∧ (kt_co M b2 = some 2 ∨ kt_co M b2 = some 3) ∧ 
  kt_Ca w gr d yX3_isInForce kc_X3_isInForce [va_rf (some b2), .int u1] M (kt_pI fun u3 M4 => narrow .boolean (.int u3) = .int u3 ∧ P (some (.int u3)) M4) X
theorem ce_X2_isWriting {w : kt_W} {g : kt_g} {d : Nat} {P : Option Value → kt_M → Prop} {X : String → Nat → kt_M → Prop} {a0 : Nat} {r1 : Option Nat} {M : kt_M} (h : vc_X2_isWriting w (g, M) d P X a0 r1 M) : kt_Sp w g (d + 1) yX2_isWriting kc_X2_isWriting [va_rf (some a0), va_rf r1] M P X := by
  refine kt_of (L0 := [(0, va_rf (some a0)), (1, va_rf r1)]) (by decide +kernel) (by simp only [kt_lgR, kt_lgI, kt_lgN] <;> exact Nat.le_of_ble_eq_true rfl) (by simp only [kt_lvR, kt_lvI, kt_lvN] <;> rfl) fun x O => ?_
  replace O : kt_O w x (g, M) (d + 1) cX2_isWriting "KeyTurns$State" 2 ("isWriting", "(LKeyTurns$Version;)Z") (Option.some Jvm.ClassFile.FieldType.boolean) [] := O
  unfold vc_X2_isWriting at h
  refine kr_aload_n O dX2_isWriting_0 rfl 1 rfl ?_
  refine kr_aload_n O dX2_isWriting_1 rfl 0 rfl ?_
  obtain ⟨u1, eu1, h⟩ := h
  refine kr_getf O dX2_isWriting_2 fs_X2_98 eu1 ?_
  obtain ⟨b2, rfl, h⟩ := h
  obtain ⟨hco, h⟩ := h
  refine kr_caI (rest := []) O cd_X3_isInForce h (Nat.le_of_ble_eq_true rfl) (fun ls _ => by rcases hco with hco | hco <;> first | exact kt_ivV (ci := 2) O dX2_isWriting_5 cd_X3_isInForce in_X3_isInForce (Or.inl q496) q497 q499 hco (by decide) hy_X3_isInForce | exact kt_ivV (ci := 3) O dX2_isWriting_5 cd_X3_isInForce in_X3_isInForce (Or.inl q496) q497 q500 hco (by decide) hy_X3_isInForce) (fun u3 M4 hq => ?_) (fun E q M9 hx => kr_out O hx)
  replace h := hq
  clear hq
  exact kr_iret O dX2_isWriting_8 h.1 h.2
def vc_X2_wrappedBy_50 (w : kt_W) (gr : kt_g × kt_M) (d : Nat) (P : Option Value → kt_M → Prop) (X : String → Nat → kt_M → Prop) (nx4 : Int32 → Int32 → kt_M → Prop) (a0 : Nat) (v1 : Int32) (v3 : Int32) (s0 : Int32) (s1 : Int32) (M : kt_M) : Prop :=
  
  kt_Ca w gr d yX1_asInt kc_X1_asInt [.int s0] M (kt_pI fun u1 M2 => nx4 (s1 + u1) (v3 + (1 : Int32)) M2) X
theorem cj_X2_wrappedBy_50 {w : kt_W} {x : kt_X} {gr : kt_g × kt_M} {d : Nat} {P : Option Value → kt_M → Prop} {X : String → Nat → kt_M → Prop} {nx4 : Int32 → Int32 → kt_M → Prop} {a0 : Nat} {v1 : Int32} {v3 : Int32} {s0 : Int32} {s1 : Int32} {M : kt_M} (O : kt_O w x gr (d + 1) cX2_wrappedBy "KeyTurns$State" 4 ("wrappedBy", "(I)I") (Option.some Jvm.ClassFile.FieldType.int) []) (hn4 : ∀ v2 v3 M, nx4 v2 v3 M → kt_S w x 4 (kt_E w x P X) M 4 [(0, va_rf (some a0)), (1, .int v1), (2, .int v2), (3, .int v3)] []) (h : vc_X2_wrappedBy_50 w gr d P X nx4 a0 v1 v3 s0 s1 M) : kt_S w x 4 (kt_E w x P X) M 50 [(0, va_rf (some a0)), (1, .int v1), (3, .int v3)] [.int s0, .int s1] := by
  unfold vc_X2_wrappedBy_50 at h
  refine kr_caI (rest := [.int s1]) O cd_X1_asInt h (Nat.le_of_ble_eq_true rfl) (fun ls _ => kt_ivSN O dX2_wrappedBy_50 cd_X1_asInt in_X1_asInt q573 q574 hy_X1_asInt) (fun u1 M2 hq => ?_) (fun E q M9 hx => kr_out O hx)
  replace h := hq
  clear hq
  refine kr_iadd O dX2_wrappedBy_53 ?_
  refine kr_istore_n O dX2_wrappedBy_54 rfl (Nat.le_of_ble_eq_true rfl) rfl rfl ?_
  refine kr_iinc O dX2_wrappedBy_55 3 rfl (v := v3 + (1 : Int32)) rfl (Nat.le_of_ble_eq_true rfl) rfl rfl ?_
  refine kr_goto (tgt := 4) O dX2_wrappedBy_58 rfl ?_
  refine kr_sub [2, 3, 1, 0] rfl ?_
  exact hn4 _ _ _ h
def vc_X2_wrappedBy_49 (w : kt_W) (gr : kt_g × kt_M) (d : Nat) (P : Option Value → kt_M → Prop) (X : String → Nat → kt_M → Prop) (nx4 : Int32 → Int32 → kt_M → Prop) (a0 : Nat) (v1 : Int32) (v3 : Int32) (s0 : Int32) (M : kt_M) : Prop :=
  vc_X2_wrappedBy_50 w gr d P X nx4 a0 v1 v3 (0 : Int32) s0 M
theorem cj_X2_wrappedBy_49 {w : kt_W} {x : kt_X} {gr : kt_g × kt_M} {d : Nat} {P : Option Value → kt_M → Prop} {X : String → Nat → kt_M → Prop} {nx4 : Int32 → Int32 → kt_M → Prop} {a0 : Nat} {v1 : Int32} {v3 : Int32} {s0 : Int32} {M : kt_M} (O : kt_O w x gr (d + 1) cX2_wrappedBy "KeyTurns$State" 4 ("wrappedBy", "(I)I") (Option.some Jvm.ClassFile.FieldType.int) []) (hn4 : ∀ v2 v3 M, nx4 v2 v3 M → kt_S w x 4 (kt_E w x P X) M 4 [(0, va_rf (some a0)), (1, .int v1), (2, .int v2), (3, .int v3)] []) (h : vc_X2_wrappedBy_49 w gr d P X nx4 a0 v1 v3 s0 M) : kt_S w x 4 (kt_E w x P X) M 49 [(0, va_rf (some a0)), (1, .int v1), (3, .int v3)] [.int s0] := by
  unfold vc_X2_wrappedBy_49 at h
  refine kr_iconst O dX2_wrappedBy_49 (v := (0 : Int32)) (by decide) ?_
  exact cj_X2_wrappedBy_50 O hn4 h
def vc_X2_wrappedBy_4 (w : kt_W) (gr : kt_g × kt_M) (d : Nat) (P : Option Value → kt_M → Prop) (X : String → Nat → kt_M → Prop) (nx4 : Int32 → Int32 → kt_M → Prop) (a0 : Nat) (v1 : Int32) (v2 : Int32) (v3 : Int32) (M : kt_M) : Prop :=
  ∃ p1, kt_gf M a0 11 = some (va_rf p1) ∧ ∃ b2, p1 = some b2 ∧ (kt_co M b2 = some 13) ∧ 
  kt_Ca w gr d yJ3_size kc_J3_size [va_rf (some b2)] M (kt_pI fun u3 M4 => 
    ((u3 ≤ v3 → P (some (.int v2)) M4) ∧
    (¬ u3 ≤ v3 → (kt_co M4 a0 = some 1) ∧ 
    kt_Ca w gr d yX2_isThere kc_X2_isThere [va_rf (some a0), .int v3] M4 (kt_pI fun u5 M6 => 
      ((u5 = 0 → vc_X2_wrappedBy_49 w gr d P X nx4 a0 v1 v3 v2 M6) ∧
      (¬ u5 = 0 → ∃ p7, kt_gf M6 a0 11 = some (va_rf p7) ∧ ∃ b8, p7 = some b8 ∧ (kt_co M6 b8 = some 13) ∧ 
      kt_Ca w gr d yJ3_get kc_J3_get [va_rf (some b8), .int v3] M6 (kt_pR fun p9 M10 => ∃ b11, p9 = some b11 ∧ (∃ c, kt_co M10 b11 = some c ∧ kt_is c "KeyTurns$Sealed") ∧ ∃ p12, kt_gf M10 b11 26 = some (va_rf p12) ∧ ∃ b13, p12 = some b13 ∧ (kt_co M10 b13 = some 18) ∧ 
      kt_Ca w gr d yJ21_get kc_J21_get [va_rf (some b13), .int v1] M10 (kt_pI fun u14 M15 => 
        ((u14 = 0 → vc_X2_wrappedBy_49 w gr d P X nx4 a0 v1 v3 v2 M15) ∧
        (¬ u14 = 0 → vc_X2_wrappedBy_50 w gr d P X nx4 a0 v1 v3 (1 : Int32) v2 M15))) X) X))) X))) X
theorem cj_X2_wrappedBy_4 {w : kt_W} {x : kt_X} {gr : kt_g × kt_M} {d : Nat} {P : Option Value → kt_M → Prop} {X : String → Nat → kt_M → Prop} {nx4 : Int32 → Int32 → kt_M → Prop} {a0 : Nat} {v1 : Int32} {v2 : Int32} {v3 : Int32} {M : kt_M} (O : kt_O w x gr (d + 1) cX2_wrappedBy "KeyTurns$State" 4 ("wrappedBy", "(I)I") (Option.some Jvm.ClassFile.FieldType.int) []) (hn4 : ∀ v2 v3 M, nx4 v2 v3 M → kt_S w x 4 (kt_E w x P X) M 4 [(0, va_rf (some a0)), (1, .int v1), (2, .int v2), (3, .int v3)] []) (h : vc_X2_wrappedBy_4 w gr d P X nx4 a0 v1 v2 v3 M) : kt_S w x 4 (kt_E w x P X) M 4 [(0, va_rf (some a0)), (1, .int v1), (2, .int v2), (3, .int v3)] [] := by
  unfold vc_X2_wrappedBy_4 at h
  refine kr_iload_n O dX2_wrappedBy_4 rfl 3 rfl ?_
  refine kr_aload_n O dX2_wrappedBy_5 rfl 0 rfl ?_
  obtain ⟨p1, ep1, h⟩ := h
  refine kr_getf O dX2_wrappedBy_6 fs_X2_18 ep1 ?_
  obtain ⟨b2, rfl, h⟩ := h
  obtain ⟨hco, h⟩ := h
  refine kr_caI (rest := [.int v3]) O cd_J3_size h (Nat.le_of_ble_eq_true rfl) (fun ls _ => kt_ivV (ci := 13) O dX2_wrappedBy_9 cd_J3_size in_J3_size (Or.inl q477) q478 q479 hco (by decide) hy_J3_size) (fun u3 M4 hq => ?_) (fun E q M9 hx => kr_out O hx)
  replace h := hq
  clear hq
  refine kr_icmp_ge (tgt := 61) O dX2_wrappedBy_12 rfl (fun hc => ?_) (fun hc => ?_)
  · replace h := h.1 hc
    refine kr_iload_n O dX2_wrappedBy_61 rfl 2 rfl ?_
    exact kr_iret O dX2_wrappedBy_62 rfl h
  · replace h := h.2 hc
    refine kr_iload_n O dX2_wrappedBy_15 rfl 2 rfl ?_
    refine kr_aload_n O dX2_wrappedBy_16 rfl 0 rfl ?_
    refine kr_iload_n O dX2_wrappedBy_17 rfl 3 rfl ?_
    obtain ⟨hco, h⟩ := h
    refine kr_caI (rest := [.int v2]) O cd_X2_isThere h (Nat.le_of_ble_eq_true rfl) (fun ls _ => kt_ivV (ci := 1) O dX2_wrappedBy_18 cd_X2_isThere in_X2_isThere (Or.inl q512) q513 q514 hco (by decide) hy_X2_isThere) (fun u5 M6 hq => ?_) (fun E q M9 hx => kr_out O hx)
    replace h := hq
    clear hq
    refine kr_if_eq (tgt := 49) O dX2_wrappedBy_21 rfl (fun hc => ?_) (fun hc => ?_)
    · replace h := h.1 hc
      refine kr_sub [0, 1, 3] rfl ?_
      exact cj_X2_wrappedBy_49 O hn4 h
    · replace h := h.2 hc
      refine kr_aload_n O dX2_wrappedBy_24 rfl 0 rfl ?_
      obtain ⟨p7, ep7, h⟩ := h
      refine kr_getf O dX2_wrappedBy_25 fs_X2_18 ep7 ?_
      refine kr_iload_n O dX2_wrappedBy_28 rfl 3 rfl ?_
      obtain ⟨b8, rfl, h⟩ := h
      obtain ⟨hco, h⟩ := h
      refine kr_caR (rest := [.int v2]) O cd_J3_get h (Nat.le_of_ble_eq_true rfl) (fun ls _ => kt_ivV (ci := 13) O dX2_wrappedBy_29 cd_J3_get in_J3_get (Or.inl q481) q482 q483 hco (by decide) hy_J3_get) (fun p9 M10 hq => ?_) (fun E q M9 hx => kr_out O hx)
      replace h := hq
      clear hq
      obtain ⟨b11, rfl, h⟩ := h
      obtain ⟨⟨cc1, hc1, hc2⟩, h⟩ := h
      refine kr_cast O dX2_wrappedBy_32 q517 hc1 hc2 ?_
      obtain ⟨p12, ep12, h⟩ := h
      refine kr_getf O dX2_wrappedBy_35 fs_X2_199 ep12 ?_
      refine kr_iload_n O dX2_wrappedBy_38 rfl 1 rfl ?_
      obtain ⟨b13, rfl, h⟩ := h
      obtain ⟨hco, h⟩ := h
      refine kr_caI (rest := [.int v2]) O cd_J21_get h (Nat.le_of_ble_eq_true rfl) (fun ls _ => kt_ivV (ci := 18) O dX2_wrappedBy_39 cd_J21_get in_J21_get (Or.inl q518) q519 q520 hco (by decide) hy_J21_get) (fun u14 M15 hq => ?_) (fun E q M9 hx => kr_out O hx)
      replace h := hq
      clear hq
      refine kr_if_eq (tgt := 49) O dX2_wrappedBy_42 rfl (fun hc => ?_) (fun hc => ?_)
      · replace h := h.1 hc
        refine kr_sub [0, 1, 3] rfl ?_
        exact cj_X2_wrappedBy_49 O hn4 h
      · replace h := h.2 hc
        refine kr_iconst O dX2_wrappedBy_45 (v := (1 : Int32)) (by decide) ?_
        refine kr_goto (tgt := 50) O dX2_wrappedBy_46 rfl ?_
        refine kr_sub [0, 1, 3] rfl ?_
        exact cj_X2_wrappedBy_50 O hn4 h
def vl_X2_wrappedBy_4 (w : kt_W) (gr : kt_g × kt_M) (d : Nat) (P : Option Value → kt_M → Prop) (X : String → Nat → kt_M → Prop)  (a0 : Nat) (v1 : Int32) (v2 : Int32) (v3 : Int32) (M : kt_M) : Prop :=
  ∃ Inv : Nat → Int32 → Int32 → kt_M → Prop, (∃ k, Inv k v2 v3 M) ∧ ∀ k v2 v3 M, kt_le gr.1 gr.2 M → Inv k v2 v3 M → vc_X2_wrappedBy_4 w gr d P X (fun v2' v3' M' => ∃ k', k' < k ∧ Inv k' v2' v3' M') a0 v1 v2 v3 M
theorem cl_X2_wrappedBy_4 {w : kt_W} {x : kt_X} {gr : kt_g × kt_M} {d : Nat} {P : Option Value → kt_M → Prop} {X : String → Nat → kt_M → Prop}  {a0 : Nat} {v1 : Int32} {v2 : Int32} {v3 : Int32} {M : kt_M} (O : kt_O w x gr (d + 1) cX2_wrappedBy "KeyTurns$State" 4 ("wrappedBy", "(I)I") (Option.some Jvm.ClassFile.FieldType.int) [])  (h : vl_X2_wrappedBy_4 w gr d P X  a0 v1 v2 v3 M) : kt_S w x 4 (kt_E w x P X) M 4 [(0, va_rf (some a0)), (1, .int v1), (2, .int v2), (3, .int v3)] [] := by
  obtain ⟨Inv, ⟨k, hk⟩, hb⟩ := h
  induction k using Nat.strongRecOn generalizing v2 v3 M with
  | ind k ih =>
    exact kr_le O fun hle => cj_X2_wrappedBy_4 O (fun v2' v3' M' hi => let ⟨k', h1, h2⟩ := hi; ih k' h1 h2) (hb k _ _ _ hle hk)
def vc_X2_wrappedBy (w : kt_W) (gr : kt_g × kt_M) (d : Nat) (P : Option Value → kt_M → Prop) (X : String → Nat → kt_M → Prop) (a0 : Nat) (v1 : Int32) (M : kt_M) : Prop :=
  vl_X2_wrappedBy_4 w gr d P X  a0 v1 (0 : Int32) (0 : Int32) M
theorem ce_X2_wrappedBy {w : kt_W} {g : kt_g} {d : Nat} {P : Option Value → kt_M → Prop} {X : String → Nat → kt_M → Prop} {a0 : Nat} {v1 : Int32} {M : kt_M} (h : vc_X2_wrappedBy w (g, M) d P X a0 v1 M) : kt_Sp w g (d + 1) yX2_wrappedBy kc_X2_wrappedBy [va_rf (some a0), .int v1] M P X := by
  refine kt_of (L0 := [(0, va_rf (some a0)), (1, .int v1)]) (by decide +kernel) (Nat.le_of_ble_eq_true rfl) rfl fun x O => ?_
  replace O : kt_O w x (g, M) (d + 1) cX2_wrappedBy "KeyTurns$State" 4 ("wrappedBy", "(I)I") (Option.some Jvm.ClassFile.FieldType.int) [] := O
  unfold vc_X2_wrappedBy at h
  refine kr_iconst O dX2_wrappedBy_0 (v := (0 : Int32)) (by decide) ?_
  refine kr_istore_n O dX2_wrappedBy_1 rfl (Nat.le_of_ble_eq_true rfl) rfl rfl ?_
  refine kr_iconst O dX2_wrappedBy_2 (v := (0 : Int32)) (by decide) ?_
  refine kr_istore_n O dX2_wrappedBy_3 rfl (Nat.le_of_ble_eq_true rfl) rfl rfl ?_
  refine kr_sub [2, 3, 1, 0] rfl ?_
  exact cl_X2_wrappedBy_4 O  h
def vc_X2_readers_4 (w : kt_W) (gr : kt_g × kt_M) (d : Nat) (P : Option Value → kt_M → Prop) (X : String → Nat → kt_M → Prop) (nx4 : Int32 → Int32 → kt_M → Prop) (a0 : Nat) (v1 : Int32) (v2 : Int32) (v3 : Int32) (M : kt_M) : Prop :=
  ∃ p1, kt_gf M a0 12 = some (va_rf p1) ∧ ∃ b2, p1 = some b2 ∧ (kt_co M b2 = some 13) ∧ 
  kt_Ca w gr d yJ3_size kc_J3_size [va_rf (some b2)] M (kt_pI fun u3 M4 => 
    ((u3 ≤ v3 → P (some (.int v2)) M4) ∧
    (¬ u3 ≤ v3 → (kt_co M4 a0 = some 1) ∧ 
    kt_Ca w gr d yX2_readsBy kc_X2_readsBy [va_rf (some a0), .int v3, .int v1] M4 (kt_pI fun u5 M6 => 
      ((u5 = (-1 : Int32) → nx4 (v2 ||| (0 : Int32)) (v3 + (1 : Int32)) M6) ∧
      (¬ u5 = (-1 : Int32) → nx4 (v2 ||| ((1 : Int32) <<< (v3 &&& 31))) (v3 + (1 : Int32)) M6))) X))) X
theorem cj_X2_readers_4 {w : kt_W} {x : kt_X} {gr : kt_g × kt_M} {d : Nat} {P : Option Value → kt_M → Prop} {X : String → Nat → kt_M → Prop} {nx4 : Int32 → Int32 → kt_M → Prop} {a0 : Nat} {v1 : Int32} {v2 : Int32} {v3 : Int32} {M : kt_M} (O : kt_O w x gr (d + 1) cX2_readers "KeyTurns$State" 4 ("readers", "(I)I") (Option.some Jvm.ClassFile.FieldType.int) []) (hn4 : ∀ v2 v3 M, nx4 v2 v3 M → kt_S w x 4 (kt_E w x P X) M 4 [(0, va_rf (some a0)), (1, .int v1), (2, .int v2), (3, .int v3)] []) (h : vc_X2_readers_4 w gr d P X nx4 a0 v1 v2 v3 M) : kt_S w x 4 (kt_E w x P X) M 4 [(0, va_rf (some a0)), (1, .int v1), (2, .int v2), (3, .int v3)] [] := by
  unfold vc_X2_readers_4 at h
  refine kr_iload_n O dX2_readers_4 rfl 3 rfl ?_
  refine kr_aload_n O dX2_readers_5 rfl 0 rfl ?_
  obtain ⟨p1, ep1, h⟩ := h
  refine kr_getf O dX2_readers_6 fs_X2_21 ep1 ?_
  obtain ⟨b2, rfl, h⟩ := h
  obtain ⟨hco, h⟩ := h
  refine kr_caI (rest := [.int v3]) O cd_J3_size h (Nat.le_of_ble_eq_true rfl) (fun ls _ => kt_ivV (ci := 13) O dX2_readers_9 cd_J3_size in_J3_size (Or.inl q477) q478 q479 hco (by decide) hy_J3_size) (fun u3 M4 hq => ?_) (fun E q M9 hx => kr_out O hx)
  replace h := hq
  clear hq
  refine kr_icmp_ge (tgt := 41) O dX2_readers_12 rfl (fun hc => ?_) (fun hc => ?_)
  · replace h := h.1 hc
    refine kr_iload_n O dX2_readers_41 rfl 2 rfl ?_
    exact kr_iret O dX2_readers_42 rfl h
  · replace h := h.2 hc
    refine kr_iload_n O dX2_readers_15 rfl 2 rfl ?_
    refine kr_aload_n O dX2_readers_16 rfl 0 rfl ?_
    refine kr_iload_n O dX2_readers_17 rfl 3 rfl ?_
    refine kr_iload_n O dX2_readers_18 rfl 1 rfl ?_
    obtain ⟨hco, h⟩ := h
    refine kr_caI (rest := [.int v2]) O cd_X2_readsBy h (Nat.le_of_ble_eq_true rfl) (fun ls _ => kt_ivV (ci := 1) O dX2_readers_19 cd_X2_readsBy in_X2_readsBy (Or.inl q599) q600 q601 hco (by decide) hy_X2_readsBy) (fun u5 M6 hq => ?_) (fun E q M9 hx => kr_out O hx)
    replace h := hq
    clear hq
    refine kr_iconst O dX2_readers_22 (v := (-1 : Int32)) (by decide) ?_
    refine kr_icmp_eq (tgt := 32) O dX2_readers_23 rfl (fun hc => ?_) (fun hc => ?_)
    · replace h := h.1 hc
      refine kr_iconst O dX2_readers_32 (v := (0 : Int32)) (by decide) ?_
      refine kr_ior O dX2_readers_33 ?_
      refine kr_istore_n O dX2_readers_34 rfl (Nat.le_of_ble_eq_true rfl) rfl rfl ?_
      refine kr_iinc O dX2_readers_35 3 rfl (v := v3 + (1 : Int32)) rfl (Nat.le_of_ble_eq_true rfl) rfl rfl ?_
      refine kr_goto (tgt := 4) O dX2_readers_38 rfl ?_
      refine kr_sub [2, 3, 1, 0] rfl ?_
      exact hn4 _ _ _ h
    · replace h := h.2 hc
      refine kr_iconst O dX2_readers_26 (v := (1 : Int32)) (by decide) ?_
      refine kr_iload_n O dX2_readers_27 rfl 3 rfl ?_
      refine kr_ishl O dX2_readers_28 ?_
      refine kr_goto (tgt := 33) O dX2_readers_29 rfl ?_
      refine kr_ior O dX2_readers_33 ?_
      refine kr_istore_n O dX2_readers_34 rfl (Nat.le_of_ble_eq_true rfl) rfl rfl ?_
      refine kr_iinc O dX2_readers_35 3 rfl (v := v3 + (1 : Int32)) rfl (Nat.le_of_ble_eq_true rfl) rfl rfl ?_
      refine kr_goto (tgt := 4) O dX2_readers_38 rfl ?_
      refine kr_sub [2, 3, 1, 0] rfl ?_
      exact hn4 _ _ _ h
def vl_X2_readers_4 (w : kt_W) (gr : kt_g × kt_M) (d : Nat) (P : Option Value → kt_M → Prop) (X : String → Nat → kt_M → Prop)  (a0 : Nat) (v1 : Int32) (v2 : Int32) (v3 : Int32) (M : kt_M) : Prop :=
  ∃ Inv : Nat → Int32 → Int32 → kt_M → Prop, (∃ k, Inv k v2 v3 M) ∧ ∀ k v2 v3 M, kt_le gr.1 gr.2 M → Inv k v2 v3 M → vc_X2_readers_4 w gr d P X (fun v2' v3' M' => ∃ k', k' < k ∧ Inv k' v2' v3' M') a0 v1 v2 v3 M
theorem cl_X2_readers_4 {w : kt_W} {x : kt_X} {gr : kt_g × kt_M} {d : Nat} {P : Option Value → kt_M → Prop} {X : String → Nat → kt_M → Prop}  {a0 : Nat} {v1 : Int32} {v2 : Int32} {v3 : Int32} {M : kt_M} (O : kt_O w x gr (d + 1) cX2_readers "KeyTurns$State" 4 ("readers", "(I)I") (Option.some Jvm.ClassFile.FieldType.int) [])  (h : vl_X2_readers_4 w gr d P X  a0 v1 v2 v3 M) : kt_S w x 4 (kt_E w x P X) M 4 [(0, va_rf (some a0)), (1, .int v1), (2, .int v2), (3, .int v3)] [] := by
  obtain ⟨Inv, ⟨k, hk⟩, hb⟩ := h
  induction k using Nat.strongRecOn generalizing v2 v3 M with
  | ind k ih =>
    exact kr_le O fun hle => cj_X2_readers_4 O (fun v2' v3' M' hi => let ⟨k', h1, h2⟩ := hi; ih k' h1 h2) (hb k _ _ _ hle hk)
def vc_X2_readers (w : kt_W) (gr : kt_g × kt_M) (d : Nat) (P : Option Value → kt_M → Prop) (X : String → Nat → kt_M → Prop) (a0 : Nat) (v1 : Int32) (M : kt_M) : Prop :=
  vl_X2_readers_4 w gr d P X  a0 v1 (0 : Int32) (0 : Int32) M
theorem ce_X2_readers {w : kt_W} {g : kt_g} {d : Nat} {P : Option Value → kt_M → Prop} {X : String → Nat → kt_M → Prop} {a0 : Nat} {v1 : Int32} {M : kt_M} (h : vc_X2_readers w (g, M) d P X a0 v1 M) : kt_Sp w g (d + 1) yX2_readers kc_X2_readers [va_rf (some a0), .int v1] M P X := by
  refine kt_of (L0 := [(0, va_rf (some a0)), (1, .int v1)]) (by decide +kernel) (Nat.le_of_ble_eq_true rfl) rfl fun x O => ?_
  replace O : kt_O w x (g, M) (d + 1) cX2_readers "KeyTurns$State" 4 ("readers", "(I)I") (Option.some Jvm.ClassFile.FieldType.int) [] := O
  unfold vc_X2_readers at h
  refine kr_iconst O dX2_readers_0 (v := (0 : Int32)) (by decide) ?_
  refine kr_istore_n O dX2_readers_1 rfl (Nat.le_of_ble_eq_true rfl) rfl rfl ?_
  refine kr_iconst O dX2_readers_2 (v := (0 : Int32)) (by decide) ?_
  refine kr_istore_n O dX2_readers_3 rfl (Nat.le_of_ble_eq_true rfl) rfl rfl ?_
  refine kr_sub [2, 3, 1, 0] rfl ?_
  exact cl_X2_readers_4 O  h
def vc_X2_could (w : kt_W) (gr : kt_g × kt_M) (d : Nat) (P : Option Value → kt_M → Prop) (X : String → Nat → kt_M → Prop) (a0 : Nat) (v1 : Int32) (v2 : Int32) (M : kt_M) : Prop :=
  ∃ p1, kt_gf M a0 13 = some (va_rf p1) ∧ ∃ b2, p1 = some b2 ∧ (kt_co M b2 = some 14) ∧ 
  kt_Ca w gr d yJ5_size kc_J5_size [va_rf (some b2)] M (kt_pI fun u3 M4 => ∃ u5, kt_gf M4 a0 14 = some (.int u5) ∧ ∃ u6, kt_gf M4 a0 14 = some (.int u6) ∧ 
  kt_Ca w gr d yX1_isIn kc_X1_isIn [.long v2.toInt64, .long (0 : Int64), .long u6.toInt64] M4 (kt_pI fun u7 M8 => 
    ((u7 = 0 → P (some (.int (-1 : Int32))) M8) ∧
    (¬ u7 = 0 → ∃ p9, kt_gf M8 a0 13 = some (va_rf p9) ∧ ∃ b10, p9 = some b10 ∧ (kt_co M8 b10 = some 14) ∧ 
    kt_Ca w gr d yJ5_size kc_J5_size [va_rf (some b10)] M8 (kt_pI fun u11 M12 => 
    kt_Ca w gr d yX1_isIn kc_X1_isIn [.long (((u3 - (1 : Int32)) - (u5 - v2)).toInt64), .long (0 : Int64), .long ((u11 - (1 : Int32)).toInt64)] M12 (kt_pI fun u13 M14 => 
      ((¬ u13 = 0 → ∃ p15, kt_gf M14 a0 13 = some (va_rf p15) ∧ ∃ b16, p15 = some b16 ∧ (kt_co M14 b16 = some 14) ∧ 
      kt_Ca w gr d yJ5_get kc_J5_get [va_rf (some b16), .int ((u3 - (1 : Int32)) - (u5 - v2))] M14 (kt_pR fun p17 M18 => ∃ b19, p17 = some b19 ∧ (∃ t y, M18.2.2 b19 = (t + 2, .inl (0, y))) ∧ ∃ n20, kt_len M18 b19 = some n20 ∧ 
        (((nI n20) ≤ v1 → P (some (.int (-1 : Int32))) M18) ∧
        (¬ (nI n20) ≤ v1 → ∃ p21, kt_gf M18 a0 13 = some (va_rf p21) ∧ ∃ b22, p21 = some b22 ∧ (kt_co M18 b22 = some 14) ∧ 
        kt_Ca w gr d yJ5_get kc_J5_get [va_rf (some b22), .int ((u3 - (1 : Int32)) - (u5 - v2))] M18 (kt_pR fun p23 M24 => ∃ b25, p23 = some b25 ∧ (∃ t y, M24.2.2 b25 = (t + 2, .inl (0, y))) ∧ ∃ u26, kt_el 0 M24 b25 v1 = some (.int u26) ∧ P (some (.int u26)) M24) X))) X) ∧
      (u13 = 0 → P (some (.int (-1 : Int32))) M14))) X) X))) X) X
theorem ce_X2_could {w : kt_W} {g : kt_g} {d : Nat} {P : Option Value → kt_M → Prop} {X : String → Nat → kt_M → Prop} {a0 : Nat} {v1 : Int32} {v2 : Int32} {M : kt_M} (h : vc_X2_could w (g, M) d P X a0 v1 v2 M) : kt_Sp w g (d + 1) yX2_could kc_X2_could [va_rf (some a0), .int v1, .int v2] M P X := by
  refine kt_of (L0 := [(0, va_rf (some a0)), (1, .int v1), (2, .int v2)]) (by decide +kernel) (Nat.le_of_ble_eq_true rfl) rfl fun x O => ?_
  replace O : kt_O w x (g, M) (d + 1) cX2_could "KeyTurns$State" 4 ("could", "(II)I") (Option.some Jvm.ClassFile.FieldType.int) [] := O
  unfold vc_X2_could at h
  refine kr_aload_n O dX2_could_0 rfl 0 rfl ?_
  obtain ⟨p1, ep1, h⟩ := h
  refine kr_getf O dX2_could_1 fs_X2_27 ep1 ?_
  obtain ⟨b2, rfl, h⟩ := h
  obtain ⟨hco, h⟩ := h
  refine kr_caI (rest := []) O cd_J5_size h (Nat.le_of_ble_eq_true rfl) (fun ls _ => kt_ivV (ci := 14) O dX2_could_4 cd_J5_size in_J5_size (Or.inl q1954) q962 q3022 hco (by decide) hy_J5_size) (fun u3 M4 hq => ?_) (fun E q M9 hx => kr_out O hx)
  replace h := hq
  clear hq
  refine kr_iconst O dX2_could_7 (v := (1 : Int32)) (by decide) ?_
  refine kr_isub O dX2_could_8 ?_
  refine kr_aload_n O dX2_could_9 rfl 0 rfl ?_
  obtain ⟨u5, eu5, h⟩ := h
  refine kr_getf O dX2_could_10 fs_X2_98 eu5 ?_
  refine kr_iload_n O dX2_could_13 rfl 2 rfl ?_
  refine kr_isub O dX2_could_14 ?_
  refine kr_isub O dX2_could_15 ?_
  refine kr_istore_n O dX2_could_16 rfl (Nat.le_of_ble_eq_true rfl) rfl rfl ?_
  refine kr_iload_n O dX2_could_17 rfl 3 rfl ?_
  refine kr_i2l O dX2_could_18 ?_
  refine kr_lconst O dX2_could_19 (v := (0 : Int64)) (by decide) ?_
  refine kr_aload_n O dX2_could_20 rfl 1 rfl ?_
  obtain ⟨u6, eu6, h⟩ := h
  refine kr_getf O dX2_could_21 fs_X2_98 eu6 ?_
  refine kr_i2l O dX2_could_24 ?_
  refine kr_caI (rest := []) O cd_X1_isIn h (Nat.le_of_ble_eq_true rfl) (fun ls _ => kt_ivSN O dX2_could_25 cd_X1_isIn in_X1_isIn q516 q510 hy_X1_isIn) (fun u7 M8 hq => ?_) (fun E q M9 hx => kr_out O hx)
  replace h := hq
  clear hq
  refine kr_if_eq (tgt := 50) O dX2_could_28 rfl (fun hc => ?_) (fun hc => ?_)
  · replace h := h.1 hc
    refine kr_iconst O dX2_could_50 (v := (-1 : Int32)) (by decide) ?_
    exact kr_iret O dX2_could_51 rfl h
  · replace h := h.2 hc
    refine kr_iload_n O dX2_could_31 rfl 0 rfl ?_
    refine kr_i2l O dX2_could_32 ?_
    refine kr_lconst O dX2_could_33 (v := (0 : Int64)) (by decide) ?_
    refine kr_aload_n O dX2_could_34 rfl 1 rfl ?_
    obtain ⟨p9, ep9, h⟩ := h
    refine kr_getf O dX2_could_35 fs_X2_27 ep9 ?_
    obtain ⟨b10, rfl, h⟩ := h
    obtain ⟨hco, h⟩ := h
    refine kr_caI (rest := [.long (0 : Int64), .long (((u3 - (1 : Int32)) - (u5 - v2)).toInt64)]) O cd_J5_size h (Nat.le_of_ble_eq_true rfl) (fun ls _ => kt_ivV (ci := 14) O dX2_could_38 cd_J5_size in_J5_size (Or.inl q1954) q962 q3022 hco (by decide) hy_J5_size) (fun u11 M12 hq => ?_) (fun E q M9 hx => kr_out O hx)
    replace h := hq
    clear hq
    refine kr_iconst O dX2_could_41 (v := (1 : Int32)) (by decide) ?_
    refine kr_isub O dX2_could_42 ?_
    refine kr_i2l O dX2_could_43 ?_
    refine kr_caI (rest := []) O cd_X1_isIn h (Nat.le_of_ble_eq_true rfl) (fun ls _ => kt_ivSN O dX2_could_44 cd_X1_isIn in_X1_isIn q516 q510 hy_X1_isIn) (fun u13 M14 hq => ?_) (fun E q M9 hx => kr_out O hx)
    replace h := hq
    clear hq
    refine kr_if_ne (tgt := 52) O dX2_could_47 rfl (fun hc => ?_) (fun hc => ?_)
    · replace h := h.1 hc
      refine kr_iload_n O dX2_could_52 rfl 2 rfl ?_
      refine kr_aload_n O dX2_could_53 rfl 1 rfl ?_
      obtain ⟨p15, ep15, h⟩ := h
      refine kr_getf O dX2_could_54 fs_X2_27 ep15 ?_
      refine kr_iload_n O dX2_could_57 rfl 0 rfl ?_
      obtain ⟨b16, rfl, h⟩ := h
      obtain ⟨hco, h⟩ := h
      refine kr_caR (rest := [.int v1]) O cd_J5_get h (Nat.le_of_ble_eq_true rfl) (fun ls _ => kt_ivV (ci := 14) O dX2_could_58 cd_J5_get in_J5_get (Or.inl q1955) q995 q3023 hco (by decide) hy_J5_get) (fun p17 M18 hq => ?_) (fun E q M9 hx => kr_out O hx)
      replace h := hq
      clear hq
      obtain ⟨b19, rfl, h⟩ := h
      obtain ⟨⟨tc, yc, hc⟩, h⟩ := h
      refine kr_castA O dX2_could_61 q1316 (by decide) hc ?_
      obtain ⟨n20, en20, h⟩ := h
      refine kr_alen O dX2_could_64 en20 ?_
      refine kr_icmp_ge (tgt := 84) O dX2_could_65 rfl (fun hc => ?_) (fun hc => ?_)
      · replace h := h.1 hc
        refine kr_iconst O dX2_could_84 (v := (-1 : Int32)) (by decide) ?_
        exact kr_iret O dX2_could_85 rfl h
      · replace h := h.2 hc
        refine kr_aload_n O dX2_could_68 rfl 1 rfl ?_
        obtain ⟨p21, ep21, h⟩ := h
        refine kr_getf O dX2_could_69 fs_X2_27 ep21 ?_
        refine kr_iload_n O dX2_could_72 rfl 0 rfl ?_
        obtain ⟨b22, rfl, h⟩ := h
        obtain ⟨hco, h⟩ := h
        refine kr_caR (rest := []) O cd_J5_get h (Nat.le_of_ble_eq_true rfl) (fun ls _ => kt_ivV (ci := 14) O dX2_could_73 cd_J5_get in_J5_get (Or.inl q1955) q995 q3023 hco (by decide) hy_J5_get) (fun p23 M24 hq => ?_) (fun E q M9 hx => kr_out O hx)
        replace h := hq
        clear hq
        obtain ⟨b25, rfl, h⟩ := h
        obtain ⟨⟨tc, yc, hc⟩, h⟩ := h
        refine kr_castA O dX2_could_76 q1316 (by decide) hc ?_
        refine kr_iload_n O dX2_could_79 rfl 2 rfl ?_
        obtain ⟨u26, eu26, h⟩ := h
        refine kr_iaload O dX2_could_80 eu26 ?_
        refine kr_goto (tgt := 85) O dX2_could_81 rfl ?_
        exact kr_iret O dX2_could_85 rfl h
    · replace h := h.2 hc
      refine kr_iconst O dX2_could_50 (v := (-1 : Int32)) (by decide) ?_
      exact kr_iret O dX2_could_51 rfl h
def vc_X2_pass_45 (w : kt_W) (gr : kt_g × kt_M) (d : Nat) (P : Option Value → kt_M → Prop) (X : String → Nat → kt_M → Prop) (nx45 : Int32 → kt_M → Prop) (a0 : Nat) (v2 : Int32) (M : kt_M) : Prop :=
  ∃ p1, kt_gf M a0 12 = some (va_rf p1) ∧ ∃ b2, p1 = some b2 ∧ (kt_co M b2 = some 13) ∧ 
  kt_Ca w gr d yJ3_size kc_J3_size [va_rf (some b2)] M (kt_pI fun u3 M4 => 
    ((u3 ≤ v2 → P none M4) ∧
    (¬ u3 ≤ v2 → ∃ p5, kt_gf M4 a0 12 = some (va_rf p5) ∧ ∃ b6, p5 = some b6 ∧ (kt_co M4 b6 = some 13) ∧ 
    kt_Ca w gr d yJ3_get kc_J3_get [va_rf (some b6), .int v2] M4 (kt_pR fun p7 M8 => ∃ b9, p7 = some b9 ∧ (∃ c, kt_co M8 b9 = some c ∧ kt_is c "KeyTurns$Client") ∧ ∃ u10, kt_gf M8 a0 14 = some (.int u10) ∧ (kt_co M8 b9 = some 5) ∧ 
    kt_Ca w gr d yX9_isHour kc_X9_isHour [va_rf (some b9), .int u10] M8 (kt_pI fun u11 M12 => 
      ((¬ u11 = 0 → ∃ p13, kt_gf M12 a0 12 = some (va_rf p13) ∧ ∃ b14, p13 = some b14 ∧ (kt_co M12 b14 = some 13) ∧ 
      kt_Ca w gr d yJ3_get kc_J3_get [va_rf (some b14), .int v2] M12 (kt_pR fun p15 M16 => ∃ b17, p15 = some b17 ∧ (∃ c, kt_co M16 b17 = some c ∧ kt_is c "KeyTurns$Client") ∧ (kt_co M16 a0 = some 1) ∧ 
      kt_Ca w gr d yX2_ask kc_X2_ask [va_rf (some a0), va_rf (some b17)] M16 (kt_pI fun u18 M19 => nx45 (v2 + (1 : Int32)) M19) X) X) ∧
      (u11 = 0 → nx45 (v2 + (1 : Int32)) M12))) X) X))) X
theorem cj_X2_pass_45 {w : kt_W} {x : kt_X} {gr : kt_g × kt_M} {d : Nat} {P : Option Value → kt_M → Prop} {X : String → Nat → kt_M → Prop} {nx45 : Int32 → kt_M → Prop} {a0 : Nat} {v2 : Int32} {M : kt_M} (O : kt_O w x gr (d + 1) cX2_pass "KeyTurns$State" 3 ("pass", "()V") (Option.none : Option Jvm.ClassFile.FieldType) []) (hn45 : ∀ v2 M, nx45 v2 M → kt_S w x 3 (kt_E w x P X) M 45 [(0, va_rf (some a0)), (2, .int v2)] []) (h : vc_X2_pass_45 w gr d P X nx45 a0 v2 M) : kt_S w x 3 (kt_E w x P X) M 45 [(0, va_rf (some a0)), (2, .int v2)] [] := by
  unfold vc_X2_pass_45 at h
  refine kr_iload_n O dX2_pass_45 rfl 1 rfl ?_
  refine kr_aload_n O dX2_pass_46 rfl 0 rfl ?_
  obtain ⟨p1, ep1, h⟩ := h
  refine kr_getf O dX2_pass_47 fs_X2_21 ep1 ?_
  obtain ⟨b2, rfl, h⟩ := h
  obtain ⟨hco, h⟩ := h
  refine kr_caI (rest := [.int v2]) O cd_J3_size h (Nat.le_of_ble_eq_true rfl) (fun ls _ => kt_ivV (ci := 13) O dX2_pass_50 cd_J3_size in_J3_size (Or.inl q477) q478 q479 hco (by decide) hy_J3_size) (fun u3 M4 hq => ?_) (fun E q M9 hx => kr_out O hx)
  replace h := hq
  clear hq
  refine kr_icmp_ge (tgt := 102) O dX2_pass_53 rfl (fun hc => ?_) (fun hc => ?_)
  · replace h := h.1 hc
    exact kr_vret O dX2_pass_102 h
  · replace h := h.2 hc
    refine kr_aload_n O dX2_pass_56 rfl 0 rfl ?_
    obtain ⟨p5, ep5, h⟩ := h
    refine kr_getf O dX2_pass_57 fs_X2_21 ep5 ?_
    refine kr_iload_n O dX2_pass_60 rfl 1 rfl ?_
    obtain ⟨b6, rfl, h⟩ := h
    obtain ⟨hco, h⟩ := h
    refine kr_caR (rest := []) O cd_J3_get h (Nat.le_of_ble_eq_true rfl) (fun ls _ => kt_ivV (ci := 13) O dX2_pass_61 cd_J3_get in_J3_get (Or.inl q481) q482 q483 hco (by decide) hy_J3_get) (fun p7 M8 hq => ?_) (fun E q M9 hx => kr_out O hx)
    replace h := hq
    clear hq
    obtain ⟨b9, rfl, h⟩ := h
    obtain ⟨⟨cc1, hc1, hc2⟩, h⟩ := h
    refine kr_cast O dX2_pass_64 q603 hc1 hc2 ?_
    refine kr_aload_n O dX2_pass_67 rfl 0 rfl ?_
    obtain ⟨u10, eu10, h⟩ := h
    refine kr_getf O dX2_pass_68 fs_X2_98 eu10 ?_
    obtain ⟨hco, h⟩ := h
    refine kr_caI (rest := []) O cd_X9_isHour h (Nat.le_of_ble_eq_true rfl) (fun ls _ => kt_ivV (ci := 5) O dX2_pass_71 cd_X9_isHour in_X9_isHour (Or.inl q1990) q1964 q1965 hco (by decide) hy_X9_isHour) (fun u11 M12 hq => ?_) (fun E q M9 hx => kr_out O hx)
    replace h := hq
    clear hq
    refine kr_if_ne (tgt := 80) O dX2_pass_74 rfl (fun hc => ?_) (fun hc => ?_)
    · replace h := h.1 hc
      refine kr_aload_n O dX2_pass_80 rfl 0 rfl ?_
      refine kr_aload_n O dX2_pass_81 rfl 0 rfl ?_
      obtain ⟨p13, ep13, h⟩ := h
      refine kr_getf O dX2_pass_82 fs_X2_21 ep13 ?_
      refine kr_iload_n O dX2_pass_85 rfl 1 rfl ?_
      obtain ⟨b14, rfl, h⟩ := h
      obtain ⟨hco, h⟩ := h
      refine kr_caR (rest := [va_rf (some a0)]) O cd_J3_get h (Nat.le_of_ble_eq_true rfl) (fun ls _ => kt_ivV (ci := 13) O dX2_pass_86 cd_J3_get in_J3_get (Or.inl q481) q482 q483 hco (by decide) hy_J3_get) (fun p15 M16 hq => ?_) (fun E q M9 hx => kr_out O hx)
      replace h := hq
      clear hq
      obtain ⟨b17, rfl, h⟩ := h
      obtain ⟨⟨cc1, hc1, hc2⟩, h⟩ := h
      refine kr_cast O dX2_pass_89 q603 hc1 hc2 ?_
      obtain ⟨hco, h⟩ := h
      refine kr_caI (rest := []) O cd_X2_ask h (Nat.le_of_ble_eq_true rfl) (fun ls _ => kt_ivV (ci := 1) O dX2_pass_92 cd_X2_ask in_X2_ask (Or.inl q1991) q1786 q1787 hco (by decide) hy_X2_ask) (fun u18 M19 hq => ?_) (fun E q M9 hx => kr_out O hx)
      replace h := hq
      clear hq
      refine kr_istore_n O dX2_pass_95 rfl (Nat.le_of_ble_eq_true rfl) rfl rfl ?_
      refine kr_iinc O dX2_pass_96 2 rfl (v := v2 + (1 : Int32)) rfl (Nat.le_of_ble_eq_true rfl) rfl rfl ?_
      refine kr_goto (tgt := 45) O dX2_pass_99 rfl ?_
      refine kr_sub [2, 0] rfl ?_
      exact hn45 _ _ h
    · replace h := h.2 hc
      refine kr_goto (tgt := 96) O dX2_pass_77 rfl ?_
      refine kr_iinc O dX2_pass_96 1 rfl (v := v2 + (1 : Int32)) rfl (Nat.le_of_ble_eq_true rfl) rfl rfl ?_
      refine kr_goto (tgt := 45) O dX2_pass_99 rfl ?_
      refine kr_sub [1, 0] rfl ?_
      exact hn45 _ _ h
def vl_X2_pass_45 (w : kt_W) (gr : kt_g × kt_M) (d : Nat) (P : Option Value → kt_M → Prop) (X : String → Nat → kt_M → Prop)  (a0 : Nat) (v2 : Int32) (M : kt_M) : Prop :=
  ∃ Inv : Nat → Int32 → kt_M → Prop, (∃ k, Inv k v2 M) ∧ ∀ k v2 M, kt_le gr.1 gr.2 M → Inv k v2 M → vc_X2_pass_45 w gr d P X (fun v2' M' => ∃ k', k' < k ∧ Inv k' v2' M') a0 v2 M
theorem cl_X2_pass_45 {w : kt_W} {x : kt_X} {gr : kt_g × kt_M} {d : Nat} {P : Option Value → kt_M → Prop} {X : String → Nat → kt_M → Prop}  {a0 : Nat} {v2 : Int32} {M : kt_M} (O : kt_O w x gr (d + 1) cX2_pass "KeyTurns$State" 3 ("pass", "()V") (Option.none : Option Jvm.ClassFile.FieldType) [])  (h : vl_X2_pass_45 w gr d P X  a0 v2 M) : kt_S w x 3 (kt_E w x P X) M 45 [(0, va_rf (some a0)), (2, .int v2)] [] := by
  obtain ⟨Inv, ⟨k, hk⟩, hb⟩ := h
  induction k using Nat.strongRecOn generalizing v2 M with
  | ind k ih =>
    exact kr_le O fun hle => cj_X2_pass_45 O (fun v2' M' hi => let ⟨k', h1, h2⟩ := hi; ih k' h1 h2) (hb k _ _ hle hk)
def vc_X2_pass_34 (w : kt_W) (gr : kt_g × kt_M) (d : Nat) (P : Option Value → kt_M → Prop) (X : String → Nat → kt_M → Prop)  (a0 : Nat) (M : kt_M) : Prop :=
  (kt_co M a0 = some 1) ∧ 
  kt_Ca w gr d yX2_clean kc_X2_clean [va_rf (some a0)] M (kt_pI fun u1 M2 => (kt_co M2 a0 = some 1) ∧ 
  kt_Ca w gr d yX2_sweep kc_X2_sweep [va_rf (some a0)] M2 (kt_pV fun M3 => vl_X2_pass_45 w gr d P X  a0 (0 : Int32) M3) X) X
theorem cj_X2_pass_34 {w : kt_W} {x : kt_X} {gr : kt_g × kt_M} {d : Nat} {P : Option Value → kt_M → Prop} {X : String → Nat → kt_M → Prop}  {a0 : Nat} {M : kt_M} (O : kt_O w x gr (d + 1) cX2_pass "KeyTurns$State" 3 ("pass", "()V") (Option.none : Option Jvm.ClassFile.FieldType) [])  (h : vc_X2_pass_34 w gr d P X  a0 M) : kt_S w x 3 (kt_E w x P X) M 34 [(0, va_rf (some a0))] [] := by
  unfold vc_X2_pass_34 at h
  refine kr_aload_n O dX2_pass_34 rfl 0 rfl ?_
  obtain ⟨hco, h⟩ := h
  refine kr_caI (rest := []) O cd_X2_clean h (Nat.le_of_ble_eq_true rfl) (fun ls _ => kt_ivV (ci := 1) O dX2_pass_35 cd_X2_clean in_X2_clean (Or.inl q1985) q1378 q1379 hco (by decide) hy_X2_clean) (fun u1 M2 hq => ?_) (fun E q M9 hx => kr_out O hx)
  replace h := hq
  clear hq
  refine kr_istore_n O dX2_pass_38 rfl (Nat.le_of_ble_eq_true rfl) rfl rfl ?_
  refine kr_aload_n O dX2_pass_39 rfl 1 rfl ?_
  obtain ⟨hco, h⟩ := h
  refine kr_caV (rest := []) O cd_X2_sweep h (Nat.le_of_ble_eq_true rfl) (fun ls _ => kt_ivV (ci := 1) O dX2_pass_40 cd_X2_sweep in_X2_sweep (Or.inl q1986) q1987 q1988 hco (by decide) hy_X2_sweep) (fun M3 hq => ?_) (fun E q M9 hx => kr_out O hx)
  replace h := hq
  clear hq
  refine kr_iconst O dX2_pass_43 (v := (0 : Int32)) (by decide) ?_
  refine kr_istore_n O dX2_pass_44 rfl (Nat.le_of_ble_eq_true rfl) rfl rfl ?_
  refine kr_sub [2, 0] rfl ?_
  exact cl_X2_pass_45 O  h
def vc_X2_pass (w : kt_W) (gr : kt_g × kt_M) (d : Nat) (P : Option Value → kt_M → Prop) (X : String → Nat → kt_M → Prop) (a0 : Nat) (M : kt_M) : Prop :=
  ∃ u1, kt_gf M a0 14 = some (.int u1) ∧ kt_hf gr M a0 14 ∧ ∀ M2, M2 = kt_pf M a0 14 (.int (u1 + (1 : Int32))) → ∃ u3, kt_gf M2 a0 14 = some (.int u3) ∧ (kt_co M2 a0 = some 1) ∧ 
  kt_Ca w gr d yX2_isDue kc_X2_isDue [va_rf (some a0), .int u3] M2 (kt_pI fun u4 M5 => 
    ((u4 = 0 → vc_X2_pass_34 w gr d P X  a0 M5) ∧
    (¬ u4 = 0 → ∃ u6, kt_gf M5 a0 14 = some (.int u6) ∧ (kt_co M5 a0 = some 1) ∧ 
    kt_Ca w gr d yX2_dueFirst kc_X2_dueFirst [va_rf (some a0), .int u6] M5 (kt_pI fun u7 M8 => (kt_co M8 a0 = some 1) ∧ 
    kt_Ca w gr d yX2_issue kc_X2_issue [va_rf (some a0), .int u7] M8 (kt_pI fun u9 M10 => vc_X2_pass_34 w gr d P X  a0 M10) X) X))) X
theorem ce_X2_pass {w : kt_W} {g : kt_g} {d : Nat} {P : Option Value → kt_M → Prop} {X : String → Nat → kt_M → Prop} {a0 : Nat} {M : kt_M} (h : vc_X2_pass w (g, M) d P X a0 M) : kt_Sp w g (d + 1) yX2_pass kc_X2_pass [va_rf (some a0)] M P X := by
  refine kt_of (L0 := [(0, va_rf (some a0))]) (by decide +kernel) (Nat.le_of_ble_eq_true rfl) rfl fun x O => ?_
  replace O : kt_O w x (g, M) (d + 1) cX2_pass "KeyTurns$State" 3 ("pass", "()V") (Option.none : Option Jvm.ClassFile.FieldType) [] := O
  unfold vc_X2_pass at h
  refine kr_aload_n O dX2_pass_0 rfl 0 rfl ?_
  refine kr_dup O dX2_pass_1 (kt_nrf _) ?_
  obtain ⟨u1, eu1, h⟩ := h
  refine kr_getf O dX2_pass_2 fs_X2_98 eu1 ?_
  refine kr_iconst O dX2_pass_5 (v := (1 : Int32)) (by decide) ?_
  refine kr_iadd O dX2_pass_6 ?_
  obtain ⟨hw, h⟩ := h
  refine kr_putf O dX2_pass_7 fs_X2_98 (Or.inl rfl) ⟨rfl, rfl⟩ hw (kr_nmM fun M2 hM2 => ?_)
  replace h := h M2 hM2
  refine kr_aload_n O dX2_pass_10 rfl 0 rfl ?_
  refine kr_aload_n O dX2_pass_11 rfl 0 rfl ?_
  obtain ⟨u3, eu3, h⟩ := h
  refine kr_getf O dX2_pass_12 fs_X2_98 eu3 ?_
  obtain ⟨hco, h⟩ := h
  refine kr_caI (rest := []) O cd_X2_isDue h (Nat.le_of_ble_eq_true rfl) (fun ls _ => kt_ivV (ci := 1) O dX2_pass_15 cd_X2_isDue in_X2_isDue (Or.inl q1983) q554 q555 hco (by decide) hy_X2_isDue) (fun u4 M5 hq => ?_) (fun E q M9 hx => kr_out O hx)
  replace h := hq
  clear hq
  refine kr_if_eq (tgt := 34) O dX2_pass_18 rfl (fun hc => ?_) (fun hc => ?_)
  · replace h := h.1 hc
    exact cj_X2_pass_34 O  h
  · replace h := h.2 hc
    refine kr_aload_n O dX2_pass_21 rfl 0 rfl ?_
    refine kr_aload_n O dX2_pass_22 rfl 0 rfl ?_
    refine kr_aload_n O dX2_pass_23 rfl 0 rfl ?_
    obtain ⟨u6, eu6, h⟩ := h
    refine kr_getf O dX2_pass_24 fs_X2_98 eu6 ?_
    obtain ⟨hco, h⟩ := h
    refine kr_caI (rest := [va_rf (some a0)]) O cd_X2_dueFirst h (Nat.le_of_ble_eq_true rfl) (fun ls _ => kt_ivV (ci := 1) O dX2_pass_27 cd_X2_dueFirst in_X2_dueFirst (Or.inl q561) q562 q563 hco (by decide) hy_X2_dueFirst) (fun u7 M8 hq => ?_) (fun E q M9 hx => kr_out O hx)
    replace h := hq
    clear hq
    obtain ⟨hco, h⟩ := h
    refine kr_caI (rest := []) O cd_X2_issue h (Nat.le_of_ble_eq_true rfl) (fun ls _ => kt_ivV (ci := 1) O dX2_pass_30 cd_X2_issue in_X2_issue (Or.inl q1984) q1347 q1348 hco (by decide) hy_X2_issue) (fun u9 M10 hq => ?_) (fun E q M9 hx => kr_out O hx)
    replace h := hq
    clear hq
    refine kr_istore_n O dX2_pass_33 rfl (Nat.le_of_ble_eq_true rfl) rfl rfl ?_
    refine kr_sub [1] rfl ?_
    exact cj_X2_pass_34 O  h
def vc_X2_sweep_11 (w : kt_W) (gr : kt_g × kt_M) (d : Nat) (P : Option Value → kt_M → Prop) (X : String → Nat → kt_M → Prop) (nx11 : Int32 → kt_M → Prop) (a0 : Nat) (v1 : Int32) (v2 : Int32) (M : kt_M) : Prop :=
  ∃ u1, kt_gf M a0 15 = some (.int u1) ∧ 
    ((u1 ≤ v2 → P none M) ∧
    (¬ u1 ≤ v2 → ∃ u2, kt_gf M a0 20 = some (.int u2) ∧ 
      ((u2 ≤ v2 → P none M) ∧
      (¬ u2 ≤ v2 → ∃ p3, kt_gf M a0 11 = some (va_rf p3) ∧ ∃ p4, kt_gf M a0 18 = some (va_rf p4) ∧ ∃ b5, p4 = some b5 ∧ ∃ u6, kt_el 0 M b5 v2 = some (.int u6) ∧ ∃ b7, p3 = some b7 ∧ (kt_co M b7 = some 13) ∧ 
      kt_Ca w gr d yJ3_get kc_J3_get [va_rf (some b7), .int u6] M (kt_pR fun p8 M9 => ∃ b10, p8 = some b10 ∧ (∃ c, kt_co M9 b10 = some c ∧ kt_is c "KeyTurns$Sealed") ∧ ∃ p11, kt_gf M9 b10 26 = some (va_rf p11) ∧ ∃ b12, p11 = some b12 ∧ (kt_co M9 b12 = some 18) ∧ 
      kt_Ca w gr d yJ21_set kc_J21_set [va_rf (some b12), .int v1] M9 (kt_pV fun M13 => ∃ u14, kt_gf M13 a0 17 = some (.int u14) ∧ kt_hf gr M13 a0 17 ∧ ∀ M15, M15 = kt_pf M13 a0 17 (.int (u14 + (1 : Int32))) → nx11 (v2 + (1 : Int32)) M15) X) X))))
theorem cj_X2_sweep_11 {w : kt_W} {x : kt_X} {gr : kt_g × kt_M} {d : Nat} {P : Option Value → kt_M → Prop} {X : String → Nat → kt_M → Prop} {nx11 : Int32 → kt_M → Prop} {a0 : Nat} {v1 : Int32} {v2 : Int32} {M : kt_M} (O : kt_O w x gr (d + 1) cX2_sweep "KeyTurns$State" 3 ("sweep", "()V") (Option.none : Option Jvm.ClassFile.FieldType) []) (hn11 : ∀ v2 M, nx11 v2 M → kt_S w x 3 (kt_E w x P X) M 11 [(0, va_rf (some a0)), (1, .int v1), (2, .int v2)] []) (h : vc_X2_sweep_11 w gr d P X nx11 a0 v1 v2 M) : kt_S w x 3 (kt_E w x P X) M 11 [(0, va_rf (some a0)), (1, .int v1), (2, .int v2)] [] := by
  unfold vc_X2_sweep_11 at h
  refine kr_iload_n O dX2_sweep_11 rfl 2 rfl ?_
  refine kr_aload_n O dX2_sweep_12 rfl 0 rfl ?_
  obtain ⟨u1, eu1, h⟩ := h
  refine kr_getf O dX2_sweep_13 fs_X2_48 eu1 ?_
  refine kr_icmp_ge (tgt := 66) O dX2_sweep_16 rfl (fun hc => ?_) (fun hc => ?_)
  · replace h := h.1 hc
    exact kr_vret O dX2_sweep_66 h
  · replace h := h.2 hc
    refine kr_iload_n O dX2_sweep_19 rfl 2 rfl ?_
    refine kr_aload_n O dX2_sweep_20 rfl 0 rfl ?_
    obtain ⟨u2, eu2, h⟩ := h
    refine kr_getf O dX2_sweep_21 fs_X2_229 eu2 ?_
    refine kr_icmp_ge (tgt := 66) O dX2_sweep_24 rfl (fun hc => ?_) (fun hc => ?_)
    · replace h := h.1 hc
      exact kr_vret O dX2_sweep_66 h
    · replace h := h.2 hc
      refine kr_aload_n O dX2_sweep_27 rfl 0 rfl ?_
      obtain ⟨p3, ep3, h⟩ := h
      refine kr_getf O dX2_sweep_28 fs_X2_18 ep3 ?_
      refine kr_aload_n O dX2_sweep_31 rfl 0 rfl ?_
      obtain ⟨p4, ep4, h⟩ := h
      refine kr_getf O dX2_sweep_32 fs_X2_31 ep4 ?_
      refine kr_iload_n O dX2_sweep_35 rfl 2 rfl ?_
      obtain ⟨b5, rfl, h⟩ := h
      obtain ⟨u6, eu6, h⟩ := h
      refine kr_iaload O dX2_sweep_36 eu6 ?_
      obtain ⟨b7, rfl, h⟩ := h
      obtain ⟨hco, h⟩ := h
      refine kr_caR (rest := []) O cd_J3_get h (Nat.le_of_ble_eq_true rfl) (fun ls _ => kt_ivV (ci := 13) O dX2_sweep_37 cd_J3_get in_J3_get (Or.inl q481) q482 q483 hco (by decide) hy_J3_get) (fun p8 M9 hq => ?_) (fun E q M9 hx => kr_out O hx)
      replace h := hq
      clear hq
      obtain ⟨b10, rfl, h⟩ := h
      obtain ⟨⟨cc1, hc1, hc2⟩, h⟩ := h
      refine kr_cast O dX2_sweep_40 q517 hc1 hc2 ?_
      obtain ⟨p11, ep11, h⟩ := h
      refine kr_getf O dX2_sweep_43 fs_X2_199 ep11 ?_
      refine kr_iload_n O dX2_sweep_46 rfl 1 rfl ?_
      obtain ⟨b12, rfl, h⟩ := h
      obtain ⟨hco, h⟩ := h
      refine kr_caV (rest := []) O cd_J21_set h (Nat.le_of_ble_eq_true rfl) (fun ls _ => kt_ivV (ci := 18) O dX2_sweep_47 cd_J21_set in_J21_set (Or.inl q1399) q1400 q1401 hco (by decide) hy_J21_set) (fun M13 hq => ?_) (fun E q M9 hx => kr_out O hx)
      replace h := hq
      clear hq
      refine kr_aload_n O dX2_sweep_50 rfl 0 rfl ?_
      refine kr_dup O dX2_sweep_51 (kt_nrf _) ?_
      obtain ⟨u14, eu14, h⟩ := h
      refine kr_getf O dX2_sweep_52 fs_X2_104 eu14 ?_
      refine kr_iconst O dX2_sweep_55 (v := (1 : Int32)) (by decide) ?_
      refine kr_iadd O dX2_sweep_56 ?_
      obtain ⟨hw, h⟩ := h
      refine kr_putf O dX2_sweep_57 fs_X2_104 (Or.inl rfl) ⟨rfl, rfl⟩ hw (kr_nmM fun M15 hM15 => ?_)
      replace h := h M15 hM15
      refine kr_iinc O dX2_sweep_60 2 rfl (v := v2 + (1 : Int32)) rfl (Nat.le_of_ble_eq_true rfl) rfl rfl ?_
      refine kr_goto (tgt := 11) O dX2_sweep_63 rfl ?_
      refine kr_sub [1, 2, 0] rfl ?_
      exact hn11 _ _ h
def vl_X2_sweep_11 (w : kt_W) (gr : kt_g × kt_M) (d : Nat) (P : Option Value → kt_M → Prop) (X : String → Nat → kt_M → Prop)  (a0 : Nat) (v1 : Int32) (v2 : Int32) (M : kt_M) : Prop :=
  ∃ Inv : Nat → Int32 → kt_M → Prop, (∃ k, Inv k v2 M) ∧ ∀ k v2 M, kt_le gr.1 gr.2 M → Inv k v2 M → vc_X2_sweep_11 w gr d P X (fun v2' M' => ∃ k', k' < k ∧ Inv k' v2' M') a0 v1 v2 M
theorem cl_X2_sweep_11 {w : kt_W} {x : kt_X} {gr : kt_g × kt_M} {d : Nat} {P : Option Value → kt_M → Prop} {X : String → Nat → kt_M → Prop}  {a0 : Nat} {v1 : Int32} {v2 : Int32} {M : kt_M} (O : kt_O w x gr (d + 1) cX2_sweep "KeyTurns$State" 3 ("sweep", "()V") (Option.none : Option Jvm.ClassFile.FieldType) [])  (h : vl_X2_sweep_11 w gr d P X  a0 v1 v2 M) : kt_S w x 3 (kt_E w x P X) M 11 [(0, va_rf (some a0)), (1, .int v1), (2, .int v2)] [] := by
  obtain ⟨Inv, ⟨k, hk⟩, hb⟩ := h
  induction k using Nat.strongRecOn generalizing v2 M with
  | ind k ih =>
    exact kr_le O fun hle => cj_X2_sweep_11 O (fun v2' M' hi => let ⟨k', h1, h2⟩ := hi; ih k' h1 h2) (hb k _ _ hle hk)
def vc_X2_sweep (w : kt_W) (gr : kt_g × kt_M) (d : Nat) (P : Option Value → kt_M → Prop) (X : String → Nat → kt_M → Prop) (a0 : Nat) (M : kt_M) : Prop :=
  (kt_co M a0 = some 1) ∧ 
  kt_Ca w gr d yX2_writing kc_X2_writing [va_rf (some a0)] M (kt_pI fun u1 M2 => (kt_co M2 a0 = some 1) ∧ 
  kt_Ca w gr d yX2_layDue kc_X2_layDue [va_rf (some a0)] M2 (kt_pV fun M3 => vl_X2_sweep_11 w gr d P X  a0 u1 (0 : Int32) M3) X) X
theorem ce_X2_sweep {w : kt_W} {g : kt_g} {d : Nat} {P : Option Value → kt_M → Prop} {X : String → Nat → kt_M → Prop} {a0 : Nat} {M : kt_M} (h : vc_X2_sweep w (g, M) d P X a0 M) : kt_Sp w g (d + 1) yX2_sweep kc_X2_sweep [va_rf (some a0)] M P X := by
  refine kt_of (L0 := [(0, va_rf (some a0))]) (by decide +kernel) (Nat.le_of_ble_eq_true rfl) rfl fun x O => ?_
  replace O : kt_O w x (g, M) (d + 1) cX2_sweep "KeyTurns$State" 3 ("sweep", "()V") (Option.none : Option Jvm.ClassFile.FieldType) [] := O
  unfold vc_X2_sweep at h
  refine kr_aload_n O dX2_sweep_0 rfl 0 rfl ?_
  obtain ⟨hco, h⟩ := h
  refine kr_caI (rest := []) O cd_X2_writing h (Nat.le_of_ble_eq_true rfl) (fun ls _ => kt_ivV (ci := 1) O dX2_sweep_1 cd_X2_writing in_X2_writing (Or.inl q473) q474 q475 hco (by decide) hy_X2_writing) (fun u1 M2 hq => ?_) (fun E q M9 hx => kr_out O hx)
  replace h := hq
  clear hq
  refine kr_istore_n O dX2_sweep_4 rfl (Nat.le_of_ble_eq_true rfl) rfl rfl ?_
  refine kr_aload_n O dX2_sweep_5 rfl 1 rfl ?_
  obtain ⟨hco, h⟩ := h
  refine kr_caV (rest := []) O cd_X2_layDue h (Nat.le_of_ble_eq_true rfl) (fun ls _ => kt_ivV (ci := 1) O dX2_sweep_6 cd_X2_layDue in_X2_layDue (Or.inl q469) q471 qs4 hco (by decide) hy_X2_layDue) (fun M3 hq => ?_) (fun E q M9 hx => kr_out O hx)
  replace h := hq
  clear hq
  refine kr_iconst O dX2_sweep_9 (v := (0 : Int32)) (by decide) ?_
  refine kr_istore_n O dX2_sweep_10 rfl (Nat.le_of_ble_eq_true rfl) rfl rfl ?_
  refine kr_sub [2, 1, 0] rfl ?_
  exact cl_X2_sweep_11 O  h
def vc_X2_share (w : kt_W) (gr : kt_g × kt_M) (d : Nat) (P : Option Value → kt_M → Prop) (X : String → Nat → kt_M → Prop) (a0 : Nat) (v1 : Int32) (M : kt_M) : Prop :=
  (kt_co M a0 = some 1) ∧ 
  kt_Ca w gr d yX2_recordCount kc_X2_recordCount [va_rf (some a0)] M (kt_pI fun u1 M2 => 
    ((¬ u1 = 0 → (kt_co M2 a0 = some 1) ∧ 
    kt_Ca w gr d yX2_readable kc_X2_readable [va_rf (some a0), .int v1] M2 (kt_pI fun u3 M4 => vf_n32 (FP.fdiv (FP.i2f u3) (FP.i2f u1)) ∧ P (some (.float (FP.fdiv (FP.i2f u3) (FP.i2f u1)))) M4) X) ∧
    (u1 = 0 → P (some (.float FP.fconst1)) M2))) X
theorem ce_X2_share {w : kt_W} {g : kt_g} {d : Nat} {P : Option Value → kt_M → Prop} {X : String → Nat → kt_M → Prop} {a0 : Nat} {v1 : Int32} {M : kt_M} (h : vc_X2_share w (g, M) d P X a0 v1 M) : kt_Sp w g (d + 1) yX2_share kc_X2_share [va_rf (some a0), .int v1] M P X := by
  refine kt_of (L0 := [(0, va_rf (some a0)), (1, .int v1)]) (by decide +kernel) (Nat.le_of_ble_eq_true rfl) rfl fun x O => ?_
  replace O : kt_O w x (g, M) (d + 1) cX2_share "KeyTurns$State" 3 ("share", "(I)F") (Option.some Jvm.ClassFile.FieldType.float) [] := O
  unfold vc_X2_share at h
  refine kr_aload_n O dX2_share_0 rfl 0 rfl ?_
  obtain ⟨hco, h⟩ := h
  refine kr_caI (rest := []) O cd_X2_recordCount h (Nat.le_of_ble_eq_true rfl) (fun ls _ => kt_ivV (ci := 1) O dX2_share_1 cd_X2_recordCount in_X2_recordCount (Or.inl q2013) q570 q571 hco (by decide) hy_X2_recordCount) (fun u1 M2 hq => ?_) (fun E q M9 hx => kr_out O hx)
  replace h := hq
  clear hq
  refine kr_istore_n O dX2_share_4 rfl (Nat.le_of_ble_eq_true rfl) rfl rfl ?_
  refine kr_iload_n O dX2_share_5 rfl 0 rfl ?_
  refine kr_if_ne (tgt := 13) O dX2_share_6 rfl (fun hc => ?_) (fun hc => ?_)
  · replace h := h.1 hc
    refine kr_aload_n O dX2_share_13 rfl 1 rfl ?_
    refine kr_iload_n O dX2_share_14 rfl 2 rfl ?_
    obtain ⟨hco, h⟩ := h
    refine kr_caI (rest := []) O cd_X2_readable h (Nat.le_of_ble_eq_true rfl) (fun ls _ => kt_ivV (ci := 1) O dX2_share_15 cd_X2_readable in_X2_readable (Or.inl q2014) q596 q597 hco (by decide) hy_X2_readable) (fun u3 M4 hq => ?_) (fun E q M9 hx => kr_out O hx)
    replace h := hq
    clear hq
    refine kr_i2f O dX2_share_18 ?_
    refine kr_iload_n O dX2_share_19 rfl 0 rfl ?_
    refine kr_i2f O dX2_share_20 ?_
    obtain ⟨hne, h⟩ := h
    refine kr_fdiv O dX2_share_21 hne ?_
    exact kr_fret O dX2_share_22 h
  · replace h := h.2 hc
    refine kr_fconst1 O dX2_share_9 ?_
    refine kr_goto (tgt := 22) O dX2_share_10 rfl ?_
    exact kr_fret O dX2_share_22 h
def vc_X2_canWithdraw (w : kt_W) (gr : kt_g × kt_M) (d : Nat) (P : Option Value → kt_M → Prop) (X : String → Nat → kt_M → Prop) (a0 : Nat) (v1 : Int32) (M : kt_M) : Prop :=
  ∃ p1, kt_gf M a0 10 = some (va_rf p1) ∧ ∃ b2, p1 = some b2 ∧ (kt_co M b2 = some 13) ∧ 
  kt_Ca w gr d yJ3_get kc_J3_get [va_rf (some b2), .int v1] M (kt_pR fun p3 M4 => ∃ b5, p3 = some b5 ∧ (∃ c, kt_co M4 b5 = some c ∧ kt_is c "KeyTurns$Version") ∧ ∃ z6, kt_io M4 b5 "KeyTurns$Issued" z6 ∧ 
    ((z6 = 0 → P (some (.int (0 : Int32))) M4) ∧
    (¬ z6 = 0 → ∃ u7, kt_gf M4 a0 14 = some (.int u7) ∧ (kt_co M4 b5 = some 2 ∨ kt_co M4 b5 = some 3) ∧ 
    kt_Ca w gr d yX3_hasEnded kc_X3_hasEnded [va_rf (some b5), .int u7] M4 (kt_pI fun u8 M9 => 
      ((¬ u8 = 0 → P (some (.int (0 : Int32))) M9) ∧
      (u8 = 0 → P (some (.int (1 : Int32))) M9))) X))) X
theorem ce_X2_canWithdraw {w : kt_W} {g : kt_g} {d : Nat} {P : Option Value → kt_M → Prop} {X : String → Nat → kt_M → Prop} {a0 : Nat} {v1 : Int32} {M : kt_M} (h : vc_X2_canWithdraw w (g, M) d P X a0 v1 M) : kt_Sp w g (d + 1) yX2_canWithdraw kc_X2_canWithdraw [va_rf (some a0), .int v1] M P X := by
  refine kt_of (L0 := [(0, va_rf (some a0)), (1, .int v1)]) (by decide +kernel) (Nat.le_of_ble_eq_true rfl) rfl fun x O => ?_
  replace O : kt_O w x (g, M) (d + 1) cX2_canWithdraw "KeyTurns$State" 3 ("canWithdraw", "(I)Z") (Option.some Jvm.ClassFile.FieldType.boolean) [] := O
  unfold vc_X2_canWithdraw at h
  refine kr_aload_n O dX2_canWithdraw_0 rfl 0 rfl ?_
  obtain ⟨p1, ep1, h⟩ := h
  refine kr_getf O dX2_canWithdraw_1 fs_X2_12 ep1 ?_
  refine kr_iload_n O dX2_canWithdraw_4 rfl 1 rfl ?_
  obtain ⟨b2, rfl, h⟩ := h
  obtain ⟨hco, h⟩ := h
  refine kr_caR (rest := []) O cd_J3_get h (Nat.le_of_ble_eq_true rfl) (fun ls _ => kt_ivV (ci := 13) O dX2_canWithdraw_5 cd_J3_get in_J3_get (Or.inl q481) q482 q483 hco (by decide) hy_J3_get) (fun p3 M4 hq => ?_) (fun E q M9 hx => kr_out O hx)
  replace h := hq
  clear hq
  obtain ⟨b5, rfl, h⟩ := h
  obtain ⟨⟨cc1, hc1, hc2⟩, h⟩ := h
  refine kr_cast O dX2_canWithdraw_8 q495 hc1 hc2 ?_
  refine kr_astore_n O dX2_canWithdraw_11 rfl (Nat.le_of_ble_eq_true rfl) rfl rfl ?_
  refine kr_aload_n O dX2_canWithdraw_12 rfl 0 rfl ?_
  obtain ⟨z6, hz6, h⟩ := h
  refine kr_inst O dX2_canWithdraw_13 q1350 hz6 ?_
  refine kr_if_eq (tgt := 34) O dX2_canWithdraw_16 rfl (fun hc => ?_) (fun hc => ?_)
  · replace h := h.1 hc
    refine kr_iconst O dX2_canWithdraw_34 (v := (0 : Int32)) (by decide) ?_
    exact kr_iret O dX2_canWithdraw_35 (by decide) h
  · replace h := h.2 hc
    refine kr_aload_n O dX2_canWithdraw_19 rfl 0 rfl ?_
    refine kr_aload_n O dX2_canWithdraw_20 rfl 1 rfl ?_
    obtain ⟨u7, eu7, h⟩ := h
    refine kr_getf O dX2_canWithdraw_21 fs_X2_98 eu7 ?_
    obtain ⟨hco, h⟩ := h
    refine kr_caI (rest := []) O cd_X3_hasEnded h (Nat.le_of_ble_eq_true rfl) (fun ls _ => by rcases hco with hco | hco <;> first | exact kt_ivV (ci := 2) O dX2_canWithdraw_24 cd_X3_hasEnded in_X3_hasEnded (Or.inl q1385) q1386 q1388 hco (by decide) hy_X3_hasEnded | exact kt_ivV (ci := 3) O dX2_canWithdraw_24 cd_X3_hasEnded in_X3_hasEnded (Or.inl q1385) q1386 q1389 hco (by decide) hy_X3_hasEnded) (fun u8 M9 hq => ?_) (fun E q M9 hx => kr_out O hx)
    replace h := hq
    clear hq
    refine kr_if_ne (tgt := 34) O dX2_canWithdraw_27 rfl (fun hc => ?_) (fun hc => ?_)
    · replace h := h.1 hc
      refine kr_iconst O dX2_canWithdraw_34 (v := (0 : Int32)) (by decide) ?_
      exact kr_iret O dX2_canWithdraw_35 (by decide) h
    · replace h := h.2 hc
      refine kr_iconst O dX2_canWithdraw_30 (v := (1 : Int32)) (by decide) ?_
      refine kr_goto (tgt := 35) O dX2_canWithdraw_31 rfl ?_
      exact kr_iret O dX2_canWithdraw_35 (by decide) h
def vc_X2_lambda_isAlone_0 (w : kt_W) (gr : kt_g × kt_M) (d : Nat) (P : Option Value → kt_M → Prop) (X : String → Nat → kt_M → Prop) (a0 : Nat) (v1 : Int32) (r2 : Option Nat) (M : kt_M) : Prop :=
  ∃ b1, r2 = some b1 ∧ ∃ u2, kt_gf M b1 21 = some (.int u2) ∧ 
    ((u2 = v1 → P (some (.int (0 : Int32))) M) ∧
    (¬ u2 = v1 → ∃ u3, kt_gf M a0 14 = some (.int u3) ∧ (kt_co M b1 = some 2 ∨ kt_co M b1 = some 3) ∧ 
    kt_Ca w gr d yX3_isInForce kc_X3_isInForce [va_rf (some b1), .int u3] M (kt_pI fun u4 M5 => 
      ((u4 = 0 → P (some (.int (0 : Int32))) M5) ∧
      (¬ u4 = 0 → P (some (.int (1 : Int32))) M5))) X))
theorem ce_X2_lambda_isAlone_0 {w : kt_W} {g : kt_g} {d : Nat} {P : Option Value → kt_M → Prop} {X : String → Nat → kt_M → Prop} {a0 : Nat} {v1 : Int32} {r2 : Option Nat} {M : kt_M} (h : vc_X2_lambda_isAlone_0 w (g, M) d P X a0 v1 r2 M) : kt_Sp w g (d + 1) yX2_lambda_isAlone_0 kc_X2_lambda_isAlone_0 [va_rf (some a0), .int v1, va_rf r2] M P X := by
  refine kt_of (L0 := [(0, va_rf (some a0)), (1, .int v1), (2, va_rf r2)]) (by decide +kernel) (by simp only [kt_lgR, kt_lgI, kt_lgN] <;> exact Nat.le_of_ble_eq_true rfl) (by simp only [kt_lvR, kt_lvI, kt_lvN] <;> rfl) fun x O => ?_
  replace O : kt_O w x (g, M) (d + 1) cX2_lambda_isAlone_0 "KeyTurns$State" 3 ("lambda$isAlone$0", "(ILKeyTurns$Version;)Z") (Option.some Jvm.ClassFile.FieldType.boolean) [] := O
  unfold vc_X2_lambda_isAlone_0 at h
  refine kr_aload_n O dX2_lambda_isAlone_0_0 rfl 2 rfl ?_
  obtain ⟨b1, rfl, h⟩ := h
  obtain ⟨u2, eu2, h⟩ := h
  refine kr_getf O dX2_lambda_isAlone_0_1 fs_X2_293 eu2 ?_
  refine kr_iload_n O dX2_lambda_isAlone_0_4 rfl 1 rfl ?_
  refine kr_icmp_eq (tgt := 23) O dX2_lambda_isAlone_0_5 rfl (fun hc => ?_) (fun hc => ?_)
  · replace h := h.1 hc
    refine kr_iconst O dX2_lambda_isAlone_0_23 (v := (0 : Int32)) (by decide) ?_
    exact kr_iret O dX2_lambda_isAlone_0_24 (by decide) h
  · replace h := h.2 hc
    refine kr_aload_n O dX2_lambda_isAlone_0_8 rfl 2 rfl ?_
    refine kr_aload_n O dX2_lambda_isAlone_0_9 rfl 0 rfl ?_
    obtain ⟨u3, eu3, h⟩ := h
    refine kr_getf O dX2_lambda_isAlone_0_10 fs_X2_98 eu3 ?_
    obtain ⟨hco, h⟩ := h
    refine kr_caI (rest := []) O cd_X3_isInForce h (Nat.le_of_ble_eq_true rfl) (fun ls _ => by rcases hco with hco | hco <;> first | exact kt_ivV (ci := 2) O dX2_lambda_isAlone_0_13 cd_X3_isInForce in_X3_isInForce (Or.inl q496) q497 q499 hco (by decide) hy_X3_isInForce | exact kt_ivV (ci := 3) O dX2_lambda_isAlone_0_13 cd_X3_isInForce in_X3_isInForce (Or.inl q496) q497 q500 hco (by decide) hy_X3_isInForce) (fun u4 M5 hq => ?_) (fun E q M9 hx => kr_out O hx)
    replace h := hq
    clear hq
    refine kr_if_eq (tgt := 23) O dX2_lambda_isAlone_0_16 rfl (fun hc => ?_) (fun hc => ?_)
    · replace h := h.1 hc
      refine kr_iconst O dX2_lambda_isAlone_0_23 (v := (0 : Int32)) (by decide) ?_
      exact kr_iret O dX2_lambda_isAlone_0_24 (by decide) h
    · replace h := h.2 hc
      refine kr_iconst O dX2_lambda_isAlone_0_19 (v := (1 : Int32)) (by decide) ?_
      refine kr_goto (tgt := 24) O dX2_lambda_isAlone_0_20 rfl ?_
      exact kr_iret O dX2_lambda_isAlone_0_24 (by decide) h
def vc_X2_lambda_withdraw_1 (w : kt_W) (gr : kt_g × kt_M) (d : Nat) (P : Option Value → kt_M → Prop) (X : String → Nat → kt_M → Prop) (r0 : Option Nat) (M : kt_M) : Prop :=
  ∃ b1, r0 = some b1 ∧ ∃ z2, kt_io M b1 "KeyTurns$Issued" z2 ∧ narrow .boolean (.int z2) = .int z2 ∧ P (some (.int z2)) M
theorem ce_X2_lambda_withdraw_1 {w : kt_W} {g : kt_g} {d : Nat} {P : Option Value → kt_M → Prop} {X : String → Nat → kt_M → Prop} {r0 : Option Nat} {M : kt_M} (h : vc_X2_lambda_withdraw_1 w (g, M) d P X r0 M) : kt_Sp w g (d + 1) yX2_lambda_withdraw_1 kc_X2_lambda_withdraw_1 [va_rf r0] M P X := by
  refine kt_of (L0 := [(0, va_rf r0)]) (by decide +kernel) (by simp only [kt_lgR, kt_lgI, kt_lgN] <;> exact Nat.le_of_ble_eq_true rfl) (by simp only [kt_lvR, kt_lvI, kt_lvN] <;> rfl) fun x O => ?_
  replace O : kt_O w x (g, M) (d + 1) cX2_lambda_withdraw_1 "KeyTurns$State" 1 ("lambda$withdraw$1", "(LKeyTurns$Version;)Z") (Option.some Jvm.ClassFile.FieldType.boolean) [] := O
  unfold vc_X2_lambda_withdraw_1 at h
  refine kr_aload_n O dX2_lambda_withdraw_1_0 rfl 0 rfl ?_
  obtain ⟨b1, rfl, h⟩ := h
  obtain ⟨z2, hz2, h⟩ := h
  refine kr_inst O dX2_lambda_withdraw_1_1 q1350 hz2 ?_
  exact kr_iret O dX2_lambda_withdraw_1_4 h.1 h.2
def vc_X2_lambda_withdraw_2 (w : kt_W) (gr : kt_g × kt_M) (d : Nat) (P : Option Value → kt_M → Prop) (X : String → Nat → kt_M → Prop) (a0 : Nat) (r1 : Option Nat) (M : kt_M) : Prop :=
  ∃ b1, r1 = some b1 ∧ ∃ z2, kt_io M b1 "KeyTurns$Issued" z2 ∧ 
    ((z2 = 0 → P (some (.int (0 : Int32))) M) ∧
    (¬ z2 = 0 → ∃ u3, kt_gf M a0 14 = some (.int u3) ∧ (kt_co M b1 = some 2 ∨ kt_co M b1 = some 3) ∧ 
    kt_Ca w gr d yX3_hasEnded kc_X3_hasEnded [va_rf (some b1), .int u3] M (kt_pI fun u4 M5 => 
      ((¬ u4 = 0 → P (some (.int (0 : Int32))) M5) ∧
      (u4 = 0 → P (some (.int (1 : Int32))) M5))) X))
theorem ce_X2_lambda_withdraw_2 {w : kt_W} {g : kt_g} {d : Nat} {P : Option Value → kt_M → Prop} {X : String → Nat → kt_M → Prop} {a0 : Nat} {r1 : Option Nat} {M : kt_M} (h : vc_X2_lambda_withdraw_2 w (g, M) d P X a0 r1 M) : kt_Sp w g (d + 1) yX2_lambda_withdraw_2 kc_X2_lambda_withdraw_2 [va_rf (some a0), va_rf r1] M P X := by
  refine kt_of (L0 := [(0, va_rf (some a0)), (1, va_rf r1)]) (by decide +kernel) (by simp only [kt_lgR, kt_lgI, kt_lgN] <;> exact Nat.le_of_ble_eq_true rfl) (by simp only [kt_lvR, kt_lvI, kt_lvN] <;> rfl) fun x O => ?_
  replace O : kt_O w x (g, M) (d + 1) cX2_lambda_withdraw_2 "KeyTurns$State" 2 ("lambda$withdraw$2", "(LKeyTurns$Version;)Z") (Option.some Jvm.ClassFile.FieldType.boolean) [] := O
  unfold vc_X2_lambda_withdraw_2 at h
  refine kr_aload_n O dX2_lambda_withdraw_2_0 rfl 1 rfl ?_
  obtain ⟨b1, rfl, h⟩ := h
  obtain ⟨z2, hz2, h⟩ := h
  refine kr_inst O dX2_lambda_withdraw_2_1 q1350 hz2 ?_
  refine kr_if_eq (tgt := 22) O dX2_lambda_withdraw_2_4 rfl (fun hc => ?_) (fun hc => ?_)
  · replace h := h.1 hc
    refine kr_iconst O dX2_lambda_withdraw_2_22 (v := (0 : Int32)) (by decide) ?_
    exact kr_iret O dX2_lambda_withdraw_2_23 (by decide) h
  · replace h := h.2 hc
    refine kr_aload_n O dX2_lambda_withdraw_2_7 rfl 1 rfl ?_
    refine kr_aload_n O dX2_lambda_withdraw_2_8 rfl 0 rfl ?_
    obtain ⟨u3, eu3, h⟩ := h
    refine kr_getf O dX2_lambda_withdraw_2_9 fs_X2_98 eu3 ?_
    obtain ⟨hco, h⟩ := h
    refine kr_caI (rest := []) O cd_X3_hasEnded h (Nat.le_of_ble_eq_true rfl) (fun ls _ => by rcases hco with hco | hco <;> first | exact kt_ivV (ci := 2) O dX2_lambda_withdraw_2_12 cd_X3_hasEnded in_X3_hasEnded (Or.inl q1385) q1386 q1388 hco (by decide) hy_X3_hasEnded | exact kt_ivV (ci := 3) O dX2_lambda_withdraw_2_12 cd_X3_hasEnded in_X3_hasEnded (Or.inl q1385) q1386 q1389 hco (by decide) hy_X3_hasEnded) (fun u4 M5 hq => ?_) (fun E q M9 hx => kr_out O hx)
    replace h := hq
    clear hq
    refine kr_if_ne (tgt := 22) O dX2_lambda_withdraw_2_15 rfl (fun hc => ?_) (fun hc => ?_)
    · replace h := h.1 hc
      refine kr_iconst O dX2_lambda_withdraw_2_22 (v := (0 : Int32)) (by decide) ?_
      exact kr_iret O dX2_lambda_withdraw_2_23 (by decide) h
    · replace h := h.2 hc
      refine kr_iconst O dX2_lambda_withdraw_2_18 (v := (1 : Int32)) (by decide) ?_
      refine kr_goto (tgt := 23) O dX2_lambda_withdraw_2_19 rfl ?_
      exact kr_iret O dX2_lambda_withdraw_2_23 (by decide) h
def vc_X2_keep_37 (w : kt_W) (gr : kt_g × kt_M) (d : Nat) (P : Option Value → kt_M → Prop) (X : String → Nat → kt_M → Prop) (nx12 : Int32 → kt_M → Prop) (a0 : Nat) (a1 : Nat) (v2 : Int32) (s0 : Int32) (s1 : Int32) (sa2 : Nat) (M : kt_M) : Prop :=
  kt_hii gr 0 M sa2 s1 ∧ ∀ M1, M1 = kt_si M sa2 s1 s0 → nx12 (v2 + (1 : Int32)) M1
theorem cj_X2_keep_37 {w : kt_W} {x : kt_X} {gr : kt_g × kt_M} {d : Nat} {P : Option Value → kt_M → Prop} {X : String → Nat → kt_M → Prop} {nx12 : Int32 → kt_M → Prop} {a0 : Nat} {a1 : Nat} {v2 : Int32} {s0 : Int32} {s1 : Int32} {sa2 : Nat} {M : kt_M} (O : kt_O w x gr (d + 1) cX2_keep "KeyTurns$State" 3 ("keep", "()V") (Option.none : Option Jvm.ClassFile.FieldType) []) (hn12 : ∀ v2 M, nx12 v2 M → kt_S w x 3 (kt_E w x P X) M 12 [(0, va_rf (some a0)), (1, va_rf (some a1)), (2, .int v2)] []) (h : vc_X2_keep_37 w gr d P X nx12 a0 a1 v2 s0 s1 sa2 M) : kt_S w x 3 (kt_E w x P X) M 37 [(0, va_rf (some a0)), (1, va_rf (some a1)), (2, .int v2)] [.int s0, .int s1, va_rf (some sa2)] := by
  unfold vc_X2_keep_37 at h
  obtain ⟨hw, h⟩ := h
  refine kr_iastore O dX2_keep_37 hw (kr_nmM fun M1 hM1 => ?_)
  replace h := h M1 hM1
  refine kr_iinc O dX2_keep_38 2 rfl (v := v2 + (1 : Int32)) rfl (Nat.le_of_ble_eq_true rfl) rfl rfl ?_
  refine kr_goto (tgt := 12) O dX2_keep_41 rfl ?_
  refine kr_sub [1, 2, 0] rfl ?_
  exact hn12 _ _ h
def vc_X2_keep_12 (w : kt_W) (gr : kt_g × kt_M) (d : Nat) (P : Option Value → kt_M → Prop) (X : String → Nat → kt_M → Prop) (nx12 : Int32 → kt_M → Prop) (a0 : Nat) (a1 : Nat) (v2 : Int32) (M : kt_M) : Prop :=
  ∃ n1, kt_len M a1 = some n1 ∧ 
    (((nI n1) ≤ v2 → ∃ p2, kt_gf M a0 13 = some (va_rf p2) ∧ ∃ b3, p2 = some b3 ∧ (kt_co M b3 = some 14) ∧ 
    kt_Ca w gr d yJ5_addLast kc_J5_addLast [va_rf (some b3), va_rf (some a1)] M (kt_pV fun M4 => ∃ p5, kt_gf M4 a0 13 = some (va_rf p5) ∧ ∃ b6, p5 = some b6 ∧ (kt_co M4 b6 = some 14) ∧ 
    kt_Ca w gr d yJ5_size kc_J5_size [va_rf (some b6)] M4 (kt_pI fun u7 M8 => 
      ((u7 ≤ (48 : Int32) → P none M8) ∧
      (¬ u7 ≤ (48 : Int32) → ∃ p9, kt_gf M8 a0 13 = some (va_rf p9) ∧ ∃ b10, p9 = some b10 ∧ (kt_co M8 b10 = some 14) ∧ 
      kt_Ca w gr d yJ5_removeFirst kc_J5_removeFirst [va_rf (some b10)] M8 (kt_pR fun p11 M12 => P none M12) X))) X) X) ∧
    (¬ (nI n1) ≤ v2 → (kt_co M a0 = some 1) ∧ 
    kt_Ca w gr d yX2_isThere kc_X2_isThere [va_rf (some a0), .int v2] M (kt_pI fun u13 M14 => 
      ((u13 = 0 → vc_X2_keep_37 w gr d P X nx12 a0 a1 v2 (-1 : Int32) v2 a1 M14) ∧
      (¬ u13 = 0 → (kt_co M14 a0 = some 1) ∧ 
      kt_Ca w gr d yX2_readers kc_X2_readers [va_rf (some a0), .int v2] M14 (kt_pI fun u15 M16 => vc_X2_keep_37 w gr d P X nx12 a0 a1 v2 u15 v2 a1 M16) X))) X))
theorem cj_X2_keep_12 {w : kt_W} {x : kt_X} {gr : kt_g × kt_M} {d : Nat} {P : Option Value → kt_M → Prop} {X : String → Nat → kt_M → Prop} {nx12 : Int32 → kt_M → Prop} {a0 : Nat} {a1 : Nat} {v2 : Int32} {M : kt_M} (O : kt_O w x gr (d + 1) cX2_keep "KeyTurns$State" 3 ("keep", "()V") (Option.none : Option Jvm.ClassFile.FieldType) []) (hn12 : ∀ v2 M, nx12 v2 M → kt_S w x 3 (kt_E w x P X) M 12 [(0, va_rf (some a0)), (1, va_rf (some a1)), (2, .int v2)] []) (h : vc_X2_keep_12 w gr d P X nx12 a0 a1 v2 M) : kt_S w x 3 (kt_E w x P X) M 12 [(0, va_rf (some a0)), (1, va_rf (some a1)), (2, .int v2)] [] := by
  unfold vc_X2_keep_12 at h
  refine kr_iload_n O dX2_keep_12 rfl 2 rfl ?_
  refine kr_aload_n O dX2_keep_13 rfl 1 rfl ?_
  obtain ⟨n1, en1, h⟩ := h
  refine kr_alen O dX2_keep_14 en1 ?_
  refine kr_icmp_ge (tgt := 44) O dX2_keep_15 rfl (fun hc => ?_) (fun hc => ?_)
  · replace h := h.1 hc
    refine kr_aload_n O dX2_keep_44 rfl 0 rfl ?_
    obtain ⟨p2, ep2, h⟩ := h
    refine kr_getf O dX2_keep_45 fs_X2_27 ep2 ?_
    refine kr_aload_n O dX2_keep_48 rfl 1 rfl ?_
    obtain ⟨b3, rfl, h⟩ := h
    obtain ⟨hco, h⟩ := h
    refine kr_caV (rest := []) O cd_J5_addLast h (Nat.le_of_ble_eq_true rfl) (fun ls _ => kt_ivV (ci := 14) O dX2_keep_49 cd_J5_addLast in_J5_addLast (Or.inl q1317) q1318 q1319 hco (by decide) hy_J5_addLast) (fun M4 hq => ?_) (fun E q M9 hx => kr_out O hx)
    replace h := hq
    clear hq
    refine kr_aload_n O dX2_keep_52 rfl 0 rfl ?_
    obtain ⟨p5, ep5, h⟩ := h
    refine kr_getf O dX2_keep_53 fs_X2_27 ep5 ?_
    obtain ⟨b6, rfl, h⟩ := h
    obtain ⟨hco, h⟩ := h
    refine kr_caI (rest := []) O cd_J5_size h (Nat.le_of_ble_eq_true rfl) (fun ls _ => kt_ivV (ci := 14) O dX2_keep_56 cd_J5_size in_J5_size (Or.inl q1954) q962 q3022 hco (by decide) hy_J5_size) (fun u7 M8 hq => ?_) (fun E q M9 hx => kr_out O hx)
    replace h := hq
    clear hq
    refine kr_bipush O dX2_keep_59 (v := (48 : Int32)) (by decide) ?_
    refine kr_icmp_le (tgt := 72) O dX2_keep_61 rfl (fun hc => ?_) (fun hc => ?_)
    · replace h := h.1 hc
      exact kr_vret O dX2_keep_72 h
    · replace h := h.2 hc
      refine kr_aload_n O dX2_keep_64 rfl 0 rfl ?_
      obtain ⟨p9, ep9, h⟩ := h
      refine kr_getf O dX2_keep_65 fs_X2_27 ep9 ?_
      obtain ⟨b10, rfl, h⟩ := h
      obtain ⟨hco, h⟩ := h
      refine kr_caR (rest := []) O cd_J5_removeFirst h (Nat.le_of_ble_eq_true rfl) (fun ls _ => kt_ivV (ci := 14) O dX2_keep_68 cd_J5_removeFirst in_J5_removeFirst (Or.inl q2077) q2078 q2079 hco (by decide) hy_J5_removeFirst) (fun p11 M12 hq => ?_) (fun E q M9 hx => kr_out O hx)
      replace h := hq
      clear hq
      refine kr_pop O dX2_keep_71 (kt_nrf _) ?_
      exact kr_vret O dX2_keep_72 h
  · replace h := h.2 hc
    refine kr_aload_n O dX2_keep_18 rfl 1 rfl ?_
    refine kr_iload_n O dX2_keep_19 rfl 2 rfl ?_
    refine kr_aload_n O dX2_keep_20 rfl 0 rfl ?_
    refine kr_iload_n O dX2_keep_21 rfl 2 rfl ?_
    obtain ⟨hco, h⟩ := h
    refine kr_caI (rest := [.int v2, va_rf (some a1)]) O cd_X2_isThere h (Nat.le_of_ble_eq_true rfl) (fun ls _ => kt_ivV (ci := 1) O dX2_keep_22 cd_X2_isThere in_X2_isThere (Or.inl q512) q513 q514 hco (by decide) hy_X2_isThere) (fun u13 M14 hq => ?_) (fun E q M9 hx => kr_out O hx)
    replace h := hq
    clear hq
    refine kr_if_eq (tgt := 36) O dX2_keep_25 rfl (fun hc => ?_) (fun hc => ?_)
    · replace h := h.1 hc
      refine kr_iconst O dX2_keep_36 (v := (-1 : Int32)) (by decide) ?_
      exact cj_X2_keep_37 O hn12 h
    · replace h := h.2 hc
      refine kr_aload_n O dX2_keep_28 rfl 0 rfl ?_
      refine kr_iload_n O dX2_keep_29 rfl 2 rfl ?_
      obtain ⟨hco, h⟩ := h
      refine kr_caI (rest := [.int v2, va_rf (some a1)]) O cd_X2_readers h (Nat.le_of_ble_eq_true rfl) (fun ls _ => kt_ivV (ci := 1) O dX2_keep_30 cd_X2_readers in_X2_readers (Or.inl q2076) q1904 q1905 hco (by decide) hy_X2_readers) (fun u15 M16 hq => ?_) (fun E q M9 hx => kr_out O hx)
      replace h := hq
      clear hq
      refine kr_goto (tgt := 37) O dX2_keep_33 rfl ?_
      exact cj_X2_keep_37 O hn12 h
def vl_X2_keep_12 (w : kt_W) (gr : kt_g × kt_M) (d : Nat) (P : Option Value → kt_M → Prop) (X : String → Nat → kt_M → Prop)  (a0 : Nat) (a1 : Nat) (v2 : Int32) (M : kt_M) : Prop :=
  ∃ Inv : Nat → Int32 → kt_M → Prop, (∃ k, Inv k v2 M) ∧ ∀ k v2 M, kt_le gr.1 gr.2 M → Inv k v2 M → vc_X2_keep_12 w gr d P X (fun v2' M' => ∃ k', k' < k ∧ Inv k' v2' M') a0 a1 v2 M
theorem cl_X2_keep_12 {w : kt_W} {x : kt_X} {gr : kt_g × kt_M} {d : Nat} {P : Option Value → kt_M → Prop} {X : String → Nat → kt_M → Prop}  {a0 : Nat} {a1 : Nat} {v2 : Int32} {M : kt_M} (O : kt_O w x gr (d + 1) cX2_keep "KeyTurns$State" 3 ("keep", "()V") (Option.none : Option Jvm.ClassFile.FieldType) [])  (h : vl_X2_keep_12 w gr d P X  a0 a1 v2 M) : kt_S w x 3 (kt_E w x P X) M 12 [(0, va_rf (some a0)), (1, va_rf (some a1)), (2, .int v2)] [] := by
  obtain ⟨Inv, ⟨k, hk⟩, hb⟩ := h
  induction k using Nat.strongRecOn generalizing v2 M with
  | ind k ih =>
    exact kr_le O fun hle => cj_X2_keep_12 O (fun v2' M' hi => let ⟨k', h1, h2⟩ := hi; ih k' h1 h2) (hb k _ _ hle hk)
def vc_X2_keep (w : kt_W) (gr : kt_g × kt_M) (d : Nat) (P : Option Value → kt_M → Prop) (X : String → Nat → kt_M → Prop) (a0 : Nat) (M : kt_M) : Prop :=
  ∃ p1, kt_gf M a0 11 = some (va_rf p1) ∧ ∃ b2, p1 = some b2 ∧ (kt_co M b2 = some 13) ∧ 
  kt_Ca w gr d yJ3_size kc_J3_size [va_rf (some b2)] M (kt_pI fun u3 M4 => ∃ n5, u3 = nI n5 ∧ n5 < 2 ^ 31 ∧ kt_fits w M4 n5 ∧ ∃ t6, ∀ M7, M7 = kt_new M4 n5 (t6 + 2, .inl (0, kt_z 0 n5)) → vl_X2_keep_12 w gr d P X  a0 M4.1 (0 : Int32) M7) X
theorem ce_X2_keep {w : kt_W} {g : kt_g} {d : Nat} {P : Option Value → kt_M → Prop} {X : String → Nat → kt_M → Prop} {a0 : Nat} {M : kt_M} (h : vc_X2_keep w (g, M) d P X a0 M) : kt_Sp w g (d + 1) yX2_keep kc_X2_keep [va_rf (some a0)] M P X := by
  refine kt_of (L0 := [(0, va_rf (some a0))]) (by decide +kernel) (Nat.le_of_ble_eq_true rfl) rfl fun x O => ?_
  replace O : kt_O w x (g, M) (d + 1) cX2_keep "KeyTurns$State" 3 ("keep", "()V") (Option.none : Option Jvm.ClassFile.FieldType) [] := O
  unfold vc_X2_keep at h
  refine kr_aload_n O dX2_keep_0 rfl 0 rfl ?_
  obtain ⟨p1, ep1, h⟩ := h
  refine kr_getf O dX2_keep_1 fs_X2_18 ep1 ?_
  obtain ⟨b2, rfl, h⟩ := h
  obtain ⟨hco, h⟩ := h
  refine kr_caI (rest := []) O cd_J3_size h (Nat.le_of_ble_eq_true rfl) (fun ls _ => kt_ivV (ci := 13) O dX2_keep_4 cd_J3_size in_J3_size (Or.inl q477) q478 q479 hco (by decide) hy_J3_size) (fun u3 M4 hq => ?_) (fun E q M9 hx => kr_out O hx)
  replace h := hq
  clear hq
  obtain ⟨n5, hn, hl, hf, t6, h⟩ := h
  refine kr_newarr t6 0 O dX2_keep_7 (by decide) rfl q312 hn hl hf (kr_nmM fun M7 hM7 => ?_)
  replace h := h M7 hM7
  refine kr_astore_n O dX2_keep_9 rfl (Nat.le_of_ble_eq_true rfl) rfl rfl ?_
  refine kr_iconst O dX2_keep_10 (v := (0 : Int32)) (by decide) ?_
  refine kr_istore_n O dX2_keep_11 rfl (Nat.le_of_ble_eq_true rfl) rfl rfl ?_
  refine kr_sub [2, 1, 0] rfl ?_
  exact cl_X2_keep_12 O  h
def vc_J2_init (w : kt_W) (gr : kt_g × kt_M) (d : Nat) (P : Option Value → kt_M → Prop) (X : String → Nat → kt_M → Prop) (a0 : Nat) (M : kt_M) : Prop :=
  
  kt_Ca w gr d yJ0_init kc_J0_init [va_rf (some a0)] M (kt_pV fun M1 => kt_hf gr M1 a0 90 ∧ ∀ M2, M2 = kt_pf M1 a0 90 (.int (0 : Int32)) → P none M2) X
theorem ce_J2_init {w : kt_W} {g : kt_g} {d : Nat} {P : Option Value → kt_M → Prop} {X : String → Nat → kt_M → Prop} {a0 : Nat} {M : kt_M} (h : vc_J2_init w (g, M) d P X a0 M) : kt_Sp w g (d + 1) yJ2_init kc_J2_init [va_rf (some a0)] M P X := by
  refine kt_of (L0 := [(0, va_rf (some a0))]) (by decide +kernel) (Nat.le_of_ble_eq_true rfl) rfl fun x O => ?_
  replace O : kt_O w x (g, M) (d + 1) cJ2_init "java/util/AbstractList" 1 ("<init>", "()V") (Option.none : Option Jvm.ClassFile.FieldType) [] := O
  unfold vc_J2_init at h
  refine kr_aload_n O dJ2_init_0 rfl 0 rfl ?_
  refine kr_caV (rest := []) O cd_J0_init h (Nat.le_of_ble_eq_true rfl) (fun ls _ => kt_ivI O dJ2_init_1 cd_J0_init in_J0_init (Or.inl q214) q181 hi_J0_init) (fun M1 hq => ?_) (fun E q M9 hx => kr_out O hx)
  replace h := hq
  clear hq
  refine kr_aload_n O dJ2_init_4 rfl 0 rfl ?_
  refine kr_iconst O dJ2_init_5 (v := (0 : Int32)) (by decide) ?_
  obtain ⟨hw, h⟩ := h
  refine kr_putf O dJ2_init_6 fs_J2_7 (Or.inl rfl) ⟨rfl, rfl⟩ hw (kr_nmM fun M2 hM2 => ?_)
  replace h := h M2 hM2
  exact kr_vret O dJ2_init_9 h
def vc_J2_listIterator (w : kt_W) (gr : kt_g × kt_M) (d : Nat) (P : Option Value → kt_M → Prop) (X : String → Nat → kt_M → Prop) (a0 : Nat) (M : kt_M) : Prop :=
  ∃ K3 : Option Nat → kt_M → Prop, ((kt_co M a0 = some 13 ∧ kt_Ca w gr d yJ3_listIterator kc_J3_listIterator [va_rf (some a0), .int (0 : Int32)] M (kt_pR K3) X) ∨ (kt_co M a0 = some 14 ∧ kt_Ca w gr d yJ5_listIterator kc_J5_listIterator [va_rf (some a0), .int (0 : Int32)] M (kt_pR K3) X)) ∧ (∀ p1 M2, K3 p1 M2 → P (some (va_rf p1)) M2)
theorem ce_J2_listIterator {w : kt_W} {g : kt_g} {d : Nat} {P : Option Value → kt_M → Prop} {X : String → Nat → kt_M → Prop} {a0 : Nat} {M : kt_M} (h : vc_J2_listIterator w (g, M) d P X a0 M) : kt_Sp w g (d + 1) yJ2_listIterator kc_J2_listIterator [va_rf (some a0)] M P X := by
  refine kt_of (L0 := [(0, va_rf (some a0))]) (by decide +kernel) (Nat.le_of_ble_eq_true rfl) rfl fun x O => ?_
  replace O : kt_O w x (g, M) (d + 1) cJ2_listIterator "java/util/AbstractList" 1 ("listIterator", "()Ljava/util/ListIterator;") (Option.some (Jvm.ClassFile.FieldType.object "java/util/ListIterator")) [] := O
  unfold vc_J2_listIterator at h
  refine kr_aload_n O dJ2_listIterator_0 rfl 0 rfl ?_
  refine kr_iconst O dJ2_listIterator_1 (v := (0 : Int32)) (by decide) ?_
  obtain ⟨K3, hca, hK⟩ := h
  have h9 : ∀ p1 M2, K3 p1 M2 → kt_S w x 1 (kt_E w x P X) M2 (2 + 3) [(0, va_rf (some a0))] (va_rf p1 :: []) := by
    intro p1 M2 h
    replace h := hK p1 M2 h
    exact kr_aret O dJ2_listIterator_5 (by first | exact Or.inl ⟨_, rfl⟩ | exact Or.inr ⟨_, rfl⟩) h
  rcases hca with ⟨hco, h⟩ | ⟨hco, h⟩
  · exact kr_caR (rest := []) O cd_J3_listIterator h (Nat.le_of_ble_eq_true rfl) (fun ls _ => kt_ivU (ci := 13) O dJ2_listIterator_2 cd_J3_listIterator q872 q874 (Or.inr q946) q876 q875 hco (by decide) ⟨by decide, by decide, rfl⟩) h9 (fun E q M9 hx => kr_out O hx)
  · exact kr_caR (rest := []) O cd_J5_listIterator h (Nat.le_of_ble_eq_true rfl) (fun ls _ => kt_ivU (ci := 14) O dJ2_listIterator_2 cd_J5_listIterator q872 q874 (Or.inr q946) q910 q909 hco (by decide) ⟨by decide, by decide, rfl⟩) h9 (fun E q M9 hx => kr_out O hx)
def vc_J3_init (w : kt_W) (gr : kt_g × kt_M) (d : Nat) (P : Option Value → kt_M → Prop) (X : String → Nat → kt_M → Prop) (a0 : Nat) (M : kt_M) : Prop :=
  
  kt_Ca w gr d yJ2_init kc_J2_init [va_rf (some a0)] M (kt_pV fun M1 => kt_hf gr M1 a0 91 ∧ ∀ M2, M2 = kt_pf M1 a0 91 (va_rf (some (kt_cA w 9))) → P none M2) X
theorem ce_J3_init {w : kt_W} {g : kt_g} {d : Nat} {P : Option Value → kt_M → Prop} {X : String → Nat → kt_M → Prop} {a0 : Nat} {M : kt_M} (h : vc_J3_init w (g, M) d P X a0 M) : kt_Sp w g (d + 1) yJ3_init kc_J3_init [va_rf (some a0)] M P X := by
  refine kt_of (L0 := [(0, va_rf (some a0))]) (by decide +kernel) (Nat.le_of_ble_eq_true rfl) rfl fun x O => ?_
  replace O : kt_O w x (g, M) (d + 1) cJ3_init "java/util/ArrayList" 1 ("<init>", "()V") (Option.none : Option Jvm.ClassFile.FieldType) [] := O
  unfold vc_J3_init at h
  refine kr_aload_n O dJ3_init_0 rfl 0 rfl ?_
  refine kr_caV (rest := []) O cd_J2_init h (Nat.le_of_ble_eq_true rfl) (fun ls _ => kt_ivI O dJ3_init_1 cd_J2_init in_J2_init (Or.inl q211) q212 hi_J2_init) (fun M1 hq => ?_) (fun E q M9 hx => kr_out O hx)
  replace h := hq
  clear hq
  refine kr_aload_n O dJ3_init_4 rfl 0 rfl ?_
  refine kr_gets O dJ3_init_5 q215 (kt_inT 5 rfl) ?_
  obtain ⟨hw, h⟩ := h
  refine kr_putf O dJ3_init_8 fs_J3_9 (Or.inl rfl) (kt_ok_ra _ rfl) hw (kr_nmM fun M2 hM2 => ?_)
  replace h := h M2 hM2
  exact kr_vret O dJ3_init_11 h
def vc_J3_add (w : kt_W) (gr : kt_g × kt_M) (d : Nat) (P : Option Value → kt_M → Prop) (X : String → Nat → kt_M → Prop) (a0 : Nat) (r1 : Option Nat) (M : kt_M) : Prop :=
  ∃ u1, kt_gf M a0 90 = some (.int u1) ∧ kt_hf gr M a0 90 ∧ ∀ M2, M2 = kt_pf M a0 90 (.int (u1 + (1 : Int32))) → ∃ p3, kt_gf M2 a0 91 = some (va_rf p3) ∧ ∃ u4, kt_gf M2 a0 92 = some (.int u4) ∧ (kt_co M2 a0 = some 13) ∧ 
  kt_Ca w gr d yJ3_add_2 kc_J3_add_2 [va_rf (some a0), va_rf r1, va_rf p3, .int u4] M2 (kt_pV fun M5 => P (some (.int (1 : Int32))) M5) X
theorem ce_J3_add {w : kt_W} {g : kt_g} {d : Nat} {P : Option Value → kt_M → Prop} {X : String → Nat → kt_M → Prop} {a0 : Nat} {r1 : Option Nat} {M : kt_M} (h : vc_J3_add w (g, M) d P X a0 r1 M) : kt_Sp w g (d + 1) yJ3_add kc_J3_add [va_rf (some a0), va_rf r1] M P X := by
  refine kt_of (L0 := [(0, va_rf (some a0)), (1, va_rf r1)]) (by decide +kernel) (by simp only [kt_lgR, kt_lgI, kt_lgN] <;> exact Nat.le_of_ble_eq_true rfl) (by simp only [kt_lvR, kt_lvI, kt_lvN] <;> rfl) fun x O => ?_
  replace O : kt_O w x (g, M) (d + 1) cJ3_add "java/util/ArrayList" 2 ("add", "(Ljava/lang/Object;)Z") (Option.some Jvm.ClassFile.FieldType.boolean) [] := O
  unfold vc_J3_add at h
  refine kr_aload_n O dJ3_add_0 rfl 0 rfl ?_
  refine kr_dup O dJ3_add_1 (kt_nrf _) ?_
  obtain ⟨u1, eu1, h⟩ := h
  refine kr_getf O dJ3_add_2 fs_J3_63 eu1 ?_
  refine kr_iconst O dJ3_add_5 (v := (1 : Int32)) (by decide) ?_
  refine kr_iadd O dJ3_add_6 ?_
  obtain ⟨hw, h⟩ := h
  refine kr_putf O dJ3_add_7 fs_J3_63 (Or.inl rfl) ⟨rfl, rfl⟩ hw (kr_nmM fun M2 hM2 => ?_)
  replace h := h M2 hM2
  refine kr_aload_n O dJ3_add_10 rfl 0 rfl ?_
  refine kr_aload_n O dJ3_add_11 rfl 1 rfl ?_
  refine kr_aload_n O dJ3_add_12 rfl 0 rfl ?_
  obtain ⟨p3, ep3, h⟩ := h
  refine kr_getf O dJ3_add_13 fs_J3_9 ep3 ?_
  refine kr_aload_n O dJ3_add_16 rfl 0 rfl ?_
  obtain ⟨u4, eu4, h⟩ := h
  refine kr_getf O dJ3_add_17 fs_J3_48 eu4 ?_
  obtain ⟨hco, h⟩ := h
  refine kr_caV (rest := []) O cd_J3_add_2 h (Nat.le_of_ble_eq_true rfl) (fun ls _ => kt_ivV (ci := 13) O dJ3_add_20 cd_J3_add_2 in_J3_add_2 (Or.inl q351) q353 qs0 hco (by decide) hy_J3_add_2) (fun M5 hq => ?_) (fun E q M9 hx => kr_out O hx)
  replace h := hq
  clear hq
  refine kr_iconst O dJ3_add_23 (v := (1 : Int32)) (by decide) ?_
  exact kr_iret O dJ3_add_24 (by decide) h
def vc_J3_add_2_11 (w : kt_W) (gr : kt_g × kt_M) (d : Nat) (P : Option Value → kt_M → Prop) (X : String → Nat → kt_M → Prop)  (a0 : Nat) (r1 : Option Nat) (r2 : Option Nat) (v3 : Int32) (M : kt_M) : Prop :=
  ∃ b1, r2 = some b1 ∧ ∃ k2, 3 ≤ k2 ∧ kt_hiq gr k2 M b1 v3 ∧ (∀ c, r1 = some c → kt_fo k2 M c) ∧ ∀ M3, M3 = kt_sq M b1 v3 r1 → kt_hf gr M3 a0 92 ∧ ∀ M4, M4 = kt_pf M3 a0 92 (.int (v3 + (1 : Int32))) → P none M4
theorem cj_J3_add_2_11 {w : kt_W} {x : kt_X} {gr : kt_g × kt_M} {d : Nat} {P : Option Value → kt_M → Prop} {X : String → Nat → kt_M → Prop}  {a0 : Nat} {r1 : Option Nat} {r2 : Option Nat} {v3 : Int32} {M : kt_M} (O : kt_O w x gr (d + 1) cJ3_add_2 "java/util/ArrayList" 4 ("add", "(Ljava/lang/Object;[Ljava/lang/Object;I)V") (Option.none : Option Jvm.ClassFile.FieldType) [])  (h : vc_J3_add_2_11 w gr d P X  a0 r1 r2 v3 M) : kt_S w x 4 (kt_E w x P X) M 11 [(0, va_rf (some a0)), (1, va_rf r1), (2, va_rf r2), (3, .int v3)] [] := by
  unfold vc_J3_add_2_11 at h
  refine kr_aload_n O dJ3_add_2_11 rfl 2 rfl ?_
  refine kr_iload_n O dJ3_add_2_12 rfl 3 rfl ?_
  refine kr_aload_n O dJ3_add_2_13 rfl 1 rfl ?_
  obtain ⟨b1, rfl, h⟩ := h
  obtain ⟨k2, hk2, hw, hfo, h⟩ := h
  refine kr_aastore k2 hk2 O dJ3_add_2_14 hw hfo (kr_nmM fun M3 hM3 => ?_)
  replace h := h M3 hM3
  refine kr_aload_n O dJ3_add_2_15 rfl 0 rfl ?_
  refine kr_iload_n O dJ3_add_2_16 rfl 3 rfl ?_
  refine kr_iconst O dJ3_add_2_17 (v := (1 : Int32)) (by decide) ?_
  refine kr_iadd O dJ3_add_2_18 ?_
  obtain ⟨hw, h⟩ := h
  refine kr_putf O dJ3_add_2_19 fs_J3_48 (Or.inl rfl) ⟨rfl, rfl⟩ hw (kr_nmM fun M4 hM4 => ?_)
  replace h := h M4 hM4
  exact kr_vret O dJ3_add_2_22 h
def vc_J3_add_2 (w : kt_W) (gr : kt_g × kt_M) (d : Nat) (P : Option Value → kt_M → Prop) (X : String → Nat → kt_M → Prop) (a0 : Nat) (r1 : Option Nat) (r2 : Option Nat) (v3 : Int32) (M : kt_M) : Prop :=
  ∃ b1, r2 = some b1 ∧ ∃ n2, kt_len M b1 = some n2 ∧ 
    ((¬ v3 = (nI n2) → vc_J3_add_2_11 w gr d P X  a0 r1 (some b1) v3 M) ∧
    (v3 = (nI n2) → (kt_co M a0 = some 13) ∧ 
    kt_Ca w gr d yJ3_grow kc_J3_grow [va_rf (some a0)] M (kt_pR fun p3 M4 => vc_J3_add_2_11 w gr d P X  a0 r1 p3 v3 M4) X))
theorem ce_J3_add_2 {w : kt_W} {g : kt_g} {d : Nat} {P : Option Value → kt_M → Prop} {X : String → Nat → kt_M → Prop} {a0 : Nat} {r1 : Option Nat} {r2 : Option Nat} {v3 : Int32} {M : kt_M} (h : vc_J3_add_2 w (g, M) d P X a0 r1 r2 v3 M) : kt_Sp w g (d + 1) yJ3_add_2 kc_J3_add_2 [va_rf (some a0), va_rf r1, va_rf r2, .int v3] M P X := by
  refine kt_of (L0 := [(0, va_rf (some a0)), (1, va_rf r1), (2, va_rf r2), (3, .int v3)]) (by decide +kernel) (by simp only [kt_lgR, kt_lgI, kt_lgN] <;> exact Nat.le_of_ble_eq_true rfl) (by simp only [kt_lvR, kt_lvI, kt_lvN] <;> rfl) fun x O => ?_
  replace O : kt_O w x (g, M) (d + 1) cJ3_add_2 "java/util/ArrayList" 4 ("add", "(Ljava/lang/Object;[Ljava/lang/Object;I)V") (Option.none : Option Jvm.ClassFile.FieldType) [] := O
  unfold vc_J3_add_2 at h
  refine kr_iload_n O dJ3_add_2_0 rfl 3 rfl ?_
  refine kr_aload_n O dJ3_add_2_1 rfl 2 rfl ?_
  obtain ⟨b1, rfl, h⟩ := h
  obtain ⟨n2, en2, h⟩ := h
  refine kr_alen O dJ3_add_2_2 en2 ?_
  refine kr_icmp_ne (tgt := 11) O dJ3_add_2_3 rfl (fun hc => ?_) (fun hc => ?_)
  · replace h := h.1 hc
    exact cj_J3_add_2_11 O  h
  · replace h := h.2 hc
    refine kr_aload_n O dJ3_add_2_6 rfl 0 rfl ?_
    obtain ⟨hco, h⟩ := h
    refine kr_caR (rest := []) O cd_J3_grow h (Nat.le_of_ble_eq_true rfl) (fun ls _ => kt_ivV (ci := 13) O dJ3_add_2_7 cd_J3_grow in_J3_grow (Or.inl q355) q357 qs1 hco (by decide) hy_J3_grow) (fun p3 M4 hq => ?_) (fun E q M9 hx => kr_out O hx)
    replace h := hq
    clear hq
    refine kr_astore_n O dJ3_add_2_10 rfl (Nat.le_of_ble_eq_true rfl) (by simp [kt_nw, kt_nrf, kt_cI, kt_cJ, kt_cF, kt_cD, kt_cR, kt_cU]) rfl ?_
    refine kr_sub [1, 2, 0, 3] rfl ?_
    exact cj_J3_add_2_11 O  h
def vc_J3_grow (w : kt_W) (gr : kt_g × kt_M) (d : Nat) (P : Option Value → kt_M → Prop) (X : String → Nat → kt_M → Prop) (a0 : Nat) (M : kt_M) : Prop :=
  ∃ u1, kt_gf M a0 92 = some (.int u1) ∧ (kt_co M a0 = some 13) ∧ 
  kt_Ca w gr d yJ3_grow_2 kc_J3_grow_2 [va_rf (some a0), .int (u1 + (1 : Int32))] M (kt_pR fun p2 M3 => P (some (va_rf p2)) M3) X
theorem ce_J3_grow {w : kt_W} {g : kt_g} {d : Nat} {P : Option Value → kt_M → Prop} {X : String → Nat → kt_M → Prop} {a0 : Nat} {M : kt_M} (h : vc_J3_grow w (g, M) d P X a0 M) : kt_Sp w g (d + 1) yJ3_grow kc_J3_grow [va_rf (some a0)] M P X := by
  refine kt_of (L0 := [(0, va_rf (some a0))]) (by decide +kernel) (Nat.le_of_ble_eq_true rfl) rfl fun x O => ?_
  replace O : kt_O w x (g, M) (d + 1) cJ3_grow "java/util/ArrayList" 1 ("grow", "()[Ljava/lang/Object;") (Option.some (Jvm.ClassFile.FieldType.array (Jvm.ClassFile.FieldType.object "java/lang/Object"))) [] := O
  unfold vc_J3_grow at h
  refine kr_aload_n O dJ3_grow_0 rfl 0 rfl ?_
  refine kr_aload_n O dJ3_grow_1 rfl 0 rfl ?_
  obtain ⟨u1, eu1, h⟩ := h
  refine kr_getf O dJ3_grow_2 fs_J3_48 eu1 ?_
  refine kr_iconst O dJ3_grow_5 (v := (1 : Int32)) (by decide) ?_
  refine kr_iadd O dJ3_grow_6 ?_
  obtain ⟨hco, h⟩ := h
  refine kr_caR (rest := []) O cd_J3_grow_2 h (Nat.le_of_ble_eq_true rfl) (fun ls _ => kt_ivV (ci := 13) O dJ3_grow_7 cd_J3_grow_2 in_J3_grow_2 (Or.inl q359) q361 qs2 hco (by decide) hy_J3_grow_2) (fun p2 M3 hq => ?_) (fun E q M9 hx => kr_out O hx)
  replace h := hq
  clear hq
  exact kr_aret O dJ3_grow_10 (by first | exact Or.inl ⟨_, rfl⟩ | exact Or.inr ⟨_, rfl⟩) h
def vc_J3_grow_2_20 (w : kt_W) (gr : kt_g × kt_M) (d : Nat) (P : Option Value → kt_M → Prop) (X : String → Nat → kt_M → Prop)  (a0 : Nat) (v1 : Int32) (v2 : Int32) (M : kt_M) : Prop :=
  
  kt_Ca w gr d yJ6_newLength kc_J6_newLength [.int v2, .int (v1 - v2), .int (v2 >>> ((1 : Int32) &&& 31))] M (kt_pI fun u1 M2 => ∃ p3, kt_gf M2 a0 91 = some (va_rf p3) ∧ 
  kt_Ca w gr d yJ8_copyOf kc_J8_copyOf [va_rf p3, .int u1] M2 (kt_pR fun p4 M5 => kt_hf gr M5 a0 91 ∧ ∀ M6, M6 = kt_pf M5 a0 91 (va_rf p4) → P (some (va_rf p4)) M6) X) X
theorem cj_J3_grow_2_20 {w : kt_W} {x : kt_X} {gr : kt_g × kt_M} {d : Nat} {P : Option Value → kt_M → Prop} {X : String → Nat → kt_M → Prop}  {a0 : Nat} {v1 : Int32} {v2 : Int32} {M : kt_M} (O : kt_O w x gr (d + 1) cJ3_grow_2 "java/util/ArrayList" 4 ("grow", "(I)[Ljava/lang/Object;") (Option.some (Jvm.ClassFile.FieldType.array (Jvm.ClassFile.FieldType.object "java/lang/Object"))) [])  (h : vc_J3_grow_2_20 w gr d P X  a0 v1 v2 M) : kt_S w x 4 (kt_E w x P X) M 20 [(0, va_rf (some a0)), (1, .int v1), (2, .int v2)] [] := by
  unfold vc_J3_grow_2_20 at h
  refine kr_iload_n O dJ3_grow_2_20 rfl 2 rfl ?_
  refine kr_iload_n O dJ3_grow_2_21 rfl 1 rfl ?_
  refine kr_iload_n O dJ3_grow_2_22 rfl 2 rfl ?_
  refine kr_isub O dJ3_grow_2_23 ?_
  refine kr_iload_n O dJ3_grow_2_24 rfl 2 rfl ?_
  refine kr_iconst O dJ3_grow_2_25 (v := (1 : Int32)) (by decide) ?_
  refine kr_ishr O dJ3_grow_2_26 ?_
  refine kr_caI (rest := []) O cd_J6_newLength h (Nat.le_of_ble_eq_true rfl) (fun ls _ => kt_ivS O dJ3_grow_2_27 cd_J6_newLength in_J6_newLength q363 q364 hy_J6_newLength) (fun u1 M2 hq => ?_) (fun E q M9 hx => kr_out O hx)
  replace h := hq
  clear hq
  refine kr_istore_n O dJ3_grow_2_30 rfl (Nat.le_of_ble_eq_true rfl) rfl rfl ?_
  refine kr_aload_n O dJ3_grow_2_31 rfl 1 rfl ?_
  refine kr_aload_n O dJ3_grow_2_32 rfl 1 rfl ?_
  obtain ⟨p3, ep3, h⟩ := h
  refine kr_getf O dJ3_grow_2_33 fs_J3_9 ep3 ?_
  refine kr_iload_n O dJ3_grow_2_36 rfl 0 rfl ?_
  refine kr_caR (rest := [va_rf (some a0)]) O cd_J8_copyOf h (Nat.le_of_ble_eq_true rfl) (fun ls _ => kt_ivS O dJ3_grow_2_37 cd_J8_copyOf in_J8_copyOf q373 q374 hy_J8_copyOf) (fun p4 M5 hq => ?_) (fun E q M9 hx => kr_out O hx)
  replace h := hq
  clear hq
  refine kr_dup_x1 O dJ3_grow_2_40 (kt_nrf _) (kt_nrf _) ?_
  obtain ⟨hw, h⟩ := h
  refine kr_putf O dJ3_grow_2_41 fs_J3_9 (Or.inl rfl) (kt_ok_ra _ rfl) hw (kr_nmM fun M6 hM6 => ?_)
  replace h := h M6 hM6
  exact kr_aret O dJ3_grow_2_44 (by first | exact Or.inl ⟨_, rfl⟩ | exact Or.inr ⟨_, rfl⟩) h
def vc_J3_grow_2 (w : kt_W) (gr : kt_g × kt_M) (d : Nat) (P : Option Value → kt_M → Prop) (X : String → Nat → kt_M → Prop) (a0 : Nat) (v1 : Int32) (M : kt_M) : Prop :=
  ∃ p1, kt_gf M a0 91 = some (va_rf p1) ∧ ∃ b2, p1 = some b2 ∧ ∃ n3, kt_len M b2 = some n3 ∧ 
    ((0 < (nI n3) → vc_J3_grow_2_20 w gr d P X  a0 v1 (nI n3) M) ∧
    (¬ 0 < (nI n3) → ∃ p4, kt_gf M a0 91 = some (va_rf p4) ∧ 
      ((p4 = (some (kt_cA w 9)) → 
      kt_Ca w gr d yJ7_max kc_J7_max [.int (10 : Int32), .int v1] M (kt_pI fun u5 M6 => ∃ n7, u5 = nI n7 ∧ n7 < 2 ^ 31 ∧ kt_fits w M6 n7 ∧ ∃ t8, ∀ M9, M9 = kt_new M6 n7 (t8 + 2, .inl (3, kt_z 3 n7)) → kt_hf gr M9 a0 91 ∧ ∀ M10, M10 = kt_pf M9 a0 91 (va_rf (some M6.1)) → P (some (va_rf (some M6.1))) M10) X) ∧
      (¬ p4 = (some (kt_cA w 9)) → vc_J3_grow_2_20 w gr d P X  a0 v1 (nI n3) M))))
theorem ce_J3_grow_2 {w : kt_W} {g : kt_g} {d : Nat} {P : Option Value → kt_M → Prop} {X : String → Nat → kt_M → Prop} {a0 : Nat} {v1 : Int32} {M : kt_M} (h : vc_J3_grow_2 w (g, M) d P X a0 v1 M) : kt_Sp w g (d + 1) yJ3_grow_2 kc_J3_grow_2 [va_rf (some a0), .int v1] M P X := by
  refine kt_of (L0 := [(0, va_rf (some a0)), (1, .int v1)]) (by decide +kernel) (Nat.le_of_ble_eq_true rfl) rfl fun x O => ?_
  replace O : kt_O w x (g, M) (d + 1) cJ3_grow_2 "java/util/ArrayList" 4 ("grow", "(I)[Ljava/lang/Object;") (Option.some (Jvm.ClassFile.FieldType.array (Jvm.ClassFile.FieldType.object "java/lang/Object"))) [] := O
  unfold vc_J3_grow_2 at h
  refine kr_aload_n O dJ3_grow_2_0 rfl 0 rfl ?_
  obtain ⟨p1, ep1, h⟩ := h
  refine kr_getf O dJ3_grow_2_1 fs_J3_9 ep1 ?_
  obtain ⟨b2, rfl, h⟩ := h
  obtain ⟨n3, en3, h⟩ := h
  refine kr_alen O dJ3_grow_2_4 en3 ?_
  refine kr_istore_n O dJ3_grow_2_5 rfl (Nat.le_of_ble_eq_true rfl) rfl rfl ?_
  refine kr_iload_n O dJ3_grow_2_6 rfl 0 rfl ?_
  refine kr_if_gt (tgt := 20) O dJ3_grow_2_7 rfl (fun hc => ?_) (fun hc => ?_)
  · replace h := h.1 hc
    refine kr_sub [1, 2, 0] rfl ?_
    exact cj_J3_grow_2_20 O  h
  · replace h := h.2 hc
    refine kr_aload_n O dJ3_grow_2_10 rfl 1 rfl ?_
    obtain ⟨p4, ep4, h⟩ := h
    refine kr_getf O dJ3_grow_2_11 fs_J3_9 ep4 ?_
    refine kr_gets O dJ3_grow_2_14 q215 (kt_inT 5 rfl) ?_
    refine kr_acmp_eq (tgt := 45) O dJ3_grow_2_17 rfl (fun hc => ?_) (fun hc => ?_)
    · replace h := h.1 hc
      refine kr_aload_n O dJ3_grow_2_45 rfl 1 rfl ?_
      refine kr_bipush O dJ3_grow_2_46 (v := (10 : Int32)) (by decide) ?_
      refine kr_iload_n O dJ3_grow_2_48 rfl 2 rfl ?_
      refine kr_caI (rest := [va_rf (some a0)]) O cd_J7_max h (Nat.le_of_ble_eq_true rfl) (fun ls _ => kt_ivS O dJ3_grow_2_49 cd_J7_max in_J7_max q424 q367 hy_J7_max) (fun u5 M6 hq => ?_) (fun E q M9 hx => kr_out O hx)
      replace h := hq
      clear hq
      obtain ⟨n7, hn, hl, hf, t8, h⟩ := h
      refine kr_anew t8 3 O dJ3_grow_2_52 (by decide) (by decide) rfl q425 q185 hn hl hf (kr_nmM fun M9 hM9 => ?_)
      replace h := h M9 hM9
      refine kr_dup_x1 O dJ3_grow_2_55 (kt_nrf _) (kt_nrf _) ?_
      obtain ⟨hw, h⟩ := h
      refine kr_putf O dJ3_grow_2_56 fs_J3_9 (Or.inl rfl) (kt_ok_ra _ rfl) hw (kr_nmM fun M10 hM10 => ?_)
      replace h := h M10 hM10
      exact kr_aret O dJ3_grow_2_59 (by first | exact Or.inl ⟨_, rfl⟩ | exact Or.inr ⟨_, rfl⟩) h
    · replace h := h.2 hc
      refine kr_sub [1, 2, 0] rfl ?_
      exact cj_J3_grow_2_20 O  h
def vc_J3_size (w : kt_W) (gr : kt_g × kt_M) (d : Nat) (P : Option Value → kt_M → Prop) (X : String → Nat → kt_M → Prop) (a0 : Nat) (M : kt_M) : Prop :=
  ∃ u1, kt_gf M a0 92 = some (.int u1) ∧ P (some (.int u1)) M
theorem ce_J3_size {w : kt_W} {g : kt_g} {d : Nat} {P : Option Value → kt_M → Prop} {X : String → Nat → kt_M → Prop} {a0 : Nat} {M : kt_M} (h : vc_J3_size w (g, M) d P X a0 M) : kt_Sp w g (d + 1) yJ3_size kc_J3_size [va_rf (some a0)] M P X := by
  refine kt_of (L0 := [(0, va_rf (some a0))]) (by decide +kernel) (Nat.le_of_ble_eq_true rfl) rfl fun x O => ?_
  replace O : kt_O w x (g, M) (d + 1) cJ3_size "java/util/ArrayList" 1 ("size", "()I") (Option.some Jvm.ClassFile.FieldType.int) [] := O
  unfold vc_J3_size at h
  refine kr_aload_n O dJ3_size_0 rfl 0 rfl ?_
  obtain ⟨u1, eu1, h⟩ := h
  refine kr_getf O dJ3_size_1 fs_J3_48 eu1 ?_
  exact kr_iret O dJ3_size_4 rfl h
def vc_J3_get (w : kt_W) (gr : kt_g × kt_M) (d : Nat) (P : Option Value → kt_M → Prop) (X : String → Nat → kt_M → Prop) (a0 : Nat) (v1 : Int32) (M : kt_M) : Prop :=
  ∃ u1, kt_gf M a0 92 = some (.int u1) ∧ 
  kt_Ca w gr d yJ22_checkIndex kc_J22_checkIndex [.int v1, .int u1] M (kt_pI fun u2 M3 => (kt_co M3 a0 = some 13) ∧ 
  kt_Ca w gr d yJ3_elementData kc_J3_elementData [va_rf (some a0), .int v1] M3 (kt_pR fun p4 M5 => P (some (va_rf p4)) M5) X) X
theorem ce_J3_get {w : kt_W} {g : kt_g} {d : Nat} {P : Option Value → kt_M → Prop} {X : String → Nat → kt_M → Prop} {a0 : Nat} {v1 : Int32} {M : kt_M} (h : vc_J3_get w (g, M) d P X a0 v1 M) : kt_Sp w g (d + 1) yJ3_get kc_J3_get [va_rf (some a0), .int v1] M P X := by
  refine kt_of (L0 := [(0, va_rf (some a0)), (1, .int v1)]) (by decide +kernel) (Nat.le_of_ble_eq_true rfl) rfl fun x O => ?_
  replace O : kt_O w x (g, M) (d + 1) cJ3_get "java/util/ArrayList" 2 ("get", "(I)Ljava/lang/Object;") (Option.some (Jvm.ClassFile.FieldType.object "java/lang/Object")) [] := O
  unfold vc_J3_get at h
  refine kr_iload_n O dJ3_get_0 rfl 1 rfl ?_
  refine kr_aload_n O dJ3_get_1 rfl 0 rfl ?_
  obtain ⟨u1, eu1, h⟩ := h
  refine kr_getf O dJ3_get_2 fs_J3_48 eu1 ?_
  refine kr_caI (rest := []) O cd_J22_checkIndex h (Nat.le_of_ble_eq_true rfl) (fun ls _ => kt_ivS O dJ3_get_5 cd_J22_checkIndex in_J22_checkIndex q485 q486 hy_J22_checkIndex) (fun u2 M3 hq => ?_) (fun E q M9 hx => kr_out O hx)
  replace h := hq
  clear hq
  refine kr_pop O dJ3_get_8 rfl ?_
  refine kr_aload_n O dJ3_get_9 rfl 0 rfl ?_
  refine kr_iload_n O dJ3_get_10 rfl 1 rfl ?_
  obtain ⟨hco, h⟩ := h
  refine kr_caR (rest := []) O cd_J3_elementData h (Nat.le_of_ble_eq_true rfl) (fun ls _ => kt_ivV (ci := 13) O dJ3_get_11 cd_J3_elementData in_J3_elementData (Or.inl q491) q492 q493 hco (by decide) hy_J3_elementData) (fun p4 M5 hq => ?_) (fun E q M9 hx => kr_out O hx)
  replace h := hq
  clear hq
  exact kr_aret O dJ3_get_14 (by first | exact Or.inl ⟨_, rfl⟩ | exact Or.inr ⟨_, rfl⟩) h
def vc_J3_elementData (w : kt_W) (gr : kt_g × kt_M) (d : Nat) (P : Option Value → kt_M → Prop) (X : String → Nat → kt_M → Prop) (a0 : Nat) (v1 : Int32) (M : kt_M) : Prop :=
  ∃ p1, kt_gf M a0 91 = some (va_rf p1) ∧ ∃ b2, p1 = some b2 ∧ ∃ k4, 3 ≤ k4 ∧ ∃ p3, kt_el k4 M b2 v1 = some (va_rf p3) ∧ P (some (va_rf p3)) M
theorem ce_J3_elementData {w : kt_W} {g : kt_g} {d : Nat} {P : Option Value → kt_M → Prop} {X : String → Nat → kt_M → Prop} {a0 : Nat} {v1 : Int32} {M : kt_M} (h : vc_J3_elementData w (g, M) d P X a0 v1 M) : kt_Sp w g (d + 1) yJ3_elementData kc_J3_elementData [va_rf (some a0), .int v1] M P X := by
  refine kt_of (L0 := [(0, va_rf (some a0)), (1, .int v1)]) (by decide +kernel) (Nat.le_of_ble_eq_true rfl) rfl fun x O => ?_
  replace O : kt_O w x (g, M) (d + 1) cJ3_elementData "java/util/ArrayList" 2 ("elementData", "(I)Ljava/lang/Object;") (Option.some (Jvm.ClassFile.FieldType.object "java/lang/Object")) [] := O
  unfold vc_J3_elementData at h
  refine kr_aload_n O dJ3_elementData_0 rfl 0 rfl ?_
  obtain ⟨p1, ep1, h⟩ := h
  refine kr_getf O dJ3_elementData_1 fs_J3_9 ep1 ?_
  refine kr_iload_n O dJ3_elementData_4 rfl 1 rfl ?_
  obtain ⟨b2, rfl, h⟩ := h
  obtain ⟨k4, hk4, p3, ep3, h⟩ := h
  refine kr_aaload k4 hk4 O dJ3_elementData_5 ep3 ?_
  exact kr_aret O dJ3_elementData_6 (by first | exact Or.inl ⟨_, rfl⟩ | exact Or.inr ⟨_, rfl⟩) h
def vc_J3_listIterator (w : kt_W) (gr : kt_g × kt_M) (d : Nat) (P : Option Value → kt_M → Prop) (X : String → Nat → kt_M → Prop) (a0 : Nat) (v1 : Int32) (M : kt_M) : Prop :=
  (kt_co M a0 = some 13) ∧ 
  kt_Ca w gr d yJ3_rangeCheckForAdd kc_J3_rangeCheckForAdd [va_rf (some a0), .int v1] M (kt_pV fun M1 => False) X
theorem ce_J3_listIterator {w : kt_W} {g : kt_g} {d : Nat} {P : Option Value → kt_M → Prop} {X : String → Nat → kt_M → Prop} {a0 : Nat} {v1 : Int32} {M : kt_M} (h : vc_J3_listIterator w (g, M) d P X a0 v1 M) : kt_Sp w g (d + 1) yJ3_listIterator kc_J3_listIterator [va_rf (some a0), .int v1] M P X := by
  refine kt_of (L0 := [(0, va_rf (some a0)), (1, .int v1)]) (by decide +kernel) (Nat.le_of_ble_eq_true rfl) rfl fun x O => ?_
  replace O : kt_O w x (g, M) (d + 1) cJ3_listIterator "java/util/ArrayList" 2 ("listIterator", "(I)Ljava/util/ListIterator;") (Option.some (Jvm.ClassFile.FieldType.object "java/util/ListIterator")) [] := O
  unfold vc_J3_listIterator at h
  refine kr_aload_n O dJ3_listIterator_0 rfl 0 rfl ?_
  refine kr_iload_n O dJ3_listIterator_1 rfl 1 rfl ?_
  obtain ⟨hco, h⟩ := h
  refine kr_caV (rest := []) O cd_J3_rangeCheckForAdd h (Nat.le_of_ble_eq_true rfl) (fun ls _ => kt_ivV (ci := 13) O dJ3_listIterator_2 cd_J3_rangeCheckForAdd in_J3_rangeCheckForAdd (Or.inl q878) q880 qs12 hco (by decide) hy_J3_rangeCheckForAdd) (fun M1 hq => ?_) (fun E q M9 hx => kr_out O hx)
  replace h := hq
  clear hq
  exact h.elim
def vc_J3_rangeCheckForAdd_12 (w : kt_W) (gr : kt_g × kt_M) (d : Nat) (P : Option Value → kt_M → Prop) (X : String → Nat → kt_M → Prop)   (M : kt_M) : Prop :=
  False
theorem cj_J3_rangeCheckForAdd_12 {w : kt_W} {x : kt_X} {gr : kt_g × kt_M} {d : Nat} {P : Option Value → kt_M → Prop} {X : String → Nat → kt_M → Prop}   {M : kt_M} (O : kt_O w x gr (d + 1) cJ3_rangeCheckForAdd "java/util/ArrayList" 2 ("rangeCheckForAdd", "(I)V") (Option.none : Option Jvm.ClassFile.FieldType) [])  (h : vc_J3_rangeCheckForAdd_12 w gr d P X   M) : kt_S w x 2 (kt_E w x P X) M 12 [] [] := by
  unfold vc_J3_rangeCheckForAdd_12 at h
  exact h.elim
def vc_J3_rangeCheckForAdd (w : kt_W) (gr : kt_g × kt_M) (d : Nat) (P : Option Value → kt_M → Prop) (X : String → Nat → kt_M → Prop) (a0 : Nat) (v1 : Int32) (M : kt_M) : Prop :=
  ∃ u1, kt_gf M a0 92 = some (.int u1) ∧ 
    ((u1 < v1 → vc_J3_rangeCheckForAdd_12 w gr d P X   M) ∧
    (¬ u1 < v1 → 
      ((0 ≤ v1 → P none M) ∧
      (¬ 0 ≤ v1 → vc_J3_rangeCheckForAdd_12 w gr d P X   M))))
theorem ce_J3_rangeCheckForAdd {w : kt_W} {g : kt_g} {d : Nat} {P : Option Value → kt_M → Prop} {X : String → Nat → kt_M → Prop} {a0 : Nat} {v1 : Int32} {M : kt_M} (h : vc_J3_rangeCheckForAdd w (g, M) d P X a0 v1 M) : kt_Sp w g (d + 1) yJ3_rangeCheckForAdd kc_J3_rangeCheckForAdd [va_rf (some a0), .int v1] M P X := by
  refine kt_of (L0 := [(0, va_rf (some a0)), (1, .int v1)]) (by decide +kernel) (Nat.le_of_ble_eq_true rfl) rfl fun x O => ?_
  replace O : kt_O w x (g, M) (d + 1) cJ3_rangeCheckForAdd "java/util/ArrayList" 2 ("rangeCheckForAdd", "(I)V") (Option.none : Option Jvm.ClassFile.FieldType) [] := O
  unfold vc_J3_rangeCheckForAdd at h
  refine kr_iload_n O dJ3_rangeCheckForAdd_0 rfl 1 rfl ?_
  refine kr_aload_n O dJ3_rangeCheckForAdd_1 rfl 0 rfl ?_
  obtain ⟨u1, eu1, h⟩ := h
  refine kr_getf O dJ3_rangeCheckForAdd_2 fs_J3_48 eu1 ?_
  refine kr_icmp_gt (tgt := 12) O dJ3_rangeCheckForAdd_5 rfl (fun hc => ?_) (fun hc => ?_)
  · replace h := h.1 hc
    refine kr_sub [] rfl ?_
    exact cj_J3_rangeCheckForAdd_12 O  h
  · replace h := h.2 hc
    refine kr_iload_n O dJ3_rangeCheckForAdd_8 rfl 1 rfl ?_
    refine kr_if_ge (tgt := 25) O dJ3_rangeCheckForAdd_9 rfl (fun hc => ?_) (fun hc => ?_)
    · replace h := h.1 hc
      exact kr_vret O dJ3_rangeCheckForAdd_25 h
    · replace h := h.2 hc
      refine kr_sub [] rfl ?_
      exact cj_J3_rangeCheckForAdd_12 O  h
def vc_J3_set (w : kt_W) (gr : kt_g × kt_M) (d : Nat) (P : Option Value → kt_M → Prop) (X : String → Nat → kt_M → Prop) (a0 : Nat) (v1 : Int32) (r2 : Option Nat) (M : kt_M) : Prop :=
  ∃ u1, kt_gf M a0 92 = some (.int u1) ∧ 
  kt_Ca w gr d yJ22_checkIndex kc_J22_checkIndex [.int v1, .int u1] M (kt_pI fun u2 M3 => (kt_co M3 a0 = some 13) ∧ 
  kt_Ca w gr d yJ3_elementData kc_J3_elementData [va_rf (some a0), .int v1] M3 (kt_pR fun p4 M5 => ∃ p6, kt_gf M5 a0 91 = some (va_rf p6) ∧ ∃ b7, p6 = some b7 ∧ ∃ k8, 3 ≤ k8 ∧ kt_hiq gr k8 M5 b7 v1 ∧ (∀ c, r2 = some c → kt_fo k8 M5 c) ∧ ∀ M9, M9 = kt_sq M5 b7 v1 r2 → P (some (va_rf p4)) M9) X) X
theorem ce_J3_set {w : kt_W} {g : kt_g} {d : Nat} {P : Option Value → kt_M → Prop} {X : String → Nat → kt_M → Prop} {a0 : Nat} {v1 : Int32} {r2 : Option Nat} {M : kt_M} (h : vc_J3_set w (g, M) d P X a0 v1 r2 M) : kt_Sp w g (d + 1) yJ3_set kc_J3_set [va_rf (some a0), .int v1, va_rf r2] M P X := by
  refine kt_of (L0 := [(0, va_rf (some a0)), (1, .int v1), (2, va_rf r2)]) (by decide +kernel) (by simp only [kt_lgR, kt_lgI, kt_lgN] <;> exact Nat.le_of_ble_eq_true rfl) (by simp only [kt_lvR, kt_lvI, kt_lvN] <;> rfl) fun x O => ?_
  replace O : kt_O w x (g, M) (d + 1) cJ3_set "java/util/ArrayList" 4 ("set", "(ILjava/lang/Object;)Ljava/lang/Object;") (Option.some (Jvm.ClassFile.FieldType.object "java/lang/Object")) [] := O
  unfold vc_J3_set at h
  refine kr_iload_n O dJ3_set_0 rfl 1 rfl ?_
  refine kr_aload_n O dJ3_set_1 rfl 0 rfl ?_
  obtain ⟨u1, eu1, h⟩ := h
  refine kr_getf O dJ3_set_2 fs_J3_48 eu1 ?_
  refine kr_caI (rest := []) O cd_J22_checkIndex h (Nat.le_of_ble_eq_true rfl) (fun ls _ => kt_ivS O dJ3_set_5 cd_J22_checkIndex in_J22_checkIndex q485 q486 hy_J22_checkIndex) (fun u2 M3 hq => ?_) (fun E q M9 hx => kr_out O hx)
  replace h := hq
  clear hq
  refine kr_pop O dJ3_set_8 rfl ?_
  refine kr_aload_n O dJ3_set_9 rfl 0 rfl ?_
  refine kr_iload_n O dJ3_set_10 rfl 1 rfl ?_
  obtain ⟨hco, h⟩ := h
  refine kr_caR (rest := []) O cd_J3_elementData h (Nat.le_of_ble_eq_true rfl) (fun ls _ => kt_ivV (ci := 13) O dJ3_set_11 cd_J3_elementData in_J3_elementData (Or.inl q491) q492 q493 hco (by decide) hy_J3_elementData) (fun p4 M5 hq => ?_) (fun E q M9 hx => kr_out O hx)
  replace h := hq
  clear hq
  refine kr_astore_n O dJ3_set_14 rfl (Nat.le_of_ble_eq_true rfl) (by simp [kt_nw, kt_nrf, kt_cI, kt_cJ, kt_cF, kt_cD, kt_cR, kt_cU]) rfl ?_
  refine kr_aload_n O dJ3_set_15 rfl 1 rfl ?_
  obtain ⟨p6, ep6, h⟩ := h
  refine kr_getf O dJ3_set_16 fs_J3_9 ep6 ?_
  refine kr_iload_n O dJ3_set_19 rfl 2 rfl ?_
  refine kr_aload_n O dJ3_set_20 rfl 3 rfl ?_
  obtain ⟨b7, rfl, h⟩ := h
  obtain ⟨k8, hk8, hw, hfo, h⟩ := h
  refine kr_aastore k8 hk8 O dJ3_set_21 hw hfo (kr_nmM fun M9 hM9 => ?_)
  replace h := h M9 hM9
  refine kr_aload_n O dJ3_set_22 rfl 0 rfl ?_
  exact kr_aret O dJ3_set_23 (by first | exact Or.inl ⟨_, rfl⟩ | exact Or.inr ⟨_, rfl⟩) h
def vc_J4_init (w : kt_W) (gr : kt_g × kt_M) (d : Nat) (P : Option Value → kt_M → Prop) (X : String → Nat → kt_M → Prop) (a0 : Nat) (M : kt_M) : Prop :=
  
  kt_Ca w gr d yJ2_init kc_J2_init [va_rf (some a0)] M (kt_pV fun M1 => P none M1) X
theorem ce_J4_init {w : kt_W} {g : kt_g} {d : Nat} {P : Option Value → kt_M → Prop} {X : String → Nat → kt_M → Prop} {a0 : Nat} {M : kt_M} (h : vc_J4_init w (g, M) d P X a0 M) : kt_Sp w g (d + 1) yJ4_init kc_J4_init [va_rf (some a0)] M P X := by
  refine kt_of (L0 := [(0, va_rf (some a0))]) (by decide +kernel) (Nat.le_of_ble_eq_true rfl) rfl fun x O => ?_
  replace O : kt_O w x (g, M) (d + 1) cJ4_init "java/util/AbstractSequentialList" 1 ("<init>", "()V") (Option.none : Option Jvm.ClassFile.FieldType) [] := O
  unfold vc_J4_init at h
  refine kr_aload_n O dJ4_init_0 rfl 0 rfl ?_
  refine kr_caV (rest := []) O cd_J2_init h (Nat.le_of_ble_eq_true rfl) (fun ls _ => kt_ivI O dJ4_init_1 cd_J2_init in_J2_init (Or.inl q245) q212 hi_J2_init) (fun M1 hq => ?_) (fun E q M9 hx => kr_out O hx)
  replace h := hq
  clear hq
  exact kr_vret O dJ4_init_4 h
def vc_J4_iterator (w : kt_W) (gr : kt_g × kt_M) (d : Nat) (P : Option Value → kt_M → Prop) (X : String → Nat → kt_M → Prop) (a0 : Nat) (M : kt_M) : Prop :=
  (kt_co M a0 = some 14) ∧ 
  kt_Ca w gr d yJ2_listIterator kc_J2_listIterator [va_rf (some a0)] M (kt_pR fun p1 M2 => P (some (va_rf p1)) M2) X
theorem ce_J4_iterator {w : kt_W} {g : kt_g} {d : Nat} {P : Option Value → kt_M → Prop} {X : String → Nat → kt_M → Prop} {a0 : Nat} {M : kt_M} (h : vc_J4_iterator w (g, M) d P X a0 M) : kt_Sp w g (d + 1) yJ4_iterator kc_J4_iterator [va_rf (some a0)] M P X := by
  refine kt_of (L0 := [(0, va_rf (some a0))]) (by decide +kernel) (Nat.le_of_ble_eq_true rfl) rfl fun x O => ?_
  replace O : kt_O w x (g, M) (d + 1) cJ4_iterator "java/util/AbstractSequentialList" 1 ("iterator", "()Ljava/util/Iterator;") (Option.some (Jvm.ClassFile.FieldType.object "java/util/Iterator")) [] := O
  unfold vc_J4_iterator at h
  refine kr_aload_n O dJ4_iterator_0 rfl 0 rfl ?_
  obtain ⟨hco, h⟩ := h
  refine kr_caR (rest := []) O cd_J2_listIterator h (Nat.le_of_ble_eq_true rfl) (fun ls _ => kt_ivU (ci := 14) O dJ4_iterator_1 cd_J2_listIterator q866 q867 (Or.inr q868) q870 q869 hco (by decide) ⟨by decide, by decide, rfl⟩) (fun p1 M2 hq => ?_) (fun E q M9 hx => kr_out O hx)
  replace h := hq
  clear hq
  exact kr_aret O dJ4_iterator_4 (by first | exact Or.inl ⟨_, rfl⟩ | exact Or.inr ⟨_, rfl⟩) h
def vc_J5_init (w : kt_W) (gr : kt_g × kt_M) (d : Nat) (P : Option Value → kt_M → Prop) (X : String → Nat → kt_M → Prop) (a0 : Nat) (M : kt_M) : Prop :=
  
  kt_Ca w gr d yJ4_init kc_J4_init [va_rf (some a0)] M (kt_pV fun M1 => kt_hf gr M1 a0 93 ∧ ∀ M2, M2 = kt_pf M1 a0 93 (.int (0 : Int32)) → P none M2) X
theorem ce_J5_init {w : kt_W} {g : kt_g} {d : Nat} {P : Option Value → kt_M → Prop} {X : String → Nat → kt_M → Prop} {a0 : Nat} {M : kt_M} (h : vc_J5_init w (g, M) d P X a0 M) : kt_Sp w g (d + 1) yJ5_init kc_J5_init [va_rf (some a0)] M P X := by
  refine kt_of (L0 := [(0, va_rf (some a0))]) (by decide +kernel) (Nat.le_of_ble_eq_true rfl) rfl fun x O => ?_
  replace O : kt_O w x (g, M) (d + 1) cJ5_init "java/util/LinkedList" 1 ("<init>", "()V") (Option.none : Option Jvm.ClassFile.FieldType) [] := O
  unfold vc_J5_init at h
  refine kr_aload_n O dJ5_init_0 rfl 0 rfl ?_
  refine kr_caV (rest := []) O cd_J4_init h (Nat.le_of_ble_eq_true rfl) (fun ls _ => kt_ivI O dJ5_init_1 cd_J4_init in_J4_init (Or.inl q242) q243 hi_J4_init) (fun M1 hq => ?_) (fun E q M9 hx => kr_out O hx)
  replace h := hq
  clear hq
  refine kr_aload_n O dJ5_init_4 rfl 0 rfl ?_
  refine kr_iconst O dJ5_init_5 (v := (0 : Int32)) (by decide) ?_
  obtain ⟨hw, h⟩ := h
  refine kr_putf O dJ5_init_6 fs_J5_7 (Or.inl rfl) ⟨rfl, rfl⟩ hw (kr_nmM fun M2 hM2 => ?_)
  replace h := h M2 hM2
  exact kr_vret O dJ5_init_9 h
def vc_J5_listIterator (w : kt_W) (gr : kt_g × kt_M) (d : Nat) (P : Option Value → kt_M → Prop) (X : String → Nat → kt_M → Prop) (a0 : Nat) (v1 : Int32) (M : kt_M) : Prop :=
  (kt_co M a0 = some 14) ∧ 
  kt_Ca w gr d yJ5_checkPositionIndex kc_J5_checkPositionIndex [va_rf (some a0), .int v1] M (kt_pV fun M1 => kt_fits w M1 5 ∧ ∃ t2, ∀ M3, M3 = kt_new M1 5 (t2 + 2, .inr (16, [va_rf none, va_rf none, .int 0, .int 0, va_rf none])) → 
  kt_Ca w gr d yJ28_init kc_J28_init [va_rf (some M1.1), va_rf (some a0), .int v1] M3 (kt_pV fun M4 => P (some (va_rf (some M1.1))) M4) X) X
theorem ce_J5_listIterator {w : kt_W} {g : kt_g} {d : Nat} {P : Option Value → kt_M → Prop} {X : String → Nat → kt_M → Prop} {a0 : Nat} {v1 : Int32} {M : kt_M} (h : vc_J5_listIterator w (g, M) d P X a0 v1 M) : kt_Sp w g (d + 1) yJ5_listIterator kc_J5_listIterator [va_rf (some a0), .int v1] M P X := by
  refine kt_of (L0 := [(0, va_rf (some a0)), (1, .int v1)]) (by decide +kernel) (Nat.le_of_ble_eq_true rfl) rfl fun x O => ?_
  replace O : kt_O w x (g, M) (d + 1) cJ5_listIterator "java/util/LinkedList" 2 ("listIterator", "(I)Ljava/util/ListIterator;") (Option.some (Jvm.ClassFile.FieldType.object "java/util/ListIterator")) [] := O
  unfold vc_J5_listIterator at h
  refine kr_aload_n O dJ5_listIterator_0 rfl 0 rfl ?_
  refine kr_iload_n O dJ5_listIterator_1 rfl 1 rfl ?_
  obtain ⟨hco, h⟩ := h
  refine kr_caV (rest := []) O cd_J5_checkPositionIndex h (Nat.le_of_ble_eq_true rfl) (fun ls _ => kt_ivV (ci := 14) O dJ5_listIterator_2 cd_J5_checkPositionIndex in_J5_checkPositionIndex (Or.inl q912) q914 qs13 hco (by decide) hy_J5_checkPositionIndex) (fun M1 hq => ?_) (fun E q M9 hx => kr_out O hx)
  replace h := hq
  clear hq
  obtain ⟨hf, t2, h⟩ := h
  refine kr_new (c := 16) (r := (RJ28, TJ28, 5)) (fs := [va_rf none, va_rf none, .int 0, .int 0, va_rf none]) t2 O dJ5_listIterator_5 rfl q920 q921 q152 rfl hf (kr_nmM fun M3 hM3 => ?_)
  replace h := h M3 hM3
  refine kr_dup O dJ5_listIterator_8 (kt_nrf _) ?_
  refine kr_aload_n O dJ5_listIterator_9 rfl 0 rfl ?_
  refine kr_iload_n O dJ5_listIterator_10 rfl 1 rfl ?_
  refine kr_caV (rest := [va_rf (some M1.1)]) O cd_J28_init h (Nat.le_of_ble_eq_true rfl) (fun ls _ => kt_ivI O dJ5_listIterator_11 cd_J28_init in_J28_init (Or.inl q922) q923 hi_J28_init) (fun M4 hq => ?_) (fun E q M9 hx => kr_out O hx)
  replace h := hq
  clear hq
  exact kr_aret O dJ5_listIterator_14 (by first | exact Or.inl ⟨_, rfl⟩ | exact Or.inr ⟨_, rfl⟩) h
def vc_J5_checkPositionIndex (w : kt_W) (gr : kt_g × kt_M) (d : Nat) (P : Option Value → kt_M → Prop) (X : String → Nat → kt_M → Prop) (a0 : Nat) (v1 : Int32) (M : kt_M) : Prop :=
  (kt_co M a0 = some 14) ∧ 
  kt_Ca w gr d yJ5_isPositionIndex kc_J5_isPositionIndex [va_rf (some a0), .int v1] M (kt_pI fun u1 M2 => 
    ((¬ u1 = 0 → P none M2) ∧
    (u1 = 0 → False))) X
theorem ce_J5_checkPositionIndex {w : kt_W} {g : kt_g} {d : Nat} {P : Option Value → kt_M → Prop} {X : String → Nat → kt_M → Prop} {a0 : Nat} {v1 : Int32} {M : kt_M} (h : vc_J5_checkPositionIndex w (g, M) d P X a0 v1 M) : kt_Sp w g (d + 1) yJ5_checkPositionIndex kc_J5_checkPositionIndex [va_rf (some a0), .int v1] M P X := by
  refine kt_of (L0 := [(0, va_rf (some a0)), (1, .int v1)]) (by decide +kernel) (Nat.le_of_ble_eq_true rfl) rfl fun x O => ?_
  replace O : kt_O w x (g, M) (d + 1) cJ5_checkPositionIndex "java/util/LinkedList" 2 ("checkPositionIndex", "(I)V") (Option.none : Option Jvm.ClassFile.FieldType) [] := O
  unfold vc_J5_checkPositionIndex at h
  refine kr_aload_n O dJ5_checkPositionIndex_0 rfl 0 rfl ?_
  refine kr_iload_n O dJ5_checkPositionIndex_1 rfl 1 rfl ?_
  obtain ⟨hco, h⟩ := h
  refine kr_caI (rest := []) O cd_J5_isPositionIndex h (Nat.le_of_ble_eq_true rfl) (fun ls _ => kt_ivV (ci := 14) O dJ5_checkPositionIndex_2 cd_J5_isPositionIndex in_J5_isPositionIndex (Or.inl q916) q918 qs14 hco (by decide) hy_J5_isPositionIndex) (fun u1 M2 hq => ?_) (fun E q M9 hx => kr_out O hx)
  replace h := hq
  clear hq
  refine kr_if_ne (tgt := 21) O dJ5_checkPositionIndex_5 rfl (fun hc => ?_) (fun hc => ?_)
  · replace h := h.1 hc
    exact kr_vret O dJ5_checkPositionIndex_21 h
  · replace h := h.2 hc
    exact h.elim
def vc_J5_isPositionIndex (w : kt_W) (gr : kt_g × kt_M) (d : Nat) (P : Option Value → kt_M → Prop) (X : String → Nat → kt_M → Prop) (a0 : Nat) (v1 : Int32) (M : kt_M) : Prop :=
  
    ((v1 < 0 → P (some (.int (0 : Int32))) M) ∧
    (¬ v1 < 0 → ∃ u1, kt_gf M a0 93 = some (.int u1) ∧ 
      ((u1 < v1 → P (some (.int (0 : Int32))) M) ∧
      (¬ u1 < v1 → P (some (.int (1 : Int32))) M))))
theorem ce_J5_isPositionIndex {w : kt_W} {g : kt_g} {d : Nat} {P : Option Value → kt_M → Prop} {X : String → Nat → kt_M → Prop} {a0 : Nat} {v1 : Int32} {M : kt_M} (h : vc_J5_isPositionIndex w (g, M) d P X a0 v1 M) : kt_Sp w g (d + 1) yJ5_isPositionIndex kc_J5_isPositionIndex [va_rf (some a0), .int v1] M P X := by
  refine kt_of (L0 := [(0, va_rf (some a0)), (1, .int v1)]) (by decide +kernel) (Nat.le_of_ble_eq_true rfl) rfl fun x O => ?_
  replace O : kt_O w x (g, M) (d + 1) cJ5_isPositionIndex "java/util/LinkedList" 2 ("isPositionIndex", "(I)Z") (Option.some Jvm.ClassFile.FieldType.boolean) [] := O
  unfold vc_J5_isPositionIndex at h
  refine kr_iload_n O dJ5_isPositionIndex_0 rfl 1 rfl ?_
  refine kr_if_lt (tgt := 16) O dJ5_isPositionIndex_1 rfl (fun hc => ?_) (fun hc => ?_)
  · replace h := h.1 hc
    refine kr_iconst O dJ5_isPositionIndex_16 (v := (0 : Int32)) (by decide) ?_
    exact kr_iret O dJ5_isPositionIndex_17 (by decide) h
  · replace h := h.2 hc
    refine kr_iload_n O dJ5_isPositionIndex_4 rfl 1 rfl ?_
    refine kr_aload_n O dJ5_isPositionIndex_5 rfl 0 rfl ?_
    obtain ⟨u1, eu1, h⟩ := h
    refine kr_getf O dJ5_isPositionIndex_6 fs_J5_7 eu1 ?_
    refine kr_icmp_gt (tgt := 16) O dJ5_isPositionIndex_9 rfl (fun hc => ?_) (fun hc => ?_)
    · replace h := h.1 hc
      refine kr_iconst O dJ5_isPositionIndex_16 (v := (0 : Int32)) (by decide) ?_
      exact kr_iret O dJ5_isPositionIndex_17 (by decide) h
    · replace h := h.2 hc
      refine kr_iconst O dJ5_isPositionIndex_12 (v := (1 : Int32)) (by decide) ?_
      refine kr_goto (tgt := 17) O dJ5_isPositionIndex_13 rfl ?_
      exact kr_iret O dJ5_isPositionIndex_17 (by decide) h
