set_option maxRecDepth 100000
def vc_X0_load (w : kt_W) (gr : kt_g × kt_M) (d : Nat) (P : Option Value → kt_M → Prop) (X : String → Nat → kt_M → Prop) (r0 : Option Nat) (v1 : Int32) (r2 : Option Nat) (M : kt_M) : Prop :=
  ∃ b1, r0 = some b1 ∧ (kt_co M b1 = some 0) ∧ 
  kt_Ca w gr d yX1_load kc_X1_load [va_rf (some b1), .int v1] M (kt_pI fun u2 M3 => ∃ b4, r2 = some b4 ∧ kt_hil gr 1 M3 b4 (0 : Int32) ∧ ∀ M5, M5 = kt_sl M3 b4 (0 : Int32) u2.toInt64 → P (some (.int (0 : Int32))) M5) (fun E q M3 => (E = "java/lang/IllegalArgumentException" ∧ P (some (.int (1 : Int32))) M3))
theorem ce_X0_load {w : kt_W} {g : kt_g} {d : Nat} {P : Option Value → kt_M → Prop} {X : String → Nat → kt_M → Prop} {r0 : Option Nat} {v1 : Int32} {r2 : Option Nat} {M : kt_M} (h : vc_X0_load w (g, M) d P X r0 v1 r2 M) : kt_Sp w g (d + 1) yX0_load kc_X0_load [va_rf r0, .int v1, va_rf r2] M P X := by
  refine kt_ofH (L0 := [(0, va_rf r0), (1, .int v1), (2, va_rf r2)]) (by decide +kernel) (by simp only [kt_lgR, kt_lgI, kt_lgN] <;> exact Nat.le_of_ble_eq_true rfl) (by simp only [kt_lvR, kt_lvI, kt_lvN] <;> rfl) fun x O => ?_
  replace O : kt_O w x (g, M) (d + 1) cX0_load "KeyTurnsLaw" 4 ("load", "(LKeyTurns;I[J)I") (Option.some Jvm.ClassFile.FieldType.int) [(0, 9, 12, 13)] := O
  unfold vc_X0_load at h
  refine kr_aload_n O dX0_load_0 rfl 2 rfl ?_
  refine kr_iconst O dX0_load_1 (v := (0 : Int32)) (by decide) ?_
  refine kr_aload_n O dX0_load_2 rfl 0 rfl ?_
  refine kr_iload_n O dX0_load_3 rfl 1 rfl ?_
  obtain ⟨b1, rfl, h⟩ := h
  obtain ⟨hco, h⟩ := h
  refine kr_caI (rest := [.int (0 : Int32), va_rf r2]) O cd_X1_load h (Nat.le_of_ble_eq_true rfl) (fun ls _ => kt_ivV (ci := 0) O dX0_load_4 cd_X1_load in_X1_load (Or.inl q1486) q1487 q1488 hco (by decide) hy_X1_load) (fun u2 M3 hq => ?_) (fun E q M9 hx => ?_)
  · replace h := hq
    clear hq
    refine kr_i2l O dX0_load_7 ?_
    obtain ⟨b4, rfl, h⟩ := h
    obtain ⟨hw, h⟩ := h
    refine kr_lastore O dX0_load_8 hw (kr_nmM fun M5 hM5 => ?_)
    replace h := h M5 hM5
    refine kr_goto (tgt := 15) O dX0_load_9 rfl ?_
    refine kr_iconst O dX0_load_15 (v := (0 : Int32)) (by decide) ?_
    exact kr_iret O dX0_load_16 rfl h
  · obtain ⟨rfl, h⟩ := hx
    · refine kr_catch (sp := 0) (ep := 9) (hp := 12) (ct := 13) (pre := []) (suf := []) O rfl (by decide) (by decide) q1485 q1215 (fun z hz => nomatch hz) ?_
      refine kr_astore_n O dX0_load_12 rfl (Nat.le_of_ble_eq_true rfl) (by simp [kt_nw, kt_nrf, kt_cI, kt_cJ, kt_cF, kt_cD, kt_cR, kt_cU]) rfl ?_
      refine kr_iconst O dX0_load_13 (v := (1 : Int32)) (by decide) ?_
      exact kr_iret O dX0_load_14 rfl h
def vc_X0_size (w : kt_W) (gr : kt_g × kt_M) (d : Nat) (P : Option Value → kt_M → Prop) (X : String → Nat → kt_M → Prop) (r0 : Option Nat) (v1 : Int32) (r2 : Option Nat) (M : kt_M) : Prop :=
  ∃ b1, r0 = some b1 ∧ (kt_co M b1 = some 0) ∧ 
  kt_Ca w gr d yX1_size kc_X1_size [va_rf (some b1), .int v1] M (kt_pI fun u2 M3 => ∃ b4, r2 = some b4 ∧ kt_hil gr 1 M3 b4 (0 : Int32) ∧ ∀ M5, M5 = kt_sl M3 b4 (0 : Int32) u2.toInt64 → P (some (.int (0 : Int32))) M5) (fun E q M3 => (E = "java/util/NoSuchElementException" ∧ P (some (.int (1 : Int32))) M3))
theorem ce_X0_size {w : kt_W} {g : kt_g} {d : Nat} {P : Option Value → kt_M → Prop} {X : String → Nat → kt_M → Prop} {r0 : Option Nat} {v1 : Int32} {r2 : Option Nat} {M : kt_M} (h : vc_X0_size w (g, M) d P X r0 v1 r2 M) : kt_Sp w g (d + 1) yX0_size kc_X0_size [va_rf r0, .int v1, va_rf r2] M P X := by
  refine kt_ofH (L0 := [(0, va_rf r0), (1, .int v1), (2, va_rf r2)]) (by decide +kernel) (by simp only [kt_lgR, kt_lgI, kt_lgN] <;> exact Nat.le_of_ble_eq_true rfl) (by simp only [kt_lvR, kt_lvI, kt_lvN] <;> rfl) fun x O => ?_
  replace O : kt_O w x (g, M) (d + 1) cX0_size "KeyTurnsLaw" 4 ("size", "(LKeyTurns;I[J)I") (Option.some Jvm.ClassFile.FieldType.int) [(0, 9, 12, 18)] := O
  unfold vc_X0_size at h
  refine kr_aload_n O dX0_size_0 rfl 2 rfl ?_
  refine kr_iconst O dX0_size_1 (v := (0 : Int32)) (by decide) ?_
  refine kr_aload_n O dX0_size_2 rfl 0 rfl ?_
  refine kr_iload_n O dX0_size_3 rfl 1 rfl ?_
  obtain ⟨b1, rfl, h⟩ := h
  obtain ⟨hco, h⟩ := h
  refine kr_caI (rest := [.int (0 : Int32), va_rf r2]) O cd_X1_size h (Nat.le_of_ble_eq_true rfl) (fun ls _ => kt_ivV (ci := 0) O dX0_size_4 cd_X1_size in_X1_size (Or.inl q1797) q1798 q1799 hco (by decide) hy_X1_size) (fun u2 M3 hq => ?_) (fun E q M9 hx => ?_)
  · replace h := hq
    clear hq
    refine kr_i2l O dX0_size_7 ?_
    obtain ⟨b4, rfl, h⟩ := h
    obtain ⟨hw, h⟩ := h
    refine kr_lastore O dX0_size_8 hw (kr_nmM fun M5 hM5 => ?_)
    replace h := h M5 hM5
    refine kr_goto (tgt := 15) O dX0_size_9 rfl ?_
    refine kr_iconst O dX0_size_15 (v := (0 : Int32)) (by decide) ?_
    exact kr_iret O dX0_size_16 rfl h
  · obtain ⟨rfl, h⟩ := hx
    · refine kr_catch (sp := 0) (ep := 9) (hp := 12) (ct := 18) (pre := []) (suf := []) O rfl (by decide) (by decide) q1796 q653 (fun z hz => nomatch hz) ?_
      refine kr_astore_n O dX0_size_12 rfl (Nat.le_of_ble_eq_true rfl) (by simp [kt_nw, kt_nrf, kt_cI, kt_cJ, kt_cF, kt_cD, kt_cR, kt_cU]) rfl ?_
      refine kr_iconst O dX0_size_13 (v := (1 : Int32)) (by decide) ?_
      exact kr_iret O dX0_size_14 rfl h
def vc_X0_version (w : kt_W) (gr : kt_g × kt_M) (d : Nat) (P : Option Value → kt_M → Prop) (X : String → Nat → kt_M → Prop) (r0 : Option Nat) (v1 : Int32) (v2 : Int32) (r3 : Option Nat) (M : kt_M) : Prop :=
  ∃ b1, r0 = some b1 ∧ (kt_co M b1 = some 0) ∧ 
  kt_Ca w gr d yX1_version kc_X1_version [va_rf (some b1), .int v1, .int v2] M (kt_pI fun u2 M3 => ∃ b4, r3 = some b4 ∧ kt_hil gr 1 M3 b4 (0 : Int32) ∧ ∀ M5, M5 = kt_sl M3 b4 (0 : Int32) u2.toInt64 → P (some (.int (0 : Int32))) M5) (fun E q M3 => (E = "java/util/NoSuchElementException" ∧ P (some (.int (1 : Int32))) M3))
theorem ce_X0_version {w : kt_W} {g : kt_g} {d : Nat} {P : Option Value → kt_M → Prop} {X : String → Nat → kt_M → Prop} {r0 : Option Nat} {v1 : Int32} {v2 : Int32} {r3 : Option Nat} {M : kt_M} (h : vc_X0_version w (g, M) d P X r0 v1 v2 r3 M) : kt_Sp w g (d + 1) yX0_version kc_X0_version [va_rf r0, .int v1, .int v2, va_rf r3] M P X := by
  refine kt_ofH (L0 := [(0, va_rf r0), (1, .int v1), (2, .int v2), (3, va_rf r3)]) (by decide +kernel) (by simp only [kt_lgR, kt_lgI, kt_lgN] <;> exact Nat.le_of_ble_eq_true rfl) (by simp only [kt_lvR, kt_lvI, kt_lvN] <;> rfl) fun x O => ?_
  replace O : kt_O w x (g, M) (d + 1) cX0_version "KeyTurnsLaw" 5 ("version", "(LKeyTurns;II[J)I") (Option.some Jvm.ClassFile.FieldType.int) [(0, 10, 13, 18)] := O
  unfold vc_X0_version at h
  refine kr_aload_n O dX0_version_0 rfl 3 rfl ?_
  refine kr_iconst O dX0_version_1 (v := (0 : Int32)) (by decide) ?_
  refine kr_aload_n O dX0_version_2 rfl 0 rfl ?_
  refine kr_iload_n O dX0_version_3 rfl 1 rfl ?_
  refine kr_iload_n O dX0_version_4 rfl 2 rfl ?_
  obtain ⟨b1, rfl, h⟩ := h
  obtain ⟨hco, h⟩ := h
  refine kr_caI (rest := [.int (0 : Int32), va_rf r3]) O cd_X1_version h (Nat.le_of_ble_eq_true rfl) (fun ls _ => kt_ivV (ci := 0) O dX0_version_5 cd_X1_version in_X1_version (Or.inl q1826) q1827 q1828 hco (by decide) hy_X1_version) (fun u2 M3 hq => ?_) (fun E q M9 hx => ?_)
  · replace h := hq
    clear hq
    refine kr_i2l O dX0_version_8 ?_
    obtain ⟨b4, rfl, h⟩ := h
    obtain ⟨hw, h⟩ := h
    refine kr_lastore O dX0_version_9 hw (kr_nmM fun M5 hM5 => ?_)
    replace h := h M5 hM5
    refine kr_goto (tgt := 17) O dX0_version_10 rfl ?_
    refine kr_iconst O dX0_version_17 (v := (0 : Int32)) (by decide) ?_
    exact kr_iret O dX0_version_18 rfl h
  · obtain ⟨rfl, h⟩ := hx
    · refine kr_catch (sp := 0) (ep := 10) (hp := 13) (ct := 18) (pre := []) (suf := []) O rfl (by decide) (by decide) q1796 q653 (fun z hz => nomatch hz) ?_
      refine kr_astore O dX0_version_13 (Nat.le_of_ble_eq_true rfl) (by simp [kt_nw, kt_nrf, kt_cI, kt_cJ, kt_cF, kt_cD, kt_cR, kt_cU]) rfl ?_
      refine kr_iconst O dX0_version_15 (v := (1 : Int32)) (by decide) ?_
      exact kr_iret O dX0_version_16 rfl h
def vc_X0_record (w : kt_W) (gr : kt_g × kt_M) (d : Nat) (P : Option Value → kt_M → Prop) (X : String → Nat → kt_M → Prop) (r0 : Option Nat) (v1 : Int32) (v2 : Int32) (r3 : Option Nat) (M : kt_M) : Prop :=
  ∃ b1, r0 = some b1 ∧ (kt_co M b1 = some 0) ∧ 
  kt_Ca w gr d yX1_record kc_X1_record [va_rf (some b1), .int v1, .int v2] M (kt_pI fun u2 M3 => ∃ b4, r3 = some b4 ∧ kt_hil gr 1 M3 b4 (0 : Int32) ∧ ∀ M5, M5 = kt_sl M3 b4 (0 : Int32) u2.toInt64 → P (some (.int (0 : Int32))) M5) (fun E q M3 => (E = "java/util/NoSuchElementException" ∧ P (some (.int (1 : Int32))) M3))
theorem ce_X0_record {w : kt_W} {g : kt_g} {d : Nat} {P : Option Value → kt_M → Prop} {X : String → Nat → kt_M → Prop} {r0 : Option Nat} {v1 : Int32} {v2 : Int32} {r3 : Option Nat} {M : kt_M} (h : vc_X0_record w (g, M) d P X r0 v1 v2 r3 M) : kt_Sp w g (d + 1) yX0_record kc_X0_record [va_rf r0, .int v1, .int v2, va_rf r3] M P X := by
  refine kt_ofH (L0 := [(0, va_rf r0), (1, .int v1), (2, .int v2), (3, va_rf r3)]) (by decide +kernel) (by simp only [kt_lgR, kt_lgI, kt_lgN] <;> exact Nat.le_of_ble_eq_true rfl) (by simp only [kt_lvR, kt_lvI, kt_lvN] <;> rfl) fun x O => ?_
  replace O : kt_O w x (g, M) (d + 1) cX0_record "KeyTurnsLaw" 5 ("record", "(LKeyTurns;II[J)I") (Option.some Jvm.ClassFile.FieldType.int) [(0, 10, 13, 18)] := O
  unfold vc_X0_record at h
  refine kr_aload_n O dX0_record_0 rfl 3 rfl ?_
  refine kr_iconst O dX0_record_1 (v := (0 : Int32)) (by decide) ?_
  refine kr_aload_n O dX0_record_2 rfl 0 rfl ?_
  refine kr_iload_n O dX0_record_3 rfl 1 rfl ?_
  refine kr_iload_n O dX0_record_4 rfl 2 rfl ?_
  obtain ⟨b1, rfl, h⟩ := h
  obtain ⟨hco, h⟩ := h
  refine kr_caI (rest := [.int (0 : Int32), va_rf r3]) O cd_X1_record h (Nat.le_of_ble_eq_true rfl) (fun ls _ => kt_ivV (ci := 0) O dX0_record_5 cd_X1_record in_X1_record (Or.inl q1889) q1890 q1891 hco (by decide) hy_X1_record) (fun u2 M3 hq => ?_) (fun E q M9 hx => ?_)
  · replace h := hq
    clear hq
    refine kr_i2l O dX0_record_8 ?_
    obtain ⟨b4, rfl, h⟩ := h
    obtain ⟨hw, h⟩ := h
    refine kr_lastore O dX0_record_9 hw (kr_nmM fun M5 hM5 => ?_)
    replace h := h M5 hM5
    refine kr_goto (tgt := 17) O dX0_record_10 rfl ?_
    refine kr_iconst O dX0_record_17 (v := (0 : Int32)) (by decide) ?_
    exact kr_iret O dX0_record_18 rfl h
  · obtain ⟨rfl, h⟩ := hx
    · refine kr_catch (sp := 0) (ep := 10) (hp := 13) (ct := 18) (pre := []) (suf := []) O rfl (by decide) (by decide) q1796 q653 (fun z hz => nomatch hz) ?_
      refine kr_astore O dX0_record_13 (Nat.le_of_ble_eq_true rfl) (by simp [kt_nw, kt_nrf, kt_cI, kt_cJ, kt_cF, kt_cD, kt_cR, kt_cU]) rfl ?_
      refine kr_iconst O dX0_record_15 (v := (1 : Int32)) (by decide) ?_
      exact kr_iret O dX0_record_16 rfl h
def vc_X0_client (w : kt_W) (gr : kt_g × kt_M) (d : Nat) (P : Option Value → kt_M → Prop) (X : String → Nat → kt_M → Prop) (r0 : Option Nat) (v1 : Int32) (v2 : Int32) (r3 : Option Nat) (M : kt_M) : Prop :=
  ∃ b1, r0 = some b1 ∧ (kt_co M b1 = some 0) ∧ 
  kt_Ca w gr d yX1_client kc_X1_client [va_rf (some b1), .int v1, .int v2] M (kt_pI fun u2 M3 => ∃ b4, r3 = some b4 ∧ kt_hil gr 1 M3 b4 (0 : Int32) ∧ ∀ M5, M5 = kt_sl M3 b4 (0 : Int32) u2.toInt64 → P (some (.int (0 : Int32))) M5) (fun E q M3 => (E = "java/util/NoSuchElementException" ∧ P (some (.int (1 : Int32))) M3))
theorem ce_X0_client {w : kt_W} {g : kt_g} {d : Nat} {P : Option Value → kt_M → Prop} {X : String → Nat → kt_M → Prop} {r0 : Option Nat} {v1 : Int32} {v2 : Int32} {r3 : Option Nat} {M : kt_M} (h : vc_X0_client w (g, M) d P X r0 v1 v2 r3 M) : kt_Sp w g (d + 1) yX0_client kc_X0_client [va_rf r0, .int v1, .int v2, va_rf r3] M P X := by
  refine kt_ofH (L0 := [(0, va_rf r0), (1, .int v1), (2, .int v2), (3, va_rf r3)]) (by decide +kernel) (by simp only [kt_lgR, kt_lgI, kt_lgN] <;> exact Nat.le_of_ble_eq_true rfl) (by simp only [kt_lvR, kt_lvI, kt_lvN] <;> rfl) fun x O => ?_
  replace O : kt_O w x (g, M) (d + 1) cX0_client "KeyTurnsLaw" 5 ("client", "(LKeyTurns;II[J)I") (Option.some Jvm.ClassFile.FieldType.int) [(0, 10, 13, 18)] := O
  unfold vc_X0_client at h
  refine kr_aload_n O dX0_client_0 rfl 3 rfl ?_
  refine kr_iconst O dX0_client_1 (v := (0 : Int32)) (by decide) ?_
  refine kr_aload_n O dX0_client_2 rfl 0 rfl ?_
  refine kr_iload_n O dX0_client_3 rfl 1 rfl ?_
  refine kr_iload_n O dX0_client_4 rfl 2 rfl ?_
  obtain ⟨b1, rfl, h⟩ := h
  obtain ⟨hco, h⟩ := h
  refine kr_caI (rest := [.int (0 : Int32), va_rf r3]) O cd_X1_client h (Nat.le_of_ble_eq_true rfl) (fun ls _ => kt_ivV (ci := 0) O dX0_client_5 cd_X1_client in_X1_client (Or.inl q1910) q1911 q1912 hco (by decide) hy_X1_client) (fun u2 M3 hq => ?_) (fun E q M9 hx => ?_)
  · replace h := hq
    clear hq
    refine kr_i2l O dX0_client_8 ?_
    obtain ⟨b4, rfl, h⟩ := h
    obtain ⟨hw, h⟩ := h
    refine kr_lastore O dX0_client_9 hw (kr_nmM fun M5 hM5 => ?_)
    replace h := h M5 hM5
    refine kr_goto (tgt := 17) O dX0_client_10 rfl ?_
    refine kr_iconst O dX0_client_17 (v := (0 : Int32)) (by decide) ?_
    exact kr_iret O dX0_client_18 rfl h
  · obtain ⟨rfl, h⟩ := hx
    · refine kr_catch (sp := 0) (ep := 10) (hp := 13) (ct := 18) (pre := []) (suf := []) O rfl (by decide) (by decide) q1796 q653 (fun z hz => nomatch hz) ?_
      refine kr_astore O dX0_client_13 (Nat.le_of_ble_eq_true rfl) (by simp [kt_nw, kt_nrf, kt_cI, kt_cJ, kt_cF, kt_cD, kt_cR, kt_cU]) rfl ?_
      refine kr_iconst O dX0_client_15 (v := (1 : Int32)) (by decide) ?_
      exact kr_iret O dX0_client_16 rfl h
def vc_X0_canUse_16 (w : kt_W) (gr : kt_g × kt_M) (d : Nat) (P : Option Value → kt_M → Prop) (X : String → Nat → kt_M → Prop)  (s0 : Int64) (s1 : Int32) (sr2 : Option Nat) (M : kt_M) : Prop :=
  ∃ b1, sr2 = some b1 ∧ kt_hil gr 1 M b1 s1 ∧ ∀ M2, M2 = kt_sl M b1 s1 s0 → P (some (.int (0 : Int32))) M2
theorem cj_X0_canUse_16 {w : kt_W} {x : kt_X} {gr : kt_g × kt_M} {d : Nat} {P : Option Value → kt_M → Prop} {X : String → Nat → kt_M → Prop}  {s0 : Int64} {s1 : Int32} {sr2 : Option Nat} {M : kt_M} (O : kt_O w x gr (d + 1) cX0_canUse "KeyTurnsLaw" 5 ("canUse", "(LKeyTurns;II[J)I") (Option.some Jvm.ClassFile.FieldType.int) [(0, 17, 20, 18)])  (h : vc_X0_canUse_16 w gr d P X  s0 s1 sr2 M) : kt_S w x 5 (kt_E w x P X) M 16 [] [.long s0, .int s1, va_rf sr2] := by
  unfold vc_X0_canUse_16 at h
  obtain ⟨b1, rfl, h⟩ := h
  obtain ⟨hw, h⟩ := h
  refine kr_lastore O dX0_canUse_16 hw (kr_nmM fun M2 hM2 => ?_)
  replace h := h M2 hM2
  refine kr_goto (tgt := 24) O dX0_canUse_17 rfl ?_
  refine kr_iconst O dX0_canUse_24 (v := (0 : Int32)) (by decide) ?_
  exact kr_iret O dX0_canUse_25 rfl h
def vc_X0_canUse (w : kt_W) (gr : kt_g × kt_M) (d : Nat) (P : Option Value → kt_M → Prop) (X : String → Nat → kt_M → Prop) (r0 : Option Nat) (v1 : Int32) (v2 : Int32) (r3 : Option Nat) (M : kt_M) : Prop :=
  ∃ b1, r0 = some b1 ∧ (kt_co M b1 = some 0) ∧ 
  kt_Ca w gr d yX1_canUse kc_X1_canUse [va_rf (some b1), .int v1, .int v2] M (kt_pI fun u2 M3 => 
      ((u2 = 0 → vc_X0_canUse_16 w gr d P X  (0 : Int64) (0 : Int32) r3 M3) ∧
      (¬ u2 = 0 → vc_X0_canUse_16 w gr d P X  (1 : Int64) (0 : Int32) r3 M3))) (fun E q M3 => (E = "java/util/NoSuchElementException" ∧ P (some (.int (1 : Int32))) M3))
theorem ce_X0_canUse {w : kt_W} {g : kt_g} {d : Nat} {P : Option Value → kt_M → Prop} {X : String → Nat → kt_M → Prop} {r0 : Option Nat} {v1 : Int32} {v2 : Int32} {r3 : Option Nat} {M : kt_M} (h : vc_X0_canUse w (g, M) d P X r0 v1 v2 r3 M) : kt_Sp w g (d + 1) yX0_canUse kc_X0_canUse [va_rf r0, .int v1, .int v2, va_rf r3] M P X := by
  refine kt_ofH (L0 := [(0, va_rf r0), (1, .int v1), (2, .int v2), (3, va_rf r3)]) (by decide +kernel) (by simp only [kt_lgR, kt_lgI, kt_lgN] <;> exact Nat.le_of_ble_eq_true rfl) (by simp only [kt_lvR, kt_lvI, kt_lvN] <;> rfl) fun x O => ?_
  replace O : kt_O w x (g, M) (d + 1) cX0_canUse "KeyTurnsLaw" 5 ("canUse", "(LKeyTurns;II[J)I") (Option.some Jvm.ClassFile.FieldType.int) [(0, 17, 20, 18)] := O
  unfold vc_X0_canUse at h
  refine kr_aload_n O dX0_canUse_0 rfl 3 rfl ?_
  refine kr_iconst O dX0_canUse_1 (v := (0 : Int32)) (by decide) ?_
  refine kr_aload_n O dX0_canUse_2 rfl 0 rfl ?_
  refine kr_iload_n O dX0_canUse_3 rfl 1 rfl ?_
  refine kr_iload_n O dX0_canUse_4 rfl 2 rfl ?_
  obtain ⟨b1, rfl, h⟩ := h
  obtain ⟨hco, h⟩ := h
  refine kr_caI (rest := [.int (0 : Int32), va_rf r3]) O cd_X1_canUse h (Nat.le_of_ble_eq_true rfl) (fun ls _ => kt_ivV (ci := 0) O dX0_canUse_5 cd_X1_canUse in_X1_canUse (Or.inl q1930) q1931 q1932 hco (by decide) hy_X1_canUse) (fun u2 M3 hq => ?_) (fun E q M9 hx => ?_)
  · replace h := hq
    clear hq
    refine kr_if_eq (tgt := 15) O dX0_canUse_8 rfl (fun hc => ?_) (fun hc => ?_)
    · replace h := h.1 hc
      refine kr_lconst O dX0_canUse_15 (v := (0 : Int64)) (by decide) ?_
      refine kr_sub [] rfl ?_
      exact cj_X0_canUse_16 O  h
    · replace h := h.2 hc
      refine kr_lconst O dX0_canUse_11 (v := (1 : Int64)) (by decide) ?_
      refine kr_goto (tgt := 16) O dX0_canUse_12 rfl ?_
      refine kr_sub [] rfl ?_
      exact cj_X0_canUse_16 O  h
  · obtain ⟨rfl, h⟩ := hx
    · refine kr_catch (sp := 0) (ep := 17) (hp := 20) (ct := 18) (pre := []) (suf := []) O rfl (by decide) (by decide) q1796 q653 (fun z hz => nomatch hz) ?_
      refine kr_astore O dX0_canUse_20 (Nat.le_of_ble_eq_true rfl) (by simp [kt_nw, kt_nrf, kt_cI, kt_cJ, kt_cF, kt_cD, kt_cR, kt_cU]) rfl ?_
      refine kr_iconst O dX0_canUse_22 (v := (1 : Int32)) (by decide) ?_
      exact kr_iret O dX0_canUse_23 rfl h
def vc_X0_readsBy (w : kt_W) (gr : kt_g × kt_M) (d : Nat) (P : Option Value → kt_M → Prop) (X : String → Nat → kt_M → Prop) (r0 : Option Nat) (v1 : Int32) (v2 : Int32) (r3 : Option Nat) (M : kt_M) : Prop :=
  ∃ b1, r0 = some b1 ∧ (kt_co M b1 = some 0) ∧ 
  kt_Ca w gr d yX1_readsBy kc_X1_readsBy [va_rf (some b1), .int v1, .int v2] M (kt_pI fun u2 M3 => ∃ b4, r3 = some b4 ∧ kt_hil gr 1 M3 b4 (0 : Int32) ∧ ∀ M5, M5 = kt_sl M3 b4 (0 : Int32) u2.toInt64 → P (some (.int (0 : Int32))) M5) (fun E q M3 => (E = "java/util/NoSuchElementException" ∧ P (some (.int (1 : Int32))) M3))
theorem ce_X0_readsBy {w : kt_W} {g : kt_g} {d : Nat} {P : Option Value → kt_M → Prop} {X : String → Nat → kt_M → Prop} {r0 : Option Nat} {v1 : Int32} {v2 : Int32} {r3 : Option Nat} {M : kt_M} (h : vc_X0_readsBy w (g, M) d P X r0 v1 v2 r3 M) : kt_Sp w g (d + 1) yX0_readsBy kc_X0_readsBy [va_rf r0, .int v1, .int v2, va_rf r3] M P X := by
  refine kt_ofH (L0 := [(0, va_rf r0), (1, .int v1), (2, .int v2), (3, va_rf r3)]) (by decide +kernel) (by simp only [kt_lgR, kt_lgI, kt_lgN] <;> exact Nat.le_of_ble_eq_true rfl) (by simp only [kt_lvR, kt_lvI, kt_lvN] <;> rfl) fun x O => ?_
  replace O : kt_O w x (g, M) (d + 1) cX0_readsBy "KeyTurnsLaw" 5 ("readsBy", "(LKeyTurns;II[J)I") (Option.some Jvm.ClassFile.FieldType.int) [(0, 10, 13, 18)] := O
  unfold vc_X0_readsBy at h
  refine kr_aload_n O dX0_readsBy_0 rfl 3 rfl ?_
  refine kr_iconst O dX0_readsBy_1 (v := (0 : Int32)) (by decide) ?_
  refine kr_aload_n O dX0_readsBy_2 rfl 0 rfl ?_
  refine kr_iload_n O dX0_readsBy_3 rfl 1 rfl ?_
  refine kr_iload_n O dX0_readsBy_4 rfl 2 rfl ?_
  obtain ⟨b1, rfl, h⟩ := h
  obtain ⟨hco, h⟩ := h
  refine kr_caI (rest := [.int (0 : Int32), va_rf r3]) O cd_X1_readsBy h (Nat.le_of_ble_eq_true rfl) (fun ls _ => kt_ivV (ci := 0) O dX0_readsBy_5 cd_X1_readsBy in_X1_readsBy (Or.inl q1938) q1939 q1940 hco (by decide) hy_X1_readsBy) (fun u2 M3 hq => ?_) (fun E q M9 hx => ?_)
  · replace h := hq
    clear hq
    refine kr_i2l O dX0_readsBy_8 ?_
    obtain ⟨b4, rfl, h⟩ := h
    obtain ⟨hw, h⟩ := h
    refine kr_lastore O dX0_readsBy_9 hw (kr_nmM fun M5 hM5 => ?_)
    replace h := h M5 hM5
    refine kr_goto (tgt := 17) O dX0_readsBy_10 rfl ?_
    refine kr_iconst O dX0_readsBy_17 (v := (0 : Int32)) (by decide) ?_
    exact kr_iret O dX0_readsBy_18 rfl h
  · obtain ⟨rfl, h⟩ := hx
    · refine kr_catch (sp := 0) (ep := 10) (hp := 13) (ct := 18) (pre := []) (suf := []) O rfl (by decide) (by decide) q1796 q653 (fun z hz => nomatch hz) ?_
      refine kr_astore O dX0_readsBy_13 (Nat.le_of_ble_eq_true rfl) (by simp [kt_nw, kt_nrf, kt_cI, kt_cJ, kt_cF, kt_cD, kt_cR, kt_cU]) rfl ?_
      refine kr_iconst O dX0_readsBy_15 (v := (1 : Int32)) (by decide) ?_
      exact kr_iret O dX0_readsBy_16 rfl h
def vc_X0_couldRead (w : kt_W) (gr : kt_g × kt_M) (d : Nat) (P : Option Value → kt_M → Prop) (X : String → Nat → kt_M → Prop) (r0 : Option Nat) (v1 : Int32) (v2 : Int32) (r3 : Option Nat) (M : kt_M) : Prop :=
  ∃ b1, r0 = some b1 ∧ (kt_co M b1 = some 0) ∧ 
  kt_Ca w gr d yX1_couldRead kc_X1_couldRead [va_rf (some b1), .int v1, .int v2] M (kt_pI fun u2 M3 => ∃ b4, r3 = some b4 ∧ kt_hil gr 1 M3 b4 (0 : Int32) ∧ ∀ M5, M5 = kt_sl M3 b4 (0 : Int32) u2.toInt64 → P (some (.int (0 : Int32))) M5) (fun E q M3 => (E = "java/util/NoSuchElementException" ∧ P (some (.int (1 : Int32))) M3))
theorem ce_X0_couldRead {w : kt_W} {g : kt_g} {d : Nat} {P : Option Value → kt_M → Prop} {X : String → Nat → kt_M → Prop} {r0 : Option Nat} {v1 : Int32} {v2 : Int32} {r3 : Option Nat} {M : kt_M} (h : vc_X0_couldRead w (g, M) d P X r0 v1 v2 r3 M) : kt_Sp w g (d + 1) yX0_couldRead kc_X0_couldRead [va_rf r0, .int v1, .int v2, va_rf r3] M P X := by
  refine kt_ofH (L0 := [(0, va_rf r0), (1, .int v1), (2, .int v2), (3, va_rf r3)]) (by decide +kernel) (by simp only [kt_lgR, kt_lgI, kt_lgN] <;> exact Nat.le_of_ble_eq_true rfl) (by simp only [kt_lvR, kt_lvI, kt_lvN] <;> rfl) fun x O => ?_
  replace O : kt_O w x (g, M) (d + 1) cX0_couldRead "KeyTurnsLaw" 5 ("couldRead", "(LKeyTurns;II[J)I") (Option.some Jvm.ClassFile.FieldType.int) [(0, 10, 13, 18)] := O
  unfold vc_X0_couldRead at h
  refine kr_aload_n O dX0_couldRead_0 rfl 3 rfl ?_
  refine kr_iconst O dX0_couldRead_1 (v := (0 : Int32)) (by decide) ?_
  refine kr_aload_n O dX0_couldRead_2 rfl 0 rfl ?_
  refine kr_iload_n O dX0_couldRead_3 rfl 1 rfl ?_
  refine kr_iload_n O dX0_couldRead_4 rfl 2 rfl ?_
  obtain ⟨b1, rfl, h⟩ := h
  obtain ⟨hco, h⟩ := h
  refine kr_caI (rest := [.int (0 : Int32), va_rf r3]) O cd_X1_couldRead h (Nat.le_of_ble_eq_true rfl) (fun ls _ => kt_ivV (ci := 0) O dX0_couldRead_5 cd_X1_couldRead in_X1_couldRead (Or.inl q1946) q1947 q1948 hco (by decide) hy_X1_couldRead) (fun u2 M3 hq => ?_) (fun E q M9 hx => ?_)
  · replace h := hq
    clear hq
    refine kr_i2l O dX0_couldRead_8 ?_
    obtain ⟨b4, rfl, h⟩ := h
    obtain ⟨hw, h⟩ := h
    refine kr_lastore O dX0_couldRead_9 hw (kr_nmM fun M5 hM5 => ?_)
    replace h := h M5 hM5
    refine kr_goto (tgt := 17) O dX0_couldRead_10 rfl ?_
    refine kr_iconst O dX0_couldRead_17 (v := (0 : Int32)) (by decide) ?_
    exact kr_iret O dX0_couldRead_18 rfl h
  · obtain ⟨rfl, h⟩ := hx
    · refine kr_catch (sp := 0) (ep := 10) (hp := 13) (ct := 18) (pre := []) (suf := []) O rfl (by decide) (by decide) q1796 q653 (fun z hz => nomatch hz) ?_
      refine kr_astore O dX0_couldRead_13 (Nat.le_of_ble_eq_true rfl) (by simp [kt_nw, kt_nrf, kt_cI, kt_cJ, kt_cF, kt_cD, kt_cR, kt_cU]) rfl ?_
      refine kr_iconst O dX0_couldRead_15 (v := (1 : Int32)) (by decide) ?_
      exact kr_iret O dX0_couldRead_16 rfl h
def vc_X0_nextAsk (w : kt_W) (gr : kt_g × kt_M) (d : Nat) (P : Option Value → kt_M → Prop) (X : String → Nat → kt_M → Prop) (r0 : Option Nat) (v1 : Int32) (r2 : Option Nat) (M : kt_M) : Prop :=
  ∃ b1, r0 = some b1 ∧ (kt_co M b1 = some 0) ∧ 
  kt_Ca w gr d yX1_nextAsk kc_X1_nextAsk [va_rf (some b1), .int v1] M (kt_pI fun u2 M3 => ∃ b4, r2 = some b4 ∧ kt_hil gr 1 M3 b4 (0 : Int32) ∧ ∀ M5, M5 = kt_sl M3 b4 (0 : Int32) u2.toInt64 → P (some (.int (0 : Int32))) M5) (fun E q M3 => (E = "java/util/NoSuchElementException" ∧ P (some (.int (1 : Int32))) M3))
theorem ce_X0_nextAsk {w : kt_W} {g : kt_g} {d : Nat} {P : Option Value → kt_M → Prop} {X : String → Nat → kt_M → Prop} {r0 : Option Nat} {v1 : Int32} {r2 : Option Nat} {M : kt_M} (h : vc_X0_nextAsk w (g, M) d P X r0 v1 r2 M) : kt_Sp w g (d + 1) yX0_nextAsk kc_X0_nextAsk [va_rf r0, .int v1, va_rf r2] M P X := by
  refine kt_ofH (L0 := [(0, va_rf r0), (1, .int v1), (2, va_rf r2)]) (by decide +kernel) (by simp only [kt_lgR, kt_lgI, kt_lgN] <;> exact Nat.le_of_ble_eq_true rfl) (by simp only [kt_lvR, kt_lvI, kt_lvN] <;> rfl) fun x O => ?_
  replace O : kt_O w x (g, M) (d + 1) cX0_nextAsk "KeyTurnsLaw" 4 ("nextAsk", "(LKeyTurns;I[J)I") (Option.some Jvm.ClassFile.FieldType.int) [(0, 9, 12, 18)] := O
  unfold vc_X0_nextAsk at h
  refine kr_aload_n O dX0_nextAsk_0 rfl 2 rfl ?_
  refine kr_iconst O dX0_nextAsk_1 (v := (0 : Int32)) (by decide) ?_
  refine kr_aload_n O dX0_nextAsk_2 rfl 0 rfl ?_
  refine kr_iload_n O dX0_nextAsk_3 rfl 1 rfl ?_
  obtain ⟨b1, rfl, h⟩ := h
  obtain ⟨hco, h⟩ := h
  refine kr_caI (rest := [.int (0 : Int32), va_rf r2]) O cd_X1_nextAsk h (Nat.le_of_ble_eq_true rfl) (fun ls _ => kt_ivV (ci := 0) O dX0_nextAsk_4 cd_X1_nextAsk in_X1_nextAsk (Or.inl q1959) q1960 q1961 hco (by decide) hy_X1_nextAsk) (fun u2 M3 hq => ?_) (fun E q M9 hx => ?_)
  · replace h := hq
    clear hq
    refine kr_i2l O dX0_nextAsk_7 ?_
    obtain ⟨b4, rfl, h⟩ := h
    obtain ⟨hw, h⟩ := h
    refine kr_lastore O dX0_nextAsk_8 hw (kr_nmM fun M5 hM5 => ?_)
    replace h := h M5 hM5
    refine kr_goto (tgt := 15) O dX0_nextAsk_9 rfl ?_
    refine kr_iconst O dX0_nextAsk_15 (v := (0 : Int32)) (by decide) ?_
    exact kr_iret O dX0_nextAsk_16 rfl h
  · obtain ⟨rfl, h⟩ := hx
    · refine kr_catch (sp := 0) (ep := 9) (hp := 12) (ct := 18) (pre := []) (suf := []) O rfl (by decide) (by decide) q1796 q653 (fun z hz => nomatch hz) ?_
      refine kr_astore_n O dX0_nextAsk_12 rfl (Nat.le_of_ble_eq_true rfl) (by simp [kt_nw, kt_nrf, kt_cI, kt_cJ, kt_cF, kt_cD, kt_cR, kt_cU]) rfl ?_
      refine kr_iconst O dX0_nextAsk_13 (v := (1 : Int32)) (by decide) ?_
      exact kr_iret O dX0_nextAsk_14 rfl h
def vc_X0_readersBehind (w : kt_W) (gr : kt_g × kt_M) (d : Nat) (P : Option Value → kt_M → Prop) (X : String → Nat → kt_M → Prop) (r0 : Option Nat) (v1 : Int32) (v2 : Int32) (r3 : Option Nat) (M : kt_M) : Prop :=
  ∃ b1, r0 = some b1 ∧ (kt_co M b1 = some 0) ∧ 
  kt_Ca w gr d yX1_readersBehind kc_X1_readersBehind [va_rf (some b1), .int v1, .int v2] M (kt_pI fun u2 M3 => ∃ b4, r3 = some b4 ∧ kt_hil gr 1 M3 b4 (0 : Int32) ∧ ∀ M5, M5 = kt_sl M3 b4 (0 : Int32) u2.toInt64 → P (some (.int (0 : Int32))) M5) (fun E q M3 => (E = "java/util/NoSuchElementException" ∧ P (some (.int (1 : Int32))) M3) ∨ (E = "java/lang/IllegalArgumentException" ∧ P (some (.int (2 : Int32))) M3))
theorem ce_X0_readersBehind {w : kt_W} {g : kt_g} {d : Nat} {P : Option Value → kt_M → Prop} {X : String → Nat → kt_M → Prop} {r0 : Option Nat} {v1 : Int32} {v2 : Int32} {r3 : Option Nat} {M : kt_M} (h : vc_X0_readersBehind w (g, M) d P X r0 v1 v2 r3 M) : kt_Sp w g (d + 1) yX0_readersBehind kc_X0_readersBehind [va_rf r0, .int v1, .int v2, va_rf r3] M P X := by
  refine kt_ofH (L0 := [(0, va_rf r0), (1, .int v1), (2, .int v2), (3, va_rf r3)]) (by decide +kernel) (by simp only [kt_lgR, kt_lgI, kt_lgN] <;> exact Nat.le_of_ble_eq_true rfl) (by simp only [kt_lvR, kt_lvI, kt_lvN] <;> rfl) fun x O => ?_
  replace O : kt_O w x (g, M) (d + 1) cX0_readersBehind "KeyTurnsLaw" 5 ("readersBehind", "(LKeyTurns;II[J)I") (Option.some Jvm.ClassFile.FieldType.int) [(0, 10, 13, 18), (0, 10, 17, 13)] := O
  unfold vc_X0_readersBehind at h
  refine kr_aload_n O dX0_readersBehind_0 rfl 3 rfl ?_
  refine kr_iconst O dX0_readersBehind_1 (v := (0 : Int32)) (by decide) ?_
  refine kr_aload_n O dX0_readersBehind_2 rfl 0 rfl ?_
  refine kr_iload_n O dX0_readersBehind_3 rfl 1 rfl ?_
  refine kr_iload_n O dX0_readersBehind_4 rfl 2 rfl ?_
  obtain ⟨b1, rfl, h⟩ := h
  obtain ⟨hco, h⟩ := h
  refine kr_caI (rest := [.int (0 : Int32), va_rf r3]) O cd_X1_readersBehind h (Nat.le_of_ble_eq_true rfl) (fun ls _ => kt_ivV (ci := 0) O dX0_readersBehind_5 cd_X1_readersBehind in_X1_readersBehind (Or.inl q1970) q1971 q1972 hco (by decide) hy_X1_readersBehind) (fun u2 M3 hq => ?_) (fun E q M9 hx => ?_)
  · replace h := hq
    clear hq
    refine kr_i2l O dX0_readersBehind_8 ?_
    obtain ⟨b4, rfl, h⟩ := h
    obtain ⟨hw, h⟩ := h
    refine kr_lastore O dX0_readersBehind_9 hw (kr_nmM fun M5 hM5 => ?_)
    replace h := h M5 hM5
    refine kr_goto (tgt := 21) O dX0_readersBehind_10 rfl ?_
    refine kr_iconst O dX0_readersBehind_21 (v := (0 : Int32)) (by decide) ?_
    exact kr_iret O dX0_readersBehind_22 rfl h
  · rcases hx with ⟨rfl, h⟩ | ⟨rfl, h⟩
    · refine kr_catch (sp := 0) (ep := 10) (hp := 13) (ct := 18) (pre := []) (suf := [(0, 10, 17, 13)]) O rfl (by decide) (by decide) q1796 q653 (fun z hz => nomatch hz) ?_
      refine kr_astore O dX0_readersBehind_13 (Nat.le_of_ble_eq_true rfl) (by simp [kt_nw, kt_nrf, kt_cI, kt_cJ, kt_cF, kt_cD, kt_cR, kt_cU]) rfl ?_
      refine kr_iconst O dX0_readersBehind_15 (v := (1 : Int32)) (by decide) ?_
      exact kr_iret O dX0_readersBehind_16 rfl h
    · refine kr_catch (sp := 0) (ep := 10) (hp := 17) (ct := 13) (pre := [(0, 10, 13, 18)]) (suf := []) O rfl (by decide) (by decide) q1485 q1215 (fun z hz => by rcases List.mem_cons.mp hz with rfl | hz <;> first | exact ⟨by decide, _, q1796, by decide⟩ | exact nomatch hz) ?_
      refine kr_astore O dX0_readersBehind_17 (Nat.le_of_ble_eq_true rfl) (by simp [kt_nw, kt_nrf, kt_cI, kt_cJ, kt_cF, kt_cD, kt_cR, kt_cU]) rfl ?_
      refine kr_iconst O dX0_readersBehind_19 (v := (2 : Int32)) (by decide) ?_
      exact kr_iret O dX0_readersBehind_20 rfl h
def vc_X0_dark (w : kt_W) (gr : kt_g × kt_M) (d : Nat) (P : Option Value → kt_M → Prop) (X : String → Nat → kt_M → Prop) (r0 : Option Nat) (v1 : Int32) (v2 : Int32) (r3 : Option Nat) (M : kt_M) : Prop :=
  ∃ b1, r0 = some b1 ∧ (kt_co M b1 = some 0) ∧ 
  kt_Ca w gr d yX1_dark kc_X1_dark [va_rf (some b1), .int v1, .int v2] M (kt_pI fun u2 M3 => ∃ b4, r3 = some b4 ∧ kt_hil gr 1 M3 b4 (0 : Int32) ∧ ∀ M5, M5 = kt_sl M3 b4 (0 : Int32) u2.toInt64 → P (some (.int (0 : Int32))) M5) (fun E q M3 => (E = "java/util/NoSuchElementException" ∧ P (some (.int (1 : Int32))) M3) ∨ (E = "java/lang/IllegalArgumentException" ∧ P (some (.int (2 : Int32))) M3))
theorem ce_X0_dark {w : kt_W} {g : kt_g} {d : Nat} {P : Option Value → kt_M → Prop} {X : String → Nat → kt_M → Prop} {r0 : Option Nat} {v1 : Int32} {v2 : Int32} {r3 : Option Nat} {M : kt_M} (h : vc_X0_dark w (g, M) d P X r0 v1 v2 r3 M) : kt_Sp w g (d + 1) yX0_dark kc_X0_dark [va_rf r0, .int v1, .int v2, va_rf r3] M P X := by
  refine kt_ofH (L0 := [(0, va_rf r0), (1, .int v1), (2, .int v2), (3, va_rf r3)]) (by decide +kernel) (by simp only [kt_lgR, kt_lgI, kt_lgN] <;> exact Nat.le_of_ble_eq_true rfl) (by simp only [kt_lvR, kt_lvI, kt_lvN] <;> rfl) fun x O => ?_
  replace O : kt_O w x (g, M) (d + 1) cX0_dark "KeyTurnsLaw" 5 ("dark", "(LKeyTurns;II[J)I") (Option.some Jvm.ClassFile.FieldType.int) [(0, 10, 13, 18), (0, 10, 17, 13)] := O
  unfold vc_X0_dark at h
  refine kr_aload_n O dX0_dark_0 rfl 3 rfl ?_
  refine kr_iconst O dX0_dark_1 (v := (0 : Int32)) (by decide) ?_
  refine kr_aload_n O dX0_dark_2 rfl 0 rfl ?_
  refine kr_iload_n O dX0_dark_3 rfl 1 rfl ?_
  refine kr_iload_n O dX0_dark_4 rfl 2 rfl ?_
  obtain ⟨b1, rfl, h⟩ := h
  obtain ⟨hco, h⟩ := h
  refine kr_caI (rest := [.int (0 : Int32), va_rf r3]) O cd_X1_dark h (Nat.le_of_ble_eq_true rfl) (fun ls _ => kt_ivV (ci := 0) O dX0_dark_5 cd_X1_dark in_X1_dark (Or.inl q1995) q1996 q1997 hco (by decide) hy_X1_dark) (fun u2 M3 hq => ?_) (fun E q M9 hx => ?_)
  · replace h := hq
    clear hq
    refine kr_i2l O dX0_dark_8 ?_
    obtain ⟨b4, rfl, h⟩ := h
    obtain ⟨hw, h⟩ := h
    refine kr_lastore O dX0_dark_9 hw (kr_nmM fun M5 hM5 => ?_)
    replace h := h M5 hM5
    refine kr_goto (tgt := 21) O dX0_dark_10 rfl ?_
    refine kr_iconst O dX0_dark_21 (v := (0 : Int32)) (by decide) ?_
    exact kr_iret O dX0_dark_22 rfl h
  · rcases hx with ⟨rfl, h⟩ | ⟨rfl, h⟩
    · refine kr_catch (sp := 0) (ep := 10) (hp := 13) (ct := 18) (pre := []) (suf := [(0, 10, 17, 13)]) O rfl (by decide) (by decide) q1796 q653 (fun z hz => nomatch hz) ?_
      refine kr_astore O dX0_dark_13 (Nat.le_of_ble_eq_true rfl) (by simp [kt_nw, kt_nrf, kt_cI, kt_cJ, kt_cF, kt_cD, kt_cR, kt_cU]) rfl ?_
      refine kr_iconst O dX0_dark_15 (v := (1 : Int32)) (by decide) ?_
      exact kr_iret O dX0_dark_16 rfl h
    · refine kr_catch (sp := 0) (ep := 10) (hp := 17) (ct := 13) (pre := [(0, 10, 13, 18)]) (suf := []) O rfl (by decide) (by decide) q1485 q1215 (fun z hz => by rcases List.mem_cons.mp hz with rfl | hz <;> first | exact ⟨by decide, _, q1796, by decide⟩ | exact nomatch hz) ?_
      refine kr_astore O dX0_dark_17 (Nat.le_of_ble_eq_true rfl) (by simp [kt_nw, kt_nrf, kt_cI, kt_cJ, kt_cF, kt_cD, kt_cR, kt_cU]) rfl ?_
      refine kr_iconst O dX0_dark_19 (v := (2 : Int32)) (by decide) ?_
      exact kr_iret O dX0_dark_20 rfl h
def vc_X0_leastBatch (w : kt_W) (gr : kt_g × kt_M) (d : Nat) (P : Option Value → kt_M → Prop) (X : String → Nat → kt_M → Prop) (r0 : Option Nat) (v1 : Int32) (r2 : Option Nat) (M : kt_M) : Prop :=
  ∃ b1, r0 = some b1 ∧ (kt_co M b1 = some 0) ∧ 
  kt_Ca w gr d yX1_leastBatch kc_X1_leastBatch [va_rf (some b1), .int v1] M (kt_pI fun u2 M3 => ∃ b4, r2 = some b4 ∧ kt_hil gr 1 M3 b4 (0 : Int32) ∧ ∀ M5, M5 = kt_sl M3 b4 (0 : Int32) u2.toInt64 → P (some (.int (0 : Int32))) M5) (fun E q M3 => (E = "java/lang/IllegalArgumentException" ∧ P (some (.int (1 : Int32))) M3))
theorem ce_X0_leastBatch {w : kt_W} {g : kt_g} {d : Nat} {P : Option Value → kt_M → Prop} {X : String → Nat → kt_M → Prop} {r0 : Option Nat} {v1 : Int32} {r2 : Option Nat} {M : kt_M} (h : vc_X0_leastBatch w (g, M) d P X r0 v1 r2 M) : kt_Sp w g (d + 1) yX0_leastBatch kc_X0_leastBatch [va_rf r0, .int v1, va_rf r2] M P X := by
  refine kt_ofH (L0 := [(0, va_rf r0), (1, .int v1), (2, va_rf r2)]) (by decide +kernel) (by simp only [kt_lgR, kt_lgI, kt_lgN] <;> exact Nat.le_of_ble_eq_true rfl) (by simp only [kt_lvR, kt_lvI, kt_lvN] <;> rfl) fun x O => ?_
  replace O : kt_O w x (g, M) (d + 1) cX0_leastBatch "KeyTurnsLaw" 4 ("leastBatch", "(LKeyTurns;I[J)I") (Option.some Jvm.ClassFile.FieldType.int) [(0, 9, 12, 13)] := O
  unfold vc_X0_leastBatch at h
  refine kr_aload_n O dX0_leastBatch_0 rfl 2 rfl ?_
  refine kr_iconst O dX0_leastBatch_1 (v := (0 : Int32)) (by decide) ?_
  refine kr_aload_n O dX0_leastBatch_2 rfl 0 rfl ?_
  refine kr_iload_n O dX0_leastBatch_3 rfl 1 rfl ?_
  obtain ⟨b1, rfl, h⟩ := h
  obtain ⟨hco, h⟩ := h
  refine kr_caI (rest := [.int (0 : Int32), va_rf r2]) O cd_X1_leastBatch h (Nat.le_of_ble_eq_true rfl) (fun ls _ => kt_ivV (ci := 0) O dX0_leastBatch_4 cd_X1_leastBatch in_X1_leastBatch (Or.inl q2019) q2020 q2021 hco (by decide) hy_X1_leastBatch) (fun u2 M3 hq => ?_) (fun E q M9 hx => ?_)
  · replace h := hq
    clear hq
    refine kr_i2l O dX0_leastBatch_7 ?_
    obtain ⟨b4, rfl, h⟩ := h
    obtain ⟨hw, h⟩ := h
    refine kr_lastore O dX0_leastBatch_8 hw (kr_nmM fun M5 hM5 => ?_)
    replace h := h M5 hM5
    refine kr_goto (tgt := 15) O dX0_leastBatch_9 rfl ?_
    refine kr_iconst O dX0_leastBatch_15 (v := (0 : Int32)) (by decide) ?_
    exact kr_iret O dX0_leastBatch_16 rfl h
  · obtain ⟨rfl, h⟩ := hx
    · refine kr_catch (sp := 0) (ep := 9) (hp := 12) (ct := 13) (pre := []) (suf := []) O rfl (by decide) (by decide) q1485 q1215 (fun z hz => nomatch hz) ?_
      refine kr_astore_n O dX0_leastBatch_12 rfl (Nat.le_of_ble_eq_true rfl) (by simp [kt_nw, kt_nrf, kt_cI, kt_cJ, kt_cF, kt_cD, kt_cR, kt_cU]) rfl ?_
      refine kr_iconst O dX0_leastBatch_13 (v := (1 : Int32)) (by decide) ?_
      exact kr_iret O dX0_leastBatch_14 rfl h
def vc_X0_damage (w : kt_W) (gr : kt_g × kt_M) (d : Nat) (P : Option Value → kt_M → Prop) (X : String → Nat → kt_M → Prop) (r0 : Option Nat) (v1 : Int32) (r2 : Option Nat) (M : kt_M) : Prop :=
  ∃ b1, r0 = some b1 ∧ (kt_co M b1 = some 0) ∧ 
  kt_Ca w gr d yX1_damage kc_X1_damage [va_rf (some b1), .int v1] M (kt_pI fun u2 M3 => ∃ b4, r2 = some b4 ∧ kt_hil gr 1 M3 b4 (0 : Int32) ∧ ∀ M5, M5 = kt_sl M3 b4 (0 : Int32) u2.toInt64 → P (some (.int (0 : Int32))) M5) (fun E q M3 => (E = "java/util/NoSuchElementException" ∧ P (some (.int (1 : Int32))) M3))
theorem ce_X0_damage {w : kt_W} {g : kt_g} {d : Nat} {P : Option Value → kt_M → Prop} {X : String → Nat → kt_M → Prop} {r0 : Option Nat} {v1 : Int32} {r2 : Option Nat} {M : kt_M} (h : vc_X0_damage w (g, M) d P X r0 v1 r2 M) : kt_Sp w g (d + 1) yX0_damage kc_X0_damage [va_rf r0, .int v1, va_rf r2] M P X := by
  refine kt_ofH (L0 := [(0, va_rf r0), (1, .int v1), (2, va_rf r2)]) (by decide +kernel) (by simp only [kt_lgR, kt_lgI, kt_lgN] <;> exact Nat.le_of_ble_eq_true rfl) (by simp only [kt_lvR, kt_lvI, kt_lvN] <;> rfl) fun x O => ?_
  replace O : kt_O w x (g, M) (d + 1) cX0_damage "KeyTurnsLaw" 4 ("damage", "(LKeyTurns;I[J)I") (Option.some Jvm.ClassFile.FieldType.int) [(0, 9, 12, 18)] := O
  unfold vc_X0_damage at h
  refine kr_aload_n O dX0_damage_0 rfl 2 rfl ?_
  refine kr_iconst O dX0_damage_1 (v := (0 : Int32)) (by decide) ?_
  refine kr_aload_n O dX0_damage_2 rfl 0 rfl ?_
  refine kr_iload_n O dX0_damage_3 rfl 1 rfl ?_
  obtain ⟨b1, rfl, h⟩ := h
  obtain ⟨hco, h⟩ := h
  refine kr_caI (rest := [.int (0 : Int32), va_rf r2]) O cd_X1_damage h (Nat.le_of_ble_eq_true rfl) (fun ls _ => kt_ivV (ci := 0) O dX0_damage_4 cd_X1_damage in_X1_damage (Or.inl q2026) q2027 q2028 hco (by decide) hy_X1_damage) (fun u2 M3 hq => ?_) (fun E q M9 hx => ?_)
  · replace h := hq
    clear hq
    refine kr_i2l O dX0_damage_7 ?_
    obtain ⟨b4, rfl, h⟩ := h
    obtain ⟨hw, h⟩ := h
    refine kr_lastore O dX0_damage_8 hw (kr_nmM fun M5 hM5 => ?_)
    replace h := h M5 hM5
    refine kr_goto (tgt := 15) O dX0_damage_9 rfl ?_
    refine kr_iconst O dX0_damage_15 (v := (0 : Int32)) (by decide) ?_
    exact kr_iret O dX0_damage_16 rfl h
  · obtain ⟨rfl, h⟩ := hx
    · refine kr_catch (sp := 0) (ep := 9) (hp := 12) (ct := 18) (pre := []) (suf := []) O rfl (by decide) (by decide) q1796 q653 (fun z hz => nomatch hz) ?_
      refine kr_astore_n O dX0_damage_12 rfl (Nat.le_of_ble_eq_true rfl) (by simp [kt_nw, kt_nrf, kt_cI, kt_cJ, kt_cF, kt_cD, kt_cR, kt_cU]) rfl ?_
      refine kr_iconst O dX0_damage_13 (v := (1 : Int32)) (by decide) ?_
      exact kr_iret O dX0_damage_14 rfl h
def vc_X0_pass (w : kt_W) (gr : kt_g × kt_M) (d : Nat) (P : Option Value → kt_M → Prop) (X : String → Nat → kt_M → Prop) (r0 : Option Nat) (v1 : Int32) (r2 : Option Nat) (M : kt_M) : Prop :=
  ∃ b1, r0 = some b1 ∧ (kt_co M b1 = some 0) ∧ 
  kt_Ca w gr d yX1_pass kc_X1_pass [va_rf (some b1), .int v1] M (kt_pI fun u2 M3 => ∃ b4, r2 = some b4 ∧ kt_hil gr 1 M3 b4 (0 : Int32) ∧ ∀ M5, M5 = kt_sl M3 b4 (0 : Int32) u2.toInt64 → P (some (.int (0 : Int32))) M5) (fun E q M3 => (E = "java/lang/IllegalArgumentException" ∧ P (some (.int (1 : Int32))) M3))
theorem ce_X0_pass {w : kt_W} {g : kt_g} {d : Nat} {P : Option Value → kt_M → Prop} {X : String → Nat → kt_M → Prop} {r0 : Option Nat} {v1 : Int32} {r2 : Option Nat} {M : kt_M} (h : vc_X0_pass w (g, M) d P X r0 v1 r2 M) : kt_Sp w g (d + 1) yX0_pass kc_X0_pass [va_rf r0, .int v1, va_rf r2] M P X := by
  refine kt_ofH (L0 := [(0, va_rf r0), (1, .int v1), (2, va_rf r2)]) (by decide +kernel) (by simp only [kt_lgR, kt_lgI, kt_lgN] <;> exact Nat.le_of_ble_eq_true rfl) (by simp only [kt_lvR, kt_lvI, kt_lvN] <;> rfl) fun x O => ?_
  replace O : kt_O w x (g, M) (d + 1) cX0_pass "KeyTurnsLaw" 4 ("pass", "(LKeyTurns;I[J)I") (Option.some Jvm.ClassFile.FieldType.int) [(0, 9, 12, 13)] := O
  unfold vc_X0_pass at h
  refine kr_aload_n O dX0_pass_0 rfl 2 rfl ?_
  refine kr_iconst O dX0_pass_1 (v := (0 : Int32)) (by decide) ?_
  refine kr_aload_n O dX0_pass_2 rfl 0 rfl ?_
  refine kr_iload_n O dX0_pass_3 rfl 1 rfl ?_
  obtain ⟨b1, rfl, h⟩ := h
  obtain ⟨hco, h⟩ := h
  refine kr_caI (rest := [.int (0 : Int32), va_rf r2]) O cd_X1_pass h (Nat.le_of_ble_eq_true rfl) (fun ls _ => kt_ivV (ci := 0) O dX0_pass_4 cd_X1_pass in_X1_pass (Or.inl q2067) q2068 q2069 hco (by decide) hy_X1_pass) (fun u2 M3 hq => ?_) (fun E q M9 hx => ?_)
  · replace h := hq
    clear hq
    refine kr_i2l O dX0_pass_7 ?_
    obtain ⟨b4, rfl, h⟩ := h
    obtain ⟨hw, h⟩ := h
    refine kr_lastore O dX0_pass_8 hw (kr_nmM fun M5 hM5 => ?_)
    replace h := h M5 hM5
    refine kr_goto (tgt := 15) O dX0_pass_9 rfl ?_
    refine kr_iconst O dX0_pass_15 (v := (0 : Int32)) (by decide) ?_
    exact kr_iret O dX0_pass_16 rfl h
  · obtain ⟨rfl, h⟩ := hx
    · refine kr_catch (sp := 0) (ep := 9) (hp := 12) (ct := 13) (pre := []) (suf := []) O rfl (by decide) (by decide) q1485 q1215 (fun z hz => nomatch hz) ?_
      refine kr_astore_n O dX0_pass_12 rfl (Nat.le_of_ble_eq_true rfl) (by simp [kt_nw, kt_nrf, kt_cI, kt_cJ, kt_cF, kt_cD, kt_cR, kt_cU]) rfl ?_
      refine kr_iconst O dX0_pass_13 (v := (1 : Int32)) (by decide) ?_
      exact kr_iret O dX0_pass_14 rfl h
def vc_X0_withdraw (w : kt_W) (gr : kt_g × kt_M) (d : Nat) (P : Option Value → kt_M → Prop) (X : String → Nat → kt_M → Prop) (r0 : Option Nat) (v1 : Int32) (r2 : Option Nat) (M : kt_M) : Prop :=
  ∃ b1, r0 = some b1 ∧ (kt_co M b1 = some 0) ∧ 
  kt_Ca w gr d yX1_withdraw kc_X1_withdraw [va_rf (some b1), .int v1] M (kt_pI fun u2 M3 => ∃ b4, r2 = some b4 ∧ kt_hil gr 1 M3 b4 (0 : Int32) ∧ ∀ M5, M5 = kt_sl M3 b4 (0 : Int32) u2.toInt64 → P (some (.int (0 : Int32))) M5) (fun E q M3 => (E = "java/util/NoSuchElementException" ∧ P (some (.int (1 : Int32))) M3))
theorem ce_X0_withdraw {w : kt_W} {g : kt_g} {d : Nat} {P : Option Value → kt_M → Prop} {X : String → Nat → kt_M → Prop} {r0 : Option Nat} {v1 : Int32} {r2 : Option Nat} {M : kt_M} (h : vc_X0_withdraw w (g, M) d P X r0 v1 r2 M) : kt_Sp w g (d + 1) yX0_withdraw kc_X0_withdraw [va_rf r0, .int v1, va_rf r2] M P X := by
  refine kt_ofH (L0 := [(0, va_rf r0), (1, .int v1), (2, va_rf r2)]) (by decide +kernel) (by simp only [kt_lgR, kt_lgI, kt_lgN] <;> exact Nat.le_of_ble_eq_true rfl) (by simp only [kt_lvR, kt_lvI, kt_lvN] <;> rfl) fun x O => ?_
  replace O : kt_O w x (g, M) (d + 1) cX0_withdraw "KeyTurnsLaw" 4 ("withdraw", "(LKeyTurns;I[J)I") (Option.some Jvm.ClassFile.FieldType.int) [(0, 9, 12, 18)] := O
  unfold vc_X0_withdraw at h
  refine kr_aload_n O dX0_withdraw_0 rfl 2 rfl ?_
  refine kr_iconst O dX0_withdraw_1 (v := (0 : Int32)) (by decide) ?_
  refine kr_aload_n O dX0_withdraw_2 rfl 0 rfl ?_
  refine kr_iload_n O dX0_withdraw_3 rfl 1 rfl ?_
  obtain ⟨b1, rfl, h⟩ := h
  obtain ⟨hco, h⟩ := h
  refine kr_caI (rest := [.int (0 : Int32), va_rf r2]) O cd_X1_withdraw h (Nat.le_of_ble_eq_true rfl) (fun ls _ => kt_ivV (ci := 0) O dX0_withdraw_4 cd_X1_withdraw in_X1_withdraw (Or.inl q2090) q2091 q2092 hco (by decide) hy_X1_withdraw) (fun u2 M3 hq => ?_) (fun E q M9 hx => ?_)
  · replace h := hq
    clear hq
    refine kr_i2l O dX0_withdraw_7 ?_
    obtain ⟨b4, rfl, h⟩ := h
    obtain ⟨hw, h⟩ := h
    refine kr_lastore O dX0_withdraw_8 hw (kr_nmM fun M5 hM5 => ?_)
    replace h := h M5 hM5
    refine kr_goto (tgt := 15) O dX0_withdraw_9 rfl ?_
    refine kr_iconst O dX0_withdraw_15 (v := (0 : Int32)) (by decide) ?_
    exact kr_iret O dX0_withdraw_16 rfl h
  · obtain ⟨rfl, h⟩ := hx
    · refine kr_catch (sp := 0) (ep := 9) (hp := 12) (ct := 18) (pre := []) (suf := []) O rfl (by decide) (by decide) q1796 q653 (fun z hz => nomatch hz) ?_
      refine kr_astore_n O dX0_withdraw_12 rfl (Nat.le_of_ble_eq_true rfl) (by simp [kt_nw, kt_nrf, kt_cI, kt_cJ, kt_cF, kt_cD, kt_cR, kt_cU]) rfl ?_
      refine kr_iconst O dX0_withdraw_13 (v := (1 : Int32)) (by decide) ?_
      exact kr_iret O dX0_withdraw_14 rfl h
def vc_X0_drop (w : kt_W) (gr : kt_g × kt_M) (d : Nat) (P : Option Value → kt_M → Prop) (X : String → Nat → kt_M → Prop) (r0 : Option Nat) (v1 : Int32) (r2 : Option Nat) (M : kt_M) : Prop :=
  ∃ b1, r0 = some b1 ∧ (kt_co M b1 = some 0) ∧ 
  kt_Ca w gr d yX1_drop kc_X1_drop [va_rf (some b1), .int v1] M (kt_pI fun u2 M3 => ∃ b4, r2 = some b4 ∧ kt_hil gr 1 M3 b4 (0 : Int32) ∧ ∀ M5, M5 = kt_sl M3 b4 (0 : Int32) u2.toInt64 → P (some (.int (0 : Int32))) M5) (fun E q M3 => (E = "java/util/NoSuchElementException" ∧ P (some (.int (1 : Int32))) M3))
theorem ce_X0_drop {w : kt_W} {g : kt_g} {d : Nat} {P : Option Value → kt_M → Prop} {X : String → Nat → kt_M → Prop} {r0 : Option Nat} {v1 : Int32} {r2 : Option Nat} {M : kt_M} (h : vc_X0_drop w (g, M) d P X r0 v1 r2 M) : kt_Sp w g (d + 1) yX0_drop kc_X0_drop [va_rf r0, .int v1, va_rf r2] M P X := by
  refine kt_ofH (L0 := [(0, va_rf r0), (1, .int v1), (2, va_rf r2)]) (by decide +kernel) (by simp only [kt_lgR, kt_lgI, kt_lgN] <;> exact Nat.le_of_ble_eq_true rfl) (by simp only [kt_lvR, kt_lvI, kt_lvN] <;> rfl) fun x O => ?_
  replace O : kt_O w x (g, M) (d + 1) cX0_drop "KeyTurnsLaw" 4 ("drop", "(LKeyTurns;I[J)I") (Option.some Jvm.ClassFile.FieldType.int) [(0, 9, 12, 18)] := O
  unfold vc_X0_drop at h
  refine kr_aload_n O dX0_drop_0 rfl 2 rfl ?_
  refine kr_iconst O dX0_drop_1 (v := (0 : Int32)) (by decide) ?_
  refine kr_aload_n O dX0_drop_2 rfl 0 rfl ?_
  refine kr_iload_n O dX0_drop_3 rfl 1 rfl ?_
  obtain ⟨b1, rfl, h⟩ := h
  obtain ⟨hco, h⟩ := h
  refine kr_caI (rest := [.int (0 : Int32), va_rf r2]) O cd_X1_drop h (Nat.le_of_ble_eq_true rfl) (fun ls _ => kt_ivV (ci := 0) O dX0_drop_4 cd_X1_drop in_X1_drop (Or.inl q2097) q2098 q2099 hco (by decide) hy_X1_drop) (fun u2 M3 hq => ?_) (fun E q M9 hx => ?_)
  · replace h := hq
    clear hq
    refine kr_i2l O dX0_drop_7 ?_
    obtain ⟨b4, rfl, h⟩ := h
    obtain ⟨hw, h⟩ := h
    refine kr_lastore O dX0_drop_8 hw (kr_nmM fun M5 hM5 => ?_)
    replace h := h M5 hM5
    refine kr_goto (tgt := 15) O dX0_drop_9 rfl ?_
    refine kr_iconst O dX0_drop_15 (v := (0 : Int32)) (by decide) ?_
    exact kr_iret O dX0_drop_16 rfl h
  · obtain ⟨rfl, h⟩ := hx
    · refine kr_catch (sp := 0) (ep := 9) (hp := 12) (ct := 18) (pre := []) (suf := []) O rfl (by decide) (by decide) q1796 q653 (fun z hz => nomatch hz) ?_
      refine kr_astore_n O dX0_drop_12 rfl (Nat.le_of_ble_eq_true rfl) (by simp [kt_nw, kt_nrf, kt_cI, kt_cJ, kt_cF, kt_cD, kt_cR, kt_cU]) rfl ?_
      refine kr_iconst O dX0_drop_13 (v := (1 : Int32)) (by decide) ?_
      exact kr_iret O dX0_drop_14 rfl h
def vc_X0_ask (w : kt_W) (gr : kt_g × kt_M) (d : Nat) (P : Option Value → kt_M → Prop) (X : String → Nat → kt_M → Prop) (r0 : Option Nat) (v1 : Int32) (r2 : Option Nat) (M : kt_M) : Prop :=
  ∃ b1, r0 = some b1 ∧ (kt_co M b1 = some 0) ∧ 
  kt_Ca w gr d yX1_ask kc_X1_ask [va_rf (some b1), .int v1] M (kt_pI fun u2 M3 => ∃ b4, r2 = some b4 ∧ kt_hil gr 1 M3 b4 (0 : Int32) ∧ ∀ M5, M5 = kt_sl M3 b4 (0 : Int32) u2.toInt64 → P (some (.int (0 : Int32))) M5) (fun E q M3 => (E = "java/util/NoSuchElementException" ∧ P (some (.int (1 : Int32))) M3))
theorem ce_X0_ask {w : kt_W} {g : kt_g} {d : Nat} {P : Option Value → kt_M → Prop} {X : String → Nat → kt_M → Prop} {r0 : Option Nat} {v1 : Int32} {r2 : Option Nat} {M : kt_M} (h : vc_X0_ask w (g, M) d P X r0 v1 r2 M) : kt_Sp w g (d + 1) yX0_ask kc_X0_ask [va_rf r0, .int v1, va_rf r2] M P X := by
  refine kt_ofH (L0 := [(0, va_rf r0), (1, .int v1), (2, va_rf r2)]) (by decide +kernel) (by simp only [kt_lgR, kt_lgI, kt_lgN] <;> exact Nat.le_of_ble_eq_true rfl) (by simp only [kt_lvR, kt_lvI, kt_lvN] <;> rfl) fun x O => ?_
  replace O : kt_O w x (g, M) (d + 1) cX0_ask "KeyTurnsLaw" 4 ("ask", "(LKeyTurns;I[J)I") (Option.some Jvm.ClassFile.FieldType.int) [(0, 9, 12, 18)] := O
  unfold vc_X0_ask at h
  refine kr_aload_n O dX0_ask_0 rfl 2 rfl ?_
  refine kr_iconst O dX0_ask_1 (v := (0 : Int32)) (by decide) ?_
  refine kr_aload_n O dX0_ask_2 rfl 0 rfl ?_
  refine kr_iload_n O dX0_ask_3 rfl 1 rfl ?_
  obtain ⟨b1, rfl, h⟩ := h
  obtain ⟨hco, h⟩ := h
  refine kr_caI (rest := [.int (0 : Int32), va_rf r2]) O cd_X1_ask h (Nat.le_of_ble_eq_true rfl) (fun ls _ => kt_ivV (ci := 0) O dX0_ask_4 cd_X1_ask in_X1_ask (Or.inl q2104) q2105 q2106 hco (by decide) hy_X1_ask) (fun u2 M3 hq => ?_) (fun E q M9 hx => ?_)
  · replace h := hq
    clear hq
    refine kr_i2l O dX0_ask_7 ?_
    obtain ⟨b4, rfl, h⟩ := h
    obtain ⟨hw, h⟩ := h
    refine kr_lastore O dX0_ask_8 hw (kr_nmM fun M5 hM5 => ?_)
    replace h := h M5 hM5
    refine kr_goto (tgt := 15) O dX0_ask_9 rfl ?_
    refine kr_iconst O dX0_ask_15 (v := (0 : Int32)) (by decide) ?_
    exact kr_iret O dX0_ask_16 rfl h
  · obtain ⟨rfl, h⟩ := hx
    · refine kr_catch (sp := 0) (ep := 9) (hp := 12) (ct := 18) (pre := []) (suf := []) O rfl (by decide) (by decide) q1796 q653 (fun z hz => nomatch hz) ?_
      refine kr_astore_n O dX0_ask_12 rfl (Nat.le_of_ble_eq_true rfl) (by simp [kt_nw, kt_nrf, kt_cI, kt_cJ, kt_cF, kt_cD, kt_cR, kt_cU]) rfl ?_
      refine kr_iconst O dX0_ask_13 (v := (1 : Int32)) (by decide) ?_
      exact kr_iret O dX0_ask_14 rfl h
def vc_X0_read (w : kt_W) (gr : kt_g × kt_M) (d : Nat) (P : Option Value → kt_M → Prop) (X : String → Nat → kt_M → Prop) (r0 : Option Nat) (v1 : Int32) (v2 : Int32) (r3 : Option Nat) (M : kt_M) : Prop :=
  ∃ b1, r0 = some b1 ∧ (kt_co M b1 = some 0) ∧ 
  kt_Ca w gr d yX1_read kc_X1_read [va_rf (some b1), .int v1, .int v2] M (kt_pI fun u2 M3 => ∃ b4, r3 = some b4 ∧ kt_hil gr 1 M3 b4 (0 : Int32) ∧ ∀ M5, M5 = kt_sl M3 b4 (0 : Int32) u2.toInt64 → P (some (.int (0 : Int32))) M5) (fun E q M3 => (E = "java/util/NoSuchElementException" ∧ P (some (.int (1 : Int32))) M3))
theorem ce_X0_read {w : kt_W} {g : kt_g} {d : Nat} {P : Option Value → kt_M → Prop} {X : String → Nat → kt_M → Prop} {r0 : Option Nat} {v1 : Int32} {v2 : Int32} {r3 : Option Nat} {M : kt_M} (h : vc_X0_read w (g, M) d P X r0 v1 v2 r3 M) : kt_Sp w g (d + 1) yX0_read kc_X0_read [va_rf r0, .int v1, .int v2, va_rf r3] M P X := by
  refine kt_ofH (L0 := [(0, va_rf r0), (1, .int v1), (2, .int v2), (3, va_rf r3)]) (by decide +kernel) (by simp only [kt_lgR, kt_lgI, kt_lgN] <;> exact Nat.le_of_ble_eq_true rfl) (by simp only [kt_lvR, kt_lvI, kt_lvN] <;> rfl) fun x O => ?_
  replace O : kt_O w x (g, M) (d + 1) cX0_read "KeyTurnsLaw" 5 ("read", "(LKeyTurns;II[J)I") (Option.some Jvm.ClassFile.FieldType.int) [(0, 10, 13, 18)] := O
  unfold vc_X0_read at h
  refine kr_aload_n O dX0_read_0 rfl 3 rfl ?_
  refine kr_iconst O dX0_read_1 (v := (0 : Int32)) (by decide) ?_
  refine kr_aload_n O dX0_read_2 rfl 0 rfl ?_
  refine kr_iload_n O dX0_read_3 rfl 1 rfl ?_
  refine kr_iload_n O dX0_read_4 rfl 2 rfl ?_
  obtain ⟨b1, rfl, h⟩ := h
  obtain ⟨hco, h⟩ := h
  refine kr_caI (rest := [.int (0 : Int32), va_rf r3]) O cd_X1_read h (Nat.le_of_ble_eq_true rfl) (fun ls _ => kt_ivV (ci := 0) O dX0_read_5 cd_X1_read in_X1_read (Or.inl q2112) q2113 q2114 hco (by decide) hy_X1_read) (fun u2 M3 hq => ?_) (fun E q M9 hx => ?_)
  · replace h := hq
    clear hq
    refine kr_i2l O dX0_read_8 ?_
    obtain ⟨b4, rfl, h⟩ := h
    obtain ⟨hw, h⟩ := h
    refine kr_lastore O dX0_read_9 hw (kr_nmM fun M5 hM5 => ?_)
    replace h := h M5 hM5
    refine kr_goto (tgt := 17) O dX0_read_10 rfl ?_
    refine kr_iconst O dX0_read_17 (v := (0 : Int32)) (by decide) ?_
    exact kr_iret O dX0_read_18 rfl h
  · obtain ⟨rfl, h⟩ := hx
    · refine kr_catch (sp := 0) (ep := 10) (hp := 13) (ct := 18) (pre := []) (suf := []) O rfl (by decide) (by decide) q1796 q653 (fun z hz => nomatch hz) ?_
      refine kr_astore O dX0_read_13 (Nat.le_of_ble_eq_true rfl) (by simp [kt_nw, kt_nrf, kt_cI, kt_cJ, kt_cF, kt_cD, kt_cR, kt_cU]) rfl ?_
      refine kr_iconst O dX0_read_15 (v := (1 : Int32)) (by decide) ?_
      exact kr_iret O dX0_read_16 rfl h
def vc_X0_setBatch (w : kt_W) (gr : kt_g × kt_M) (d : Nat) (P : Option Value → kt_M → Prop) (X : String → Nat → kt_M → Prop) (r0 : Option Nat) (v1 : Int32) (r2 : Option Nat) (M : kt_M) : Prop :=
  ∃ b1, r0 = some b1 ∧ (kt_co M b1 = some 0) ∧ 
  kt_Ca w gr d yX1_setBatch kc_X1_setBatch [va_rf (some b1), .int v1] M (kt_pI fun u2 M3 => ∃ b4, r2 = some b4 ∧ kt_hil gr 1 M3 b4 (0 : Int32) ∧ ∀ M5, M5 = kt_sl M3 b4 (0 : Int32) u2.toInt64 → P (some (.int (0 : Int32))) M5) (fun E q M3 => (E = "java/lang/IllegalArgumentException" ∧ P (some (.int (1 : Int32))) M3))
theorem ce_X0_setBatch {w : kt_W} {g : kt_g} {d : Nat} {P : Option Value → kt_M → Prop} {X : String → Nat → kt_M → Prop} {r0 : Option Nat} {v1 : Int32} {r2 : Option Nat} {M : kt_M} (h : vc_X0_setBatch w (g, M) d P X r0 v1 r2 M) : kt_Sp w g (d + 1) yX0_setBatch kc_X0_setBatch [va_rf r0, .int v1, va_rf r2] M P X := by
  refine kt_ofH (L0 := [(0, va_rf r0), (1, .int v1), (2, va_rf r2)]) (by decide +kernel) (by simp only [kt_lgR, kt_lgI, kt_lgN] <;> exact Nat.le_of_ble_eq_true rfl) (by simp only [kt_lvR, kt_lvI, kt_lvN] <;> rfl) fun x O => ?_
  replace O : kt_O w x (g, M) (d + 1) cX0_setBatch "KeyTurnsLaw" 4 ("setBatch", "(LKeyTurns;I[J)I") (Option.some Jvm.ClassFile.FieldType.int) [(0, 9, 12, 13)] := O
  unfold vc_X0_setBatch at h
  refine kr_aload_n O dX0_setBatch_0 rfl 2 rfl ?_
  refine kr_iconst O dX0_setBatch_1 (v := (0 : Int32)) (by decide) ?_
  refine kr_aload_n O dX0_setBatch_2 rfl 0 rfl ?_
  refine kr_iload_n O dX0_setBatch_3 rfl 1 rfl ?_
  obtain ⟨b1, rfl, h⟩ := h
  obtain ⟨hco, h⟩ := h
  refine kr_caI (rest := [.int (0 : Int32), va_rf r2]) O cd_X1_setBatch h (Nat.le_of_ble_eq_true rfl) (fun ls _ => kt_ivV (ci := 0) O dX0_setBatch_4 cd_X1_setBatch in_X1_setBatch (Or.inl q2119) q2120 q2121 hco (by decide) hy_X1_setBatch) (fun u2 M3 hq => ?_) (fun E q M9 hx => ?_)
  · replace h := hq
    clear hq
    refine kr_i2l O dX0_setBatch_7 ?_
    obtain ⟨b4, rfl, h⟩ := h
    obtain ⟨hw, h⟩ := h
    refine kr_lastore O dX0_setBatch_8 hw (kr_nmM fun M5 hM5 => ?_)
    replace h := h M5 hM5
    refine kr_goto (tgt := 15) O dX0_setBatch_9 rfl ?_
    refine kr_iconst O dX0_setBatch_15 (v := (0 : Int32)) (by decide) ?_
    exact kr_iret O dX0_setBatch_16 rfl h
  · obtain ⟨rfl, h⟩ := hx
    · refine kr_catch (sp := 0) (ep := 9) (hp := 12) (ct := 13) (pre := []) (suf := []) O rfl (by decide) (by decide) q1485 q1215 (fun z hz => nomatch hz) ?_
      refine kr_astore_n O dX0_setBatch_12 rfl (Nat.le_of_ble_eq_true rfl) (by simp [kt_nw, kt_nrf, kt_cI, kt_cJ, kt_cF, kt_cD, kt_cR, kt_cU]) rfl ?_
      refine kr_iconst O dX0_setBatch_13 (v := (1 : Int32)) (by decide) ?_
      exact kr_iret O dX0_setBatch_14 rfl h
def vc_X0_format (w : kt_W) (gr : kt_g × kt_M) (d : Nat) (P : Option Value → kt_M → Prop) (X : String → Nat → kt_M → Prop) (r0 : Option Nat) (v1 : Int32) (r2 : Option Nat) (M : kt_M) : Prop :=
  ∃ b1, r0 = some b1 ∧ (kt_co M b1 = some 0) ∧ 
  kt_Ca w gr d yX1_format kc_X1_format [va_rf (some b1), .int v1] M (kt_pI fun u2 M3 => ∃ b4, r2 = some b4 ∧ kt_hil gr 1 M3 b4 (0 : Int32) ∧ ∀ M5, M5 = kt_sl M3 b4 (0 : Int32) u2.toInt64 → P (some (.int (0 : Int32))) M5) (fun E q M3 => (E = "java/util/NoSuchElementException" ∧ P (some (.int (1 : Int32))) M3))
theorem ce_X0_format {w : kt_W} {g : kt_g} {d : Nat} {P : Option Value → kt_M → Prop} {X : String → Nat → kt_M → Prop} {r0 : Option Nat} {v1 : Int32} {r2 : Option Nat} {M : kt_M} (h : vc_X0_format w (g, M) d P X r0 v1 r2 M) : kt_Sp w g (d + 1) yX0_format kc_X0_format [va_rf r0, .int v1, va_rf r2] M P X := by
  refine kt_ofH (L0 := [(0, va_rf r0), (1, .int v1), (2, va_rf r2)]) (by decide +kernel) (by simp only [kt_lgR, kt_lgI, kt_lgN] <;> exact Nat.le_of_ble_eq_true rfl) (by simp only [kt_lvR, kt_lvI, kt_lvN] <;> rfl) fun x O => ?_
  replace O : kt_O w x (g, M) (d + 1) cX0_format "KeyTurnsLaw" 4 ("format", "(LKeyTurns;I[J)I") (Option.some Jvm.ClassFile.FieldType.int) [(0, 9, 12, 18)] := O
  unfold vc_X0_format at h
  refine kr_aload_n O dX0_format_0 rfl 2 rfl ?_
  refine kr_iconst O dX0_format_1 (v := (0 : Int32)) (by decide) ?_
  refine kr_aload_n O dX0_format_2 rfl 0 rfl ?_
  refine kr_iload_n O dX0_format_3 rfl 1 rfl ?_
  obtain ⟨b1, rfl, h⟩ := h
  obtain ⟨hco, h⟩ := h
  refine kr_caI (rest := [.int (0 : Int32), va_rf r2]) O cd_X1_format h (Nat.le_of_ble_eq_true rfl) (fun ls _ => kt_ivV (ci := 0) O dX0_format_4 cd_X1_format in_X1_format (Or.inl q2127) q2128 q2129 hco (by decide) hy_X1_format) (fun u2 M3 hq => ?_) (fun E q M9 hx => ?_)
  · replace h := hq
    clear hq
    refine kr_i2l O dX0_format_7 ?_
    obtain ⟨b4, rfl, h⟩ := h
    obtain ⟨hw, h⟩ := h
    refine kr_lastore O dX0_format_8 hw (kr_nmM fun M5 hM5 => ?_)
    replace h := h M5 hM5
    refine kr_goto (tgt := 15) O dX0_format_9 rfl ?_
    refine kr_iconst O dX0_format_15 (v := (0 : Int32)) (by decide) ?_
    exact kr_iret O dX0_format_16 rfl h
  · obtain ⟨rfl, h⟩ := hx
    · refine kr_catch (sp := 0) (ep := 9) (hp := 12) (ct := 18) (pre := []) (suf := []) O rfl (by decide) (by decide) q1796 q653 (fun z hz => nomatch hz) ?_
      refine kr_astore_n O dX0_format_12 rfl (Nat.le_of_ble_eq_true rfl) (by simp [kt_nw, kt_nrf, kt_cI, kt_cJ, kt_cF, kt_cD, kt_cR, kt_cU]) rfl ?_
      refine kr_iconst O dX0_format_13 (v := (1 : Int32)) (by decide) ?_
      exact kr_iret O dX0_format_14 rfl h
def vc_X0_query (w : kt_W) (gr : kt_g × kt_M) (d : Nat) (P : Option Value → kt_M → Prop) (X : String → Nat → kt_M → Prop) (r0 : Option Nat) (v1 : Int32) (r2 : Option Nat) (M : kt_M) : Prop :=
  ∃ b1, r0 = some b1 ∧ (kt_co M b1 = some 0) ∧ 
  kt_Ca w gr d yX1_query kc_X1_query [va_rf (some b1), .int v1] M (kt_pI fun u2 M3 => ∃ b4, r2 = some b4 ∧ kt_hil gr 1 M3 b4 (0 : Int32) ∧ ∀ M5, M5 = kt_sl M3 b4 (0 : Int32) u2.toInt64 → P (some (.int (0 : Int32))) M5) (fun E q M3 => (E = "java/lang/IllegalArgumentException" ∧ P (some (.int (1 : Int32))) M3))
theorem ce_X0_query {w : kt_W} {g : kt_g} {d : Nat} {P : Option Value → kt_M → Prop} {X : String → Nat → kt_M → Prop} {r0 : Option Nat} {v1 : Int32} {r2 : Option Nat} {M : kt_M} (h : vc_X0_query w (g, M) d P X r0 v1 r2 M) : kt_Sp w g (d + 1) yX0_query kc_X0_query [va_rf r0, .int v1, va_rf r2] M P X := by
  refine kt_ofH (L0 := [(0, va_rf r0), (1, .int v1), (2, va_rf r2)]) (by decide +kernel) (by simp only [kt_lgR, kt_lgI, kt_lgN] <;> exact Nat.le_of_ble_eq_true rfl) (by simp only [kt_lvR, kt_lvI, kt_lvN] <;> rfl) fun x O => ?_
  replace O : kt_O w x (g, M) (d + 1) cX0_query "KeyTurnsLaw" 4 ("query", "(LKeyTurns;I[J)I") (Option.some Jvm.ClassFile.FieldType.int) [(0, 9, 12, 13)] := O
  unfold vc_X0_query at h
  refine kr_aload_n O dX0_query_0 rfl 2 rfl ?_
  refine kr_iconst O dX0_query_1 (v := (0 : Int32)) (by decide) ?_
  refine kr_aload_n O dX0_query_2 rfl 0 rfl ?_
  refine kr_iload_n O dX0_query_3 rfl 1 rfl ?_
  obtain ⟨b1, rfl, h⟩ := h
  obtain ⟨hco, h⟩ := h
  refine kr_caI (rest := [.int (0 : Int32), va_rf r2]) O cd_X1_query h (Nat.le_of_ble_eq_true rfl) (fun ls _ => kt_ivV (ci := 0) O dX0_query_4 cd_X1_query in_X1_query (Or.inl q2142) q2143 q2144 hco (by decide) hy_X1_query) (fun u2 M3 hq => ?_) (fun E q M9 hx => ?_)
  · replace h := hq
    clear hq
    refine kr_i2l O dX0_query_7 ?_
    obtain ⟨b4, rfl, h⟩ := h
    obtain ⟨hw, h⟩ := h
    refine kr_lastore O dX0_query_8 hw (kr_nmM fun M5 hM5 => ?_)
    replace h := h M5 hM5
    refine kr_goto (tgt := 15) O dX0_query_9 rfl ?_
    refine kr_iconst O dX0_query_15 (v := (0 : Int32)) (by decide) ?_
    exact kr_iret O dX0_query_16 rfl h
  · obtain ⟨rfl, h⟩ := hx
    · refine kr_catch (sp := 0) (ep := 9) (hp := 12) (ct := 13) (pre := []) (suf := []) O rfl (by decide) (by decide) q1485 q1215 (fun z hz => nomatch hz) ?_
      refine kr_astore_n O dX0_query_12 rfl (Nat.le_of_ble_eq_true rfl) (by simp [kt_nw, kt_nrf, kt_cI, kt_cJ, kt_cF, kt_cD, kt_cR, kt_cU]) rfl ?_
      refine kr_iconst O dX0_query_13 (v := (1 : Int32)) (by decide) ?_
      exact kr_iret O dX0_query_14 rfl h
def vc_X1_init (w : kt_W) (gr : kt_g × kt_M) (d : Nat) (P : Option Value → kt_M → Prop) (X : String → Nat → kt_M → Prop) (a0 : Nat) (M : kt_M) : Prop :=
  kt_fits w M 3 ∧ ∃ t1, ∀ M2, M2 = kt_new M 3 (t1 + 2, .inr (17, [va_rf none, .int 0, .int 0])) → 
  kt_Ca w gr d yJ1_init kc_J1_init [va_rf (some M.1)] M2 (kt_pV fun M3 => kt_hf gr M3 a0 2 ∧ ∀ M4, M4 = kt_pf M3 a0 2 (va_rf (some M.1)) → ∃ n5, (400 : Int32) = nI n5 ∧ n5 < 2 ^ 31 ∧ kt_fits w M4 n5 ∧ ∃ t6, ∀ M7, M7 = kt_new M4 n5 (t6 + 2, .inl (2, kt_z 2 n5)) → kt_hf gr M7 a0 3 ∧ ∀ M8, M8 = kt_pf M7 a0 3 (va_rf (some M4.1)) → kt_hf gr M8 a0 5 ∧ ∀ M9, M9 = kt_pf M8 a0 5 (.int (-1 : Int32)) → kt_hf gr M9 a0 6 ∧ ∀ M10, M10 = kt_pf M9 a0 6 (va_rf (some (kt_cA w 20))) → 
  kt_Ca w gr d yX1_begun kc_X1_begun [.int (100 : Int32), .int (10 : Int32), .int (5 : Int32), .int (1 : Int32)] M10 (kt_pR fun p11 M12 => kt_hf gr M12 a0 0 ∧ ∀ M13, M13 = kt_pf M12 a0 0 (va_rf p11) → P none M13) X) X
theorem ce_X1_init {w : kt_W} {g : kt_g} {d : Nat} {P : Option Value → kt_M → Prop} {X : String → Nat → kt_M → Prop} {a0 : Nat} {M : kt_M} (h : vc_X1_init w (g, M) d P X a0 M) : kt_Sp w g (d + 1) yX1_init kc_X1_init [va_rf (some a0)] M P X := by
  refine kt_of (L0 := [(0, va_rf (some a0))]) (by decide +kernel) (Nat.le_of_ble_eq_true rfl) rfl fun x O => ?_
  replace O : kt_O w x (g, M) (d + 1) cX1_init "KeyTurns" 1 ("<init>", "()V") (Option.none : Option Jvm.ClassFile.FieldType) [] := O
  unfold vc_X1_init at h
  refine kr_aload_n O dX1_init_0 rfl 0 rfl ?_
  refine kr_objinit O dX1_init_1 q172 q173 q174 (Nat.le_of_ble_eq_true rfl) ?_
  refine kr_aload_n O dX1_init_4 rfl 0 rfl ?_
  obtain ⟨hf, t1, h⟩ := h
  refine kr_new (c := 17) (r := (RJ1, TJ1, 3)) (fs := [va_rf none, .int 0, .int 0]) t1 O dX1_init_5 rfl q175 q176 q111 rfl hf (kr_nmM fun M2 hM2 => ?_)
  replace h := h M2 hM2
  refine kr_dup O dX1_init_8 (kt_nrf _) ?_
  refine kr_caV (rest := [va_rf (some M.1), va_rf (some a0)]) O cd_J1_init h (Nat.le_of_ble_eq_true rfl) (fun ls _ => kt_ivI O dX1_init_9 cd_J1_init in_J1_init (Or.inl q177) q178 hi_J1_init) (fun M3 hq => ?_) (fun E q M9 hx => kr_out O hx)
  replace h := hq
  clear hq
  obtain ⟨hw, h⟩ := h
  refine kr_putf O dX1_init_12 fs_X1_112 (Or.inr ⟨rfl, rfl⟩) (kt_ok_rf _ rfl) hw (kr_nmM fun M4 hM4 => ?_)
  replace h := h M4 hM4
  refine kr_aload_n O dX1_init_15 rfl 0 rfl ?_
  refine kr_sipush O dX1_init_16 (v := (400 : Int32)) (by decide) ?_
  obtain ⟨n5, hn, hl, hf, t6, h⟩ := h
  refine kr_newarr t6 2 O dX1_init_19 (by decide) rfl q236 hn hl hf (kr_nmM fun M7 hM7 => ?_)
  replace h := h M7 hM7
  obtain ⟨hw, h⟩ := h
  refine kr_putf O dX1_init_21 fs_X1_116 (Or.inr ⟨rfl, rfl⟩) (kt_ok_ra _ rfl) hw (kr_nmM fun M8 hM8 => ?_)
  replace h := h M8 hM8
  refine kr_aload_n O dX1_init_24 rfl 0 rfl ?_
  refine kr_iconst O dX1_init_25 (v := (-1 : Int32)) (by decide) ?_
  obtain ⟨hw, h⟩ := h
  refine kr_putf O dX1_init_26 fs_X1_120 (Or.inl rfl) ⟨rfl, rfl⟩ hw (kr_nmM fun M9 hM9 => ?_)
  replace h := h M9 hM9
  refine kr_aload_n O dX1_init_29 rfl 0 rfl ?_
  refine kr_ldcS O dX1_init_30 st_X1_123 ?_
  obtain ⟨hw, h⟩ := h
  refine kr_putf O dX1_init_32 fs_X1_125 (Or.inl rfl) (kt_ok_rf _ rfl) hw (kr_nmM fun M10 hM10 => ?_)
  replace h := h M10 hM10
  refine kr_aload_n O dX1_init_35 rfl 0 rfl ?_
  refine kr_bipush O dX1_init_36 (v := (100 : Int32)) (by decide) ?_
  refine kr_bipush O dX1_init_38 (v := (10 : Int32)) (by decide) ?_
  refine kr_iconst O dX1_init_40 (v := (5 : Int32)) (by decide) ?_
  refine kr_iconst O dX1_init_41 (v := (1 : Int32)) (by decide) ?_
  refine kr_caR (rest := [va_rf (some a0)]) O cd_X1_begun h (Nat.le_of_ble_eq_true rfl) (fun ls _ => kt_ivS O dX1_init_42 cd_X1_begun in_X1_begun q197 q198 hy_X1_begun) (fun p11 M12 hq => ?_) (fun E q M9 hx => kr_out O hx)
  replace h := hq
  clear hq
  obtain ⟨hw, h⟩ := h
  refine kr_putf O dX1_init_45 fs_X1_133 (Or.inl rfl) (kt_ok_rf _ rfl) hw (kr_nmM fun M13 hM13 => ?_)
  replace h := h M13 hM13
  exact kr_vret O dX1_init_48 h
def vc_X1_begun (w : kt_W) (gr : kt_g × kt_M) (d : Nat) (P : Option Value → kt_M → Prop) (X : String → Nat → kt_M → Prop) (v0 : Int32) (v1 : Int32) (v2 : Int32) (v3 : Int32) (M : kt_M) : Prop :=
  kt_fits w M 14 ∧ ∃ t1, ∀ M2, M2 = kt_new M 14 (t1 + 2, .inr (1, [.int 0, .int 0, .int 0, va_rf none, va_rf none, va_rf none, va_rf none, .int 0, .int 0, .int 0, .int 0, va_rf none, va_rf none, .int 0])) → 
  kt_Ca w gr d yX2_init kc_X2_init [va_rf (some M.1), .int v0, .int v1, .int v2, .int v3] M2 (kt_pV fun M3 => ∃ p4, kt_gf M3 M.1 10 = some (va_rf p4) ∧ kt_fits w M3 3 ∧ ∃ t5, ∀ M6, M6 = kt_new M3 3 (t5 + 2, .inr (2, [.int 0, .int 0, .int 0])) → 
  kt_Ca w gr d yX4_init kc_X4_init [va_rf (some M3.1), .int (0 : Int32), .int (0 : Int32), .int (9999 : Int32)] M6 (kt_pV fun M7 => ∃ b8, p4 = some b8 ∧ (kt_co M7 b8 = some 13) ∧ 
  kt_Ca w gr d yJ3_add kc_J3_add [va_rf (some b8), va_rf (some M3.1)] M7 (kt_pI fun u9 M10 => P (some (va_rf (some M.1))) M10) X) X) X
theorem ce_X1_begun {w : kt_W} {g : kt_g} {d : Nat} {P : Option Value → kt_M → Prop} {X : String → Nat → kt_M → Prop} {v0 : Int32} {v1 : Int32} {v2 : Int32} {v3 : Int32} {M : kt_M} (h : vc_X1_begun w (g, M) d P X v0 v1 v2 v3 M) : kt_Sp w g (d + 1) yX1_begun kc_X1_begun [.int v0, .int v1, .int v2, .int v3] M P X := by
  refine kt_of (L0 := [(0, .int v0), (1, .int v1), (2, .int v2), (3, .int v3)]) (by decide +kernel) (Nat.le_of_ble_eq_true rfl) rfl fun x O => ?_
  replace O : kt_O w x (g, M) (d + 1) cX1_begun "KeyTurns" 5 ("begun", "(IIII)LKeyTurns$State;") (Option.some (Jvm.ClassFile.FieldType.object "KeyTurns$State")) [] := O
  unfold vc_X1_begun at h
  obtain ⟨hf, t1, h⟩ := h
  refine kr_new (c := 1) (r := (RX2, TX2, 14)) (fs := [.int 0, .int 0, .int 0, va_rf none, va_rf none, va_rf none, va_rf none, .int 0, .int 0, .int 0, .int 0, va_rf none, va_rf none, .int 0]) t1 O dX1_begun_0 rfl q200 q201 q112 rfl hf (kr_nmM fun M2 hM2 => ?_)
  replace h := h M2 hM2
  refine kr_dup O dX1_begun_3 (kt_nrf _) ?_
  refine kr_iload_n O dX1_begun_4 rfl 0 rfl ?_
  refine kr_iload_n O dX1_begun_5 rfl 1 rfl ?_
  refine kr_iload_n O dX1_begun_6 rfl 2 rfl ?_
  refine kr_iload_n O dX1_begun_7 rfl 3 rfl ?_
  refine kr_caV (rest := [va_rf (some M.1)]) O cd_X2_init h (Nat.le_of_ble_eq_true rfl) (fun ls _ => kt_ivI O dX1_begun_8 cd_X2_init in_X2_init (Or.inl q202) q203 hi_X2_init) (fun M3 hq => ?_) (fun E q M9 hx => kr_out O hx)
  replace h := hq
  clear hq
  refine kr_astore O dX1_begun_11 (Nat.le_of_ble_eq_true rfl) rfl rfl ?_
  refine kr_aload O dX1_begun_13 0 rfl ?_
  obtain ⟨p4, ep4, h⟩ := h
  refine kr_getf O dX1_begun_15 fs_X1_15 ep4 ?_
  obtain ⟨hf, t5, h⟩ := h
  refine kr_new (c := 2) (r := (RX4, TX4, 3)) (fs := [.int 0, .int 0, .int 0]) t5 O dX1_begun_18 rfl q313 q314 q118 rfl hf (kr_nmM fun M6 hM6 => ?_)
  replace h := h M6 hM6
  refine kr_dup O dX1_begun_21 (kt_nrf _) ?_
  refine kr_iconst O dX1_begun_22 (v := (0 : Int32)) (by decide) ?_
  refine kr_iconst O dX1_begun_23 (v := (0 : Int32)) (by decide) ?_
  refine kr_sipush O dX1_begun_24 (v := (9999 : Int32)) (by decide) ?_
  refine kr_caV (rest := [va_rf (some M3.1), va_rf p4]) O cd_X4_init h (Nat.le_of_ble_eq_true rfl) (fun ls _ => kt_ivI O dX1_begun_27 cd_X4_init in_X4_init (Or.inl q315) q316 hi_X4_init) (fun M7 hq => ?_) (fun E q M9 hx => kr_out O hx)
  replace h := hq
  clear hq
  obtain ⟨b8, rfl, h⟩ := h
  obtain ⟨hco, h⟩ := h
  refine kr_caI (rest := []) O cd_J3_add h (Nat.le_of_ble_eq_true rfl) (fun ls _ => kt_ivV (ci := 13) O dX1_begun_30 cd_J3_add in_J3_add (Or.inl q347) q348 q349 hco (by decide) hy_J3_add) (fun u9 M10 hq => ?_) (fun E q M9 hx => kr_out O hx)
  replace h := hq
  clear hq
  refine kr_pop O dX1_begun_33 rfl ?_
  refine kr_aload O dX1_begun_34 0 rfl ?_
  exact kr_aret O dX1_begun_36 (by first | exact Or.inl ⟨_, rfl⟩ | exact Or.inr ⟨_, rfl⟩) h
def vc_X1_feed (w : kt_W) (gr : kt_g × kt_M) (d : Nat) (P : Option Value → kt_M → Prop) (X : String → Nat → kt_M → Prop) (a0 : Nat) (v1 : Int32) (v2 : Int32) (v3 : Int32) (v4 : Int32) (v5 : Int32) (M : kt_M) : Prop :=
  ∃ u1, kt_gf M a0 4 = some (.int u1) ∧ 
    (((u1 + (20 : Int32)) ≤ (400 : Int32) → (kt_co M a0 = some 0) ∧ 
    kt_Ca w gr d yX1_append kc_X1_append [va_rf (some a0), .int v1] M (kt_pV fun M2 => (kt_co M2 a0 = some 0) ∧ 
    kt_Ca w gr d yX1_append kc_X1_append [va_rf (some a0), .int v2] M2 (kt_pV fun M3 => (kt_co M3 a0 = some 0) ∧ 
    kt_Ca w gr d yX1_append kc_X1_append [va_rf (some a0), .int v3] M3 (kt_pV fun M4 => (kt_co M4 a0 = some 0) ∧ 
    kt_Ca w gr d yX1_append kc_X1_append [va_rf (some a0), .int v4] M4 (kt_pV fun M5 => (kt_co M5 a0 = some 0) ∧ 
    kt_Ca w gr d yX1_append kc_X1_append [va_rf (some a0), .int v5] M5 (kt_pV fun M6 => ∃ u7, kt_gf M6 a0 4 = some (.int u7) ∧ P (some (.int u7)) M6) X) X) X) X) X) ∧
    (¬ (u1 + (20 : Int32)) ≤ (400 : Int32) → P (some (.int (-1 : Int32))) M))
theorem ce_X1_feed {w : kt_W} {g : kt_g} {d : Nat} {P : Option Value → kt_M → Prop} {X : String → Nat → kt_M → Prop} {a0 : Nat} {v1 : Int32} {v2 : Int32} {v3 : Int32} {v4 : Int32} {v5 : Int32} {M : kt_M} (h : vc_X1_feed w (g, M) d P X a0 v1 v2 v3 v4 v5 M) : kt_Sp w g (d + 1) yX1_feed kc_X1_feed [va_rf (some a0), .int v1, .int v2, .int v3, .int v4, .int v5] M P X := by
  refine kt_of (L0 := [(0, va_rf (some a0)), (1, .int v1), (2, .int v2), (3, .int v3), (4, .int v4), (5, .int v5)]) (by decide +kernel) (Nat.le_of_ble_eq_true rfl) rfl fun x O => ?_
  replace O : kt_O w x (g, M) (d + 1) cX1_feed "KeyTurns" 6 ("feed", "(IIIII)I") (Option.some Jvm.ClassFile.FieldType.int) [] := O
  unfold vc_X1_feed at h
  refine kr_aload_n O dX1_feed_0 rfl 0 rfl ?_
  obtain ⟨u1, eu1, h⟩ := h
  refine kr_getf O dX1_feed_1 fs_X1_137 eu1 ?_
  refine kr_bipush O dX1_feed_4 (v := (20 : Int32)) (by decide) ?_
  refine kr_iadd O dX1_feed_6 ?_
  refine kr_sipush O dX1_feed_7 (v := (400 : Int32)) (by decide) ?_
  refine kr_icmp_le (tgt := 15) O dX1_feed_10 rfl (fun hc => ?_) (fun hc => ?_)
  · replace h := h.1 hc
    refine kr_aload_n O dX1_feed_15 rfl 0 rfl ?_
    refine kr_iload_n O dX1_feed_16 rfl 1 rfl ?_
    obtain ⟨hco, h⟩ := h
    refine kr_caV (rest := []) O cd_X1_append h (Nat.le_of_ble_eq_true rfl) (fun ls _ => kt_ivV (ci := 0) O dX1_feed_17 cd_X1_append in_X1_append (Or.inl q453) q455 qs3 hco (by decide) hy_X1_append) (fun M2 hq => ?_) (fun E q M9 hx => kr_out O hx)
    replace h := hq
    clear hq
    refine kr_aload_n O dX1_feed_20 rfl 0 rfl ?_
    refine kr_iload_n O dX1_feed_21 rfl 2 rfl ?_
    obtain ⟨hco, h⟩ := h
    refine kr_caV (rest := []) O cd_X1_append h (Nat.le_of_ble_eq_true rfl) (fun ls _ => kt_ivV (ci := 0) O dX1_feed_22 cd_X1_append in_X1_append (Or.inl q453) q455 qs3 hco (by decide) hy_X1_append) (fun M3 hq => ?_) (fun E q M9 hx => kr_out O hx)
    replace h := hq
    clear hq
    refine kr_aload_n O dX1_feed_25 rfl 0 rfl ?_
    refine kr_iload_n O dX1_feed_26 rfl 3 rfl ?_
    obtain ⟨hco, h⟩ := h
    refine kr_caV (rest := []) O cd_X1_append h (Nat.le_of_ble_eq_true rfl) (fun ls _ => kt_ivV (ci := 0) O dX1_feed_27 cd_X1_append in_X1_append (Or.inl q453) q455 qs3 hco (by decide) hy_X1_append) (fun M4 hq => ?_) (fun E q M9 hx => kr_out O hx)
    replace h := hq
    clear hq
    refine kr_aload_n O dX1_feed_30 rfl 0 rfl ?_
    refine kr_iload O dX1_feed_31 4 rfl ?_
    obtain ⟨hco, h⟩ := h
    refine kr_caV (rest := []) O cd_X1_append h (Nat.le_of_ble_eq_true rfl) (fun ls _ => kt_ivV (ci := 0) O dX1_feed_33 cd_X1_append in_X1_append (Or.inl q453) q455 qs3 hco (by decide) hy_X1_append) (fun M5 hq => ?_) (fun E q M9 hx => kr_out O hx)
    replace h := hq
    clear hq
    refine kr_aload_n O dX1_feed_36 rfl 0 rfl ?_
    refine kr_iload O dX1_feed_37 5 rfl ?_
    obtain ⟨hco, h⟩ := h
    refine kr_caV (rest := []) O cd_X1_append h (Nat.le_of_ble_eq_true rfl) (fun ls _ => kt_ivV (ci := 0) O dX1_feed_39 cd_X1_append in_X1_append (Or.inl q453) q455 qs3 hco (by decide) hy_X1_append) (fun M6 hq => ?_) (fun E q M9 hx => kr_out O hx)
    replace h := hq
    clear hq
    refine kr_aload_n O dX1_feed_42 rfl 0 rfl ?_
    obtain ⟨u7, eu7, h⟩ := h
    refine kr_getf O dX1_feed_43 fs_X1_137 eu7 ?_
    exact kr_iret O dX1_feed_46 rfl h
  · replace h := h.2 hc
    refine kr_iconst O dX1_feed_13 (v := (-1 : Int32)) (by decide) ?_
    exact kr_iret O dX1_feed_14 rfl h
def vc_X1_append_3 (w : kt_W) (gr : kt_g × kt_M) (d : Nat) (P : Option Value → kt_M → Prop) (X : String → Nat → kt_M → Prop) (nx3 : Int32 → kt_M → Prop) (a0 : Nat) (v1 : Int32) (v2 : Int32) (M : kt_M) : Prop :=
  
    ((v2 < 0 → P none M) ∧
    (¬ v2 < 0 → ∃ p1, kt_gf M a0 3 = some (va_rf p1) ∧ ∃ u2, kt_gf M a0 4 = some (.int u2) ∧ ∃ b3, p1 = some b3 ∧ kt_hii gr 2 M b3 u2 ∧ ∀ M4, M4 = kt_si M b3 u2 ((v1 >>> (v2 &&& 31)).toInt8.toInt32).toInt8.toInt32 → ∃ u5, kt_gf M4 a0 4 = some (.int u5) ∧ kt_hf gr M4 a0 4 ∧ ∀ M6, M6 = kt_pf M4 a0 4 (.int (u5 + (1 : Int32))) → nx3 (v2 + (-8 : Int32)) M6))
theorem cj_X1_append_3 {w : kt_W} {x : kt_X} {gr : kt_g × kt_M} {d : Nat} {P : Option Value → kt_M → Prop} {X : String → Nat → kt_M → Prop} {nx3 : Int32 → kt_M → Prop} {a0 : Nat} {v1 : Int32} {v2 : Int32} {M : kt_M} (O : kt_O w x gr (d + 1) cX1_append "KeyTurns" 3 ("append", "(I)V") (Option.none : Option Jvm.ClassFile.FieldType) []) (hn3 : ∀ v2 M, nx3 v2 M → kt_S w x 3 (kt_E w x P X) M 3 [(0, va_rf (some a0)), (1, .int v1), (2, .int v2)] []) (h : vc_X1_append_3 w gr d P X nx3 a0 v1 v2 M) : kt_S w x 3 (kt_E w x P X) M 3 [(0, va_rf (some a0)), (1, .int v1), (2, .int v2)] [] := by
  unfold vc_X1_append_3 at h
  refine kr_iload_n O dX1_append_3 rfl 2 rfl ?_
  refine kr_if_lt (tgt := 36) O dX1_append_4 rfl (fun hc => ?_) (fun hc => ?_)
  · replace h := h.1 hc
    exact kr_vret O dX1_append_36 h
  · replace h := h.2 hc
    refine kr_aload_n O dX1_append_7 rfl 0 rfl ?_
    obtain ⟨p1, ep1, h⟩ := h
    refine kr_getf O dX1_append_8 fs_X1_116 ep1 ?_
    refine kr_aload_n O dX1_append_11 rfl 0 rfl ?_
    obtain ⟨u2, eu2, h⟩ := h
    refine kr_getf O dX1_append_12 fs_X1_137 eu2 ?_
    refine kr_iload_n O dX1_append_15 rfl 1 rfl ?_
    refine kr_iload_n O dX1_append_16 rfl 2 rfl ?_
    refine kr_ishr O dX1_append_17 ?_
    refine kr_i2b O dX1_append_18 ?_
    obtain ⟨b3, rfl, h⟩ := h
    obtain ⟨hw, h⟩ := h
    refine kr_bastore O dX1_append_19 hw (kr_nmM fun M4 hM4 => ?_)
    replace h := h M4 hM4
    refine kr_aload_n O dX1_append_20 rfl 0 rfl ?_
    refine kr_dup O dX1_append_21 (kt_nrf _) ?_
    obtain ⟨u5, eu5, h⟩ := h
    refine kr_getf O dX1_append_22 fs_X1_137 eu5 ?_
    refine kr_iconst O dX1_append_25 (v := (1 : Int32)) (by decide) ?_
    refine kr_iadd O dX1_append_26 ?_
    obtain ⟨hw, h⟩ := h
    refine kr_putf O dX1_append_27 fs_X1_137 (Or.inl rfl) ⟨rfl, rfl⟩ hw (kr_nmM fun M6 hM6 => ?_)
    replace h := h M6 hM6
    refine kr_iinc O dX1_append_30 2 rfl (v := v2 + (-8 : Int32)) rfl (Nat.le_of_ble_eq_true rfl) rfl rfl ?_
    refine kr_goto (tgt := 3) O dX1_append_33 rfl ?_
    refine kr_sub [1, 2, 0] rfl ?_
    exact hn3 _ _ h
def vl_X1_append_3 (w : kt_W) (gr : kt_g × kt_M) (d : Nat) (P : Option Value → kt_M → Prop) (X : String → Nat → kt_M → Prop)  (a0 : Nat) (v1 : Int32) (v2 : Int32) (M : kt_M) : Prop :=
  ∃ Inv : Nat → Int32 → kt_M → Prop, (∃ k, Inv k v2 M) ∧ ∀ k v2 M, kt_le gr.1 gr.2 M → Inv k v2 M → vc_X1_append_3 w gr d P X (fun v2' M' => ∃ k', k' < k ∧ Inv k' v2' M') a0 v1 v2 M
theorem cl_X1_append_3 {w : kt_W} {x : kt_X} {gr : kt_g × kt_M} {d : Nat} {P : Option Value → kt_M → Prop} {X : String → Nat → kt_M → Prop}  {a0 : Nat} {v1 : Int32} {v2 : Int32} {M : kt_M} (O : kt_O w x gr (d + 1) cX1_append "KeyTurns" 3 ("append", "(I)V") (Option.none : Option Jvm.ClassFile.FieldType) [])  (h : vl_X1_append_3 w gr d P X  a0 v1 v2 M) : kt_S w x 3 (kt_E w x P X) M 3 [(0, va_rf (some a0)), (1, .int v1), (2, .int v2)] [] := by
  obtain ⟨Inv, ⟨k, hk⟩, hb⟩ := h
  induction k using Nat.strongRecOn generalizing v2 M with
  | ind k ih =>
    exact kr_le O fun hle => cj_X1_append_3 O (fun v2' M' hi => let ⟨k', h1, h2⟩ := hi; ih k' h1 h2) (hb k _ _ hle hk)
def vc_X1_append (w : kt_W) (gr : kt_g × kt_M) (d : Nat) (P : Option Value → kt_M → Prop) (X : String → Nat → kt_M → Prop) (a0 : Nat) (v1 : Int32) (M : kt_M) : Prop :=
  vl_X1_append_3 w gr d P X  a0 v1 (24 : Int32) M
theorem ce_X1_append {w : kt_W} {g : kt_g} {d : Nat} {P : Option Value → kt_M → Prop} {X : String → Nat → kt_M → Prop} {a0 : Nat} {v1 : Int32} {M : kt_M} (h : vc_X1_append w (g, M) d P X a0 v1 M) : kt_Sp w g (d + 1) yX1_append kc_X1_append [va_rf (some a0), .int v1] M P X := by
  refine kt_of (L0 := [(0, va_rf (some a0)), (1, .int v1)]) (by decide +kernel) (Nat.le_of_ble_eq_true rfl) rfl fun x O => ?_
  replace O : kt_O w x (g, M) (d + 1) cX1_append "KeyTurns" 3 ("append", "(I)V") (Option.none : Option Jvm.ClassFile.FieldType) [] := O
  unfold vc_X1_append at h
  refine kr_bipush O dX1_append_0 (v := (24 : Int32)) (by decide) ?_
  refine kr_istore_n O dX1_append_2 rfl (Nat.le_of_ble_eq_true rfl) rfl rfl ?_
  refine kr_sub [1, 2, 0] rfl ?_
  exact cl_X1_append_3 O  h
def vc_X1_errorPosition (w : kt_W) (gr : kt_g × kt_M) (d : Nat) (P : Option Value → kt_M → Prop) (X : String → Nat → kt_M → Prop) (a0 : Nat) (M : kt_M) : Prop :=
  ∃ u1, kt_gf M a0 5 = some (.int u1) ∧ P (some (.int u1)) M
theorem ce_X1_errorPosition {w : kt_W} {g : kt_g} {d : Nat} {P : Option Value → kt_M → Prop} {X : String → Nat → kt_M → Prop} {a0 : Nat} {M : kt_M} (h : vc_X1_errorPosition w (g, M) d P X a0 M) : kt_Sp w g (d + 1) yX1_errorPosition kc_X1_errorPosition [va_rf (some a0)] M P X := by
  refine kt_of (L0 := [(0, va_rf (some a0))]) (by decide +kernel) (Nat.le_of_ble_eq_true rfl) rfl fun x O => ?_
  replace O : kt_O w x (g, M) (d + 1) cX1_errorPosition "KeyTurns" 1 ("errorPosition", "()I") (Option.some Jvm.ClassFile.FieldType.int) [] := O
  unfold vc_X1_errorPosition at h
  refine kr_aload_n O dX1_errorPosition_0 rfl 0 rfl ?_
  obtain ⟨u1, eu1, h⟩ := h
  refine kr_getf O dX1_errorPosition_1 fs_X1_120 eu1 ?_
  exact kr_iret O dX1_errorPosition_4 rfl h
def vc_X1_sweepAt (w : kt_W) (gr : kt_g × kt_M) (d : Nat) (P : Option Value → kt_M → Prop) (X : String → Nat → kt_M → Prop) (a0 : Nat) (v1 : Int32) (M : kt_M) : Prop :=
  ∃ p1, kt_gf M a0 0 = some (va_rf p1) ∧ ∃ b2, p1 = some b2 ∧ (kt_co M b2 = some 1) ∧ 
  kt_Ca w gr d yX2_dueAt kc_X2_dueAt [va_rf (some b2), .int v1] M (kt_pI fun u3 M4 => P (some (.int u3)) M4) X
theorem ce_X1_sweepAt {w : kt_W} {g : kt_g} {d : Nat} {P : Option Value → kt_M → Prop} {X : String → Nat → kt_M → Prop} {a0 : Nat} {v1 : Int32} {M : kt_M} (h : vc_X1_sweepAt w (g, M) d P X a0 v1 M) : kt_Sp w g (d + 1) yX1_sweepAt kc_X1_sweepAt [va_rf (some a0), .int v1] M P X := by
  refine kt_of (L0 := [(0, va_rf (some a0)), (1, .int v1)]) (by decide +kernel) (Nat.le_of_ble_eq_true rfl) rfl fun x O => ?_
  replace O : kt_O w x (g, M) (d + 1) cX1_sweepAt "KeyTurns" 2 ("sweepAt", "(I)I") (Option.some Jvm.ClassFile.FieldType.int) [] := O
  unfold vc_X1_sweepAt at h
  refine kr_aload_n O dX1_sweepAt_0 rfl 0 rfl ?_
  obtain ⟨p1, ep1, h⟩ := h
  refine kr_getf O dX1_sweepAt_1 fs_X1_133 ep1 ?_
  refine kr_iload_n O dX1_sweepAt_4 rfl 1 rfl ?_
  obtain ⟨b2, rfl, h⟩ := h
  obtain ⟨hco, h⟩ := h
  refine kr_caI (rest := []) O cd_X2_dueAt h (Nat.le_of_ble_eq_true rfl) (fun ls _ => kt_ivV (ci := 1) O dX1_sweepAt_5 cd_X2_dueAt in_X2_dueAt (Or.inl q465) q466 q467 hco (by decide) hy_X2_dueAt) (fun u3 M4 hq => ?_) (fun E q M9 hx => kr_out O hx)
  replace h := hq
  clear hq
  exact kr_iret O dX1_sweepAt_8 rfl h
def vc_X1_isIn (w : kt_W) (gr : kt_g × kt_M) (d : Nat) (P : Option Value → kt_M → Prop) (X : String → Nat → kt_M → Prop) (v0 : Int64) (v2 : Int64) (v4 : Int64) (M : kt_M) : Prop :=
  
    (((lg_cmp v0 v2) < 0 → P (some (.int (0 : Int32))) M) ∧
    (¬ (lg_cmp v0 v2) < 0 → 
      ((0 < (lg_cmp v0 v4) → P (some (.int (0 : Int32))) M) ∧
      (¬ 0 < (lg_cmp v0 v4) → P (some (.int (1 : Int32))) M))))
theorem ce_X1_isIn {w : kt_W} {g : kt_g} {d : Nat} {P : Option Value → kt_M → Prop} {X : String → Nat → kt_M → Prop} {v0 : Int64} {v2 : Int64} {v4 : Int64} {M : kt_M} (h : vc_X1_isIn w (g, M) d P X v0 v2 v4 M) : kt_Sp w g (d + 1) yX1_isIn kc_X1_isIn [.long v0, .long v2, .long v4] M P X := by
  refine kt_of (L0 := [(0, .long v0), (2, .long v2), (4, .long v4)]) (by decide +kernel) (Nat.le_of_ble_eq_true rfl) rfl fun x O => ?_
  replace O : kt_O w x (g, M) (d + 1) cX1_isIn "KeyTurns" 6 ("isIn", "(JJJ)Z") (Option.some Jvm.ClassFile.FieldType.boolean) [] := O
  unfold vc_X1_isIn at h
  refine kr_lload_n O dX1_isIn_0 rfl 0 rfl ?_
  refine kr_lload_n O dX1_isIn_1 rfl 1 rfl ?_
  refine kr_lcmp O dX1_isIn_2 ?_
  refine kr_if_lt (tgt := 17) O dX1_isIn_3 rfl (fun hc => ?_) (fun hc => ?_)
  · replace h := h.1 hc
    refine kr_iconst O dX1_isIn_17 (v := (0 : Int32)) (by decide) ?_
    exact kr_iret O dX1_isIn_18 (by decide) h
  · replace h := h.2 hc
    refine kr_lload_n O dX1_isIn_6 rfl 0 rfl ?_
    refine kr_lload O dX1_isIn_7 2 rfl ?_
    refine kr_lcmp O dX1_isIn_9 ?_
    refine kr_if_gt (tgt := 17) O dX1_isIn_10 rfl (fun hc => ?_) (fun hc => ?_)
    · replace h := h.1 hc
      refine kr_iconst O dX1_isIn_17 (v := (0 : Int32)) (by decide) ?_
      exact kr_iret O dX1_isIn_18 (by decide) h
    · replace h := h.2 hc
      refine kr_iconst O dX1_isIn_13 (v := (1 : Int32)) (by decide) ?_
      refine kr_goto (tgt := 18) O dX1_isIn_14 rfl ?_
      exact kr_iret O dX1_isIn_18 (by decide) h
def vc_X1_nextIssue_10 (w : kt_W) (gr : kt_g × kt_M) (d : Nat) (P : Option Value → kt_M → Prop) (X : String → Nat → kt_M → Prop) (nx10 : Int32 → kt_M → Prop) (a0 : Nat) (v1 : Int32) (M : kt_M) : Prop :=
  
    (((9999 : Int32) < v1 → P (some (.int (-1 : Int32))) M) ∧
    (¬ (9999 : Int32) < v1 → ∃ p1, kt_gf M a0 0 = some (va_rf p1) ∧ ∃ b2, p1 = some b2 ∧ (kt_co M b2 = some 1) ∧ 
    kt_Ca w gr d yX2_isDue kc_X2_isDue [va_rf (some b2), .int v1] M (kt_pI fun u3 M4 => 
      ((u3 = 0 → nx10 (v1 + (1 : Int32)) M4) ∧
      (¬ u3 = 0 → P (some (.int v1)) M4))) X))
theorem cj_X1_nextIssue_10 {w : kt_W} {x : kt_X} {gr : kt_g × kt_M} {d : Nat} {P : Option Value → kt_M → Prop} {X : String → Nat → kt_M → Prop} {nx10 : Int32 → kt_M → Prop} {a0 : Nat} {v1 : Int32} {M : kt_M} (O : kt_O w x gr (d + 1) cX1_nextIssue "KeyTurns" 2 ("nextIssue", "()I") (Option.some Jvm.ClassFile.FieldType.int) []) (hn10 : ∀ v1 M, nx10 v1 M → kt_S w x 2 (kt_E w x P X) M 10 [(0, va_rf (some a0)), (1, .int v1)] []) (h : vc_X1_nextIssue_10 w gr d P X nx10 a0 v1 M) : kt_S w x 2 (kt_E w x P X) M 10 [(0, va_rf (some a0)), (1, .int v1)] [] := by
  unfold vc_X1_nextIssue_10 at h
  refine kr_iload_n O dX1_nextIssue_10 rfl 1 rfl ?_
  refine kr_sipush O dX1_nextIssue_11 (v := (9999 : Int32)) (by decide) ?_
  refine kr_icmp_gt (tgt := 36) O dX1_nextIssue_14 rfl (fun hc => ?_) (fun hc => ?_)
  · replace h := h.1 hc
    refine kr_iconst O dX1_nextIssue_36 (v := (-1 : Int32)) (by decide) ?_
    exact kr_iret O dX1_nextIssue_37 rfl h
  · replace h := h.2 hc
    refine kr_aload_n O dX1_nextIssue_17 rfl 0 rfl ?_
    obtain ⟨p1, ep1, h⟩ := h
    refine kr_getf O dX1_nextIssue_18 fs_X1_133 ep1 ?_
    refine kr_iload_n O dX1_nextIssue_21 rfl 1 rfl ?_
    obtain ⟨b2, rfl, h⟩ := h
    obtain ⟨hco, h⟩ := h
    refine kr_caI (rest := []) O cd_X2_isDue h (Nat.le_of_ble_eq_true rfl) (fun ls _ => kt_ivV (ci := 1) O dX1_nextIssue_22 cd_X2_isDue in_X2_isDue (Or.inl q553) q554 q555 hco (by decide) hy_X2_isDue) (fun u3 M4 hq => ?_) (fun E q M9 hx => kr_out O hx)
    replace h := hq
    clear hq
    refine kr_if_eq (tgt := 30) O dX1_nextIssue_25 rfl (fun hc => ?_) (fun hc => ?_)
    · replace h := h.1 hc
      refine kr_iinc O dX1_nextIssue_30 1 rfl (v := v1 + (1 : Int32)) rfl (Nat.le_of_ble_eq_true rfl) rfl rfl ?_
      refine kr_goto (tgt := 10) O dX1_nextIssue_33 rfl ?_
      refine kr_sub [1, 0] rfl ?_
      exact hn10 _ _ h
    · replace h := h.2 hc
      refine kr_iload_n O dX1_nextIssue_28 rfl 1 rfl ?_
      exact kr_iret O dX1_nextIssue_29 rfl h
def vl_X1_nextIssue_10 (w : kt_W) (gr : kt_g × kt_M) (d : Nat) (P : Option Value → kt_M → Prop) (X : String → Nat → kt_M → Prop)  (a0 : Nat) (v1 : Int32) (M : kt_M) : Prop :=
  ∃ Inv : Nat → Int32 → kt_M → Prop, (∃ k, Inv k v1 M) ∧ ∀ k v1 M, kt_le gr.1 gr.2 M → Inv k v1 M → vc_X1_nextIssue_10 w gr d P X (fun v1' M' => ∃ k', k' < k ∧ Inv k' v1' M') a0 v1 M
theorem cl_X1_nextIssue_10 {w : kt_W} {x : kt_X} {gr : kt_g × kt_M} {d : Nat} {P : Option Value → kt_M → Prop} {X : String → Nat → kt_M → Prop}  {a0 : Nat} {v1 : Int32} {M : kt_M} (O : kt_O w x gr (d + 1) cX1_nextIssue "KeyTurns" 2 ("nextIssue", "()I") (Option.some Jvm.ClassFile.FieldType.int) [])  (h : vl_X1_nextIssue_10 w gr d P X  a0 v1 M) : kt_S w x 2 (kt_E w x P X) M 10 [(0, va_rf (some a0)), (1, .int v1)] [] := by
  obtain ⟨Inv, ⟨k, hk⟩, hb⟩ := h
  induction k using Nat.strongRecOn generalizing v1 M with
  | ind k ih =>
    exact kr_le O fun hle => cj_X1_nextIssue_10 O (fun v1' M' hi => let ⟨k', h1, h2⟩ := hi; ih k' h1 h2) (hb k _ _ hle hk)
def vc_X1_nextIssue (w : kt_W) (gr : kt_g × kt_M) (d : Nat) (P : Option Value → kt_M → Prop) (X : String → Nat → kt_M → Prop) (a0 : Nat) (M : kt_M) : Prop :=
  ∃ p1, kt_gf M a0 0 = some (va_rf p1) ∧ ∃ b2, p1 = some b2 ∧ ∃ u3, kt_gf M b2 14 = some (.int u3) ∧ vl_X1_nextIssue_10 w gr d P X  a0 (u3 + (1 : Int32)) M
theorem ce_X1_nextIssue {w : kt_W} {g : kt_g} {d : Nat} {P : Option Value → kt_M → Prop} {X : String → Nat → kt_M → Prop} {a0 : Nat} {M : kt_M} (h : vc_X1_nextIssue w (g, M) d P X a0 M) : kt_Sp w g (d + 1) yX1_nextIssue kc_X1_nextIssue [va_rf (some a0)] M P X := by
  refine kt_of (L0 := [(0, va_rf (some a0))]) (by decide +kernel) (Nat.le_of_ble_eq_true rfl) rfl fun x O => ?_
  replace O : kt_O w x (g, M) (d + 1) cX1_nextIssue "KeyTurns" 2 ("nextIssue", "()I") (Option.some Jvm.ClassFile.FieldType.int) [] := O
  unfold vc_X1_nextIssue at h
  refine kr_aload_n O dX1_nextIssue_0 rfl 0 rfl ?_
  obtain ⟨p1, ep1, h⟩ := h
  refine kr_getf O dX1_nextIssue_1 fs_X1_133 ep1 ?_
  obtain ⟨b2, rfl, h⟩ := h
  obtain ⟨u3, eu3, h⟩ := h
  refine kr_getf O dX1_nextIssue_4 fs_X1_197 eu3 ?_
  refine kr_iconst O dX1_nextIssue_7 (v := (1 : Int32)) (by decide) ?_
  refine kr_iadd O dX1_nextIssue_8 ?_
  refine kr_istore_n O dX1_nextIssue_9 rfl (Nat.le_of_ble_eq_true rfl) rfl rfl ?_
  refine kr_sub [1, 0] rfl ?_
  exact cl_X1_nextIssue_10 O  h
def vc_X1_meanWraps (w : kt_W) (gr : kt_g × kt_M) (d : Nat) (P : Option Value → kt_M → Prop) (X : String → Nat → kt_M → Prop) (a0 : Nat) (M : kt_M) : Prop :=
  ∃ p1, kt_gf M a0 0 = some (va_rf p1) ∧ ∃ b2, p1 = some b2 ∧ (kt_co M b2 = some 1) ∧ 
  kt_Ca w gr d yX2_recordCount kc_X2_recordCount [va_rf (some b2)] M (kt_pI fun u3 M4 => 
    ((¬ u3 = 0 → ∃ p5, kt_gf M4 a0 0 = some (va_rf p5) ∧ ∃ b6, p5 = some b6 ∧ (kt_co M4 b6 = some 1) ∧ 
    kt_Ca w gr d yX2_wrapCount kc_X2_wrapCount [va_rf (some b6)] M4 (kt_pI fun u7 M8 => vf_n64 (FP.ddiv (FP.i2d u7) (FP.i2d u3)) ∧ P (some (.double (FP.ddiv (FP.i2d u7) (FP.i2d u3)))) M8) X) ∧
    (u3 = 0 → P (some (.double FP.dconst0)) M4))) X
theorem ce_X1_meanWraps {w : kt_W} {g : kt_g} {d : Nat} {P : Option Value → kt_M → Prop} {X : String → Nat → kt_M → Prop} {a0 : Nat} {M : kt_M} (h : vc_X1_meanWraps w (g, M) d P X a0 M) : kt_Sp w g (d + 1) yX1_meanWraps kc_X1_meanWraps [va_rf (some a0)] M P X := by
  refine kt_of (L0 := [(0, va_rf (some a0))]) (by decide +kernel) (Nat.le_of_ble_eq_true rfl) rfl fun x O => ?_
  replace O : kt_O w x (g, M) (d + 1) cX1_meanWraps "KeyTurns" 2 ("meanWraps", "()D") (Option.some Jvm.ClassFile.FieldType.double) [] := O
  unfold vc_X1_meanWraps at h
  refine kr_aload_n O dX1_meanWraps_0 rfl 0 rfl ?_
  obtain ⟨p1, ep1, h⟩ := h
  refine kr_getf O dX1_meanWraps_1 fs_X1_133 ep1 ?_
  obtain ⟨b2, rfl, h⟩ := h
  obtain ⟨hco, h⟩ := h
  refine kr_caI (rest := []) O cd_X2_recordCount h (Nat.le_of_ble_eq_true rfl) (fun ls _ => kt_ivV (ci := 1) O dX1_meanWraps_4 cd_X2_recordCount in_X2_recordCount (Or.inl q569) q570 q571 hco (by decide) hy_X2_recordCount) (fun u3 M4 hq => ?_) (fun E q M9 hx => kr_out O hx)
  replace h := hq
  clear hq
  refine kr_istore_n O dX1_meanWraps_7 rfl (Nat.le_of_ble_eq_true rfl) rfl rfl ?_
  refine kr_iload_n O dX1_meanWraps_8 rfl 0 rfl ?_
  refine kr_if_ne (tgt := 16) O dX1_meanWraps_9 rfl (fun hc => ?_) (fun hc => ?_)
  · replace h := h.1 hc
    refine kr_aload_n O dX1_meanWraps_16 rfl 1 rfl ?_
    obtain ⟨p5, ep5, h⟩ := h
    refine kr_getf O dX1_meanWraps_17 fs_X1_133 ep5 ?_
    obtain ⟨b6, rfl, h⟩ := h
    obtain ⟨hco, h⟩ := h
    refine kr_caI (rest := []) O cd_X2_wrapCount h (Nat.le_of_ble_eq_true rfl) (fun ls _ => kt_ivV (ci := 1) O dX1_meanWraps_20 cd_X2_wrapCount in_X2_wrapCount (Or.inl q576) q577 q578 hco (by decide) hy_X2_wrapCount) (fun u7 M8 hq => ?_) (fun E q M9 hx => kr_out O hx)
    replace h := hq
    clear hq
    refine kr_i2d O dX1_meanWraps_23 ?_
    refine kr_iload_n O dX1_meanWraps_24 rfl 0 rfl ?_
    refine kr_i2d O dX1_meanWraps_25 ?_
    obtain ⟨hne, h⟩ := h
    refine kr_ddiv O dX1_meanWraps_26 hne ?_
    exact kr_dret O dX1_meanWraps_27 h
  · replace h := h.2 hc
    refine kr_dconst0 O dX1_meanWraps_12 ?_
    refine kr_goto (tgt := 27) O dX1_meanWraps_13 rfl ?_
    exact kr_dret O dX1_meanWraps_27 h
def vc_X1_asInt (w : kt_W) (gr : kt_g × kt_M) (d : Nat) (P : Option Value → kt_M → Prop) (X : String → Nat → kt_M → Prop) (v0 : Int32) (M : kt_M) : Prop :=
  
    ((v0 = 0 → P (some (.int (0 : Int32))) M) ∧
    (¬ v0 = 0 → P (some (.int (1 : Int32))) M))
theorem ce_X1_asInt {w : kt_W} {g : kt_g} {d : Nat} {P : Option Value → kt_M → Prop} {X : String → Nat → kt_M → Prop} {v0 : Int32} {M : kt_M} (h : vc_X1_asInt w (g, M) d P X v0 M) : kt_Sp w g (d + 1) yX1_asInt kc_X1_asInt [.int v0] M P X := by
  refine kt_of (L0 := [(0, .int v0)]) (by decide +kernel) (Nat.le_of_ble_eq_true rfl) rfl fun x O => ?_
  replace O : kt_O w x (g, M) (d + 1) cX1_asInt "KeyTurns" 1 ("asInt", "(Z)I") (Option.some Jvm.ClassFile.FieldType.int) [] := O
  unfold vc_X1_asInt at h
  refine kr_iload_n O dX1_asInt_0 rfl 0 rfl ?_
  refine kr_if_eq (tgt := 8) O dX1_asInt_1 rfl (fun hc => ?_) (fun hc => ?_)
  · replace h := h.1 hc
    refine kr_iconst O dX1_asInt_8 (v := (0 : Int32)) (by decide) ?_
    exact kr_iret O dX1_asInt_9 rfl h
  · replace h := h.2 hc
    refine kr_iconst O dX1_asInt_4 (v := (1 : Int32)) (by decide) ?_
    refine kr_goto (tgt := 9) O dX1_asInt_5 rfl ?_
    exact kr_iret O dX1_asInt_9 rfl h
def vc_X1_readable_23 (w : kt_W) (gr : kt_g × kt_M) (d : Nat) (P : Option Value → kt_M → Prop) (X : String → Nat → kt_M → Prop) (nx23 : Int32 → Int32 → kt_M → Prop) (a0 : Nat) (v1 : Int32) (v2 : Int32) (v3 : Int32) (M : kt_M) : Prop :=
  ∃ p1, kt_gf M a0 0 = some (va_rf p1) ∧ ∃ b2, p1 = some b2 ∧ ∃ p3, kt_gf M b2 12 = some (va_rf p3) ∧ ∃ b4, p3 = some b4 ∧ (kt_co M b4 = some 13) ∧ 
  kt_Ca w gr d yJ3_size kc_J3_size [va_rf (some b4)] M (kt_pI fun u5 M6 => 
    ((u5 ≤ v3 → 
      ((¬ v1 = 0 → vf_n32 (FP.fdiv (FP.i2f v2) (FP.i2f v1)) ∧ P (some (.float (FP.fdiv (FP.i2f v2) (FP.i2f v1)))) M6) ∧
      (v1 = 0 → P (some (.float FP.fconst1)) M6))) ∧
    (¬ u5 ≤ v3 → ∃ p7, kt_gf M6 a0 0 = some (va_rf p7) ∧ ∃ b8, p7 = some b8 ∧ (kt_co M6 b8 = some 1) ∧ 
    kt_Ca w gr d yX2_readable kc_X2_readable [va_rf (some b8), .int v3] M6 (kt_pI fun u9 M10 => nx23 (v2 + u9) (v3 + (1 : Int32)) M10) X))) X
theorem cj_X1_readable_23 {w : kt_W} {x : kt_X} {gr : kt_g × kt_M} {d : Nat} {P : Option Value → kt_M → Prop} {X : String → Nat → kt_M → Prop} {nx23 : Int32 → Int32 → kt_M → Prop} {a0 : Nat} {v1 : Int32} {v2 : Int32} {v3 : Int32} {M : kt_M} (O : kt_O w x gr (d + 1) cX1_readable "KeyTurns" 4 ("readable", "()F") (Option.some Jvm.ClassFile.FieldType.float) []) (hn23 : ∀ v2 v3 M, nx23 v2 v3 M → kt_S w x 4 (kt_E w x P X) M 23 [(0, va_rf (some a0)), (1, .int v1), (2, .int v2), (3, .int v3)] []) (h : vc_X1_readable_23 w gr d P X nx23 a0 v1 v2 v3 M) : kt_S w x 4 (kt_E w x P X) M 23 [(0, va_rf (some a0)), (1, .int v1), (2, .int v2), (3, .int v3)] [] := by
  unfold vc_X1_readable_23 at h
  refine kr_iload_n O dX1_readable_23 rfl 3 rfl ?_
  refine kr_aload_n O dX1_readable_24 rfl 0 rfl ?_
  obtain ⟨p1, ep1, h⟩ := h
  refine kr_getf O dX1_readable_25 fs_X1_133 ep1 ?_
  obtain ⟨b2, rfl, h⟩ := h
  obtain ⟨p3, ep3, h⟩ := h
  refine kr_getf O dX1_readable_28 fs_X1_203 ep3 ?_
  obtain ⟨b4, rfl, h⟩ := h
  obtain ⟨hco, h⟩ := h
  refine kr_caI (rest := [.int v3]) O cd_J3_size h (Nat.le_of_ble_eq_true rfl) (fun ls _ => kt_ivV (ci := 13) O dX1_readable_31 cd_J3_size in_J3_size (Or.inl q594) q478 q479 hco (by decide) hy_J3_size) (fun u5 M6 hq => ?_) (fun E q M9 hx => kr_out O hx)
  replace h := hq
  clear hq
  refine kr_icmp_ge (tgt := 54) O dX1_readable_34 rfl (fun hc => ?_) (fun hc => ?_)
  · replace h := h.1 hc
    refine kr_iload_n O dX1_readable_54 rfl 1 rfl ?_
    refine kr_if_ne (tgt := 62) O dX1_readable_55 rfl (fun hc => ?_) (fun hc => ?_)
    · replace h := h.1 hc
      refine kr_iload_n O dX1_readable_62 rfl 2 rfl ?_
      refine kr_i2f O dX1_readable_63 ?_
      refine kr_iload_n O dX1_readable_64 rfl 1 rfl ?_
      refine kr_i2f O dX1_readable_65 ?_
      obtain ⟨hne, h⟩ := h
      refine kr_fdiv O dX1_readable_66 hne ?_
      exact kr_fret O dX1_readable_67 h
    · replace h := h.2 hc
      refine kr_fconst1 O dX1_readable_58 ?_
      refine kr_goto (tgt := 67) O dX1_readable_59 rfl ?_
      exact kr_fret O dX1_readable_67 h
  · replace h := h.2 hc
    refine kr_iload_n O dX1_readable_37 rfl 2 rfl ?_
    refine kr_aload_n O dX1_readable_38 rfl 0 rfl ?_
    obtain ⟨p7, ep7, h⟩ := h
    refine kr_getf O dX1_readable_39 fs_X1_133 ep7 ?_
    refine kr_iload_n O dX1_readable_42 rfl 3 rfl ?_
    obtain ⟨b8, rfl, h⟩ := h
    obtain ⟨hco, h⟩ := h
    refine kr_caI (rest := [.int v2]) O cd_X2_readable h (Nat.le_of_ble_eq_true rfl) (fun ls _ => kt_ivV (ci := 1) O dX1_readable_43 cd_X2_readable in_X2_readable (Or.inl q595) q596 q597 hco (by decide) hy_X2_readable) (fun u9 M10 hq => ?_) (fun E q M9 hx => kr_out O hx)
    replace h := hq
    clear hq
    refine kr_iadd O dX1_readable_46 ?_
    refine kr_istore_n O dX1_readable_47 rfl (Nat.le_of_ble_eq_true rfl) rfl rfl ?_
    refine kr_iinc O dX1_readable_48 3 rfl (v := v3 + (1 : Int32)) rfl (Nat.le_of_ble_eq_true rfl) rfl rfl ?_
    refine kr_goto (tgt := 23) O dX1_readable_51 rfl ?_
    refine kr_sub [2, 3, 1, 0] rfl ?_
    exact hn23 _ _ _ h
def vl_X1_readable_23 (w : kt_W) (gr : kt_g × kt_M) (d : Nat) (P : Option Value → kt_M → Prop) (X : String → Nat → kt_M → Prop)  (a0 : Nat) (v1 : Int32) (v2 : Int32) (v3 : Int32) (M : kt_M) : Prop :=
  ∃ Inv : Nat → Int32 → Int32 → kt_M → Prop, (∃ k, Inv k v2 v3 M) ∧ ∀ k v2 v3 M, kt_le gr.1 gr.2 M → Inv k v2 v3 M → vc_X1_readable_23 w gr d P X (fun v2' v3' M' => ∃ k', k' < k ∧ Inv k' v2' v3' M') a0 v1 v2 v3 M
theorem cl_X1_readable_23 {w : kt_W} {x : kt_X} {gr : kt_g × kt_M} {d : Nat} {P : Option Value → kt_M → Prop} {X : String → Nat → kt_M → Prop}  {a0 : Nat} {v1 : Int32} {v2 : Int32} {v3 : Int32} {M : kt_M} (O : kt_O w x gr (d + 1) cX1_readable "KeyTurns" 4 ("readable", "()F") (Option.some Jvm.ClassFile.FieldType.float) [])  (h : vl_X1_readable_23 w gr d P X  a0 v1 v2 v3 M) : kt_S w x 4 (kt_E w x P X) M 23 [(0, va_rf (some a0)), (1, .int v1), (2, .int v2), (3, .int v3)] [] := by
  obtain ⟨Inv, ⟨k, hk⟩, hb⟩ := h
  induction k using Nat.strongRecOn generalizing v2 v3 M with
  | ind k ih =>
    exact kr_le O fun hle => cj_X1_readable_23 O (fun v2' v3' M' hi => let ⟨k', h1, h2⟩ := hi; ih k' h1 h2) (hb k _ _ _ hle hk)
def vc_X1_readable (w : kt_W) (gr : kt_g × kt_M) (d : Nat) (P : Option Value → kt_M → Prop) (X : String → Nat → kt_M → Prop) (a0 : Nat) (M : kt_M) : Prop :=
  ∃ p1, kt_gf M a0 0 = some (va_rf p1) ∧ ∃ b2, p1 = some b2 ∧ (kt_co M b2 = some 1) ∧ 
  kt_Ca w gr d yX2_recordCount kc_X2_recordCount [va_rf (some b2)] M (kt_pI fun u3 M4 => ∃ p5, kt_gf M4 a0 0 = some (va_rf p5) ∧ ∃ b6, p5 = some b6 ∧ ∃ p7, kt_gf M4 b6 12 = some (va_rf p7) ∧ ∃ b8, p7 = some b8 ∧ (kt_co M4 b8 = some 13) ∧ 
  kt_Ca w gr d yJ3_size kc_J3_size [va_rf (some b8)] M4 (kt_pI fun u9 M10 => vl_X1_readable_23 w gr d P X  a0 (u3 * u9) (0 : Int32) (0 : Int32) M10) X) X
theorem ce_X1_readable {w : kt_W} {g : kt_g} {d : Nat} {P : Option Value → kt_M → Prop} {X : String → Nat → kt_M → Prop} {a0 : Nat} {M : kt_M} (h : vc_X1_readable w (g, M) d P X a0 M) : kt_Sp w g (d + 1) yX1_readable kc_X1_readable [va_rf (some a0)] M P X := by
  refine kt_of (L0 := [(0, va_rf (some a0))]) (by decide +kernel) (Nat.le_of_ble_eq_true rfl) rfl fun x O => ?_
  replace O : kt_O w x (g, M) (d + 1) cX1_readable "KeyTurns" 4 ("readable", "()F") (Option.some Jvm.ClassFile.FieldType.float) [] := O
  unfold vc_X1_readable at h
  refine kr_aload_n O dX1_readable_0 rfl 0 rfl ?_
  obtain ⟨p1, ep1, h⟩ := h
  refine kr_getf O dX1_readable_1 fs_X1_133 ep1 ?_
  obtain ⟨b2, rfl, h⟩ := h
  obtain ⟨hco, h⟩ := h
  refine kr_caI (rest := []) O cd_X2_recordCount h (Nat.le_of_ble_eq_true rfl) (fun ls _ => kt_ivV (ci := 1) O dX1_readable_4 cd_X2_recordCount in_X2_recordCount (Or.inl q569) q570 q571 hco (by decide) hy_X2_recordCount) (fun u3 M4 hq => ?_) (fun E q M9 hx => kr_out O hx)
  replace h := hq
  clear hq
  refine kr_aload_n O dX1_readable_7 rfl 0 rfl ?_
  obtain ⟨p5, ep5, h⟩ := h
  refine kr_getf O dX1_readable_8 fs_X1_133 ep5 ?_
  obtain ⟨b6, rfl, h⟩ := h
  obtain ⟨p7, ep7, h⟩ := h
  refine kr_getf O dX1_readable_11 fs_X1_203 ep7 ?_
  obtain ⟨b8, rfl, h⟩ := h
  obtain ⟨hco, h⟩ := h
  refine kr_caI (rest := [.int u3]) O cd_J3_size h (Nat.le_of_ble_eq_true rfl) (fun ls _ => kt_ivV (ci := 13) O dX1_readable_14 cd_J3_size in_J3_size (Or.inl q594) q478 q479 hco (by decide) hy_J3_size) (fun u9 M10 hq => ?_) (fun E q M9 hx => kr_out O hx)
  replace h := hq
  clear hq
  refine kr_imul O dX1_readable_17 ?_
  refine kr_istore_n O dX1_readable_18 rfl (Nat.le_of_ble_eq_true rfl) rfl rfl ?_
  refine kr_iconst O dX1_readable_19 (v := (0 : Int32)) (by decide) ?_
  refine kr_istore_n O dX1_readable_20 rfl (Nat.le_of_ble_eq_true rfl) rfl rfl ?_
  refine kr_iconst O dX1_readable_21 (v := (0 : Int32)) (by decide) ?_
  refine kr_istore_n O dX1_readable_22 rfl (Nat.le_of_ble_eq_true rfl) rfl rfl ?_
  refine kr_sub [3, 2, 1, 0] rfl ?_
  exact cl_X1_readable_23 O  h
def vc_X1_has (w : kt_W) (gr : kt_g × kt_M) (d : Nat) (P : Option Value → kt_M → Prop) (X : String → Nat → kt_M → Prop) (v0 : Int32) (v1 : Int32) (M : kt_M) : Prop :=
  
    ((¬ ((v0 >>> (v1 &&& 31)) &&& (1 : Int32)) = (1 : Int32) → P (some (.int (0 : Int32))) M) ∧
    (((v0 >>> (v1 &&& 31)) &&& (1 : Int32)) = (1 : Int32) → P (some (.int (1 : Int32))) M))
theorem ce_X1_has {w : kt_W} {g : kt_g} {d : Nat} {P : Option Value → kt_M → Prop} {X : String → Nat → kt_M → Prop} {v0 : Int32} {v1 : Int32} {M : kt_M} (h : vc_X1_has w (g, M) d P X v0 v1 M) : kt_Sp w g (d + 1) yX1_has kc_X1_has [.int v0, .int v1] M P X := by
  refine kt_of (L0 := [(0, .int v0), (1, .int v1)]) (by decide +kernel) (Nat.le_of_ble_eq_true rfl) rfl fun x O => ?_
  replace O : kt_O w x (g, M) (d + 1) cX1_has "KeyTurns" 2 ("has", "(II)Z") (Option.some Jvm.ClassFile.FieldType.boolean) [] := O
  unfold vc_X1_has at h
  refine kr_iload_n O dX1_has_0 rfl 0 rfl ?_
  refine kr_iload_n O dX1_has_1 rfl 1 rfl ?_
  refine kr_ishr O dX1_has_2 ?_
  refine kr_iconst O dX1_has_3 (v := (1 : Int32)) (by decide) ?_
  refine kr_iand O dX1_has_4 ?_
  refine kr_iconst O dX1_has_5 (v := (1 : Int32)) (by decide) ?_
  refine kr_icmp_ne (tgt := 13) O dX1_has_6 rfl (fun hc => ?_) (fun hc => ?_)
  · replace h := h.1 hc
    refine kr_iconst O dX1_has_13 (v := (0 : Int32)) (by decide) ?_
    exact kr_iret O dX1_has_14 (by decide) h
  · replace h := h.2 hc
    refine kr_iconst O dX1_has_9 (v := (1 : Int32)) (by decide) ?_
    refine kr_goto (tgt := 14) O dX1_has_10 rfl ?_
    exact kr_iret O dX1_has_14 (by decide) h
def vc_X1_rotate (w : kt_W) (gr : kt_g × kt_M) (d : Nat) (P : Option Value → kt_M → Prop) (X : String → Nat → kt_M → Prop) (a0 : Nat) (M : kt_M) : Prop :=
  ∃ p1, kt_gf M a0 0 = some (va_rf p1) ∧ ∃ b2, p1 = some b2 ∧ (kt_co M b2 = some 1) ∧ 
  kt_Ca w gr d yX2_latest kc_X2_latest [va_rf (some b2)] M (kt_pR fun p3 M4 => ∃ b5, p3 = some b5 ∧ ∃ u6, kt_gf M4 b5 22 = some (.int u6) ∧ ∃ p7, kt_gf M4 a0 0 = some (va_rf p7) ∧ ∃ b8, p7 = some b8 ∧ ∃ u9, kt_gf M4 b8 14 = some (.int u9) ∧ 
    ((u6 ≤ u9 → ∃ p10, kt_gf M4 a0 0 = some (va_rf p10) ∧ ∃ b11, p10 = some b11 ∧ ∃ p12, kt_gf M4 b11 10 = some (va_rf p12) ∧ ∃ b13, p12 = some b13 ∧ (kt_co M4 b13 = some 13) ∧ 
    kt_Ca w gr d yJ3_size kc_J3_size [va_rf (some b13)] M4 (kt_pI fun u14 M15 => 
      ((¬ u14 = (30 : Int32) → ∃ p16, kt_gf M15 a0 0 = some (va_rf p16) ∧ ∃ b17, p16 = some b17 ∧ ∃ u18, kt_gf M15 b17 14 = some (.int u18) ∧ ∃ p19, kt_gf M15 a0 0 = some (va_rf p19) ∧ ∃ b20, p19 = some b20 ∧ ∃ u21, kt_gf M15 b20 9 = some (.int u21) ∧ 
        (((u18 + u21) ≤ (9999 : Int32) → (kt_co M15 a0 = some 0) ∧ 
        kt_Ca w gr d yX1_keeping kc_X1_keeping [va_rf (some a0)] M15 (kt_pR fun p22 M23 => ∃ b24, p22 = some b24 ∧ ∃ u25, kt_gf M23 b24 14 = some (.int u25) ∧ ∃ u26, kt_gf M23 b24 9 = some (.int u26) ∧ (kt_co M23 b24 = some 1) ∧ 
        kt_Ca w gr d yX2_issue kc_X2_issue [va_rf (some b24), .int (u25 + u26)] M23 (kt_pI fun u27 M28 => (kt_co M28 b24 = some 1) ∧ 
        kt_Ca w gr d yX2_clean kc_X2_clean [va_rf (some b24)] M28 (kt_pI fun u29 M30 => ∃ p31, kt_gf M30 b24 10 = some (va_rf p31) ∧ ∃ b32, p31 = some b32 ∧ (kt_co M30 b32 = some 13) ∧ 
        kt_Ca w gr d yJ3_size kc_J3_size [va_rf (some b32)] M30 (kt_pI fun u33 M34 => P (some (.int (u33 - (1 : Int32)))) M34) X) X) X) X) ∧
        (¬ (u18 + u21) ≤ (9999 : Int32) → P (some (.int (-4 : Int32))) M15))) ∧
      (u14 = (30 : Int32) → P (some (.int (-3 : Int32))) M15))) X) ∧
    (¬ u6 ≤ u9 → P (some (.int (-2 : Int32))) M4))) X
theorem ce_X1_rotate {w : kt_W} {g : kt_g} {d : Nat} {P : Option Value → kt_M → Prop} {X : String → Nat → kt_M → Prop} {a0 : Nat} {M : kt_M} (h : vc_X1_rotate w (g, M) d P X a0 M) : kt_Sp w g (d + 1) yX1_rotate kc_X1_rotate [va_rf (some a0)] M P X := by
  refine kt_of (L0 := [(0, va_rf (some a0))]) (by decide +kernel) (Nat.le_of_ble_eq_true rfl) rfl fun x O => ?_
  replace O : kt_O w x (g, M) (d + 1) cX1_rotate "KeyTurns" 2 ("rotate", "()I") (Option.some Jvm.ClassFile.FieldType.int) [] := O
  unfold vc_X1_rotate at h
  refine kr_aload_n O dX1_rotate_0 rfl 0 rfl ?_
  obtain ⟨p1, ep1, h⟩ := h
  refine kr_getf O dX1_rotate_1 fs_X1_133 ep1 ?_
  obtain ⟨b2, rfl, h⟩ := h
  obtain ⟨hco, h⟩ := h
  refine kr_caR (rest := []) O cd_X2_latest h (Nat.le_of_ble_eq_true rfl) (fun ls _ => kt_ivV (ci := 1) O dX1_rotate_4 cd_X2_latest in_X2_latest (Or.inl q625) q558 q559 hco (by decide) hy_X2_latest) (fun p3 M4 hq => ?_) (fun E q M9 hx => kr_out O hx)
  replace h := hq
  clear hq
  obtain ⟨b5, rfl, h⟩ := h
  obtain ⟨u6, eu6, h⟩ := h
  refine kr_getf O dX1_rotate_7 fs_X1_246 eu6 ?_
  refine kr_aload_n O dX1_rotate_10 rfl 0 rfl ?_
  obtain ⟨p7, ep7, h⟩ := h
  refine kr_getf O dX1_rotate_11 fs_X1_133 ep7 ?_
  obtain ⟨b8, rfl, h⟩ := h
  obtain ⟨u9, eu9, h⟩ := h
  refine kr_getf O dX1_rotate_14 fs_X1_197 eu9 ?_
  refine kr_icmp_le (tgt := 23) O dX1_rotate_17 rfl (fun hc => ?_) (fun hc => ?_)
  · replace h := h.1 hc
    refine kr_aload_n O dX1_rotate_23 rfl 0 rfl ?_
    obtain ⟨p10, ep10, h⟩ := h
    refine kr_getf O dX1_rotate_24 fs_X1_133 ep10 ?_
    obtain ⟨b11, rfl, h⟩ := h
    obtain ⟨p12, ep12, h⟩ := h
    refine kr_getf O dX1_rotate_27 fs_X1_15 ep12 ?_
    obtain ⟨b13, rfl, h⟩ := h
    obtain ⟨hco, h⟩ := h
    refine kr_caI (rest := []) O cd_J3_size h (Nat.le_of_ble_eq_true rfl) (fun ls _ => kt_ivV (ci := 13) O dX1_rotate_30 cd_J3_size in_J3_size (Or.inl q594) q478 q479 hco (by decide) hy_J3_size) (fun u14 M15 hq => ?_) (fun E q M9 hx => kr_out O hx)
    replace h := hq
    clear hq
    refine kr_bipush O dX1_rotate_33 (v := (30 : Int32)) (by decide) ?_
    refine kr_icmp_ne (tgt := 41) O dX1_rotate_35 rfl (fun hc => ?_) (fun hc => ?_)
    · replace h := h.1 hc
      refine kr_aload_n O dX1_rotate_41 rfl 0 rfl ?_
      obtain ⟨p16, ep16, h⟩ := h
      refine kr_getf O dX1_rotate_42 fs_X1_133 ep16 ?_
      obtain ⟨b17, rfl, h⟩ := h
      obtain ⟨u18, eu18, h⟩ := h
      refine kr_getf O dX1_rotate_45 fs_X1_197 eu18 ?_
      refine kr_aload_n O dX1_rotate_48 rfl 0 rfl ?_
      obtain ⟨p19, ep19, h⟩ := h
      refine kr_getf O dX1_rotate_49 fs_X1_133 ep19 ?_
      obtain ⟨b20, rfl, h⟩ := h
      obtain ⟨u21, eu21, h⟩ := h
      refine kr_getf O dX1_rotate_52 fs_X1_212 eu21 ?_
      refine kr_iadd O dX1_rotate_55 ?_
      refine kr_sipush O dX1_rotate_56 (v := (9999 : Int32)) (by decide) ?_
      refine kr_icmp_le (tgt := 65) O dX1_rotate_59 rfl (fun hc => ?_) (fun hc => ?_)
      · replace h := h.1 hc
        refine kr_aload_n O dX1_rotate_65 rfl 0 rfl ?_
        obtain ⟨hco, h⟩ := h
        refine kr_caR (rest := []) O cd_X1_keeping h (Nat.le_of_ble_eq_true rfl) (fun ls _ => kt_ivV (ci := 0) O dX1_rotate_66 cd_X1_keeping in_X1_keeping (Or.inl q626) q628 qs6 hco (by decide) hy_X1_keeping) (fun p22 M23 hq => ?_) (fun E q M9 hx => kr_out O hx)
        replace h := hq
        clear hq
        refine kr_astore_n O dX1_rotate_69 rfl (Nat.le_of_ble_eq_true rfl) rfl rfl ?_
        refine kr_aload_n O dX1_rotate_70 rfl 0 rfl ?_
        refine kr_aload_n O dX1_rotate_71 rfl 0 rfl ?_
        obtain ⟨b24, rfl, h⟩ := h
        obtain ⟨u25, eu25, h⟩ := h
        refine kr_getf O dX1_rotate_72 fs_X1_197 eu25 ?_
        refine kr_aload_n O dX1_rotate_75 rfl 0 rfl ?_
        obtain ⟨u26, eu26, h⟩ := h
        refine kr_getf O dX1_rotate_76 fs_X1_212 eu26 ?_
        refine kr_iadd O dX1_rotate_79 ?_
        obtain ⟨hco, h⟩ := h
        refine kr_caI (rest := []) O cd_X2_issue h (Nat.le_of_ble_eq_true rfl) (fun ls _ => kt_ivV (ci := 1) O dX1_rotate_80 cd_X2_issue in_X2_issue (Or.inl q1346) q1347 q1348 hco (by decide) hy_X2_issue) (fun u27 M28 hq => ?_) (fun E q M9 hx => kr_out O hx)
        replace h := hq
        clear hq
        refine kr_pop O dX1_rotate_83 rfl ?_
        refine kr_aload_n O dX1_rotate_84 rfl 0 rfl ?_
        obtain ⟨hco, h⟩ := h
        refine kr_caI (rest := []) O cd_X2_clean h (Nat.le_of_ble_eq_true rfl) (fun ls _ => kt_ivV (ci := 1) O dX1_rotate_85 cd_X2_clean in_X2_clean (Or.inl q1377) q1378 q1379 hco (by decide) hy_X2_clean) (fun u29 M30 hq => ?_) (fun E q M9 hx => kr_out O hx)
        replace h := hq
        clear hq
        refine kr_pop O dX1_rotate_88 rfl ?_
        refine kr_aload_n O dX1_rotate_89 rfl 0 rfl ?_
        obtain ⟨p31, ep31, h⟩ := h
        refine kr_getf O dX1_rotate_90 fs_X1_15 ep31 ?_
        obtain ⟨b32, rfl, h⟩ := h
        obtain ⟨hco, h⟩ := h
        refine kr_caI (rest := []) O cd_J3_size h (Nat.le_of_ble_eq_true rfl) (fun ls _ => kt_ivV (ci := 13) O dX1_rotate_93 cd_J3_size in_J3_size (Or.inl q594) q478 q479 hco (by decide) hy_J3_size) (fun u33 M34 hq => ?_) (fun E q M9 hx => kr_out O hx)
        replace h := hq
        clear hq
        refine kr_iconst O dX1_rotate_96 (v := (1 : Int32)) (by decide) ?_
        refine kr_isub O dX1_rotate_97 ?_
        exact kr_iret O dX1_rotate_98 rfl h
      · replace h := h.2 hc
        refine kr_bipush O dX1_rotate_62 (v := (-4 : Int32)) (by decide) ?_
        exact kr_iret O dX1_rotate_64 rfl h
    · replace h := h.2 hc
      refine kr_bipush O dX1_rotate_38 (v := (-3 : Int32)) (by decide) ?_
      exact kr_iret O dX1_rotate_40 rfl h
  · replace h := h.2 hc
    refine kr_bipush O dX1_rotate_20 (v := (-2 : Int32)) (by decide) ?_
    exact kr_iret O dX1_rotate_22 rfl h
def vc_X1_keeping_20 (w : kt_W) (gr : kt_g × kt_M) (d : Nat) (P : Option Value → kt_M → Prop) (X : String → Nat → kt_M → Prop)  (a0 : Nat) (M : kt_M) : Prop :=
  ∃ p1, kt_gf M a0 2 = some (va_rf p1) ∧ ∃ p2, kt_gf M a0 0 = some (va_rf p2) ∧ ∃ b3, p1 = some b3 ∧ (kt_co M b3 = some 17) ∧ 
  kt_Ca w gr d yJ1_addLast kc_J1_addLast [va_rf (some b3), va_rf p2] M (kt_pV fun M4 => ∃ p5, kt_gf M4 a0 0 = some (va_rf p5) ∧ ∃ b6, p5 = some b6 ∧ (kt_co M4 b6 = some 1) ∧ 
  kt_Ca w gr d yX2_copy kc_X2_copy [va_rf (some b6), .int (1 : Int32), .int (1 : Int32)] M4 (kt_pR fun p7 M8 => kt_hf gr M8 a0 0 ∧ ∀ M9, M9 = kt_pf M8 a0 0 (va_rf p7) → ∃ p10, kt_gf M9 a0 0 = some (va_rf p10) ∧ P (some (va_rf p10)) M9) X) X
theorem cj_X1_keeping_20 {w : kt_W} {x : kt_X} {gr : kt_g × kt_M} {d : Nat} {P : Option Value → kt_M → Prop} {X : String → Nat → kt_M → Prop}  {a0 : Nat} {M : kt_M} (O : kt_O w x gr (d + 1) cX1_keeping "KeyTurns" 1 ("keeping", "()LKeyTurns$State;") (Option.some (Jvm.ClassFile.FieldType.object "KeyTurns$State")) [])  (h : vc_X1_keeping_20 w gr d P X  a0 M) : kt_S w x 1 (kt_E w x P X) M 20 [(0, va_rf (some a0))] [] := by
  unfold vc_X1_keeping_20 at h
  refine kr_aload_n O dX1_keeping_20 rfl 0 rfl ?_
  obtain ⟨p1, ep1, h⟩ := h
  refine kr_getf O dX1_keeping_21 fs_X1_112 ep1 ?_
  refine kr_aload_n O dX1_keeping_24 rfl 0 rfl ?_
  obtain ⟨p2, ep2, h⟩ := h
  refine kr_getf O dX1_keeping_25 fs_X1_133 ep2 ?_
  obtain ⟨b3, rfl, h⟩ := h
  obtain ⟨hco, h⟩ := h
  refine kr_caV (rest := []) O cd_J1_addLast h (Nat.le_of_ble_eq_true rfl) (fun ls _ => kt_ivV (ci := 17) O dX1_keeping_28 cd_J1_addLast in_J1_addLast (Or.inl q715) q716 q717 hco (by decide) hy_J1_addLast) (fun M4 hq => ?_) (fun E q M9 hx => kr_out O hx)
  replace h := hq
  clear hq
  refine kr_aload_n O dX1_keeping_31 rfl 0 rfl ?_
  refine kr_aload_n O dX1_keeping_32 rfl 0 rfl ?_
  obtain ⟨p5, ep5, h⟩ := h
  refine kr_getf O dX1_keeping_33 fs_X1_133 ep5 ?_
  refine kr_iconst O dX1_keeping_36 (v := (1 : Int32)) (by decide) ?_
  refine kr_iconst O dX1_keeping_37 (v := (1 : Int32)) (by decide) ?_
  obtain ⟨b6, rfl, h⟩ := h
  obtain ⟨hco, h⟩ := h
  refine kr_caR (rest := [va_rf (some a0)]) O cd_X2_copy h (Nat.le_of_ble_eq_true rfl) (fun ls _ => kt_ivV (ci := 1) O dX1_keeping_38 cd_X2_copy in_X2_copy (Or.inl q731) q732 q733 hco (by decide) hy_X2_copy) (fun p7 M8 hq => ?_) (fun E q M9 hx => kr_out O hx)
  replace h := hq
  clear hq
  obtain ⟨hw, h⟩ := h
  refine kr_putf O dX1_keeping_41 fs_X1_133 (Or.inl rfl) (kt_ok_rf _ rfl) hw (kr_nmM fun M9 hM9 => ?_)
  replace h := h M9 hM9
  refine kr_aload_n O dX1_keeping_44 rfl 0 rfl ?_
  obtain ⟨p10, ep10, h⟩ := h
  refine kr_getf O dX1_keeping_45 fs_X1_133 ep10 ?_
  exact kr_aret O dX1_keeping_48 (by first | exact Or.inl ⟨_, rfl⟩ | exact Or.inr ⟨_, rfl⟩) h
def vc_X1_keeping (w : kt_W) (gr : kt_g × kt_M) (d : Nat) (P : Option Value → kt_M → Prop) (X : String → Nat → kt_M → Prop) (a0 : Nat) (M : kt_M) : Prop :=
  ∃ p1, kt_gf M a0 2 = some (va_rf p1) ∧ ∃ b2, p1 = some b2 ∧ (kt_co M b2 = some 17) ∧ 
  kt_Ca w gr d yJ1_size kc_J1_size [va_rf (some b2)] M (kt_pI fun u3 M4 => 
    ((¬ u3 = (10 : Int32) → vc_X1_keeping_20 w gr d P X  a0 M4) ∧
    (u3 = (10 : Int32) → ∃ p5, kt_gf M4 a0 2 = some (va_rf p5) ∧ ∃ b6, p5 = some b6 ∧ (kt_co M4 b6 = some 17) ∧ 
    kt_Ca w gr d yJ1_removeFirst kc_J1_removeFirst [va_rf (some b6)] M4 (kt_pR fun p7 M8 => vc_X1_keeping_20 w gr d P X  a0 M8) X))) X
theorem ce_X1_keeping {w : kt_W} {g : kt_g} {d : Nat} {P : Option Value → kt_M → Prop} {X : String → Nat → kt_M → Prop} {a0 : Nat} {M : kt_M} (h : vc_X1_keeping w (g, M) d P X a0 M) : kt_Sp w g (d + 1) yX1_keeping kc_X1_keeping [va_rf (some a0)] M P X := by
  refine kt_of (L0 := [(0, va_rf (some a0))]) (by decide +kernel) (Nat.le_of_ble_eq_true rfl) rfl fun x O => ?_
  replace O : kt_O w x (g, M) (d + 1) cX1_keeping "KeyTurns" 1 ("keeping", "()LKeyTurns$State;") (Option.some (Jvm.ClassFile.FieldType.object "KeyTurns$State")) [] := O
  unfold vc_X1_keeping at h
  refine kr_aload_n O dX1_keeping_0 rfl 0 rfl ?_
  obtain ⟨p1, ep1, h⟩ := h
  refine kr_getf O dX1_keeping_1 fs_X1_112 ep1 ?_
  obtain ⟨b2, rfl, h⟩ := h
  obtain ⟨hco, h⟩ := h
  refine kr_caI (rest := []) O cd_J1_size h (Nat.le_of_ble_eq_true rfl) (fun ls _ => kt_ivV (ci := 17) O dX1_keeping_4 cd_J1_size in_J1_size (Or.inl q630) q631 q632 hco (by decide) hy_J1_size) (fun u3 M4 hq => ?_) (fun E q M9 hx => kr_out O hx)
  replace h := hq
  clear hq
  refine kr_bipush O dX1_keeping_7 (v := (10 : Int32)) (by decide) ?_
  refine kr_icmp_ne (tgt := 20) O dX1_keeping_9 rfl (fun hc => ?_) (fun hc => ?_)
  · replace h := h.1 hc
    exact cj_X1_keeping_20 O  h
  · replace h := h.2 hc
    refine kr_aload_n O dX1_keeping_12 rfl 0 rfl ?_
    obtain ⟨p5, ep5, h⟩ := h
    refine kr_getf O dX1_keeping_13 fs_X1_112 ep5 ?_
    obtain ⟨b6, rfl, h⟩ := h
    obtain ⟨hco, h⟩ := h
    refine kr_caR (rest := []) O cd_J1_removeFirst h (Nat.le_of_ble_eq_true rfl) (fun ls _ => kt_ivV (ci := 17) O dX1_keeping_16 cd_J1_removeFirst in_J1_removeFirst (Or.inl q637) q638 q639 hco (by decide) hy_J1_removeFirst) (fun p7 M8 hq => ?_) (fun E q M9 hx => kr_out O hx)
    replace h := hq
    clear hq
    refine kr_pop O dX1_keeping_19 (kt_nrf _) ?_
    exact cj_X1_keeping_20 O  h
def vc_X1_make (w : kt_W) (gr : kt_g × kt_M) (d : Nat) (P : Option Value → kt_M → Prop) (X : String → Nat → kt_M → Prop) (a0 : Nat) (M : kt_M) : Prop :=
  ∃ p1, kt_gf M a0 0 = some (va_rf p1) ∧ ∃ b2, p1 = some b2 ∧ ∃ p3, kt_gf M b2 11 = some (va_rf p3) ∧ ∃ b4, p3 = some b4 ∧ (kt_co M b4 = some 13) ∧ 
  kt_Ca w gr d yJ3_size kc_J3_size [va_rf (some b4)] M (kt_pI fun u5 M6 => 
    ((¬ u5 = (30 : Int32) → (kt_co M6 a0 = some 0) ∧ 
    kt_Ca w gr d yX1_keeping kc_X1_keeping [va_rf (some a0)] M6 (kt_pR fun p7 M8 => ∃ b9, p7 = some b9 ∧ (kt_co M8 b9 = some 1) ∧ 
    kt_Ca w gr d yX2_make kc_X2_make [va_rf (some b9)] M8 (kt_pR fun p10 M11 => ∃ p12, kt_gf M11 a0 0 = some (va_rf p12) ∧ ∃ b13, p12 = some b13 ∧ ∃ p14, kt_gf M11 b13 11 = some (va_rf p14) ∧ ∃ b15, p14 = some b15 ∧ (kt_co M11 b15 = some 13) ∧ 
    kt_Ca w gr d yJ3_size kc_J3_size [va_rf (some b15)] M11 (kt_pI fun u16 M17 => P (some (.int (u16 - (1 : Int32)))) M17) X) X) X) ∧
    (u5 = (30 : Int32) → P (some (.int (-3 : Int32))) M6))) X
theorem ce_X1_make {w : kt_W} {g : kt_g} {d : Nat} {P : Option Value → kt_M → Prop} {X : String → Nat → kt_M → Prop} {a0 : Nat} {M : kt_M} (h : vc_X1_make w (g, M) d P X a0 M) : kt_Sp w g (d + 1) yX1_make kc_X1_make [va_rf (some a0)] M P X := by
  refine kt_of (L0 := [(0, va_rf (some a0))]) (by decide +kernel) (Nat.le_of_ble_eq_true rfl) rfl fun x O => ?_
  replace O : kt_O w x (g, M) (d + 1) cX1_make "KeyTurns" 2 ("make", "()I") (Option.some Jvm.ClassFile.FieldType.int) [] := O
  unfold vc_X1_make at h
  refine kr_aload_n O dX1_make_0 rfl 0 rfl ?_
  obtain ⟨p1, ep1, h⟩ := h
  refine kr_getf O dX1_make_1 fs_X1_133 ep1 ?_
  obtain ⟨b2, rfl, h⟩ := h
  obtain ⟨p3, ep3, h⟩ := h
  refine kr_getf O dX1_make_4 fs_X1_58 ep3 ?_
  obtain ⟨b4, rfl, h⟩ := h
  obtain ⟨hco, h⟩ := h
  refine kr_caI (rest := []) O cd_J3_size h (Nat.le_of_ble_eq_true rfl) (fun ls _ => kt_ivV (ci := 13) O dX1_make_7 cd_J3_size in_J3_size (Or.inl q594) q478 q479 hco (by decide) hy_J3_size) (fun u5 M6 hq => ?_) (fun E q M9 hx => kr_out O hx)
  replace h := hq
  clear hq
  refine kr_bipush O dX1_make_10 (v := (30 : Int32)) (by decide) ?_
  refine kr_icmp_ne (tgt := 18) O dX1_make_12 rfl (fun hc => ?_) (fun hc => ?_)
  · replace h := h.1 hc
    refine kr_aload_n O dX1_make_18 rfl 0 rfl ?_
    obtain ⟨hco, h⟩ := h
    refine kr_caR (rest := []) O cd_X1_keeping h (Nat.le_of_ble_eq_true rfl) (fun ls _ => kt_ivV (ci := 0) O dX1_make_19 cd_X1_keeping in_X1_keeping (Or.inl q626) q628 qs6 hco (by decide) hy_X1_keeping) (fun p7 M8 hq => ?_) (fun E q M9 hx => kr_out O hx)
    replace h := hq
    clear hq
    obtain ⟨b9, rfl, h⟩ := h
    obtain ⟨hco, h⟩ := h
    refine kr_caR (rest := []) O cd_X2_make h (Nat.le_of_ble_eq_true rfl) (fun ls _ => kt_ivV (ci := 1) O dX1_make_22 cd_X2_make in_X2_make (Or.inl q1411) q1412 q1413 hco (by decide) hy_X2_make) (fun p10 M11 hq => ?_) (fun E q M9 hx => kr_out O hx)
    replace h := hq
    clear hq
    refine kr_astore_n O dX1_make_25 rfl (Nat.le_of_ble_eq_true rfl) rfl rfl ?_
    refine kr_aload_n O dX1_make_26 rfl 1 rfl ?_
    obtain ⟨p12, ep12, h⟩ := h
    refine kr_getf O dX1_make_27 fs_X1_133 ep12 ?_
    obtain ⟨b13, rfl, h⟩ := h
    obtain ⟨p14, ep14, h⟩ := h
    refine kr_getf O dX1_make_30 fs_X1_58 ep14 ?_
    obtain ⟨b15, rfl, h⟩ := h
    obtain ⟨hco, h⟩ := h
    refine kr_caI (rest := []) O cd_J3_size h (Nat.le_of_ble_eq_true rfl) (fun ls _ => kt_ivV (ci := 13) O dX1_make_33 cd_J3_size in_J3_size (Or.inl q594) q478 q479 hco (by decide) hy_J3_size) (fun u16 M17 hq => ?_) (fun E q M9 hx => kr_out O hx)
    replace h := hq
    clear hq
    refine kr_iconst O dX1_make_36 (v := (1 : Int32)) (by decide) ?_
    refine kr_isub O dX1_make_37 ?_
    exact kr_iret O dX1_make_38 rfl h
  · replace h := h.2 hc
    refine kr_bipush O dX1_make_15 (v := (-3 : Int32)) (by decide) ?_
    exact kr_iret O dX1_make_17 rfl h
def vc_X1_undoCount (w : kt_W) (gr : kt_g × kt_M) (d : Nat) (P : Option Value → kt_M → Prop) (X : String → Nat → kt_M → Prop) (a0 : Nat) (M : kt_M) : Prop :=
  ∃ p1, kt_gf M a0 2 = some (va_rf p1) ∧ ∃ b2, p1 = some b2 ∧ (kt_co M b2 = some 17) ∧ 
  kt_Ca w gr d yJ1_size kc_J1_size [va_rf (some b2)] M (kt_pI fun u3 M4 => P (some (.int u3)) M4) X
theorem ce_X1_undoCount {w : kt_W} {g : kt_g} {d : Nat} {P : Option Value → kt_M → Prop} {X : String → Nat → kt_M → Prop} {a0 : Nat} {M : kt_M} (h : vc_X1_undoCount w (g, M) d P X a0 M) : kt_Sp w g (d + 1) yX1_undoCount kc_X1_undoCount [va_rf (some a0)] M P X := by
  refine kt_of (L0 := [(0, va_rf (some a0))]) (by decide +kernel) (Nat.le_of_ble_eq_true rfl) rfl fun x O => ?_
  replace O : kt_O w x (g, M) (d + 1) cX1_undoCount "KeyTurns" 1 ("undoCount", "()I") (Option.some Jvm.ClassFile.FieldType.int) [] := O
  unfold vc_X1_undoCount at h
  refine kr_aload_n O dX1_undoCount_0 rfl 0 rfl ?_
  obtain ⟨p1, ep1, h⟩ := h
  refine kr_getf O dX1_undoCount_1 fs_X1_112 ep1 ?_
  obtain ⟨b2, rfl, h⟩ := h
  obtain ⟨hco, h⟩ := h
  refine kr_caI (rest := []) O cd_J1_size h (Nat.le_of_ble_eq_true rfl) (fun ls _ => kt_ivV (ci := 17) O dX1_undoCount_4 cd_J1_size in_J1_size (Or.inl q630) q631 q632 hco (by decide) hy_J1_size) (fun u3 M4 hq => ?_) (fun E q M9 hx => kr_out O hx)
  replace h := hq
  clear hq
  exact kr_iret O dX1_undoCount_7 rfl h
def vc_X1_undo (w : kt_W) (gr : kt_g × kt_M) (d : Nat) (P : Option Value → kt_M → Prop) (X : String → Nat → kt_M → Prop) (a0 : Nat) (M : kt_M) : Prop :=
  ∃ p1, kt_gf M a0 2 = some (va_rf p1) ∧ ∃ b2, p1 = some b2 ∧ (kt_co M b2 = some 17) ∧ 
  kt_Ca w gr d yJ1_isEmpty kc_J1_isEmpty [va_rf (some b2)] M (kt_pI fun u3 M4 => 
    ((u3 = 0 → ∃ p5, kt_gf M4 a0 2 = some (va_rf p5) ∧ ∃ b6, p5 = some b6 ∧ (kt_co M4 b6 = some 17) ∧ 
    kt_Ca w gr d yJ1_removeLast kc_J1_removeLast [va_rf (some b6)] M4 (kt_pR fun p7 M8 => ∃ b9, p7 = some b9 ∧ (∃ c, kt_co M8 b9 = some c ∧ kt_is c "KeyTurns$State") ∧ kt_hf gr M8 a0 0 ∧ ∀ M10, M10 = kt_pf M8 a0 0 (va_rf (some b9)) → ∃ p11, kt_gf M10 a0 2 = some (va_rf p11) ∧ ∃ b12, p11 = some b12 ∧ (kt_co M10 b12 = some 17) ∧ 
    kt_Ca w gr d yJ1_size kc_J1_size [va_rf (some b12)] M10 (kt_pI fun u13 M14 => P (some (.int u13)) M14) X) X) ∧
    (¬ u3 = 0 → P (some (.int (-1 : Int32))) M4))) X
theorem ce_X1_undo {w : kt_W} {g : kt_g} {d : Nat} {P : Option Value → kt_M → Prop} {X : String → Nat → kt_M → Prop} {a0 : Nat} {M : kt_M} (h : vc_X1_undo w (g, M) d P X a0 M) : kt_Sp w g (d + 1) yX1_undo kc_X1_undo [va_rf (some a0)] M P X := by
  refine kt_of (L0 := [(0, va_rf (some a0))]) (by decide +kernel) (Nat.le_of_ble_eq_true rfl) rfl fun x O => ?_
  replace O : kt_O w x (g, M) (d + 1) cX1_undo "KeyTurns" 1 ("undo", "()I") (Option.some Jvm.ClassFile.FieldType.int) [] := O
  unfold vc_X1_undo at h
  refine kr_aload_n O dX1_undo_0 rfl 0 rfl ?_
  obtain ⟨p1, ep1, h⟩ := h
  refine kr_getf O dX1_undo_1 fs_X1_112 ep1 ?_
  obtain ⟨b2, rfl, h⟩ := h
  obtain ⟨hco, h⟩ := h
  refine kr_caI (rest := []) O cd_J1_isEmpty h (Nat.le_of_ble_eq_true rfl) (fun ls _ => kt_ivV (ci := 17) O dX1_undo_4 cd_J1_isEmpty in_J1_isEmpty (Or.inl q1424) q1425 q1426 hco (by decide) hy_J1_isEmpty) (fun u3 M4 hq => ?_) (fun E q M9 hx => kr_out O hx)
  replace h := hq
  clear hq
  refine kr_if_eq (tgt := 12) O dX1_undo_7 rfl (fun hc => ?_) (fun hc => ?_)
  · replace h := h.1 hc
    refine kr_aload_n O dX1_undo_12 rfl 0 rfl ?_
    refine kr_aload_n O dX1_undo_13 rfl 0 rfl ?_
    obtain ⟨p5, ep5, h⟩ := h
    refine kr_getf O dX1_undo_14 fs_X1_112 ep5 ?_
    obtain ⟨b6, rfl, h⟩ := h
    obtain ⟨hco, h⟩ := h
    refine kr_caR (rest := [va_rf (some a0)]) O cd_J1_removeLast h (Nat.le_of_ble_eq_true rfl) (fun ls _ => kt_ivV (ci := 17) O dX1_undo_17 cd_J1_removeLast in_J1_removeLast (Or.inl q1428) q1429 q1430 hco (by decide) hy_J1_removeLast) (fun p7 M8 hq => ?_) (fun E q M9 hx => kr_out O hx)
    replace h := hq
    clear hq
    obtain ⟨b9, rfl, h⟩ := h
    obtain ⟨⟨cc1, hc1, hc2⟩, h⟩ := h
    refine kr_cast O dX1_undo_20 q200 hc1 hc2 ?_
    obtain ⟨hw, h⟩ := h
    refine kr_putf O dX1_undo_23 fs_X1_133 (Or.inl rfl) (kt_ok_rf _ rfl) hw (kr_nmM fun M10 hM10 => ?_)
    replace h := h M10 hM10
    refine kr_aload_n O dX1_undo_26 rfl 0 rfl ?_
    obtain ⟨p11, ep11, h⟩ := h
    refine kr_getf O dX1_undo_27 fs_X1_112 ep11 ?_
    obtain ⟨b12, rfl, h⟩ := h
    obtain ⟨hco, h⟩ := h
    refine kr_caI (rest := []) O cd_J1_size h (Nat.le_of_ble_eq_true rfl) (fun ls _ => kt_ivV (ci := 17) O dX1_undo_30 cd_J1_size in_J1_size (Or.inl q630) q631 q632 hco (by decide) hy_J1_size) (fun u13 M14 hq => ?_) (fun E q M9 hx => kr_out O hx)
    replace h := hq
    clear hq
    exact kr_iret O dX1_undo_33 rfl h
  · replace h := h.2 hc
    refine kr_iconst O dX1_undo_10 (v := (-1 : Int32)) (by decide) ?_
    exact kr_iret O dX1_undo_11 rfl h
def vc_X1_saveSnapshot (w : kt_W) (gr : kt_g × kt_M) (d : Nat) (P : Option Value → kt_M → Prop) (X : String → Nat → kt_M → Prop) (a0 : Nat) (M : kt_M) : Prop :=
  ∃ p1, kt_gf M a0 0 = some (va_rf p1) ∧ kt_hf gr M a0 1 ∧ ∀ M2, M2 = kt_pf M a0 1 (va_rf p1) → P none M2
theorem ce_X1_saveSnapshot {w : kt_W} {g : kt_g} {d : Nat} {P : Option Value → kt_M → Prop} {X : String → Nat → kt_M → Prop} {a0 : Nat} {M : kt_M} (h : vc_X1_saveSnapshot w (g, M) d P X a0 M) : kt_Sp w g (d + 1) yX1_saveSnapshot kc_X1_saveSnapshot [va_rf (some a0)] M P X := by
  refine kt_of (L0 := [(0, va_rf (some a0))]) (by decide +kernel) (Nat.le_of_ble_eq_true rfl) rfl fun x O => ?_
  replace O : kt_O w x (g, M) (d + 1) cX1_saveSnapshot "KeyTurns" 1 ("saveSnapshot", "()V") (Option.none : Option Jvm.ClassFile.FieldType) [] := O
  unfold vc_X1_saveSnapshot at h
  refine kr_aload_n O dX1_saveSnapshot_0 rfl 0 rfl ?_
  refine kr_aload_n O dX1_saveSnapshot_1 rfl 0 rfl ?_
  obtain ⟨p1, ep1, h⟩ := h
  refine kr_getf O dX1_saveSnapshot_2 fs_X1_133 ep1 ?_
  obtain ⟨hw, h⟩ := h
  refine kr_putf O dX1_saveSnapshot_5 fs_X1_186 (Or.inl rfl) (kt_ok_rf _ rfl) hw (kr_nmM fun M2 hM2 => ?_)
  replace h := h M2 hM2
  exact kr_vret O dX1_saveSnapshot_8 h
def vc_X1_restoreSnapshot (w : kt_W) (gr : kt_g × kt_M) (d : Nat) (P : Option Value → kt_M → Prop) (X : String → Nat → kt_M → Prop) (a0 : Nat) (M : kt_M) : Prop :=
  ∃ p1, kt_gf M a0 1 = some (va_rf p1) ∧ 
    ((p1 = none → P (some (.int (0 : Int32))) M) ∧
    (∀ b2, p1 = some b2 → ∃ p3, kt_gf M a0 1 = some (va_rf p3) ∧ kt_hf gr M a0 0 ∧ ∀ M4, M4 = kt_pf M a0 0 (va_rf p3) → ∃ p5, kt_gf M4 a0 2 = some (va_rf p5) ∧ ∃ b6, p5 = some b6 ∧ (kt_co M4 b6 = some 17) ∧ 
    kt_Ca w gr d yJ1_clear kc_J1_clear [va_rf (some b6)] M4 (kt_pV fun M7 => P (some (.int (1 : Int32))) M7) X))
theorem ce_X1_restoreSnapshot {w : kt_W} {g : kt_g} {d : Nat} {P : Option Value → kt_M → Prop} {X : String → Nat → kt_M → Prop} {a0 : Nat} {M : kt_M} (h : vc_X1_restoreSnapshot w (g, M) d P X a0 M) : kt_Sp w g (d + 1) yX1_restoreSnapshot kc_X1_restoreSnapshot [va_rf (some a0)] M P X := by
  refine kt_of (L0 := [(0, va_rf (some a0))]) (by decide +kernel) (Nat.le_of_ble_eq_true rfl) rfl fun x O => ?_
  replace O : kt_O w x (g, M) (d + 1) cX1_restoreSnapshot "KeyTurns" 1 ("restoreSnapshot", "()Z") (Option.some Jvm.ClassFile.FieldType.boolean) [] := O
  unfold vc_X1_restoreSnapshot at h
  refine kr_aload_n O dX1_restoreSnapshot_0 rfl 0 rfl ?_
  obtain ⟨p1, ep1, h⟩ := h
  refine kr_getf O dX1_restoreSnapshot_1 fs_X1_186 ep1 ?_
  refine kr_ifnonnull (tgt := 9) O dX1_restoreSnapshot_4 rfl (fun b2 hb => ?_) (fun hc => ?_)
  · subst hb
    replace h := h.2 b2 rfl
    refine kr_aload_n O dX1_restoreSnapshot_9 rfl 0 rfl ?_
    refine kr_aload_n O dX1_restoreSnapshot_10 rfl 0 rfl ?_
    obtain ⟨p3, ep3, h⟩ := h
    refine kr_getf O dX1_restoreSnapshot_11 fs_X1_186 ep3 ?_
    obtain ⟨hw, h⟩ := h
    refine kr_putf O dX1_restoreSnapshot_14 fs_X1_133 (Or.inl rfl) (kt_ok_rf _ rfl) hw (kr_nmM fun M4 hM4 => ?_)
    replace h := h M4 hM4
    refine kr_aload_n O dX1_restoreSnapshot_17 rfl 0 rfl ?_
    obtain ⟨p5, ep5, h⟩ := h
    refine kr_getf O dX1_restoreSnapshot_18 fs_X1_112 ep5 ?_
    obtain ⟨b6, rfl, h⟩ := h
    obtain ⟨hco, h⟩ := h
    refine kr_caV (rest := []) O cd_J1_clear h (Nat.le_of_ble_eq_true rfl) (fun ls _ => kt_ivV (ci := 17) O dX1_restoreSnapshot_21 cd_J1_clear in_J1_clear (Or.inl q1447) q1448 q1449 hco (by decide) hy_J1_clear) (fun M7 hq => ?_) (fun E q M9 hx => kr_out O hx)
    replace h := hq
    clear hq
    refine kr_iconst O dX1_restoreSnapshot_24 (v := (1 : Int32)) (by decide) ?_
    exact kr_iret O dX1_restoreSnapshot_25 (by decide) h
  · subst hc
    replace h := h.1 rfl
    refine kr_iconst O dX1_restoreSnapshot_7 (v := (0 : Int32)) (by decide) ?_
    exact kr_iret O dX1_restoreSnapshot_8 (by decide) h
def vc_X1_formattedByte (w : kt_W) (gr : kt_g × kt_M) (d : Nat) (P : Option Value → kt_M → Prop) (X : String → Nat → kt_M → Prop) (a0 : Nat) (v1 : Int32) (M : kt_M) : Prop :=
  ∃ p1, kt_gf M a0 6 = some (va_rf p1) ∧ ∃ b2, p1 = some b2 ∧ (kt_co M b2 = some 20) ∧ 
  kt_Ca w gr d yJ15_length kc_J15_length [va_rf (some b2)] M (kt_pI fun u3 M4 => 
  kt_Ca w gr d yX1_isIn kc_X1_isIn [.long v1.toInt64, .long (0 : Int64), .long ((u3 - (1 : Int32)).toInt64)] M4 (kt_pI fun u5 M6 => 
    ((u5 = 0 → P (some (.int (-1 : Int32))) M6) ∧
    (¬ u5 = 0 → ∃ p7, kt_gf M6 a0 6 = some (va_rf p7) ∧ ∃ b8, p7 = some b8 ∧ (kt_co M6 b8 = some 20) ∧ 
    kt_Ca w gr d yJ15_charAt kc_J15_charAt [va_rf (some b8), .int v1] M6 (kt_pI fun u9 M10 => P (some (.int u9)) M10) X))) X) X
theorem ce_X1_formattedByte {w : kt_W} {g : kt_g} {d : Nat} {P : Option Value → kt_M → Prop} {X : String → Nat → kt_M → Prop} {a0 : Nat} {v1 : Int32} {M : kt_M} (h : vc_X1_formattedByte w (g, M) d P X a0 v1 M) : kt_Sp w g (d + 1) yX1_formattedByte kc_X1_formattedByte [va_rf (some a0), .int v1] M P X := by
  refine kt_of (L0 := [(0, va_rf (some a0)), (1, .int v1)]) (by decide +kernel) (Nat.le_of_ble_eq_true rfl) rfl fun x O => ?_
  replace O : kt_O w x (g, M) (d + 1) cX1_formattedByte "KeyTurns" 2 ("formattedByte", "(I)I") (Option.some Jvm.ClassFile.FieldType.int) [] := O
  unfold vc_X1_formattedByte at h
  refine kr_iload_n O dX1_formattedByte_0 rfl 1 rfl ?_
  refine kr_i2l O dX1_formattedByte_1 ?_
  refine kr_lconst O dX1_formattedByte_2 (v := (0 : Int64)) (by decide) ?_
  refine kr_aload_n O dX1_formattedByte_3 rfl 0 rfl ?_
  obtain ⟨p1, ep1, h⟩ := h
  refine kr_getf O dX1_formattedByte_4 fs_X1_125 ep1 ?_
  obtain ⟨b2, rfl, h⟩ := h
  obtain ⟨hco, h⟩ := h
  refine kr_caI (rest := [.long (0 : Int64), .long v1.toInt64]) O cd_J15_length h (Nat.le_of_ble_eq_true rfl) (fun ls _ => kt_ivV (ci := 20) O dX1_formattedByte_7 cd_J15_length in_J15_length (Or.inl q1458) q1134 q1135 hco (by decide) hy_J15_length) (fun u3 M4 hq => ?_) (fun E q M9 hx => kr_out O hx)
  replace h := hq
  clear hq
  refine kr_iconst O dX1_formattedByte_10 (v := (1 : Int32)) (by decide) ?_
  refine kr_isub O dX1_formattedByte_11 ?_
  refine kr_i2l O dX1_formattedByte_12 ?_
  refine kr_caI (rest := []) O cd_X1_isIn h (Nat.le_of_ble_eq_true rfl) (fun ls _ => kt_ivS O dX1_formattedByte_13 cd_X1_isIn in_X1_isIn q1459 q510 hy_X1_isIn) (fun u5 M6 hq => ?_) (fun E q M9 hx => kr_out O hx)
  replace h := hq
  clear hq
  refine kr_if_eq (tgt := 30) O dX1_formattedByte_16 rfl (fun hc => ?_) (fun hc => ?_)
  · replace h := h.1 hc
    refine kr_iconst O dX1_formattedByte_30 (v := (-1 : Int32)) (by decide) ?_
    exact kr_iret O dX1_formattedByte_31 rfl h
  · replace h := h.2 hc
    refine kr_aload_n O dX1_formattedByte_19 rfl 0 rfl ?_
    obtain ⟨p7, ep7, h⟩ := h
    refine kr_getf O dX1_formattedByte_20 fs_X1_125 ep7 ?_
    refine kr_iload_n O dX1_formattedByte_23 rfl 1 rfl ?_
    obtain ⟨b8, rfl, h⟩ := h
    obtain ⟨hco, h⟩ := h
    refine kr_caI (rest := []) O cd_J15_charAt h (Nat.le_of_ble_eq_true rfl) (fun ls _ => kt_ivV (ci := 20) O dX1_formattedByte_24 cd_J15_charAt in_J15_charAt (Or.inl q1460) q1461 q1462 hco (by decide) hy_J15_charAt) (fun u9 M10 hq => ?_) (fun E q M9 hx => kr_out O hx)
    replace h := hq
    clear hq
    refine kr_goto (tgt := 31) O dX1_formattedByte_27 rfl ?_
    exact kr_iret O dX1_formattedByte_31 rfl h
def vc_X1_load_27 (w : kt_W) (gr : kt_g × kt_M) (d : Nat) (P : Option Value → kt_M → Prop) (X : String → Nat → kt_M → Prop)  (a0 : Nat) (sa0 : Nat) (M : kt_M) : Prop :=
  (kt_co M a0 = some 0) ∧ 
  kt_Ca w gr d yX1_failed kc_X1_failed [va_rf (some a0), va_rf (some sa0), .int (-10 : Int32)] M (kt_pI fun u1 M2 => P (some (.int u1)) M2) X
theorem cj_X1_load_27 {w : kt_W} {x : kt_X} {gr : kt_g × kt_M} {d : Nat} {P : Option Value → kt_M → Prop} {X : String → Nat → kt_M → Prop}  {a0 : Nat} {sa0 : Nat} {M : kt_M} (O : kt_O w x gr (d + 1) cX1_load "KeyTurns" 3 ("load", "(I)I") (Option.some Jvm.ClassFile.FieldType.int) [(8, 24, 27, 159)])  (h : vc_X1_load_27 w gr d P X  a0 sa0 M) : kt_S w x 3 (kt_E w x P X) M 27 [(0, va_rf (some a0))] [va_rf (some sa0)] := by
  unfold vc_X1_load_27 at h
  refine kr_astore_n O dX1_load_27 rfl (Nat.le_of_ble_eq_true rfl) rfl rfl ?_
  refine kr_aload_n O dX1_load_28 rfl 1 rfl ?_
  refine kr_aload_n O dX1_load_29 rfl 0 rfl ?_
  refine kr_bipush O dX1_load_30 (v := (-10 : Int32)) (by decide) ?_
  obtain ⟨hco, h⟩ := h
  refine kr_caI (rest := []) O cd_X1_failed h (Nat.le_of_ble_eq_true rfl) (fun ls _ => kt_ivV (ci := 0) O dX1_load_32 cd_X1_failed in_X1_failed (Or.inl q1789) q1791 qs22 hco (by decide) hy_X1_failed) (fun u1 M2 hq => ?_) (fun E q M9 hx => kr_outH O rfl hx)
  replace h := hq
  clear hq
  exact kr_iret O dX1_load_35 rfl h
def vc_X1_load (w : kt_W) (gr : kt_g × kt_M) (d : Nat) (P : Option Value → kt_M → Prop) (X : String → Nat → kt_M → Prop) (a0 : Nat) (v1 : Int32) (M : kt_M) : Prop :=
  (kt_co M a0 = some 0) ∧ 
  kt_Ca w gr d yX1_startReading kc_X1_startReading [va_rf (some a0), .int v1, .int (400 : Int32)] M (kt_pV fun M1 => kt_fits w M1 11 ∧ ∃ t2, ∀ M3, M3 = kt_new M1 11 (t2 + 2, .inr (7, [va_rf none, .int 0, .int 0, .int 0, .int 0, .int 0, va_rf none, va_rf none, va_rf none, .int 0, va_rf none])) → 
  kt_Ca w gr d yX7_init kc_X7_init [va_rf (some M1.1), va_rf (some a0), .int v1] M3 (kt_pV fun M4 => (kt_co M4 M1.1 = some 7) ∧ 
    kt_Ca w gr d yX7_parse kc_X7_parse [va_rf (some M1.1)] M4 (kt_pR fun p5 M6 => kt_hf gr M6 a0 0 ∧ ∀ M7, M7 = kt_pf M6 a0 0 (va_rf p5) → ∃ p8, kt_gf M7 a0 2 = some (va_rf p8) ∧ ∃ b9, p8 = some b9 ∧ (kt_co M7 b9 = some 17) ∧ 
      kt_Ca w gr d yJ1_clear kc_J1_clear [va_rf (some b9)] M7 (kt_pV fun M10 => kt_hf gr M10 a0 1 ∧ ∀ M11, M11 = kt_pf M10 a0 1 (va_rf none) → ∃ p12, kt_gf M11 a0 0 = some (va_rf p12) ∧ ∃ b13, p12 = some b13 ∧ ∃ p14, kt_gf M11 b13 11 = some (va_rf p14) ∧ ∃ b15, p14 = some b15 ∧ (kt_co M11 b15 = some 13) ∧ 
      kt_Ca w gr d yJ3_size kc_J3_size [va_rf (some b15)] M11 (kt_pI fun u16 M17 => P (some (.int u16)) M17) X) X) (fun E q M6 => (E = "KeyTurns$TextError" ∧ vc_X1_load_27 w gr d P X  a0 q M6))) (fun E q M4 => (E = "KeyTurns$TextError" ∧ vc_X1_load_27 w gr d P X  a0 q M4))) X
theorem ce_X1_load {w : kt_W} {g : kt_g} {d : Nat} {P : Option Value → kt_M → Prop} {X : String → Nat → kt_M → Prop} {a0 : Nat} {v1 : Int32} {M : kt_M} (h : vc_X1_load w (g, M) d P X a0 v1 M) : kt_Sp w g (d + 1) yX1_load kc_X1_load [va_rf (some a0), .int v1] M P X := by
  refine kt_ofH (L0 := [(0, va_rf (some a0)), (1, .int v1)]) (by decide +kernel) (Nat.le_of_ble_eq_true rfl) rfl fun x O => ?_
  replace O : kt_O w x (g, M) (d + 1) cX1_load "KeyTurns" 3 ("load", "(I)I") (Option.some Jvm.ClassFile.FieldType.int) [(8, 24, 27, 159)] := O
  unfold vc_X1_load at h
  refine kr_aload_n O dX1_load_0 rfl 0 rfl ?_
  refine kr_iload_n O dX1_load_1 rfl 1 rfl ?_
  refine kr_sipush O dX1_load_2 (v := (400 : Int32)) (by decide) ?_
  obtain ⟨hco, h⟩ := h
  refine kr_caV (rest := []) O cd_X1_startReading h (Nat.le_of_ble_eq_true rfl) (fun ls _ => kt_ivV (ci := 0) O dX1_load_5 cd_X1_startReading in_X1_startReading (Or.inl q1491) q1493 qs20 hco (by decide) hy_X1_startReading) (fun M1 hq => ?_) (fun E q M9 hx => kr_outH O rfl hx)
  replace h := hq
  clear hq
  refine kr_aload_n O dX1_load_8 rfl 0 rfl ?_
  obtain ⟨hf, t2, h⟩ := h
  refine kr_new (c := 7) (r := (RX7, TX7, 11)) (fs := [va_rf none, .int 0, .int 0, .int 0, .int 0, .int 0, va_rf none, va_rf none, va_rf none, .int 0, va_rf none]) t2 O dX1_load_9 rfl q1504 q1505 q129 rfl hf (kr_nmM fun M3 hM3 => ?_)
  replace h := h M3 hM3
  refine kr_dup O dX1_load_12 (kt_nrf _) ?_
  refine kr_aload_n O dX1_load_13 rfl 0 rfl ?_
  refine kr_iload_n O dX1_load_14 rfl 1 rfl ?_
  refine kr_caV (rest := [va_rf (some M1.1), va_rf (some a0)]) O cd_X7_init h (Nat.le_of_ble_eq_true rfl) (fun ls _ => kt_ivI O dX1_load_15 cd_X7_init in_X7_init (Or.inl q1506) q1507 hi_X7_init) (fun M4 hq => ?_) (fun E q M9 hx => ?_)
  · replace h := hq
    clear hq
    obtain ⟨hco, h⟩ := h
    refine kr_caR (rest := [va_rf (some a0)]) O cd_X7_parse h (Nat.le_of_ble_eq_true rfl) (fun ls _ => kt_ivV (ci := 7) O dX1_load_18 cd_X7_parse in_X7_parse (Or.inl q1615) q1616 q1617 hco (by decide) hy_X7_parse) (fun p5 M6 hq => ?_) (fun E q M9 hx => ?_)
    · replace h := hq
      clear hq
      obtain ⟨hw, h⟩ := h
      refine kr_putf O dX1_load_21 fs_X1_133 (Or.inl rfl) (kt_ok_rf _ rfl) hw (kr_nmM fun M7 hM7 => ?_)
      replace h := h M7 hM7
      refine kr_goto (tgt := 36) O dX1_load_24 rfl ?_
      refine kr_aload_n O dX1_load_36 rfl 0 rfl ?_
      obtain ⟨p8, ep8, h⟩ := h
      refine kr_getf O dX1_load_37 fs_X1_112 ep8 ?_
      obtain ⟨b9, rfl, h⟩ := h
      obtain ⟨hco, h⟩ := h
      refine kr_caV (rest := []) O cd_J1_clear h (Nat.le_of_ble_eq_true rfl) (fun ls _ => kt_ivV (ci := 17) O dX1_load_40 cd_J1_clear in_J1_clear (Or.inl q1447) q1448 q1449 hco (by decide) hy_J1_clear) (fun M10 hq => ?_) (fun E q M9 hx => kr_outH O rfl hx)
      replace h := hq
      clear hq
      refine kr_aload_n O dX1_load_43 rfl 0 rfl ?_
      refine kr_null O dX1_load_44 ?_
      obtain ⟨hw, h⟩ := h
      refine kr_putf O dX1_load_45 fs_X1_186 (Or.inl rfl) (kt_ok_rf _ rfl) hw (kr_nmM fun M11 hM11 => ?_)
      replace h := h M11 hM11
      refine kr_aload_n O dX1_load_48 rfl 0 rfl ?_
      obtain ⟨p12, ep12, h⟩ := h
      refine kr_getf O dX1_load_49 fs_X1_133 ep12 ?_
      obtain ⟨b13, rfl, h⟩ := h
      obtain ⟨p14, ep14, h⟩ := h
      refine kr_getf O dX1_load_52 fs_X1_58 ep14 ?_
      obtain ⟨b15, rfl, h⟩ := h
      obtain ⟨hco, h⟩ := h
      refine kr_caI (rest := []) O cd_J3_size h (Nat.le_of_ble_eq_true rfl) (fun ls _ => kt_ivV (ci := 13) O dX1_load_55 cd_J3_size in_J3_size (Or.inl q594) q478 q479 hco (by decide) hy_J3_size) (fun u16 M17 hq => ?_) (fun E q M9 hx => kr_outH O rfl hx)
      replace h := hq
      clear hq
      exact kr_iret O dX1_load_58 rfl h
    · obtain ⟨rfl, h⟩ := hx
      · refine kr_catch (sp := 8) (ep := 24) (hp := 27) (ct := 159) (pre := []) (suf := []) O rfl (by decide) (by decide) q1490 q1650 (fun z hz => nomatch hz) ?_
        refine kr_sub [0] rfl ?_
        exact cj_X1_load_27 O  h
  · obtain ⟨rfl, h⟩ := hx
    · refine kr_catch (sp := 8) (ep := 24) (hp := 27) (ct := 159) (pre := []) (suf := []) O rfl (by decide) (by decide) q1490 q1650 (fun z hz => nomatch hz) ?_
      refine kr_sub [0] rfl ?_
      exact cj_X1_load_27 O  h
def vc_X1_startReading (w : kt_W) (gr : kt_g × kt_M) (d : Nat) (P : Option Value → kt_M → Prop) (X : String → Nat → kt_M → Prop) (a0 : Nat) (v1 : Int32) (v2 : Int32) (M : kt_M) : Prop :=
  ∃ u1, kt_gf M a0 4 = some (.int u1) ∧ 
  kt_Ca w gr d yJ7_min kc_J7_min [.int u1, .int v2] M (kt_pI fun u2 M3 => 
  kt_Ca w gr d yX1_isIn kc_X1_isIn [.long v1.toInt64, .long (0 : Int64), .long u2.toInt64] M3 (kt_pI fun u4 M5 => 
  kt_Ca w gr d yX1_requireArgument kc_X1_requireArgument [.int u4] M5 (kt_pV fun M6 => kt_hf gr M6 a0 4 ∧ ∀ M7, M7 = kt_pf M6 a0 4 (.int (0 : Int32)) → kt_hf gr M7 a0 5 ∧ ∀ M8, M8 = kt_pf M7 a0 5 (.int (-1 : Int32)) → P none M8) X) X) X
theorem ce_X1_startReading {w : kt_W} {g : kt_g} {d : Nat} {P : Option Value → kt_M → Prop} {X : String → Nat → kt_M → Prop} {a0 : Nat} {v1 : Int32} {v2 : Int32} {M : kt_M} (h : vc_X1_startReading w (g, M) d P X a0 v1 v2 M) : kt_Sp w g (d + 1) yX1_startReading kc_X1_startReading [va_rf (some a0), .int v1, .int v2] M P X := by
  refine kt_of (L0 := [(0, va_rf (some a0)), (1, .int v1), (2, .int v2)]) (by decide +kernel) (Nat.le_of_ble_eq_true rfl) rfl fun x O => ?_
  replace O : kt_O w x (g, M) (d + 1) cX1_startReading "KeyTurns" 3 ("startReading", "(II)V") (Option.none : Option Jvm.ClassFile.FieldType) [] := O
  unfold vc_X1_startReading at h
  refine kr_iload_n O dX1_startReading_0 rfl 1 rfl ?_
  refine kr_i2l O dX1_startReading_1 ?_
  refine kr_lconst O dX1_startReading_2 (v := (0 : Int64)) (by decide) ?_
  refine kr_aload_n O dX1_startReading_3 rfl 0 rfl ?_
  obtain ⟨u1, eu1, h⟩ := h
  refine kr_getf O dX1_startReading_4 fs_X1_137 eu1 ?_
  refine kr_iload_n O dX1_startReading_7 rfl 2 rfl ?_
  refine kr_caI (rest := [.long (0 : Int64), .long v1.toInt64]) O cd_J7_min h (Nat.le_of_ble_eq_true rfl) (fun ls _ => kt_ivS O dX1_startReading_8 cd_J7_min in_J7_min q1495 q419 hy_J7_min) (fun u2 M3 hq => ?_) (fun E q M9 hx => kr_out O hx)
  replace h := hq
  clear hq
  refine kr_i2l O dX1_startReading_11 ?_
  refine kr_caI (rest := []) O cd_X1_isIn h (Nat.le_of_ble_eq_true rfl) (fun ls _ => kt_ivS O dX1_startReading_12 cd_X1_isIn in_X1_isIn q1459 q510 hy_X1_isIn) (fun u4 M5 hq => ?_) (fun E q M9 hx => kr_out O hx)
  replace h := hq
  clear hq
  refine kr_caV (rest := []) O cd_X1_requireArgument h (Nat.le_of_ble_eq_true rfl) (fun ls _ => kt_ivS O dX1_startReading_15 cd_X1_requireArgument in_X1_requireArgument q1496 q1497 hy_X1_requireArgument) (fun M6 hq => ?_) (fun E q M9 hx => kr_out O hx)
  replace h := hq
  clear hq
  refine kr_aload_n O dX1_startReading_18 rfl 0 rfl ?_
  refine kr_iconst O dX1_startReading_19 (v := (0 : Int32)) (by decide) ?_
  obtain ⟨hw, h⟩ := h
  refine kr_putf O dX1_startReading_20 fs_X1_137 (Or.inl rfl) ⟨rfl, rfl⟩ hw (kr_nmM fun M7 hM7 => ?_)
  replace h := h M7 hM7
  refine kr_aload_n O dX1_startReading_23 rfl 0 rfl ?_
  refine kr_iconst O dX1_startReading_24 (v := (-1 : Int32)) (by decide) ?_
  obtain ⟨hw, h⟩ := h
  refine kr_putf O dX1_startReading_25 fs_X1_120 (Or.inl rfl) ⟨rfl, rfl⟩ hw (kr_nmM fun M8 hM8 => ?_)
  replace h := h M8 hM8
  exact kr_vret O dX1_startReading_28 h
def vc_X1_requireArgument (w : kt_W) (gr : kt_g × kt_M) (d : Nat) (P : Option Value → kt_M → Prop) (X : String → Nat → kt_M → Prop) (v0 : Int32) (M : kt_M) : Prop :=
  
    ((¬ v0 = 0 → P none M) ∧
    (v0 = 0 → kt_th w d M "java/lang/IllegalArgumentException" X))
theorem ce_X1_requireArgument {w : kt_W} {g : kt_g} {d : Nat} {P : Option Value → kt_M → Prop} {X : String → Nat → kt_M → Prop} {v0 : Int32} {M : kt_M} (h : vc_X1_requireArgument w (g, M) d P X v0 M) : kt_Sp w g (d + 1) yX1_requireArgument kc_X1_requireArgument [.int v0] M P X := by
  refine kt_of (L0 := [(0, .int v0)]) (by decide +kernel) (Nat.le_of_ble_eq_true rfl) rfl fun x O => ?_
  replace O : kt_O w x (g, M) (d + 1) cX1_requireArgument "KeyTurns" 1 ("requireArgument", "(Z)V") (Option.none : Option Jvm.ClassFile.FieldType) [] := O
  unfold vc_X1_requireArgument at h
  refine kr_iload_n O dX1_requireArgument_0 rfl 0 rfl ?_
  refine kr_if_ne (tgt := 12) O dX1_requireArgument_1 rfl (fun hc => ?_) (fun hc => ?_)
  · replace h := h.1 hc
    exact kr_vret O dX1_requireArgument_12 h
  · replace h := h.2 hc
    exact kr_thr_IAE O dX1_requireArgument_4 dX1_requireArgument_7 dX1_requireArgument_8 dX1_requireArgument_11 h
def vc_X1_failed (w : kt_W) (gr : kt_g × kt_M) (d : Nat) (P : Option Value → kt_M → Prop) (X : String → Nat → kt_M → Prop) (a0 : Nat) (r1 : Option Nat) (v2 : Int32) (M : kt_M) : Prop :=
  ∃ b1, r1 = some b1 ∧ ∃ u2, kt_gf M b1 44 = some (.int u2) ∧ kt_hf gr M a0 5 ∧ ∀ M3, M3 = kt_pf M a0 5 (.int u2) → ∃ u4, kt_gf M3 b1 43 = some (.int u4) ∧ P (some (.int (v2 - u4))) M3
theorem ce_X1_failed {w : kt_W} {g : kt_g} {d : Nat} {P : Option Value → kt_M → Prop} {X : String → Nat → kt_M → Prop} {a0 : Nat} {r1 : Option Nat} {v2 : Int32} {M : kt_M} (h : vc_X1_failed w (g, M) d P X a0 r1 v2 M) : kt_Sp w g (d + 1) yX1_failed kc_X1_failed [va_rf (some a0), va_rf r1, .int v2] M P X := by
  refine kt_of (L0 := [(0, va_rf (some a0)), (1, va_rf r1), (2, .int v2)]) (by decide +kernel) (by simp only [kt_lgR, kt_lgI, kt_lgN] <;> exact Nat.le_of_ble_eq_true rfl) (by simp only [kt_lvR, kt_lvI, kt_lvN] <;> rfl) fun x O => ?_
  replace O : kt_O w x (g, M) (d + 1) cX1_failed "KeyTurns" 3 ("failed", "(LKeyTurns$TextError;I)I") (Option.some Jvm.ClassFile.FieldType.int) [] := O
  unfold vc_X1_failed at h
  refine kr_aload_n O dX1_failed_0 rfl 0 rfl ?_
  refine kr_aload_n O dX1_failed_1 rfl 1 rfl ?_
  obtain ⟨b1, rfl, h⟩ := h
  obtain ⟨u2, eu2, h⟩ := h
  refine kr_getf O dX1_failed_2 fs_X1_158 eu2 ?_
  obtain ⟨hw, h⟩ := h
  refine kr_putf O dX1_failed_5 fs_X1_120 (Or.inl rfl) ⟨rfl, rfl⟩ hw (kr_nmM fun M3 hM3 => ?_)
  replace h := h M3 hM3
  refine kr_iload_n O dX1_failed_8 rfl 2 rfl ?_
  refine kr_aload_n O dX1_failed_9 rfl 1 rfl ?_
  obtain ⟨u4, eu4, h⟩ := h
  refine kr_getf O dX1_failed_10 fs_X1_163 eu4 ?_
  refine kr_isub O dX1_failed_13 ?_
  exact kr_iret O dX1_failed_14 rfl h
def vc_X1_size (w : kt_W) (gr : kt_g × kt_M) (d : Nat) (P : Option Value → kt_M → Prop) (X : String → Nat → kt_M → Prop) (a0 : Nat) (v1 : Int32) (M : kt_M) : Prop :=
  
  kt_Ca w gr d yX1_isIn kc_X1_isIn [.long v1.toInt64, .long (0 : Int64), .long (13 : Int64)] M (kt_pI fun u1 M2 => 
  kt_Ca w gr d yX1_requireElement kc_X1_requireElement [.int u1] M2 (kt_pV fun M3 => 
    ((v1.toInt < 0 ∨ 12 < v1.toInt → ∃ p4, kt_gf M3 a0 0 = some (va_rf p4) ∧ ∃ b5, p4 = some b5 ∧ ∃ p6, kt_gf M3 b5 11 = some (va_rf p6) ∧ ∃ b7, p6 = some b7 ∧ (kt_co M3 b7 = some 13) ∧ 
    kt_Ca w gr d yJ3_size kc_J3_size [va_rf (some b7)] M3 (kt_pI fun u8 M9 => P (some (.int u8)) M9) X) ∧
    (v1.toInt = 0 → ∃ p10, kt_gf M3 a0 0 = some (va_rf p10) ∧ ∃ b11, p10 = some b11 ∧ ∃ u12, kt_gf M3 b11 14 = some (.int u12) ∧ P (some (.int u12)) M3) ∧
    (v1.toInt = 1 → ∃ p13, kt_gf M3 a0 0 = some (va_rf p13) ∧ ∃ b14, p13 = some b14 ∧ ∃ p15, kt_gf M3 b14 10 = some (va_rf p15) ∧ ∃ b16, p15 = some b16 ∧ (kt_co M3 b16 = some 13) ∧ 
    kt_Ca w gr d yJ3_size kc_J3_size [va_rf (some b16)] M3 (kt_pI fun u17 M18 => P (some (.int u17)) M18) X) ∧
    (v1.toInt = 2 → ∃ p19, kt_gf M3 a0 0 = some (va_rf p19) ∧ ∃ b20, p19 = some b20 ∧ (kt_co M3 b20 = some 1) ∧ 
    kt_Ca w gr d yX2_recordCount kc_X2_recordCount [va_rf (some b20)] M3 (kt_pI fun u21 M22 => P (some (.int u21)) M22) X) ∧
    (v1.toInt = 3 → ∃ p23, kt_gf M3 a0 0 = some (va_rf p23) ∧ ∃ b24, p23 = some b24 ∧ ∃ p25, kt_gf M3 b24 12 = some (va_rf p25) ∧ ∃ b26, p25 = some b26 ∧ (kt_co M3 b26 = some 13) ∧ 
    kt_Ca w gr d yJ3_size kc_J3_size [va_rf (some b26)] M3 (kt_pI fun u27 M28 => P (some (.int u27)) M28) X) ∧
    (v1.toInt = 4 → ∃ p29, kt_gf M3 a0 0 = some (va_rf p29) ∧ ∃ b30, p29 = some b30 ∧ ∃ u31, kt_gf M3 b30 7 = some (.int u31) ∧ P (some (.int u31)) M3) ∧
    (v1.toInt = 5 → ∃ p32, kt_gf M3 a0 0 = some (va_rf p32) ∧ ∃ b33, p32 = some b33 ∧ ∃ u34, kt_gf M3 b33 8 = some (.int u34) ∧ P (some (.int u34)) M3) ∧
    (v1.toInt = 6 → ∃ p35, kt_gf M3 a0 0 = some (va_rf p35) ∧ ∃ b36, p35 = some b36 ∧ ∃ u37, kt_gf M3 b36 9 = some (.int u37) ∧ P (some (.int u37)) M3) ∧
    (v1.toInt = 7 → ∃ p38, kt_gf M3 a0 0 = some (va_rf p38) ∧ ∃ b39, p38 = some b39 ∧ ∃ u40, kt_gf M3 b39 15 = some (.int u40) ∧ P (some (.int u40)) M3) ∧
    (v1.toInt = 8 → ∃ p41, kt_gf M3 a0 0 = some (va_rf p41) ∧ ∃ b42, p41 = some b42 ∧ (kt_co M3 b42 = some 1) ∧ 
    kt_Ca w gr d yX2_writing kc_X2_writing [va_rf (some b42)] M3 (kt_pI fun u43 M44 => P (some (.int u43)) M44) X) ∧
    (v1.toInt = 9 → ∃ p45, kt_gf M3 a0 0 = some (va_rf p45) ∧ ∃ b46, p45 = some b46 ∧ (kt_co M3 b46 = some 1) ∧ 
    kt_Ca w gr d yX2_inForce kc_X2_inForce [va_rf (some b46)] M3 (kt_pI fun u47 M48 => P (some (.int u47)) M48) X) ∧
    (v1.toInt = 10 → ∃ p49, kt_gf M3 a0 0 = some (va_rf p49) ∧ ∃ b50, p49 = some b50 ∧ (kt_co M3 b50 = some 1) ∧ 
    kt_Ca w gr d yX2_wrapCount kc_X2_wrapCount [va_rf (some b50)] M3 (kt_pI fun u51 M52 => P (some (.int u51)) M52) X) ∧
    (v1.toInt = 11 → ∃ p53, kt_gf M3 a0 0 = some (va_rf p53) ∧ ∃ b54, p53 = some b54 ∧ ∃ u55, kt_gf M3 b54 16 = some (.int u55) ∧ P (some (.int u55)) M3) ∧
    (v1.toInt = 12 → ∃ p56, kt_gf M3 a0 0 = some (va_rf p56) ∧ ∃ b57, p56 = some b57 ∧ ∃ u58, kt_gf M3 b57 17 = some (.int u58) ∧ P (some (.int u58)) M3))) X) X
theorem ce_X1_size {w : kt_W} {g : kt_g} {d : Nat} {P : Option Value → kt_M → Prop} {X : String → Nat → kt_M → Prop} {a0 : Nat} {v1 : Int32} {M : kt_M} (h : vc_X1_size w (g, M) d P X a0 v1 M) : kt_Sp w g (d + 1) yX1_size kc_X1_size [va_rf (some a0), .int v1] M P X := by
  refine kt_of (L0 := [(0, va_rf (some a0)), (1, .int v1)]) (by decide +kernel) (Nat.le_of_ble_eq_true rfl) rfl fun x O => ?_
  replace O : kt_O w x (g, M) (d + 1) cX1_size "KeyTurns" 2 ("size", "(I)I") (Option.some Jvm.ClassFile.FieldType.int) [] := O
  unfold vc_X1_size at h
  refine kr_iload_n O dX1_size_0 rfl 1 rfl ?_
  refine kr_i2l O dX1_size_1 ?_
  refine kr_lconst O dX1_size_2 (v := (0 : Int64)) (by decide) ?_
  refine kr_ldc2 O dX1_size_3 q1801 ?_
  refine kr_caI (rest := []) O cd_X1_isIn h (Nat.le_of_ble_eq_true rfl) (fun ls _ => kt_ivS O dX1_size_6 cd_X1_isIn in_X1_isIn q1459 q510 hy_X1_isIn) (fun u1 M2 hq => ?_) (fun E q M9 hx => kr_out O hx)
  replace h := hq
  clear hq
  refine kr_caV (rest := []) O cd_X1_requireElement h (Nat.le_of_ble_eq_true rfl) (fun ls _ => kt_ivS O dX1_size_9 cd_X1_requireElement in_X1_requireElement q1802 q1803 hy_X1_requireElement) (fun M3 hq => ?_) (fun E q M9 hx => kr_out O hx)
  replace h := hq
  clear hq
  refine kr_iload_n O dX1_size_12 rfl 1 rfl ?_
  by_cases hs : v1.toInt < 0 ∨ 12 < v1.toInt
  · refine kr_tableOut (tgt := 216) O dX1_size_13 hs rfl ?_
    replace h := h.1 hs
    refine kr_aload_n O dX1_size_216 rfl 0 rfl ?_
    obtain ⟨p4, ep4, h⟩ := h
    refine kr_getf O dX1_size_217 fs_X1_133 ep4 ?_
    obtain ⟨b5, rfl, h⟩ := h
    obtain ⟨p6, ep6, h⟩ := h
    refine kr_getf O dX1_size_220 fs_X1_58 ep6 ?_
    obtain ⟨b7, rfl, h⟩ := h
    obtain ⟨hco, h⟩ := h
    refine kr_caI (rest := []) O cd_J3_size h (Nat.le_of_ble_eq_true rfl) (fun ls _ => kt_ivV (ci := 13) O dX1_size_223 cd_J3_size in_J3_size (Or.inl q594) q478 q479 hco (by decide) hy_J3_size) (fun u8 M9 hq => ?_) (fun E q M9 hx => kr_out O hx)
    replace h := hq
    clear hq
    exact kr_iret O dX1_size_226 rfl h
  replace h := h.2
  have hs2 : v1.toInt = 0 ∨ v1.toInt = 1 ∨ v1.toInt = 2 ∨ v1.toInt = 3 ∨ v1.toInt = 4 ∨ v1.toInt = 5 ∨ v1.toInt = 6 ∨ v1.toInt = 7 ∨ v1.toInt = 8 ∨ v1.toInt = 9 ∨ v1.toInt = 10 ∨ v1.toInt = 11 ∨ v1.toInt = 12 := by omega
  rcases hs2 with hs2 | hs2 | hs2 | hs2 | hs2 | hs2 | hs2 | hs2 | hs2 | hs2 | hs2 | hs2 | hs2
  · refine kr_tableIn (tgt := 80) O dX1_size_13 (0) hs2 (by decide) (by decide) rfl rfl ?_
    replace h := h.1 hs2
    refine kr_aload_n O dX1_size_80 rfl 0 rfl ?_
    obtain ⟨p10, ep10, h⟩ := h
    refine kr_getf O dX1_size_81 fs_X1_133 ep10 ?_
    obtain ⟨b11, rfl, h⟩ := h
    obtain ⟨u12, eu12, h⟩ := h
    refine kr_getf O dX1_size_84 fs_X1_197 eu12 ?_
    refine kr_goto (tgt := 226) O dX1_size_87 rfl ?_
    exact kr_iret O dX1_size_226 rfl h
  · refine kr_tableIn (tgt := 90) O dX1_size_13 (1) hs2 (by decide) (by decide) rfl rfl ?_
    replace h := h.2.1 hs2
    refine kr_aload_n O dX1_size_90 rfl 0 rfl ?_
    obtain ⟨p13, ep13, h⟩ := h
    refine kr_getf O dX1_size_91 fs_X1_133 ep13 ?_
    obtain ⟨b14, rfl, h⟩ := h
    obtain ⟨p15, ep15, h⟩ := h
    refine kr_getf O dX1_size_94 fs_X1_15 ep15 ?_
    obtain ⟨b16, rfl, h⟩ := h
    obtain ⟨hco, h⟩ := h
    refine kr_caI (rest := []) O cd_J3_size h (Nat.le_of_ble_eq_true rfl) (fun ls _ => kt_ivV (ci := 13) O dX1_size_97 cd_J3_size in_J3_size (Or.inl q594) q478 q479 hco (by decide) hy_J3_size) (fun u17 M18 hq => ?_) (fun E q M9 hx => kr_out O hx)
    replace h := hq
    clear hq
    refine kr_goto (tgt := 226) O dX1_size_100 rfl ?_
    exact kr_iret O dX1_size_226 rfl h
  · refine kr_tableIn (tgt := 103) O dX1_size_13 (2) hs2 (by decide) (by decide) rfl rfl ?_
    replace h := h.2.2.1 hs2
    refine kr_aload_n O dX1_size_103 rfl 0 rfl ?_
    obtain ⟨p19, ep19, h⟩ := h
    refine kr_getf O dX1_size_104 fs_X1_133 ep19 ?_
    obtain ⟨b20, rfl, h⟩ := h
    obtain ⟨hco, h⟩ := h
    refine kr_caI (rest := []) O cd_X2_recordCount h (Nat.le_of_ble_eq_true rfl) (fun ls _ => kt_ivV (ci := 1) O dX1_size_107 cd_X2_recordCount in_X2_recordCount (Or.inl q569) q570 q571 hco (by decide) hy_X2_recordCount) (fun u21 M22 hq => ?_) (fun E q M9 hx => kr_out O hx)
    replace h := hq
    clear hq
    refine kr_goto (tgt := 226) O dX1_size_110 rfl ?_
    exact kr_iret O dX1_size_226 rfl h
  · refine kr_tableIn (tgt := 113) O dX1_size_13 (3) hs2 (by decide) (by decide) rfl rfl ?_
    replace h := h.2.2.2.1 hs2
    refine kr_aload_n O dX1_size_113 rfl 0 rfl ?_
    obtain ⟨p23, ep23, h⟩ := h
    refine kr_getf O dX1_size_114 fs_X1_133 ep23 ?_
    obtain ⟨b24, rfl, h⟩ := h
    obtain ⟨p25, ep25, h⟩ := h
    refine kr_getf O dX1_size_117 fs_X1_203 ep25 ?_
    obtain ⟨b26, rfl, h⟩ := h
    obtain ⟨hco, h⟩ := h
    refine kr_caI (rest := []) O cd_J3_size h (Nat.le_of_ble_eq_true rfl) (fun ls _ => kt_ivV (ci := 13) O dX1_size_120 cd_J3_size in_J3_size (Or.inl q594) q478 q479 hco (by decide) hy_J3_size) (fun u27 M28 hq => ?_) (fun E q M9 hx => kr_out O hx)
    replace h := hq
    clear hq
    refine kr_goto (tgt := 226) O dX1_size_123 rfl ?_
    exact kr_iret O dX1_size_226 rfl h
  · refine kr_tableIn (tgt := 126) O dX1_size_13 (4) hs2 (by decide) (by decide) rfl rfl ?_
    replace h := h.2.2.2.2.1 hs2
    refine kr_aload_n O dX1_size_126 rfl 0 rfl ?_
    obtain ⟨p29, ep29, h⟩ := h
    refine kr_getf O dX1_size_127 fs_X1_133 ep29 ?_
    obtain ⟨b30, rfl, h⟩ := h
    obtain ⟨u31, eu31, h⟩ := h
    refine kr_getf O dX1_size_130 fs_X1_206 eu31 ?_
    refine kr_goto (tgt := 226) O dX1_size_133 rfl ?_
    exact kr_iret O dX1_size_226 rfl h
  · refine kr_tableIn (tgt := 136) O dX1_size_13 (5) hs2 (by decide) (by decide) rfl rfl ?_
    replace h := h.2.2.2.2.2.1 hs2
    refine kr_aload_n O dX1_size_136 rfl 0 rfl ?_
    obtain ⟨p32, ep32, h⟩ := h
    refine kr_getf O dX1_size_137 fs_X1_133 ep32 ?_
    obtain ⟨b33, rfl, h⟩ := h
    obtain ⟨u34, eu34, h⟩ := h
    refine kr_getf O dX1_size_140 fs_X1_209 eu34 ?_
    refine kr_goto (tgt := 226) O dX1_size_143 rfl ?_
    exact kr_iret O dX1_size_226 rfl h
  · refine kr_tableIn (tgt := 146) O dX1_size_13 (6) hs2 (by decide) (by decide) rfl rfl ?_
    replace h := h.2.2.2.2.2.2.1 hs2
    refine kr_aload_n O dX1_size_146 rfl 0 rfl ?_
    obtain ⟨p35, ep35, h⟩ := h
    refine kr_getf O dX1_size_147 fs_X1_133 ep35 ?_
    obtain ⟨b36, rfl, h⟩ := h
    obtain ⟨u37, eu37, h⟩ := h
    refine kr_getf O dX1_size_150 fs_X1_212 eu37 ?_
    refine kr_goto (tgt := 226) O dX1_size_153 rfl ?_
    exact kr_iret O dX1_size_226 rfl h
  · refine kr_tableIn (tgt := 156) O dX1_size_13 (7) hs2 (by decide) (by decide) rfl rfl ?_
    replace h := h.2.2.2.2.2.2.2.1 hs2
    refine kr_aload_n O dX1_size_156 rfl 0 rfl ?_
    obtain ⟨p38, ep38, h⟩ := h
    refine kr_getf O dX1_size_157 fs_X1_133 ep38 ?_
    obtain ⟨b39, rfl, h⟩ := h
    obtain ⟨u40, eu40, h⟩ := h
    refine kr_getf O dX1_size_160 fs_X1_215 eu40 ?_
    refine kr_goto (tgt := 226) O dX1_size_163 rfl ?_
    exact kr_iret O dX1_size_226 rfl h
  · refine kr_tableIn (tgt := 166) O dX1_size_13 (8) hs2 (by decide) (by decide) rfl rfl ?_
    replace h := h.2.2.2.2.2.2.2.2.1 hs2
    refine kr_aload_n O dX1_size_166 rfl 0 rfl ?_
    obtain ⟨p41, ep41, h⟩ := h
    refine kr_getf O dX1_size_167 fs_X1_133 ep41 ?_
    obtain ⟨b42, rfl, h⟩ := h
    obtain ⟨hco, h⟩ := h
    refine kr_caI (rest := []) O cd_X2_writing h (Nat.le_of_ble_eq_true rfl) (fun ls _ => kt_ivV (ci := 1) O dX1_size_170 cd_X2_writing in_X2_writing (Or.inl q1807) q474 q475 hco (by decide) hy_X2_writing) (fun u43 M44 hq => ?_) (fun E q M9 hx => kr_out O hx)
    replace h := hq
    clear hq
    refine kr_goto (tgt := 226) O dX1_size_173 rfl ?_
    exact kr_iret O dX1_size_226 rfl h
  · refine kr_tableIn (tgt := 176) O dX1_size_13 (9) hs2 (by decide) (by decide) rfl rfl ?_
    replace h := h.2.2.2.2.2.2.2.2.2.1 hs2
    refine kr_aload_n O dX1_size_176 rfl 0 rfl ?_
    obtain ⟨p45, ep45, h⟩ := h
    refine kr_getf O dX1_size_177 fs_X1_133 ep45 ?_
    obtain ⟨b46, rfl, h⟩ := h
    obtain ⟨hco, h⟩ := h
    refine kr_caI (rest := []) O cd_X2_inForce h (Nat.le_of_ble_eq_true rfl) (fun ls _ => kt_ivV (ci := 1) O dX1_size_180 cd_X2_inForce in_X2_inForce (Or.inl q1808) q1809 q1810 hco (by decide) hy_X2_inForce) (fun u47 M48 hq => ?_) (fun E q M9 hx => kr_out O hx)
    replace h := hq
    clear hq
    refine kr_goto (tgt := 226) O dX1_size_183 rfl ?_
    exact kr_iret O dX1_size_226 rfl h
  · refine kr_tableIn (tgt := 186) O dX1_size_13 (10) hs2 (by decide) (by decide) rfl rfl ?_
    replace h := h.2.2.2.2.2.2.2.2.2.2.1 hs2
    refine kr_aload_n O dX1_size_186 rfl 0 rfl ?_
    obtain ⟨p49, ep49, h⟩ := h
    refine kr_getf O dX1_size_187 fs_X1_133 ep49 ?_
    obtain ⟨b50, rfl, h⟩ := h
    obtain ⟨hco, h⟩ := h
    refine kr_caI (rest := []) O cd_X2_wrapCount h (Nat.le_of_ble_eq_true rfl) (fun ls _ => kt_ivV (ci := 1) O dX1_size_190 cd_X2_wrapCount in_X2_wrapCount (Or.inl q576) q577 q578 hco (by decide) hy_X2_wrapCount) (fun u51 M52 hq => ?_) (fun E q M9 hx => kr_out O hx)
    replace h := hq
    clear hq
    refine kr_goto (tgt := 226) O dX1_size_193 rfl ?_
    exact kr_iret O dX1_size_226 rfl h
  · refine kr_tableIn (tgt := 196) O dX1_size_13 (11) hs2 (by decide) (by decide) rfl rfl ?_
    replace h := h.2.2.2.2.2.2.2.2.2.2.2.1 hs2
    refine kr_aload_n O dX1_size_196 rfl 0 rfl ?_
    obtain ⟨p53, ep53, h⟩ := h
    refine kr_getf O dX1_size_197 fs_X1_133 ep53 ?_
    obtain ⟨b54, rfl, h⟩ := h
    obtain ⟨u55, eu55, h⟩ := h
    refine kr_getf O dX1_size_200 fs_X1_224 eu55 ?_
    refine kr_goto (tgt := 226) O dX1_size_203 rfl ?_
    exact kr_iret O dX1_size_226 rfl h
  · refine kr_tableIn (tgt := 206) O dX1_size_13 (12) hs2 (by decide) (by decide) rfl rfl ?_
    replace h := h.2.2.2.2.2.2.2.2.2.2.2.2 hs2
    refine kr_aload_n O dX1_size_206 rfl 0 rfl ?_
    obtain ⟨p56, ep56, h⟩ := h
    refine kr_getf O dX1_size_207 fs_X1_133 ep56 ?_
    obtain ⟨b57, rfl, h⟩ := h
    obtain ⟨u58, eu58, h⟩ := h
    refine kr_getf O dX1_size_210 fs_X1_225 eu58 ?_
    refine kr_goto (tgt := 226) O dX1_size_213 rfl ?_
    exact kr_iret O dX1_size_226 rfl h
def vc_X1_requireElement (w : kt_W) (gr : kt_g × kt_M) (d : Nat) (P : Option Value → kt_M → Prop) (X : String → Nat → kt_M → Prop) (v0 : Int32) (M : kt_M) : Prop :=
  
    ((¬ v0 = 0 → P none M) ∧
    (v0 = 0 → kt_th w d M "java/util/NoSuchElementException" X))
theorem ce_X1_requireElement {w : kt_W} {g : kt_g} {d : Nat} {P : Option Value → kt_M → Prop} {X : String → Nat → kt_M → Prop} {v0 : Int32} {M : kt_M} (h : vc_X1_requireElement w (g, M) d P X v0 M) : kt_Sp w g (d + 1) yX1_requireElement kc_X1_requireElement [.int v0] M P X := by
  refine kt_of (L0 := [(0, .int v0)]) (by decide +kernel) (Nat.le_of_ble_eq_true rfl) rfl fun x O => ?_
  replace O : kt_O w x (g, M) (d + 1) cX1_requireElement "KeyTurns" 1 ("requireElement", "(Z)V") (Option.none : Option Jvm.ClassFile.FieldType) [] := O
  unfold vc_X1_requireElement at h
  refine kr_iload_n O dX1_requireElement_0 rfl 0 rfl ?_
  refine kr_if_ne (tgt := 12) O dX1_requireElement_1 rfl (fun hc => ?_) (fun hc => ?_)
  · replace h := h.1 hc
    exact kr_vret O dX1_requireElement_12 h
  · replace h := h.2 hc
    exact kr_thr_NSE O dX1_requireElement_4 dX1_requireElement_7 dX1_requireElement_8 dX1_requireElement_11 h
def vc_X1_version (w : kt_W) (gr : kt_g × kt_M) (d : Nat) (P : Option Value → kt_M → Prop) (X : String → Nat → kt_M → Prop) (a0 : Nat) (v1 : Int32) (v2 : Int32) (M : kt_M) : Prop :=
  (kt_co M a0 = some 0) ∧ 
  kt_Ca w gr d yX1_versionOf kc_X1_versionOf [va_rf (some a0), .int v1] M (kt_pR fun p1 M2 => 
  kt_Ca w gr d yX1_isIn kc_X1_isIn [.long v2.toInt64, .long (0 : Int64), .long (4 : Int64)] M2 (kt_pI fun u3 M4 => 
  kt_Ca w gr d yX1_requireElement kc_X1_requireElement [.int u3] M4 (kt_pV fun M5 => 
    ((v2.toInt < 0 ∨ 3 < v2.toInt → ∃ p6, kt_gf M5 a0 0 = some (va_rf p6) ∧ ∃ b7, p6 = some b7 ∧ (kt_co M5 b7 = some 1) ∧ 
    kt_Ca w gr d yX2_wrappedBy kc_X2_wrappedBy [va_rf (some b7), .int v1] M5 (kt_pI fun u8 M9 => P (some (.int u8)) M9) X) ∧
    (v2.toInt = 0 → ∃ b10, p1 = some b10 ∧ ∃ u11, kt_gf M5 b10 22 = some (.int u11) ∧ P (some (.int u11)) M5) ∧
    (v2.toInt = 1 → ∃ b12, p1 = some b12 ∧ ∃ u13, kt_gf M5 b12 23 = some (.int u13) ∧ P (some (.int u13)) M5) ∧
    (v2.toInt = 2 → 
    kt_Ca w gr d yX1_withdrawnAt kc_X1_withdrawnAt [va_rf p1] M5 (kt_pI fun u14 M15 => P (some (.int u14)) M15) X) ∧
    (v2.toInt = 3 → ∃ p16, kt_gf M5 a0 0 = some (va_rf p16) ∧ ∃ b17, p16 = some b17 ∧ ∃ u18, kt_gf M5 b17 14 = some (.int u18) ∧ 
    kt_Ca w gr d yX11_of kc_X11_of [va_rf p1, .int u18] M5 (kt_pI fun u19 M20 => P (some (.int u19)) M20) X))) X) X) X
theorem ce_X1_version {w : kt_W} {g : kt_g} {d : Nat} {P : Option Value → kt_M → Prop} {X : String → Nat → kt_M → Prop} {a0 : Nat} {v1 : Int32} {v2 : Int32} {M : kt_M} (h : vc_X1_version w (g, M) d P X a0 v1 v2 M) : kt_Sp w g (d + 1) yX1_version kc_X1_version [va_rf (some a0), .int v1, .int v2] M P X := by
  refine kt_of (L0 := [(0, va_rf (some a0)), (1, .int v1), (2, .int v2)]) (by decide +kernel) (Nat.le_of_ble_eq_true rfl) rfl fun x O => ?_
  replace O : kt_O w x (g, M) (d + 1) cX1_version "KeyTurns" 4 ("version", "(II)I") (Option.some Jvm.ClassFile.FieldType.int) [] := O
  unfold vc_X1_version at h
  refine kr_aload_n O dX1_version_0 rfl 0 rfl ?_
  refine kr_iload_n O dX1_version_1 rfl 1 rfl ?_
  obtain ⟨hco, h⟩ := h
  refine kr_caR (rest := []) O cd_X1_versionOf h (Nat.le_of_ble_eq_true rfl) (fun ls _ => kt_ivV (ci := 0) O dX1_version_2 cd_X1_versionOf in_X1_versionOf (Or.inl q1830) q1832 qs24 hco (by decide) hy_X1_versionOf) (fun p1 M2 hq => ?_) (fun E q M9 hx => kr_out O hx)
  replace h := hq
  clear hq
  refine kr_astore_n O dX1_version_5 rfl (Nat.le_of_ble_eq_true rfl) rfl rfl ?_
  refine kr_iload_n O dX1_version_6 rfl 3 rfl ?_
  refine kr_i2l O dX1_version_7 ?_
  refine kr_lconst O dX1_version_8 (v := (0 : Int64)) (by decide) ?_
  refine kr_ldc2 O dX1_version_9 q1836 ?_
  refine kr_caI (rest := []) O cd_X1_isIn h (Nat.le_of_ble_eq_true rfl) (fun ls _ => kt_ivS O dX1_version_12 cd_X1_isIn in_X1_isIn q1459 q510 hy_X1_isIn) (fun u3 M4 hq => ?_) (fun E q M9 hx => kr_out O hx)
  replace h := hq
  clear hq
  refine kr_caV (rest := []) O cd_X1_requireElement h (Nat.le_of_ble_eq_true rfl) (fun ls _ => kt_ivS O dX1_version_15 cd_X1_requireElement in_X1_requireElement q1802 q1803 hy_X1_requireElement) (fun M5 hq => ?_) (fun E q M9 hx => kr_out O hx)
  replace h := hq
  clear hq
  refine kr_iload_n O dX1_version_18 rfl 3 rfl ?_
  by_cases hs : v2.toInt < 0 ∨ 3 < v2.toInt
  · refine kr_tableOut (tgt := 83) O dX1_version_19 hs rfl ?_
    replace h := h.1 hs
    refine kr_aload_n O dX1_version_83 rfl 1 rfl ?_
    obtain ⟨p6, ep6, h⟩ := h
    refine kr_getf O dX1_version_84 fs_X1_133 ep6 ?_
    refine kr_iload_n O dX1_version_87 rfl 2 rfl ?_
    obtain ⟨b7, rfl, h⟩ := h
    obtain ⟨hco, h⟩ := h
    refine kr_caI (rest := []) O cd_X2_wrappedBy h (Nat.le_of_ble_eq_true rfl) (fun ls _ => kt_ivV (ci := 1) O dX1_version_88 cd_X2_wrappedBy in_X2_wrappedBy (Or.inl q1882) q1883 q1884 hco (by decide) hy_X2_wrappedBy) (fun u8 M9 hq => ?_) (fun E q M9 hx => kr_out O hx)
    replace h := hq
    clear hq
    exact kr_iret O dX1_version_91 rfl h
  replace h := h.2
  have hs2 : v2.toInt = 0 ∨ v2.toInt = 1 ∨ v2.toInt = 2 ∨ v2.toInt = 3 := by omega
  rcases hs2 with hs2 | hs2 | hs2 | hs2
  · refine kr_tableIn (tgt := 48) O dX1_version_19 (0) hs2 (by decide) (by decide) rfl rfl ?_
    replace h := h.1 hs2
    refine kr_aload_n O dX1_version_48 rfl 0 rfl ?_
    obtain ⟨b10, rfl, h⟩ := h
    obtain ⟨u11, eu11, h⟩ := h
    refine kr_getf O dX1_version_49 fs_X1_246 eu11 ?_
    refine kr_goto (tgt := 91) O dX1_version_52 rfl ?_
    exact kr_iret O dX1_version_91 rfl h
  · refine kr_tableIn (tgt := 55) O dX1_version_19 (1) hs2 (by decide) (by decide) rfl rfl ?_
    replace h := h.2.1 hs2
    refine kr_aload_n O dX1_version_55 rfl 0 rfl ?_
    obtain ⟨b12, rfl, h⟩ := h
    obtain ⟨u13, eu13, h⟩ := h
    refine kr_getf O dX1_version_56 fs_X1_249 eu13 ?_
    refine kr_goto (tgt := 91) O dX1_version_59 rfl ?_
    exact kr_iret O dX1_version_91 rfl h
  · refine kr_tableIn (tgt := 62) O dX1_version_19 (2) hs2 (by decide) (by decide) rfl rfl ?_
    replace h := h.2.2.1 hs2
    refine kr_aload_n O dX1_version_62 rfl 0 rfl ?_
    refine kr_caI (rest := []) O cd_X1_withdrawnAt h (Nat.le_of_ble_eq_true rfl) (fun ls _ => kt_ivS O dX1_version_63 cd_X1_withdrawnAt in_X1_withdrawnAt q1837 q1838 hy_X1_withdrawnAt) (fun u14 M15 hq => ?_) (fun E q M9 hx => kr_out O hx)
    replace h := hq
    clear hq
    refine kr_goto (tgt := 91) O dX1_version_66 rfl ?_
    exact kr_iret O dX1_version_91 rfl h
  · refine kr_tableIn (tgt := 69) O dX1_version_19 (3) hs2 (by decide) (by decide) rfl rfl ?_
    replace h := h.2.2.2 hs2
    refine kr_aload_n O dX1_version_69 rfl 0 rfl ?_
    refine kr_aload_n O dX1_version_70 rfl 1 rfl ?_
    obtain ⟨p16, ep16, h⟩ := h
    refine kr_getf O dX1_version_71 fs_X1_133 ep16 ?_
    obtain ⟨b17, rfl, h⟩ := h
    obtain ⟨u18, eu18, h⟩ := h
    refine kr_getf O dX1_version_74 fs_X1_197 eu18 ?_
    refine kr_caI (rest := []) O cd_X11_of h (Nat.le_of_ble_eq_true rfl) (fun ls _ => kt_ivS O dX1_version_77 cd_X11_of in_X11_of q1841 q1842 hy_X11_of) (fun u19 M20 hq => ?_) (fun E q M9 hx => kr_out O hx)
    replace h := hq
    clear hq
    refine kr_goto (tgt := 91) O dX1_version_80 rfl ?_
    exact kr_iret O dX1_version_91 rfl h
def vc_X1_versionOf (w : kt_W) (gr : kt_g × kt_M) (d : Nat) (P : Option Value → kt_M → Prop) (X : String → Nat → kt_M → Prop) (a0 : Nat) (v1 : Int32) (M : kt_M) : Prop :=
  ∃ p1, kt_gf M a0 0 = some (va_rf p1) ∧ ∃ b2, p1 = some b2 ∧ ∃ p3, kt_gf M b2 10 = some (va_rf p3) ∧ ∃ b4, p3 = some b4 ∧ (kt_co M b4 = some 13) ∧ 
  kt_Ca w gr d yJ3_size kc_J3_size [va_rf (some b4)] M (kt_pI fun u5 M6 => 
  kt_Ca w gr d yX1_isIn kc_X1_isIn [.long v1.toInt64, .long (0 : Int64), .long ((u5 - (1 : Int32)).toInt64)] M6 (kt_pI fun u7 M8 => 
  kt_Ca w gr d yX1_requireElement kc_X1_requireElement [.int u7] M8 (kt_pV fun M9 => ∃ p10, kt_gf M9 a0 0 = some (va_rf p10) ∧ ∃ b11, p10 = some b11 ∧ ∃ p12, kt_gf M9 b11 10 = some (va_rf p12) ∧ ∃ b13, p12 = some b13 ∧ (kt_co M9 b13 = some 13) ∧ 
  kt_Ca w gr d yJ3_get kc_J3_get [va_rf (some b13), .int v1] M9 (kt_pR fun p14 M15 => ∃ b16, p14 = some b16 ∧ (∃ c, kt_co M15 b16 = some c ∧ kt_is c "KeyTurns$Version") ∧ P (some (va_rf (some b16))) M15) X) X) X) X
theorem ce_X1_versionOf {w : kt_W} {g : kt_g} {d : Nat} {P : Option Value → kt_M → Prop} {X : String → Nat → kt_M → Prop} {a0 : Nat} {v1 : Int32} {M : kt_M} (h : vc_X1_versionOf w (g, M) d P X a0 v1 M) : kt_Sp w g (d + 1) yX1_versionOf kc_X1_versionOf [va_rf (some a0), .int v1] M P X := by
  refine kt_of (L0 := [(0, va_rf (some a0)), (1, .int v1)]) (by decide +kernel) (Nat.le_of_ble_eq_true rfl) rfl fun x O => ?_
  replace O : kt_O w x (g, M) (d + 1) cX1_versionOf "KeyTurns" 2 ("versionOf", "(I)LKeyTurns$Version;") (Option.some (Jvm.ClassFile.FieldType.object "KeyTurns$Version")) [] := O
  unfold vc_X1_versionOf at h
  refine kr_iload_n O dX1_versionOf_0 rfl 1 rfl ?_
  refine kr_i2l O dX1_versionOf_1 ?_
  refine kr_lconst O dX1_versionOf_2 (v := (0 : Int64)) (by decide) ?_
  refine kr_aload_n O dX1_versionOf_3 rfl 0 rfl ?_
  obtain ⟨p1, ep1, h⟩ := h
  refine kr_getf O dX1_versionOf_4 fs_X1_133 ep1 ?_
  obtain ⟨b2, rfl, h⟩ := h
  obtain ⟨p3, ep3, h⟩ := h
  refine kr_getf O dX1_versionOf_7 fs_X1_15 ep3 ?_
  obtain ⟨b4, rfl, h⟩ := h
  obtain ⟨hco, h⟩ := h
  refine kr_caI (rest := [.long (0 : Int64), .long v1.toInt64]) O cd_J3_size h (Nat.le_of_ble_eq_true rfl) (fun ls _ => kt_ivV (ci := 13) O dX1_versionOf_10 cd_J3_size in_J3_size (Or.inl q594) q478 q479 hco (by decide) hy_J3_size) (fun u5 M6 hq => ?_) (fun E q M9 hx => kr_out O hx)
  replace h := hq
  clear hq
  refine kr_iconst O dX1_versionOf_13 (v := (1 : Int32)) (by decide) ?_
  refine kr_isub O dX1_versionOf_14 ?_
  refine kr_i2l O dX1_versionOf_15 ?_
  refine kr_caI (rest := []) O cd_X1_isIn h (Nat.le_of_ble_eq_true rfl) (fun ls _ => kt_ivS O dX1_versionOf_16 cd_X1_isIn in_X1_isIn q1459 q510 hy_X1_isIn) (fun u7 M8 hq => ?_) (fun E q M9 hx => kr_out O hx)
  replace h := hq
  clear hq
  refine kr_caV (rest := []) O cd_X1_requireElement h (Nat.le_of_ble_eq_true rfl) (fun ls _ => kt_ivS O dX1_versionOf_19 cd_X1_requireElement in_X1_requireElement q1802 q1803 hy_X1_requireElement) (fun M9 hq => ?_) (fun E q M9 hx => kr_out O hx)
  replace h := hq
  clear hq
  refine kr_aload_n O dX1_versionOf_22 rfl 0 rfl ?_
  obtain ⟨p10, ep10, h⟩ := h
  refine kr_getf O dX1_versionOf_23 fs_X1_133 ep10 ?_
  obtain ⟨b11, rfl, h⟩ := h
  obtain ⟨p12, ep12, h⟩ := h
  refine kr_getf O dX1_versionOf_26 fs_X1_15 ep12 ?_
  refine kr_iload_n O dX1_versionOf_29 rfl 1 rfl ?_
  obtain ⟨b13, rfl, h⟩ := h
  obtain ⟨hco, h⟩ := h
  refine kr_caR (rest := []) O cd_J3_get h (Nat.le_of_ble_eq_true rfl) (fun ls _ => kt_ivV (ci := 13) O dX1_versionOf_30 cd_J3_get in_J3_get (Or.inl q1834) q482 q483 hco (by decide) hy_J3_get) (fun p14 M15 hq => ?_) (fun E q M9 hx => kr_out O hx)
  replace h := hq
  clear hq
  obtain ⟨b16, rfl, h⟩ := h
  obtain ⟨⟨cc1, hc1, hc2⟩, h⟩ := h
  refine kr_cast O dX1_versionOf_33 q1835 hc1 hc2 ?_
  exact kr_aret O dX1_versionOf_36 (by first | exact Or.inl ⟨_, rfl⟩ | exact Or.inr ⟨_, rfl⟩) h
def vc_X1_withdrawnAt (w : kt_W) (gr : kt_g × kt_M) (d : Nat) (P : Option Value → kt_M → Prop) (X : String → Nat → kt_M → Prop) (r0 : Option Nat) (M : kt_M) : Prop :=
  ∃ b1, r0 = some b1 ∧ ∃ z2, kt_io M b1 "KeyTurns$Withdrawn" z2 ∧ 
    ((z2 = 0 → P (some (.int (-1 : Int32))) M) ∧
    (¬ z2 = 0 → (∃ c, kt_co M b1 = some c ∧ kt_is c "KeyTurns$Withdrawn") ∧ ∃ u3, kt_gf M b1 24 = some (.int u3) ∧ P (some (.int u3)) M))
theorem ce_X1_withdrawnAt {w : kt_W} {g : kt_g} {d : Nat} {P : Option Value → kt_M → Prop} {X : String → Nat → kt_M → Prop} {r0 : Option Nat} {M : kt_M} (h : vc_X1_withdrawnAt w (g, M) d P X r0 M) : kt_Sp w g (d + 1) yX1_withdrawnAt kc_X1_withdrawnAt [va_rf r0] M P X := by
  refine kt_of (L0 := [(0, va_rf r0)]) (by decide +kernel) (by simp only [kt_lgR, kt_lgI, kt_lgN] <;> exact Nat.le_of_ble_eq_true rfl) (by simp only [kt_lvR, kt_lvI, kt_lvN] <;> rfl) fun x O => ?_
  replace O : kt_O w x (g, M) (d + 1) cX1_withdrawnAt "KeyTurns" 2 ("withdrawnAt", "(LKeyTurns$Version;)I") (Option.some Jvm.ClassFile.FieldType.int) [] := O
  unfold vc_X1_withdrawnAt at h
  refine kr_aload_n O dX1_withdrawnAt_0 rfl 0 rfl ?_
  obtain ⟨b1, rfl, h⟩ := h
  obtain ⟨z2, hz2, h⟩ := h
  refine kr_inst O dX1_withdrawnAt_1 q1840 hz2 ?_
  refine kr_if_eq (tgt := 19) O dX1_withdrawnAt_4 rfl (fun hc => ?_) (fun hc => ?_)
  · replace h := h.1 hc
    refine kr_iconst O dX1_withdrawnAt_19 (v := (-1 : Int32)) (by decide) ?_
    exact kr_iret O dX1_withdrawnAt_20 rfl h
  · replace h := h.2 hc
    refine kr_aload_n O dX1_withdrawnAt_7 rfl 0 rfl ?_
    obtain ⟨⟨cc1, hc1, hc2⟩, h⟩ := h
    refine kr_cast O dX1_withdrawnAt_8 q1840 hc1 hc2 ?_
    refine kr_astore_n O dX1_withdrawnAt_11 rfl (Nat.le_of_ble_eq_true rfl) rfl rfl ?_
    refine kr_aload_n O dX1_withdrawnAt_12 rfl 0 rfl ?_
    obtain ⟨u3, eu3, h⟩ := h
    refine kr_getf O dX1_withdrawnAt_13 fs_X1_237 eu3 ?_
    refine kr_goto (tgt := 20) O dX1_withdrawnAt_16 rfl ?_
    exact kr_iret O dX1_withdrawnAt_20 rfl h
def vc_X1_record (w : kt_W) (gr : kt_g × kt_M) (d : Nat) (P : Option Value → kt_M → Prop) (X : String → Nat → kt_M → Prop) (a0 : Nat) (v1 : Int32) (v2 : Int32) (M : kt_M) : Prop :=
  (kt_co M a0 = some 0) ∧ 
  kt_Ca w gr d yX1_recordOf kc_X1_recordOf [va_rf (some a0), .int v1] M (kt_pR fun p1 M2 => 
  kt_Ca w gr d yX1_isIn kc_X1_isIn [.long v2.toInt64, .long (0 : Int64), .long (5 : Int64)] M2 (kt_pI fun u3 M4 => 
  kt_Ca w gr d yX1_requireElement kc_X1_requireElement [.int u3] M4 (kt_pV fun M5 => 
    ((v2.toInt < 0 ∨ 4 < v2.toInt → ∃ p6, kt_gf M5 a0 0 = some (va_rf p6) ∧ ∃ b7, p6 = some b7 ∧ (kt_co M5 b7 = some 1) ∧ 
    kt_Ca w gr d yX2_readers kc_X2_readers [va_rf (some b7), .int v1] M5 (kt_pI fun u8 M9 => P (some (.int u8)) M9) X) ∧
    (v2.toInt = 0 → ∃ b10, p1 = some b10 ∧ ∃ u11, kt_gf M5 b10 25 = some (.int u11) ∧ P (some (.int u11)) M5) ∧
    (v2.toInt = 1 → ∃ b12, p1 = some b12 ∧ ∃ p13, kt_gf M5 b12 26 = some (va_rf p13) ∧ ∃ b14, p13 = some b14 ∧ (kt_co M5 b14 = some 18) ∧ 
    kt_Ca w gr d yJ21_cardinality kc_J21_cardinality [va_rf (some b14)] M5 (kt_pI fun u15 M16 => P (some (.int u15)) M16) X) ∧
    (v2.toInt = 2 → ∃ b17, p1 = some b17 ∧ (kt_co M5 b17 = some 4) ∧ 
    kt_Ca w gr d yX10_set kc_X10_set [va_rf (some b17)] M5 (kt_pI fun u18 M19 => P (some (.int u18)) M19) X) ∧
    (v2.toInt = 3 → ∃ p20, kt_gf M5 a0 0 = some (va_rf p20) ∧ ∃ b21, p20 = some b21 ∧ (kt_co M5 b21 = some 1) ∧ 
    kt_Ca w gr d yX2_endOf kc_X2_endOf [va_rf (some b21), va_rf p1] M5 (kt_pI fun u22 M23 => P (some (.int u22)) M23) X) ∧
    (v2.toInt = 4 → ∃ b24, p1 = some b24 ∧ ∃ u25, kt_gf M5 b24 27 = some (.int u25) ∧ P (some (.int u25)) M5))) X) X) X
theorem ce_X1_record {w : kt_W} {g : kt_g} {d : Nat} {P : Option Value → kt_M → Prop} {X : String → Nat → kt_M → Prop} {a0 : Nat} {v1 : Int32} {v2 : Int32} {M : kt_M} (h : vc_X1_record w (g, M) d P X a0 v1 v2 M) : kt_Sp w g (d + 1) yX1_record kc_X1_record [va_rf (some a0), .int v1, .int v2] M P X := by
  refine kt_of (L0 := [(0, va_rf (some a0)), (1, .int v1), (2, .int v2)]) (by decide +kernel) (Nat.le_of_ble_eq_true rfl) rfl fun x O => ?_
  replace O : kt_O w x (g, M) (d + 1) cX1_record "KeyTurns" 4 ("record", "(II)I") (Option.some Jvm.ClassFile.FieldType.int) [] := O
  unfold vc_X1_record at h
  refine kr_aload_n O dX1_record_0 rfl 0 rfl ?_
  refine kr_iload_n O dX1_record_1 rfl 1 rfl ?_
  obtain ⟨hco, h⟩ := h
  refine kr_caR (rest := []) O cd_X1_recordOf h (Nat.le_of_ble_eq_true rfl) (fun ls _ => kt_ivV (ci := 0) O dX1_record_2 cd_X1_recordOf in_X1_recordOf (Or.inl q1893) q1895 qs25 hco (by decide) hy_X1_recordOf) (fun p1 M2 hq => ?_) (fun E q M9 hx => kr_out O hx)
  replace h := hq
  clear hq
  refine kr_astore_n O dX1_record_5 rfl (Nat.le_of_ble_eq_true rfl) rfl rfl ?_
  refine kr_iload_n O dX1_record_6 rfl 3 rfl ?_
  refine kr_i2l O dX1_record_7 ?_
  refine kr_lconst O dX1_record_8 (v := (0 : Int64)) (by decide) ?_
  refine kr_ldc2 O dX1_record_9 q1899 ?_
  refine kr_caI (rest := []) O cd_X1_isIn h (Nat.le_of_ble_eq_true rfl) (fun ls _ => kt_ivS O dX1_record_12 cd_X1_isIn in_X1_isIn q1459 q510 hy_X1_isIn) (fun u3 M4 hq => ?_) (fun E q M9 hx => kr_out O hx)
  replace h := hq
  clear hq
  refine kr_caV (rest := []) O cd_X1_requireElement h (Nat.le_of_ble_eq_true rfl) (fun ls _ => kt_ivS O dX1_record_15 cd_X1_requireElement in_X1_requireElement q1802 q1803 hy_X1_requireElement) (fun M5 hq => ?_) (fun E q M9 hx => kr_out O hx)
  replace h := hq
  clear hq
  refine kr_iload_n O dX1_record_18 rfl 3 rfl ?_
  by_cases hs : v2.toInt < 0 ∨ 4 < v2.toInt
  · refine kr_tableOut (tgt := 94) O dX1_record_19 hs rfl ?_
    replace h := h.1 hs
    refine kr_aload_n O dX1_record_94 rfl 1 rfl ?_
    obtain ⟨p6, ep6, h⟩ := h
    refine kr_getf O dX1_record_95 fs_X1_133 ep6 ?_
    refine kr_iload_n O dX1_record_98 rfl 2 rfl ?_
    obtain ⟨b7, rfl, h⟩ := h
    obtain ⟨hco, h⟩ := h
    refine kr_caI (rest := []) O cd_X2_readers h (Nat.le_of_ble_eq_true rfl) (fun ls _ => kt_ivV (ci := 1) O dX1_record_99 cd_X2_readers in_X2_readers (Or.inl q1903) q1904 q1905 hco (by decide) hy_X2_readers) (fun u8 M9 hq => ?_) (fun E q M9 hx => kr_out O hx)
    replace h := hq
    clear hq
    exact kr_iret O dX1_record_102 rfl h
  replace h := h.2
  have hs2 : v2.toInt = 0 ∨ v2.toInt = 1 ∨ v2.toInt = 2 ∨ v2.toInt = 3 ∨ v2.toInt = 4 := by omega
  rcases hs2 with hs2 | hs2 | hs2 | hs2 | hs2
  · refine kr_tableIn (tgt := 52) O dX1_record_19 (0) hs2 (by decide) (by decide) rfl rfl ?_
    replace h := h.1 hs2
    refine kr_aload_n O dX1_record_52 rfl 0 rfl ?_
    obtain ⟨b10, rfl, h⟩ := h
    obtain ⟨u11, eu11, h⟩ := h
    refine kr_getf O dX1_record_53 fs_X1_67 eu11 ?_
    refine kr_goto (tgt := 102) O dX1_record_56 rfl ?_
    exact kr_iret O dX1_record_102 rfl h
  · refine kr_tableIn (tgt := 59) O dX1_record_19 (1) hs2 (by decide) (by decide) rfl rfl ?_
    replace h := h.2.1 hs2
    refine kr_aload_n O dX1_record_59 rfl 0 rfl ?_
    obtain ⟨b12, rfl, h⟩ := h
    obtain ⟨p13, ep13, h⟩ := h
    refine kr_getf O dX1_record_60 fs_X1_70 ep13 ?_
    obtain ⟨b14, rfl, h⟩ := h
    obtain ⟨hco, h⟩ := h
    refine kr_caI (rest := []) O cd_J21_cardinality h (Nat.le_of_ble_eq_true rfl) (fun ls _ => kt_ivV (ci := 18) O dX1_record_63 cd_J21_cardinality in_J21_cardinality (Or.inl q1900) q581 q582 hco (by decide) hy_J21_cardinality) (fun u15 M16 hq => ?_) (fun E q M9 hx => kr_out O hx)
    replace h := hq
    clear hq
    refine kr_goto (tgt := 102) O dX1_record_66 rfl ?_
    exact kr_iret O dX1_record_102 rfl h
  · refine kr_tableIn (tgt := 69) O dX1_record_19 (2) hs2 (by decide) (by decide) rfl rfl ?_
    replace h := h.2.2.1 hs2
    refine kr_aload_n O dX1_record_69 rfl 0 rfl ?_
    obtain ⟨b17, rfl, h⟩ := h
    obtain ⟨hco, h⟩ := h
    refine kr_caI (rest := []) O cd_X10_set h (Nat.le_of_ble_eq_true rfl) (fun ls _ => kt_ivV (ci := 4) O dX1_record_70 cd_X10_set in_X10_set (Or.inl q1901) q605 q606 hco (by decide) hy_X10_set) (fun u18 M19 hq => ?_) (fun E q M9 hx => kr_out O hx)
    replace h := hq
    clear hq
    refine kr_goto (tgt := 102) O dX1_record_73 rfl ?_
    exact kr_iret O dX1_record_102 rfl h
  · refine kr_tableIn (tgt := 76) O dX1_record_19 (3) hs2 (by decide) (by decide) rfl rfl ?_
    replace h := h.2.2.2.1 hs2
    refine kr_aload_n O dX1_record_76 rfl 1 rfl ?_
    obtain ⟨p20, ep20, h⟩ := h
    refine kr_getf O dX1_record_77 fs_X1_133 ep20 ?_
    refine kr_aload_n O dX1_record_80 rfl 0 rfl ?_
    obtain ⟨b21, rfl, h⟩ := h
    obtain ⟨hco, h⟩ := h
    refine kr_caI (rest := []) O cd_X2_endOf h (Nat.le_of_ble_eq_true rfl) (fun ls _ => kt_ivV (ci := 1) O dX1_record_81 cd_X2_endOf in_X2_endOf (Or.inl q1902) q533 q534 hco (by decide) hy_X2_endOf) (fun u22 M23 hq => ?_) (fun E q M9 hx => kr_out O hx)
    replace h := hq
    clear hq
    refine kr_goto (tgt := 102) O dX1_record_84 rfl ?_
    exact kr_iret O dX1_record_102 rfl h
  · refine kr_tableIn (tgt := 87) O dX1_record_19 (4) hs2 (by decide) (by decide) rfl rfl ?_
    replace h := h.2.2.2.2 hs2
    refine kr_aload_n O dX1_record_87 rfl 0 rfl ?_
    obtain ⟨b24, rfl, h⟩ := h
    obtain ⟨u25, eu25, h⟩ := h
    refine kr_getf O dX1_record_88 fs_X1_104 eu25 ?_
    refine kr_goto (tgt := 102) O dX1_record_91 rfl ?_
    exact kr_iret O dX1_record_102 rfl h
def vc_X1_recordOf (w : kt_W) (gr : kt_g × kt_M) (d : Nat) (P : Option Value → kt_M → Prop) (X : String → Nat → kt_M → Prop) (a0 : Nat) (v1 : Int32) (M : kt_M) : Prop :=
  ∃ p1, kt_gf M a0 0 = some (va_rf p1) ∧ ∃ b2, p1 = some b2 ∧ (kt_co M b2 = some 1) ∧ 
  kt_Ca w gr d yX2_isThere kc_X2_isThere [va_rf (some b2), .int v1] M (kt_pI fun u3 M4 => 
  kt_Ca w gr d yX1_requireElement kc_X1_requireElement [.int u3] M4 (kt_pV fun M5 => ∃ p6, kt_gf M5 a0 0 = some (va_rf p6) ∧ ∃ b7, p6 = some b7 ∧ ∃ p8, kt_gf M5 b7 11 = some (va_rf p8) ∧ ∃ b9, p8 = some b9 ∧ (kt_co M5 b9 = some 13) ∧ 
  kt_Ca w gr d yJ3_get kc_J3_get [va_rf (some b9), .int v1] M5 (kt_pR fun p10 M11 => ∃ b12, p10 = some b12 ∧ (∃ c, kt_co M11 b12 = some c ∧ kt_is c "KeyTurns$Sealed") ∧ P (some (va_rf (some b12))) M11) X) X) X
theorem ce_X1_recordOf {w : kt_W} {g : kt_g} {d : Nat} {P : Option Value → kt_M → Prop} {X : String → Nat → kt_M → Prop} {a0 : Nat} {v1 : Int32} {M : kt_M} (h : vc_X1_recordOf w (g, M) d P X a0 v1 M) : kt_Sp w g (d + 1) yX1_recordOf kc_X1_recordOf [va_rf (some a0), .int v1] M P X := by
  refine kt_of (L0 := [(0, va_rf (some a0)), (1, .int v1)]) (by decide +kernel) (Nat.le_of_ble_eq_true rfl) rfl fun x O => ?_
  replace O : kt_O w x (g, M) (d + 1) cX1_recordOf "KeyTurns" 2 ("recordOf", "(I)LKeyTurns$Sealed;") (Option.some (Jvm.ClassFile.FieldType.object "KeyTurns$Sealed")) [] := O
  unfold vc_X1_recordOf at h
  refine kr_aload_n O dX1_recordOf_0 rfl 0 rfl ?_
  obtain ⟨p1, ep1, h⟩ := h
  refine kr_getf O dX1_recordOf_1 fs_X1_133 ep1 ?_
  refine kr_iload_n O dX1_recordOf_4 rfl 1 rfl ?_
  obtain ⟨b2, rfl, h⟩ := h
  obtain ⟨hco, h⟩ := h
  refine kr_caI (rest := []) O cd_X2_isThere h (Nat.le_of_ble_eq_true rfl) (fun ls _ => kt_ivV (ci := 1) O dX1_recordOf_5 cd_X2_isThere in_X2_isThere (Or.inl q1897) q513 q514 hco (by decide) hy_X2_isThere) (fun u3 M4 hq => ?_) (fun E q M9 hx => kr_out O hx)
  replace h := hq
  clear hq
  refine kr_caV (rest := []) O cd_X1_requireElement h (Nat.le_of_ble_eq_true rfl) (fun ls _ => kt_ivS O dX1_recordOf_8 cd_X1_requireElement in_X1_requireElement q1802 q1803 hy_X1_requireElement) (fun M5 hq => ?_) (fun E q M9 hx => kr_out O hx)
  replace h := hq
  clear hq
  refine kr_aload_n O dX1_recordOf_11 rfl 0 rfl ?_
  obtain ⟨p6, ep6, h⟩ := h
  refine kr_getf O dX1_recordOf_12 fs_X1_133 ep6 ?_
  obtain ⟨b7, rfl, h⟩ := h
  obtain ⟨p8, ep8, h⟩ := h
  refine kr_getf O dX1_recordOf_15 fs_X1_58 ep8 ?_
  refine kr_iload_n O dX1_recordOf_18 rfl 1 rfl ?_
  obtain ⟨b9, rfl, h⟩ := h
  obtain ⟨hco, h⟩ := h
  refine kr_caR (rest := []) O cd_J3_get h (Nat.le_of_ble_eq_true rfl) (fun ls _ => kt_ivV (ci := 13) O dX1_recordOf_19 cd_J3_get in_J3_get (Or.inl q1834) q482 q483 hco (by decide) hy_J3_get) (fun p10 M11 hq => ?_) (fun E q M9 hx => kr_out O hx)
  replace h := hq
  clear hq
  obtain ⟨b12, rfl, h⟩ := h
  obtain ⟨⟨cc1, hc1, hc2⟩, h⟩ := h
  refine kr_cast O dX1_recordOf_22 q1898 hc1 hc2 ?_
  exact kr_aret O dX1_recordOf_25 (by first | exact Or.inl ⟨_, rfl⟩ | exact Or.inr ⟨_, rfl⟩) h
def vc_X1_client (w : kt_W) (gr : kt_g × kt_M) (d : Nat) (P : Option Value → kt_M → Prop) (X : String → Nat → kt_M → Prop) (a0 : Nat) (v1 : Int32) (v2 : Int32) (M : kt_M) : Prop :=
  (kt_co M a0 = some 0) ∧ 
  kt_Ca w gr d yX1_clientOf kc_X1_clientOf [va_rf (some a0), .int v1] M (kt_pR fun p1 M2 => 
  kt_Ca w gr d yX1_isIn kc_X1_isIn [.long v2.toInt64, .long (0 : Int64), .long (7 : Int64)] M2 (kt_pI fun u3 M4 => 
  kt_Ca w gr d yX1_requireElement kc_X1_requireElement [.int u3] M4 (kt_pV fun M5 => 
    ((v2.toInt < 0 ∨ 6 < v2.toInt → ∃ p6, kt_gf M5 a0 0 = some (va_rf p6) ∧ ∃ b7, p6 = some b7 ∧ ∃ u8, kt_gf M5 b7 14 = some (.int u8) ∧ ∃ b9, p1 = some b9 ∧ (kt_co M5 b9 = some 5) ∧ 
    kt_Ca w gr d yX9_greatest kc_X9_greatest [va_rf (some b9), .int (-1 : Int32), .int u8] M5 (kt_pI fun u10 M11 => P (some (.int u10)) M11) X) ∧
    (v2.toInt = 0 → ∃ b12, p1 = some b12 ∧ ∃ u13, kt_gf M5 b12 29 = some (.int u13) ∧ P (some (.int u13)) M5) ∧
    (v2.toInt = 1 → ∃ b14, p1 = some b14 ∧ ∃ u15, kt_gf M5 b14 30 = some (.int u15) ∧ P (some (.int u15)) M5) ∧
    (v2.toInt = 2 → ∃ b16, p1 = some b16 ∧ ∃ u17, kt_gf M5 b16 31 = some (.int u17) ∧ P (some (.int u17)) M5) ∧
    (v2.toInt = 3 → ∃ b18, p1 = some b18 ∧ ∃ u19, kt_gf M5 b18 33 = some (.int u19) ∧ P (some (.int u19)) M5) ∧
    (v2.toInt = 4 → ∃ b20, p1 = some b20 ∧ ∃ u21, kt_gf M5 b20 34 = some (.int u21) ∧ 
    kt_Ca w gr d yJ19_bitCount kc_J19_bitCount [.int u21] M5 (kt_pI fun u22 M23 => P (some (.int u22)) M23) X) ∧
    (v2.toInt = 5 → ∃ p24, kt_gf M5 a0 0 = some (va_rf p24) ∧ ∃ b25, p24 = some b25 ∧ (kt_co M5 b25 = some 1) ∧ 
    kt_Ca w gr d yX2_readable kc_X2_readable [va_rf (some b25), .int v1] M5 (kt_pI fun u26 M27 => P (some (.int u26)) M27) X) ∧
    (v2.toInt = 6 → ∃ b28, p1 = some b28 ∧ ∃ u29, kt_gf M5 b28 32 = some (.int u29) ∧ P (some (.int u29)) M5))) X) X) X
theorem ce_X1_client {w : kt_W} {g : kt_g} {d : Nat} {P : Option Value → kt_M → Prop} {X : String → Nat → kt_M → Prop} {a0 : Nat} {v1 : Int32} {v2 : Int32} {M : kt_M} (h : vc_X1_client w (g, M) d P X a0 v1 v2 M) : kt_Sp w g (d + 1) yX1_client kc_X1_client [va_rf (some a0), .int v1, .int v2] M P X := by
  refine kt_of (L0 := [(0, va_rf (some a0)), (1, .int v1), (2, .int v2)]) (by decide +kernel) (Nat.le_of_ble_eq_true rfl) rfl fun x O => ?_
  replace O : kt_O w x (g, M) (d + 1) cX1_client "KeyTurns" 4 ("client", "(II)I") (Option.some Jvm.ClassFile.FieldType.int) [] := O
  unfold vc_X1_client at h
  refine kr_aload_n O dX1_client_0 rfl 0 rfl ?_
  refine kr_iload_n O dX1_client_1 rfl 1 rfl ?_
  obtain ⟨hco, h⟩ := h
  refine kr_caR (rest := []) O cd_X1_clientOf h (Nat.le_of_ble_eq_true rfl) (fun ls _ => kt_ivV (ci := 0) O dX1_client_2 cd_X1_clientOf in_X1_clientOf (Or.inl q1914) q1916 qs26 hco (by decide) hy_X1_clientOf) (fun p1 M2 hq => ?_) (fun E q M9 hx => kr_out O hx)
  replace h := hq
  clear hq
  refine kr_astore_n O dX1_client_5 rfl (Nat.le_of_ble_eq_true rfl) rfl rfl ?_
  refine kr_iload_n O dX1_client_6 rfl 3 rfl ?_
  refine kr_i2l O dX1_client_7 ?_
  refine kr_lconst O dX1_client_8 (v := (0 : Int64)) (by decide) ?_
  refine kr_ldc2 O dX1_client_9 q1919 ?_
  refine kr_caI (rest := []) O cd_X1_isIn h (Nat.le_of_ble_eq_true rfl) (fun ls _ => kt_ivS O dX1_client_12 cd_X1_isIn in_X1_isIn q1459 q510 hy_X1_isIn) (fun u3 M4 hq => ?_) (fun E q M9 hx => kr_out O hx)
  replace h := hq
  clear hq
  refine kr_caV (rest := []) O cd_X1_requireElement h (Nat.le_of_ble_eq_true rfl) (fun ls _ => kt_ivS O dX1_client_15 cd_X1_requireElement in_X1_requireElement q1802 q1803 hy_X1_requireElement) (fun M5 hq => ?_) (fun E q M9 hx => kr_out O hx)
  replace h := hq
  clear hq
  refine kr_iload_n O dX1_client_18 rfl 3 rfl ?_
  by_cases hs : v2.toInt < 0 ∨ 6 < v2.toInt
  · refine kr_tableOut (tgt := 116) O dX1_client_19 hs rfl ?_
    replace h := h.1 hs
    refine kr_aload_n O dX1_client_116 rfl 0 rfl ?_
    refine kr_iconst O dX1_client_117 (v := (-1 : Int32)) (by decide) ?_
    refine kr_aload_n O dX1_client_118 rfl 1 rfl ?_
    obtain ⟨p6, ep6, h⟩ := h
    refine kr_getf O dX1_client_119 fs_X1_133 ep6 ?_
    obtain ⟨b7, rfl, h⟩ := h
    obtain ⟨u8, eu8, h⟩ := h
    refine kr_getf O dX1_client_122 fs_X1_197 eu8 ?_
    obtain ⟨b9, rfl, h⟩ := h
    obtain ⟨hco, h⟩ := h
    refine kr_caI (rest := []) O cd_X9_greatest h (Nat.le_of_ble_eq_true rfl) (fun ls _ => kt_ivV (ci := 5) O dX1_client_125 cd_X9_greatest in_X9_greatest (Or.inl q1926) q610 q611 hco (by decide) hy_X9_greatest) (fun u10 M11 hq => ?_) (fun E q M9 hx => kr_out O hx)
    replace h := hq
    clear hq
    exact kr_iret O dX1_client_128 rfl h
  replace h := h.2
  have hs2 : v2.toInt = 0 ∨ v2.toInt = 1 ∨ v2.toInt = 2 ∨ v2.toInt = 3 ∨ v2.toInt = 4 ∨ v2.toInt = 5 ∨ v2.toInt = 6 := by omega
  rcases hs2 with hs2 | hs2 | hs2 | hs2 | hs2 | hs2 | hs2
  · refine kr_tableIn (tgt := 60) O dX1_client_19 (0) hs2 (by decide) (by decide) rfl rfl ?_
    replace h := h.1 hs2
    refine kr_aload_n O dX1_client_60 rfl 0 rfl ?_
    obtain ⟨b12, rfl, h⟩ := h
    obtain ⟨u13, eu13, h⟩ := h
    refine kr_getf O dX1_client_61 fs_X1_279 eu13 ?_
    refine kr_goto (tgt := 128) O dX1_client_64 rfl ?_
    exact kr_iret O dX1_client_128 rfl h
  · refine kr_tableIn (tgt := 67) O dX1_client_19 (1) hs2 (by decide) (by decide) rfl rfl ?_
    replace h := h.2.1 hs2
    refine kr_aload_n O dX1_client_67 rfl 0 rfl ?_
    obtain ⟨b14, rfl, h⟩ := h
    obtain ⟨u15, eu15, h⟩ := h
    refine kr_getf O dX1_client_68 fs_X1_282 eu15 ?_
    refine kr_goto (tgt := 128) O dX1_client_71 rfl ?_
    exact kr_iret O dX1_client_128 rfl h
  · refine kr_tableIn (tgt := 74) O dX1_client_19 (2) hs2 (by decide) (by decide) rfl rfl ?_
    replace h := h.2.2.1 hs2
    refine kr_aload_n O dX1_client_74 rfl 0 rfl ?_
    obtain ⟨b16, rfl, h⟩ := h
    obtain ⟨u17, eu17, h⟩ := h
    refine kr_getf O dX1_client_75 fs_X1_285 eu17 ?_
    refine kr_goto (tgt := 128) O dX1_client_78 rfl ?_
    exact kr_iret O dX1_client_128 rfl h
  · refine kr_tableIn (tgt := 81) O dX1_client_19 (3) hs2 (by decide) (by decide) rfl rfl ?_
    replace h := h.2.2.2.1 hs2
    refine kr_aload_n O dX1_client_81 rfl 0 rfl ?_
    obtain ⟨b18, rfl, h⟩ := h
    obtain ⟨u19, eu19, h⟩ := h
    refine kr_getf O dX1_client_82 fs_X1_288 eu19 ?_
    refine kr_goto (tgt := 128) O dX1_client_85 rfl ?_
    exact kr_iret O dX1_client_128 rfl h
  · refine kr_tableIn (tgt := 88) O dX1_client_19 (4) hs2 (by decide) (by decide) rfl rfl ?_
    replace h := h.2.2.2.2.1 hs2
    refine kr_aload_n O dX1_client_88 rfl 0 rfl ?_
    obtain ⟨b20, rfl, h⟩ := h
    obtain ⟨u21, eu21, h⟩ := h
    refine kr_getf O dX1_client_89 fs_X1_291 eu21 ?_
    refine kr_caI (rest := []) O cd_J19_bitCount h (Nat.le_of_ble_eq_true rfl) (fun ls _ => kt_ivS O dX1_client_92 cd_J19_bitCount in_J19_bitCount q1920 q1921 hy_J19_bitCount) (fun u22 M23 hq => ?_) (fun E q M9 hx => kr_out O hx)
    replace h := hq
    clear hq
    refine kr_goto (tgt := 128) O dX1_client_95 rfl ?_
    exact kr_iret O dX1_client_128 rfl h
  · refine kr_tableIn (tgt := 98) O dX1_client_19 (5) hs2 (by decide) (by decide) rfl rfl ?_
    replace h := h.2.2.2.2.2.1 hs2
    refine kr_aload_n O dX1_client_98 rfl 1 rfl ?_
    obtain ⟨p24, ep24, h⟩ := h
    refine kr_getf O dX1_client_99 fs_X1_133 ep24 ?_
    refine kr_iload_n O dX1_client_102 rfl 2 rfl ?_
    obtain ⟨b25, rfl, h⟩ := h
    obtain ⟨hco, h⟩ := h
    refine kr_caI (rest := []) O cd_X2_readable h (Nat.le_of_ble_eq_true rfl) (fun ls _ => kt_ivV (ci := 1) O dX1_client_103 cd_X2_readable in_X2_readable (Or.inl q595) q596 q597 hco (by decide) hy_X2_readable) (fun u26 M27 hq => ?_) (fun E q M9 hx => kr_out O hx)
    replace h := hq
    clear hq
    refine kr_goto (tgt := 128) O dX1_client_106 rfl ?_
    exact kr_iret O dX1_client_128 rfl h
  · refine kr_tableIn (tgt := 109) O dX1_client_19 (6) hs2 (by decide) (by decide) rfl rfl ?_
    replace h := h.2.2.2.2.2.2 hs2
    refine kr_aload_n O dX1_client_109 rfl 0 rfl ?_
    obtain ⟨b28, rfl, h⟩ := h
    obtain ⟨u29, eu29, h⟩ := h
    refine kr_getf O dX1_client_110 fs_X1_297 eu29 ?_
    refine kr_goto (tgt := 128) O dX1_client_113 rfl ?_
    exact kr_iret O dX1_client_128 rfl h
def vc_X1_clientOf (w : kt_W) (gr : kt_g × kt_M) (d : Nat) (P : Option Value → kt_M → Prop) (X : String → Nat → kt_M → Prop) (a0 : Nat) (v1 : Int32) (M : kt_M) : Prop :=
  ∃ p1, kt_gf M a0 0 = some (va_rf p1) ∧ ∃ b2, p1 = some b2 ∧ ∃ p3, kt_gf M b2 12 = some (va_rf p3) ∧ ∃ b4, p3 = some b4 ∧ (kt_co M b4 = some 13) ∧ 
  kt_Ca w gr d yJ3_size kc_J3_size [va_rf (some b4)] M (kt_pI fun u5 M6 => 
  kt_Ca w gr d yX1_isIn kc_X1_isIn [.long v1.toInt64, .long (0 : Int64), .long ((u5 - (1 : Int32)).toInt64)] M6 (kt_pI fun u7 M8 => 
  kt_Ca w gr d yX1_requireElement kc_X1_requireElement [.int u7] M8 (kt_pV fun M9 => ∃ p10, kt_gf M9 a0 0 = some (va_rf p10) ∧ ∃ b11, p10 = some b11 ∧ ∃ p12, kt_gf M9 b11 12 = some (va_rf p12) ∧ ∃ b13, p12 = some b13 ∧ (kt_co M9 b13 = some 13) ∧ 
  kt_Ca w gr d yJ3_get kc_J3_get [va_rf (some b13), .int v1] M9 (kt_pR fun p14 M15 => ∃ b16, p14 = some b16 ∧ (∃ c, kt_co M15 b16 = some c ∧ kt_is c "KeyTurns$Client") ∧ P (some (va_rf (some b16))) M15) X) X) X) X
theorem ce_X1_clientOf {w : kt_W} {g : kt_g} {d : Nat} {P : Option Value → kt_M → Prop} {X : String → Nat → kt_M → Prop} {a0 : Nat} {v1 : Int32} {M : kt_M} (h : vc_X1_clientOf w (g, M) d P X a0 v1 M) : kt_Sp w g (d + 1) yX1_clientOf kc_X1_clientOf [va_rf (some a0), .int v1] M P X := by
  refine kt_of (L0 := [(0, va_rf (some a0)), (1, .int v1)]) (by decide +kernel) (Nat.le_of_ble_eq_true rfl) rfl fun x O => ?_
  replace O : kt_O w x (g, M) (d + 1) cX1_clientOf "KeyTurns" 2 ("clientOf", "(I)LKeyTurns$Client;") (Option.some (Jvm.ClassFile.FieldType.object "KeyTurns$Client")) [] := O
  unfold vc_X1_clientOf at h
  refine kr_iload_n O dX1_clientOf_0 rfl 1 rfl ?_
  refine kr_i2l O dX1_clientOf_1 ?_
  refine kr_lconst O dX1_clientOf_2 (v := (0 : Int64)) (by decide) ?_
  refine kr_aload_n O dX1_clientOf_3 rfl 0 rfl ?_
  obtain ⟨p1, ep1, h⟩ := h
  refine kr_getf O dX1_clientOf_4 fs_X1_133 ep1 ?_
  obtain ⟨b2, rfl, h⟩ := h
  obtain ⟨p3, ep3, h⟩ := h
  refine kr_getf O dX1_clientOf_7 fs_X1_203 ep3 ?_
  obtain ⟨b4, rfl, h⟩ := h
  obtain ⟨hco, h⟩ := h
  refine kr_caI (rest := [.long (0 : Int64), .long v1.toInt64]) O cd_J3_size h (Nat.le_of_ble_eq_true rfl) (fun ls _ => kt_ivV (ci := 13) O dX1_clientOf_10 cd_J3_size in_J3_size (Or.inl q594) q478 q479 hco (by decide) hy_J3_size) (fun u5 M6 hq => ?_) (fun E q M9 hx => kr_out O hx)
  replace h := hq
  clear hq
  refine kr_iconst O dX1_clientOf_13 (v := (1 : Int32)) (by decide) ?_
  refine kr_isub O dX1_clientOf_14 ?_
  refine kr_i2l O dX1_clientOf_15 ?_
  refine kr_caI (rest := []) O cd_X1_isIn h (Nat.le_of_ble_eq_true rfl) (fun ls _ => kt_ivS O dX1_clientOf_16 cd_X1_isIn in_X1_isIn q1459 q510 hy_X1_isIn) (fun u7 M8 hq => ?_) (fun E q M9 hx => kr_out O hx)
  replace h := hq
  clear hq
  refine kr_caV (rest := []) O cd_X1_requireElement h (Nat.le_of_ble_eq_true rfl) (fun ls _ => kt_ivS O dX1_clientOf_19 cd_X1_requireElement in_X1_requireElement q1802 q1803 hy_X1_requireElement) (fun M9 hq => ?_) (fun E q M9 hx => kr_out O hx)
  replace h := hq
  clear hq
  refine kr_aload_n O dX1_clientOf_22 rfl 0 rfl ?_
  obtain ⟨p10, ep10, h⟩ := h
  refine kr_getf O dX1_clientOf_23 fs_X1_133 ep10 ?_
  obtain ⟨b11, rfl, h⟩ := h
  obtain ⟨p12, ep12, h⟩ := h
  refine kr_getf O dX1_clientOf_26 fs_X1_203 ep12 ?_
  refine kr_iload_n O dX1_clientOf_29 rfl 1 rfl ?_
  obtain ⟨b13, rfl, h⟩ := h
  obtain ⟨hco, h⟩ := h
  refine kr_caR (rest := []) O cd_J3_get h (Nat.le_of_ble_eq_true rfl) (fun ls _ => kt_ivV (ci := 13) O dX1_clientOf_30 cd_J3_get in_J3_get (Or.inl q1834) q482 q483 hco (by decide) hy_J3_get) (fun p14 M15 hq => ?_) (fun E q M9 hx => kr_out O hx)
  replace h := hq
  clear hq
  obtain ⟨b16, rfl, h⟩ := h
  obtain ⟨⟨cc1, hc1, hc2⟩, h⟩ := h
  refine kr_cast O dX1_clientOf_33 q1918 hc1 hc2 ?_
  exact kr_aret O dX1_clientOf_36 (by first | exact Or.inl ⟨_, rfl⟩ | exact Or.inr ⟨_, rfl⟩) h
def vc_X1_canUse (w : kt_W) (gr : kt_g × kt_M) (d : Nat) (P : Option Value → kt_M → Prop) (X : String → Nat → kt_M → Prop) (a0 : Nat) (v1 : Int32) (v2 : Int32) (M : kt_M) : Prop :=
  (kt_co M a0 = some 0) ∧ 
  kt_Ca w gr d yX1_clientOf kc_X1_clientOf [va_rf (some a0), .int v1] M (kt_pR fun p1 M2 => (kt_co M2 a0 = some 0) ∧ 
  kt_Ca w gr d yX1_versionOf kc_X1_versionOf [va_rf (some a0), .int v2] M2 (kt_pR fun p3 M4 => ∃ p5, kt_gf M4 a0 0 = some (va_rf p5) ∧ ∃ b6, p5 = some b6 ∧ ∃ u7, kt_gf M4 b6 14 = some (.int u7) ∧ ∃ b8, p1 = some b8 ∧ (kt_co M4 b8 = some 5) ∧ 
  kt_Ca w gr d yX9_canUse kc_X9_canUse [va_rf (some b8), .int v2, .int u7] M4 (kt_pI fun u9 M10 => narrow .boolean (.int u9) = .int u9 ∧ P (some (.int u9)) M10) X) X) X
theorem ce_X1_canUse {w : kt_W} {g : kt_g} {d : Nat} {P : Option Value → kt_M → Prop} {X : String → Nat → kt_M → Prop} {a0 : Nat} {v1 : Int32} {v2 : Int32} {M : kt_M} (h : vc_X1_canUse w (g, M) d P X a0 v1 v2 M) : kt_Sp w g (d + 1) yX1_canUse kc_X1_canUse [va_rf (some a0), .int v1, .int v2] M P X := by
  refine kt_of (L0 := [(0, va_rf (some a0)), (1, .int v1), (2, .int v2)]) (by decide +kernel) (Nat.le_of_ble_eq_true rfl) rfl fun x O => ?_
  replace O : kt_O w x (g, M) (d + 1) cX1_canUse "KeyTurns" 5 ("canUse", "(II)Z") (Option.some Jvm.ClassFile.FieldType.boolean) [] := O
  unfold vc_X1_canUse at h
  refine kr_aload_n O dX1_canUse_0 rfl 0 rfl ?_
  refine kr_iload_n O dX1_canUse_1 rfl 1 rfl ?_
  obtain ⟨hco, h⟩ := h
  refine kr_caR (rest := []) O cd_X1_clientOf h (Nat.le_of_ble_eq_true rfl) (fun ls _ => kt_ivV (ci := 0) O dX1_canUse_2 cd_X1_clientOf in_X1_clientOf (Or.inl q1914) q1916 qs26 hco (by decide) hy_X1_clientOf) (fun p1 M2 hq => ?_) (fun E q M9 hx => kr_out O hx)
  replace h := hq
  clear hq
  refine kr_astore_n O dX1_canUse_5 rfl (Nat.le_of_ble_eq_true rfl) rfl rfl ?_
  refine kr_aload_n O dX1_canUse_6 rfl 1 rfl ?_
  refine kr_iload_n O dX1_canUse_7 rfl 3 rfl ?_
  obtain ⟨hco, h⟩ := h
  refine kr_caR (rest := []) O cd_X1_versionOf h (Nat.le_of_ble_eq_true rfl) (fun ls _ => kt_ivV (ci := 0) O dX1_canUse_8 cd_X1_versionOf in_X1_versionOf (Or.inl q1830) q1832 qs24 hco (by decide) hy_X1_versionOf) (fun p3 M4 hq => ?_) (fun E q M9 hx => kr_out O hx)
  replace h := hq
  clear hq
  refine kr_astore O dX1_canUse_11 (Nat.le_of_ble_eq_true rfl) (by simp [kt_nw, kt_nrf, kt_cI, kt_cJ, kt_cF, kt_cD, kt_cR, kt_cU]) rfl ?_
  refine kr_aload_n O dX1_canUse_13 rfl 1 rfl ?_
  refine kr_iload_n O dX1_canUse_14 rfl 4 rfl ?_
  refine kr_aload_n O dX1_canUse_15 rfl 2 rfl ?_
  obtain ⟨p5, ep5, h⟩ := h
  refine kr_getf O dX1_canUse_16 fs_X1_133 ep5 ?_
  obtain ⟨b6, rfl, h⟩ := h
  obtain ⟨u7, eu7, h⟩ := h
  refine kr_getf O dX1_canUse_19 fs_X1_197 eu7 ?_
  obtain ⟨b8, rfl, h⟩ := h
  obtain ⟨hco, h⟩ := h
  refine kr_caI (rest := []) O cd_X9_canUse h (Nat.le_of_ble_eq_true rfl) (fun ls _ => kt_ivV (ci := 5) O dX1_canUse_22 cd_X9_canUse in_X9_canUse (Or.inl q1934) q617 q618 hco (by decide) hy_X9_canUse) (fun u9 M10 hq => ?_) (fun E q M9 hx => kr_out O hx)
  replace h := hq
  clear hq
  exact kr_iret O dX1_canUse_25 h.1 h.2
def vc_X1_readsBy (w : kt_W) (gr : kt_g × kt_M) (d : Nat) (P : Option Value → kt_M → Prop) (X : String → Nat → kt_M → Prop) (a0 : Nat) (v1 : Int32) (v2 : Int32) (M : kt_M) : Prop :=
  (kt_co M a0 = some 0) ∧ 
  kt_Ca w gr d yX1_clientOf kc_X1_clientOf [va_rf (some a0), .int v1] M (kt_pR fun p1 M2 => (kt_co M2 a0 = some 0) ∧ 
  kt_Ca w gr d yX1_recordOf kc_X1_recordOf [va_rf (some a0), .int v2] M2 (kt_pR fun p3 M4 => ∃ p5, kt_gf M4 a0 0 = some (va_rf p5) ∧ ∃ b6, p5 = some b6 ∧ (kt_co M4 b6 = some 1) ∧ 
  kt_Ca w gr d yX2_readsBy kc_X2_readsBy [va_rf (some b6), .int v1, .int v2] M4 (kt_pI fun u7 M8 => P (some (.int u7)) M8) X) X) X
theorem ce_X1_readsBy {w : kt_W} {g : kt_g} {d : Nat} {P : Option Value → kt_M → Prop} {X : String → Nat → kt_M → Prop} {a0 : Nat} {v1 : Int32} {v2 : Int32} {M : kt_M} (h : vc_X1_readsBy w (g, M) d P X a0 v1 v2 M) : kt_Sp w g (d + 1) yX1_readsBy kc_X1_readsBy [va_rf (some a0), .int v1, .int v2] M P X := by
  refine kt_of (L0 := [(0, va_rf (some a0)), (1, .int v1), (2, .int v2)]) (by decide +kernel) (Nat.le_of_ble_eq_true rfl) rfl fun x O => ?_
  replace O : kt_O w x (g, M) (d + 1) cX1_readsBy "KeyTurns" 5 ("readsBy", "(II)I") (Option.some Jvm.ClassFile.FieldType.int) [] := O
  unfold vc_X1_readsBy at h
  refine kr_aload_n O dX1_readsBy_0 rfl 0 rfl ?_
  refine kr_iload_n O dX1_readsBy_1 rfl 1 rfl ?_
  obtain ⟨hco, h⟩ := h
  refine kr_caR (rest := []) O cd_X1_clientOf h (Nat.le_of_ble_eq_true rfl) (fun ls _ => kt_ivV (ci := 0) O dX1_readsBy_2 cd_X1_clientOf in_X1_clientOf (Or.inl q1914) q1916 qs26 hco (by decide) hy_X1_clientOf) (fun p1 M2 hq => ?_) (fun E q M9 hx => kr_out O hx)
  replace h := hq
  clear hq
  refine kr_astore_n O dX1_readsBy_5 rfl (Nat.le_of_ble_eq_true rfl) rfl rfl ?_
  refine kr_aload_n O dX1_readsBy_6 rfl 1 rfl ?_
  refine kr_iload_n O dX1_readsBy_7 rfl 3 rfl ?_
  obtain ⟨hco, h⟩ := h
  refine kr_caR (rest := []) O cd_X1_recordOf h (Nat.le_of_ble_eq_true rfl) (fun ls _ => kt_ivV (ci := 0) O dX1_readsBy_8 cd_X1_recordOf in_X1_recordOf (Or.inl q1893) q1895 qs25 hco (by decide) hy_X1_recordOf) (fun p3 M4 hq => ?_) (fun E q M9 hx => kr_out O hx)
  replace h := hq
  clear hq
  refine kr_astore O dX1_readsBy_11 (Nat.le_of_ble_eq_true rfl) (by simp [kt_nw, kt_nrf, kt_cI, kt_cJ, kt_cF, kt_cD, kt_cR, kt_cU]) rfl ?_
  refine kr_aload_n O dX1_readsBy_13 rfl 2 rfl ?_
  obtain ⟨p5, ep5, h⟩ := h
  refine kr_getf O dX1_readsBy_14 fs_X1_133 ep5 ?_
  refine kr_iload_n O dX1_readsBy_17 rfl 3 rfl ?_
  refine kr_iload_n O dX1_readsBy_18 rfl 4 rfl ?_
  obtain ⟨b6, rfl, h⟩ := h
  obtain ⟨hco, h⟩ := h
  refine kr_caI (rest := []) O cd_X2_readsBy h (Nat.le_of_ble_eq_true rfl) (fun ls _ => kt_ivV (ci := 1) O dX1_readsBy_19 cd_X2_readsBy in_X2_readsBy (Or.inl q1942) q600 q601 hco (by decide) hy_X2_readsBy) (fun u7 M8 hq => ?_) (fun E q M9 hx => kr_out O hx)
  replace h := hq
  clear hq
  exact kr_iret O dX1_readsBy_22 rfl h
def vc_X1_couldRead (w : kt_W) (gr : kt_g × kt_M) (d : Nat) (P : Option Value → kt_M → Prop) (X : String → Nat → kt_M → Prop) (a0 : Nat) (v1 : Int32) (v2 : Int32) (M : kt_M) : Prop :=
  ∃ p1, kt_gf M a0 0 = some (va_rf p1) ∧ ∃ b2, p1 = some b2 ∧ ∃ p3, kt_gf M b2 11 = some (va_rf p3) ∧ ∃ b4, p3 = some b4 ∧ (kt_co M b4 = some 13) ∧ 
  kt_Ca w gr d yJ3_size kc_J3_size [va_rf (some b4)] M (kt_pI fun u5 M6 => 
  kt_Ca w gr d yX1_isIn kc_X1_isIn [.long v1.toInt64, .long (0 : Int64), .long ((u5 - (1 : Int32)).toInt64)] M6 (kt_pI fun u7 M8 => 
  kt_Ca w gr d yX1_requireElement kc_X1_requireElement [.int u7] M8 (kt_pV fun M9 => ∃ p10, kt_gf M9 a0 0 = some (va_rf p10) ∧ ∃ b11, p10 = some b11 ∧ (kt_co M9 b11 = some 1) ∧ 
  kt_Ca w gr d yX2_could kc_X2_could [va_rf (some b11), .int v1, .int v2] M9 (kt_pI fun u12 M13 => P (some (.int u12)) M13) X) X) X) X
theorem ce_X1_couldRead {w : kt_W} {g : kt_g} {d : Nat} {P : Option Value → kt_M → Prop} {X : String → Nat → kt_M → Prop} {a0 : Nat} {v1 : Int32} {v2 : Int32} {M : kt_M} (h : vc_X1_couldRead w (g, M) d P X a0 v1 v2 M) : kt_Sp w g (d + 1) yX1_couldRead kc_X1_couldRead [va_rf (some a0), .int v1, .int v2] M P X := by
  refine kt_of (L0 := [(0, va_rf (some a0)), (1, .int v1), (2, .int v2)]) (by decide +kernel) (Nat.le_of_ble_eq_true rfl) rfl fun x O => ?_
  replace O : kt_O w x (g, M) (d + 1) cX1_couldRead "KeyTurns" 3 ("couldRead", "(II)I") (Option.some Jvm.ClassFile.FieldType.int) [] := O
  unfold vc_X1_couldRead at h
  refine kr_iload_n O dX1_couldRead_0 rfl 1 rfl ?_
  refine kr_i2l O dX1_couldRead_1 ?_
  refine kr_lconst O dX1_couldRead_2 (v := (0 : Int64)) (by decide) ?_
  refine kr_aload_n O dX1_couldRead_3 rfl 0 rfl ?_
  obtain ⟨p1, ep1, h⟩ := h
  refine kr_getf O dX1_couldRead_4 fs_X1_133 ep1 ?_
  obtain ⟨b2, rfl, h⟩ := h
  obtain ⟨p3, ep3, h⟩ := h
  refine kr_getf O dX1_couldRead_7 fs_X1_58 ep3 ?_
  obtain ⟨b4, rfl, h⟩ := h
  obtain ⟨hco, h⟩ := h
  refine kr_caI (rest := [.long (0 : Int64), .long v1.toInt64]) O cd_J3_size h (Nat.le_of_ble_eq_true rfl) (fun ls _ => kt_ivV (ci := 13) O dX1_couldRead_10 cd_J3_size in_J3_size (Or.inl q594) q478 q479 hco (by decide) hy_J3_size) (fun u5 M6 hq => ?_) (fun E q M9 hx => kr_out O hx)
  replace h := hq
  clear hq
  refine kr_iconst O dX1_couldRead_13 (v := (1 : Int32)) (by decide) ?_
  refine kr_isub O dX1_couldRead_14 ?_
  refine kr_i2l O dX1_couldRead_15 ?_
  refine kr_caI (rest := []) O cd_X1_isIn h (Nat.le_of_ble_eq_true rfl) (fun ls _ => kt_ivS O dX1_couldRead_16 cd_X1_isIn in_X1_isIn q1459 q510 hy_X1_isIn) (fun u7 M8 hq => ?_) (fun E q M9 hx => kr_out O hx)
  replace h := hq
  clear hq
  refine kr_caV (rest := []) O cd_X1_requireElement h (Nat.le_of_ble_eq_true rfl) (fun ls _ => kt_ivS O dX1_couldRead_19 cd_X1_requireElement in_X1_requireElement q1802 q1803 hy_X1_requireElement) (fun M9 hq => ?_) (fun E q M9 hx => kr_out O hx)
  replace h := hq
  clear hq
  refine kr_aload_n O dX1_couldRead_22 rfl 0 rfl ?_
  obtain ⟨p10, ep10, h⟩ := h
  refine kr_getf O dX1_couldRead_23 fs_X1_133 ep10 ?_
  refine kr_iload_n O dX1_couldRead_26 rfl 1 rfl ?_
  refine kr_iload_n O dX1_couldRead_27 rfl 2 rfl ?_
  obtain ⟨b11, rfl, h⟩ := h
  obtain ⟨hco, h⟩ := h
  refine kr_caI (rest := []) O cd_X2_could h (Nat.le_of_ble_eq_true rfl) (fun ls _ => kt_ivV (ci := 1) O dX1_couldRead_28 cd_X2_could in_X2_could (Or.inl q1950) q1951 q1952 hco (by decide) hy_X2_could) (fun u12 M13 hq => ?_) (fun E q M9 hx => kr_out O hx)
  replace h := hq
  clear hq
  exact kr_iret O dX1_couldRead_31 rfl h
def vc_X1_nextAsk_16 (w : kt_W) (gr : kt_g × kt_M) (d : Nat) (P : Option Value → kt_M → Prop) (X : String → Nat → kt_M → Prop) (nx16 : Int32 → kt_M → Prop) (r2 : Option Nat) (v3 : Int32) (M : kt_M) : Prop :=
  
    (((9999 : Int32) < v3 → P (some (.int (-1 : Int32))) M) ∧
    (¬ (9999 : Int32) < v3 → ∃ b1, r2 = some b1 ∧ (kt_co M b1 = some 5) ∧ 
    kt_Ca w gr d yX9_isHour kc_X9_isHour [va_rf (some b1), .int v3] M (kt_pI fun u2 M3 => 
      ((u2 = 0 → nx16 (v3 + (1 : Int32)) M3) ∧
      (¬ u2 = 0 → P (some (.int v3)) M3))) X))
theorem cj_X1_nextAsk_16 {w : kt_W} {x : kt_X} {gr : kt_g × kt_M} {d : Nat} {P : Option Value → kt_M → Prop} {X : String → Nat → kt_M → Prop} {nx16 : Int32 → kt_M → Prop} {r2 : Option Nat} {v3 : Int32} {M : kt_M} (O : kt_O w x gr (d + 1) cX1_nextAsk "KeyTurns" 4 ("nextAsk", "(I)I") (Option.some Jvm.ClassFile.FieldType.int) []) (hn16 : ∀ v3 M, nx16 v3 M → kt_S w x 4 (kt_E w x P X) M 16 [(2, va_rf r2), (3, .int v3)] []) (h : vc_X1_nextAsk_16 w gr d P X nx16 r2 v3 M) : kt_S w x 4 (kt_E w x P X) M 16 [(2, va_rf r2), (3, .int v3)] [] := by
  unfold vc_X1_nextAsk_16 at h
  refine kr_iload_n O dX1_nextAsk_16 rfl 1 rfl ?_
  refine kr_sipush O dX1_nextAsk_17 (v := (9999 : Int32)) (by decide) ?_
  refine kr_icmp_gt (tgt := 39) O dX1_nextAsk_20 rfl (fun hc => ?_) (fun hc => ?_)
  · replace h := h.1 hc
    refine kr_iconst O dX1_nextAsk_39 (v := (-1 : Int32)) (by decide) ?_
    exact kr_iret O dX1_nextAsk_40 rfl h
  · replace h := h.2 hc
    refine kr_aload_n O dX1_nextAsk_23 rfl 0 rfl ?_
    refine kr_iload_n O dX1_nextAsk_24 rfl 1 rfl ?_
    obtain ⟨b1, rfl, h⟩ := h
    obtain ⟨hco, h⟩ := h
    refine kr_caI (rest := []) O cd_X9_isHour h (Nat.le_of_ble_eq_true rfl) (fun ls _ => kt_ivV (ci := 5) O dX1_nextAsk_25 cd_X9_isHour in_X9_isHour (Or.inl q1963) q1964 q1965 hco (by decide) hy_X9_isHour) (fun u2 M3 hq => ?_) (fun E q M9 hx => kr_out O hx)
    replace h := hq
    clear hq
    refine kr_if_eq (tgt := 33) O dX1_nextAsk_28 rfl (fun hc => ?_) (fun hc => ?_)
    · replace h := h.1 hc
      refine kr_iinc O dX1_nextAsk_33 1 rfl (v := v3 + (1 : Int32)) rfl (Nat.le_of_ble_eq_true rfl) rfl rfl ?_
      refine kr_goto (tgt := 16) O dX1_nextAsk_36 rfl ?_
      refine kr_sub [1, 0] rfl ?_
      exact hn16 _ _ h
    · replace h := h.2 hc
      refine kr_iload_n O dX1_nextAsk_31 rfl 1 rfl ?_
      exact kr_iret O dX1_nextAsk_32 rfl h
def vl_X1_nextAsk_16 (w : kt_W) (gr : kt_g × kt_M) (d : Nat) (P : Option Value → kt_M → Prop) (X : String → Nat → kt_M → Prop)  (r2 : Option Nat) (v3 : Int32) (M : kt_M) : Prop :=
  ∃ Inv : Nat → Int32 → kt_M → Prop, (∃ k, Inv k v3 M) ∧ ∀ k v3 M, kt_le gr.1 gr.2 M → Inv k v3 M → vc_X1_nextAsk_16 w gr d P X (fun v3' M' => ∃ k', k' < k ∧ Inv k' v3' M') r2 v3 M
theorem cl_X1_nextAsk_16 {w : kt_W} {x : kt_X} {gr : kt_g × kt_M} {d : Nat} {P : Option Value → kt_M → Prop} {X : String → Nat → kt_M → Prop}  {r2 : Option Nat} {v3 : Int32} {M : kt_M} (O : kt_O w x gr (d + 1) cX1_nextAsk "KeyTurns" 4 ("nextAsk", "(I)I") (Option.some Jvm.ClassFile.FieldType.int) [])  (h : vl_X1_nextAsk_16 w gr d P X  r2 v3 M) : kt_S w x 4 (kt_E w x P X) M 16 [(2, va_rf r2), (3, .int v3)] [] := by
  obtain ⟨Inv, ⟨k, hk⟩, hb⟩ := h
  induction k using Nat.strongRecOn generalizing v3 M with
  | ind k ih =>
    exact kr_le O fun hle => cj_X1_nextAsk_16 O (fun v3' M' hi => let ⟨k', h1, h2⟩ := hi; ih k' h1 h2) (hb k _ _ hle hk)
def vc_X1_nextAsk (w : kt_W) (gr : kt_g × kt_M) (d : Nat) (P : Option Value → kt_M → Prop) (X : String → Nat → kt_M → Prop) (a0 : Nat) (v1 : Int32) (M : kt_M) : Prop :=
  (kt_co M a0 = some 0) ∧ 
  kt_Ca w gr d yX1_clientOf kc_X1_clientOf [va_rf (some a0), .int v1] M (kt_pR fun p1 M2 => ∃ p3, kt_gf M2 a0 0 = some (va_rf p3) ∧ ∃ b4, p3 = some b4 ∧ ∃ u5, kt_gf M2 b4 14 = some (.int u5) ∧ vl_X1_nextAsk_16 w gr d P X  p1 (u5 + (1 : Int32)) M2) X
theorem ce_X1_nextAsk {w : kt_W} {g : kt_g} {d : Nat} {P : Option Value → kt_M → Prop} {X : String → Nat → kt_M → Prop} {a0 : Nat} {v1 : Int32} {M : kt_M} (h : vc_X1_nextAsk w (g, M) d P X a0 v1 M) : kt_Sp w g (d + 1) yX1_nextAsk kc_X1_nextAsk [va_rf (some a0), .int v1] M P X := by
  refine kt_of (L0 := [(0, va_rf (some a0)), (1, .int v1)]) (by decide +kernel) (Nat.le_of_ble_eq_true rfl) rfl fun x O => ?_
  replace O : kt_O w x (g, M) (d + 1) cX1_nextAsk "KeyTurns" 4 ("nextAsk", "(I)I") (Option.some Jvm.ClassFile.FieldType.int) [] := O
  unfold vc_X1_nextAsk at h
  refine kr_aload_n O dX1_nextAsk_0 rfl 0 rfl ?_
  refine kr_iload_n O dX1_nextAsk_1 rfl 1 rfl ?_
  obtain ⟨hco, h⟩ := h
  refine kr_caR (rest := []) O cd_X1_clientOf h (Nat.le_of_ble_eq_true rfl) (fun ls _ => kt_ivV (ci := 0) O dX1_nextAsk_2 cd_X1_clientOf in_X1_clientOf (Or.inl q1914) q1916 qs26 hco (by decide) hy_X1_clientOf) (fun p1 M2 hq => ?_) (fun E q M9 hx => kr_out O hx)
  replace h := hq
  clear hq
  refine kr_astore_n O dX1_nextAsk_5 rfl (Nat.le_of_ble_eq_true rfl) rfl rfl ?_
  refine kr_aload_n O dX1_nextAsk_6 rfl 1 rfl ?_
  obtain ⟨p3, ep3, h⟩ := h
  refine kr_getf O dX1_nextAsk_7 fs_X1_133 ep3 ?_
  obtain ⟨b4, rfl, h⟩ := h
  obtain ⟨u5, eu5, h⟩ := h
  refine kr_getf O dX1_nextAsk_10 fs_X1_197 eu5 ?_
  refine kr_iconst O dX1_nextAsk_13 (v := (1 : Int32)) (by decide) ?_
  refine kr_iadd O dX1_nextAsk_14 ?_
  refine kr_istore_n O dX1_nextAsk_15 rfl (Nat.le_of_ble_eq_true rfl) (by simp [kt_nw, kt_nrf, kt_cI, kt_cJ, kt_cF, kt_cD, kt_cR, kt_cU]) rfl ?_
  refine kr_sub [1, 0] rfl ?_
  exact cl_X1_nextAsk_16 O  h
def vc_X1_readersBehind (w : kt_W) (gr : kt_g × kt_M) (d : Nat) (P : Option Value → kt_M → Prop) (X : String → Nat → kt_M → Prop) (a0 : Nat) (v1 : Int32) (v2 : Int32) (M : kt_M) : Prop :=
  (kt_co M a0 = some 0) ∧ 
  kt_Ca w gr d yX1_recordOf kc_X1_recordOf [va_rf (some a0), .int v1] M (kt_pR fun p1 M2 => 
  kt_Ca w gr d yX1_isIn kc_X1_isIn [.long v2.toInt64, .long (0 : Int64), .long (100 : Int64)] M2 (kt_pI fun u3 M4 => 
  kt_Ca w gr d yX1_requireArgument kc_X1_requireArgument [.int u3] M4 (kt_pV fun M5 => (kt_co M5 a0 = some 0) ∧ 
  kt_Ca w gr d yX1_behind kc_X1_behind [va_rf (some a0), .int v2] M5 (kt_pR fun p6 M7 => ∃ b8, p6 = some b8 ∧ (kt_co M7 b8 = some 1) ∧ 
  kt_Ca w gr d yX2_readers kc_X2_readers [va_rf (some b8), .int v1] M7 (kt_pI fun u9 M10 => P (some (.int u9)) M10) X) X) X) X) X
theorem ce_X1_readersBehind {w : kt_W} {g : kt_g} {d : Nat} {P : Option Value → kt_M → Prop} {X : String → Nat → kt_M → Prop} {a0 : Nat} {v1 : Int32} {v2 : Int32} {M : kt_M} (h : vc_X1_readersBehind w (g, M) d P X a0 v1 v2 M) : kt_Sp w g (d + 1) yX1_readersBehind kc_X1_readersBehind [va_rf (some a0), .int v1, .int v2] M P X := by
  refine kt_of (L0 := [(0, va_rf (some a0)), (1, .int v1), (2, .int v2)]) (by decide +kernel) (Nat.le_of_ble_eq_true rfl) rfl fun x O => ?_
  replace O : kt_O w x (g, M) (d + 1) cX1_readersBehind "KeyTurns" 4 ("readersBehind", "(II)I") (Option.some Jvm.ClassFile.FieldType.int) [] := O
  unfold vc_X1_readersBehind at h
  refine kr_aload_n O dX1_readersBehind_0 rfl 0 rfl ?_
  refine kr_iload_n O dX1_readersBehind_1 rfl 1 rfl ?_
  obtain ⟨hco, h⟩ := h
  refine kr_caR (rest := []) O cd_X1_recordOf h (Nat.le_of_ble_eq_true rfl) (fun ls _ => kt_ivV (ci := 0) O dX1_readersBehind_2 cd_X1_recordOf in_X1_recordOf (Or.inl q1893) q1895 qs25 hco (by decide) hy_X1_recordOf) (fun p1 M2 hq => ?_) (fun E q M9 hx => kr_out O hx)
  replace h := hq
  clear hq
  refine kr_astore_n O dX1_readersBehind_5 rfl (Nat.le_of_ble_eq_true rfl) rfl rfl ?_
  refine kr_iload_n O dX1_readersBehind_6 rfl 3 rfl ?_
  refine kr_i2l O dX1_readersBehind_7 ?_
  refine kr_lconst O dX1_readersBehind_8 (v := (0 : Int64)) (by decide) ?_
  refine kr_ldc2 O dX1_readersBehind_9 q1974 ?_
  refine kr_caI (rest := []) O cd_X1_isIn h (Nat.le_of_ble_eq_true rfl) (fun ls _ => kt_ivS O dX1_readersBehind_12 cd_X1_isIn in_X1_isIn q1459 q510 hy_X1_isIn) (fun u3 M4 hq => ?_) (fun E q M9 hx => kr_out O hx)
  replace h := hq
  clear hq
  refine kr_caV (rest := []) O cd_X1_requireArgument h (Nat.le_of_ble_eq_true rfl) (fun ls _ => kt_ivS O dX1_readersBehind_15 cd_X1_requireArgument in_X1_requireArgument q1496 q1497 hy_X1_requireArgument) (fun M5 hq => ?_) (fun E q M9 hx => kr_out O hx)
  replace h := hq
  clear hq
  refine kr_aload_n O dX1_readersBehind_18 rfl 1 rfl ?_
  refine kr_iload_n O dX1_readersBehind_19 rfl 3 rfl ?_
  obtain ⟨hco, h⟩ := h
  refine kr_caR (rest := []) O cd_X1_behind h (Nat.le_of_ble_eq_true rfl) (fun ls _ => kt_ivV (ci := 0) O dX1_readersBehind_20 cd_X1_behind in_X1_behind (Or.inl q1975) q1977 qs27 hco (by decide) hy_X1_behind) (fun p6 M7 hq => ?_) (fun E q M9 hx => kr_out O hx)
  replace h := hq
  clear hq
  refine kr_iload_n O dX1_readersBehind_23 rfl 2 rfl ?_
  obtain ⟨b8, rfl, h⟩ := h
  obtain ⟨hco, h⟩ := h
  refine kr_caI (rest := []) O cd_X2_readers h (Nat.le_of_ble_eq_true rfl) (fun ls _ => kt_ivV (ci := 1) O dX1_readersBehind_24 cd_X2_readers in_X2_readers (Or.inl q1903) q1904 q1905 hco (by decide) hy_X2_readers) (fun u9 M10 hq => ?_) (fun E q M9 hx => kr_out O hx)
  replace h := hq
  clear hq
  exact kr_iret O dX1_readersBehind_27 rfl h
def vc_X1_behind_12 (w : kt_W) (gr : kt_g × kt_M) (d : Nat) (P : Option Value → kt_M → Prop) (X : String → Nat → kt_M → Prop) (nx12 : Int32 → kt_M → Prop) (v1 : Int32) (r2 : Option Nat) (v3 : Int32) (M : kt_M) : Prop :=
  
    ((v1 ≤ v3 → P (some (va_rf r2)) M) ∧
    (¬ v1 ≤ v3 → ∃ b1, r2 = some b1 ∧ ∃ u2, kt_gf M b1 14 = some (.int u2) ∧ 
      (((9999 : Int32) ≤ u2 → P (some (va_rf (some b1))) M) ∧
      (¬ (9999 : Int32) ≤ u2 → (kt_co M b1 = some 1) ∧ 
      kt_Ca w gr d yX2_pass kc_X2_pass [va_rf (some b1)] M (kt_pV fun M3 => nx12 (v3 + (1 : Int32)) M3) X))))
theorem cj_X1_behind_12 {w : kt_W} {x : kt_X} {gr : kt_g × kt_M} {d : Nat} {P : Option Value → kt_M → Prop} {X : String → Nat → kt_M → Prop} {nx12 : Int32 → kt_M → Prop} {v1 : Int32} {r2 : Option Nat} {v3 : Int32} {M : kt_M} (O : kt_O w x gr (d + 1) cX1_behind "KeyTurns" 4 ("behind", "(I)LKeyTurns$State;") (Option.some (Jvm.ClassFile.FieldType.object "KeyTurns$State")) []) (hn12 : ∀ v3 M, nx12 v3 M → kt_S w x 4 (kt_E w x P X) M 12 [(1, .int v1), (2, va_rf r2), (3, .int v3)] []) (h : vc_X1_behind_12 w gr d P X nx12 v1 r2 v3 M) : kt_S w x 4 (kt_E w x P X) M 12 [(1, .int v1), (2, va_rf r2), (3, .int v3)] [] := by
  unfold vc_X1_behind_12 at h
  refine kr_iload_n O dX1_behind_12 rfl 2 rfl ?_
  refine kr_iload_n O dX1_behind_13 rfl 0 rfl ?_
  refine kr_icmp_ge (tgt := 37) O dX1_behind_14 rfl (fun hc => ?_) (fun hc => ?_)
  · replace h := h.1 hc
    refine kr_aload_n O dX1_behind_37 rfl 1 rfl ?_
    exact kr_aret O dX1_behind_38 (by first | exact Or.inl ⟨_, rfl⟩ | exact Or.inr ⟨_, rfl⟩) h
  · replace h := h.2 hc
    refine kr_aload_n O dX1_behind_17 rfl 1 rfl ?_
    obtain ⟨b1, rfl, h⟩ := h
    obtain ⟨u2, eu2, h⟩ := h
    refine kr_getf O dX1_behind_18 fs_X1_197 eu2 ?_
    refine kr_sipush O dX1_behind_21 (v := (9999 : Int32)) (by decide) ?_
    refine kr_icmp_ge (tgt := 37) O dX1_behind_24 rfl (fun hc => ?_) (fun hc => ?_)
    · replace h := h.1 hc
      refine kr_aload_n O dX1_behind_37 rfl 1 rfl ?_
      exact kr_aret O dX1_behind_38 (by first | exact Or.inl ⟨_, rfl⟩ | exact Or.inr ⟨_, rfl⟩) h
    · replace h := h.2 hc
      refine kr_aload_n O dX1_behind_27 rfl 1 rfl ?_
      obtain ⟨hco, h⟩ := h
      refine kr_caV (rest := []) O cd_X2_pass h (Nat.le_of_ble_eq_true rfl) (fun ls _ => kt_ivV (ci := 1) O dX1_behind_28 cd_X2_pass in_X2_pass (Or.inl q1979) q1980 q1981 hco (by decide) hy_X2_pass) (fun M3 hq => ?_) (fun E q M9 hx => kr_out O hx)
      replace h := hq
      clear hq
      refine kr_iinc O dX1_behind_31 2 rfl (v := v3 + (1 : Int32)) rfl (Nat.le_of_ble_eq_true rfl) rfl rfl ?_
      refine kr_goto (tgt := 12) O dX1_behind_34 rfl ?_
      refine kr_sub [1, 2, 0] rfl ?_
      exact hn12 _ _ h
def vl_X1_behind_12 (w : kt_W) (gr : kt_g × kt_M) (d : Nat) (P : Option Value → kt_M → Prop) (X : String → Nat → kt_M → Prop)  (v1 : Int32) (r2 : Option Nat) (v3 : Int32) (M : kt_M) : Prop :=
  ∃ Inv : Nat → Int32 → kt_M → Prop, (∃ k, Inv k v3 M) ∧ ∀ k v3 M, kt_le gr.1 gr.2 M → Inv k v3 M → vc_X1_behind_12 w gr d P X (fun v3' M' => ∃ k', k' < k ∧ Inv k' v3' M') v1 r2 v3 M
theorem cl_X1_behind_12 {w : kt_W} {x : kt_X} {gr : kt_g × kt_M} {d : Nat} {P : Option Value → kt_M → Prop} {X : String → Nat → kt_M → Prop}  {v1 : Int32} {r2 : Option Nat} {v3 : Int32} {M : kt_M} (O : kt_O w x gr (d + 1) cX1_behind "KeyTurns" 4 ("behind", "(I)LKeyTurns$State;") (Option.some (Jvm.ClassFile.FieldType.object "KeyTurns$State")) [])  (h : vl_X1_behind_12 w gr d P X  v1 r2 v3 M) : kt_S w x 4 (kt_E w x P X) M 12 [(1, .int v1), (2, va_rf r2), (3, .int v3)] [] := by
  obtain ⟨Inv, ⟨k, hk⟩, hb⟩ := h
  induction k using Nat.strongRecOn generalizing v3 M with
  | ind k ih =>
    exact kr_le O fun hle => cj_X1_behind_12 O (fun v3' M' hi => let ⟨k', h1, h2⟩ := hi; ih k' h1 h2) (hb k _ _ hle hk)
def vc_X1_behind (w : kt_W) (gr : kt_g × kt_M) (d : Nat) (P : Option Value → kt_M → Prop) (X : String → Nat → kt_M → Prop) (a0 : Nat) (v1 : Int32) (M : kt_M) : Prop :=
  ∃ p1, kt_gf M a0 0 = some (va_rf p1) ∧ ∃ b2, p1 = some b2 ∧ (kt_co M b2 = some 1) ∧ 
  kt_Ca w gr d yX2_copy kc_X2_copy [va_rf (some b2), .int (0 : Int32), .int (1 : Int32)] M (kt_pR fun p3 M4 => vl_X1_behind_12 w gr d P X  v1 p3 (0 : Int32) M4) X
theorem ce_X1_behind {w : kt_W} {g : kt_g} {d : Nat} {P : Option Value → kt_M → Prop} {X : String → Nat → kt_M → Prop} {a0 : Nat} {v1 : Int32} {M : kt_M} (h : vc_X1_behind w (g, M) d P X a0 v1 M) : kt_Sp w g (d + 1) yX1_behind kc_X1_behind [va_rf (some a0), .int v1] M P X := by
  refine kt_of (L0 := [(0, va_rf (some a0)), (1, .int v1)]) (by decide +kernel) (Nat.le_of_ble_eq_true rfl) rfl fun x O => ?_
  replace O : kt_O w x (g, M) (d + 1) cX1_behind "KeyTurns" 4 ("behind", "(I)LKeyTurns$State;") (Option.some (Jvm.ClassFile.FieldType.object "KeyTurns$State")) [] := O
  unfold vc_X1_behind at h
  refine kr_aload_n O dX1_behind_0 rfl 0 rfl ?_
  obtain ⟨p1, ep1, h⟩ := h
  refine kr_getf O dX1_behind_1 fs_X1_133 ep1 ?_
  refine kr_iconst O dX1_behind_4 (v := (0 : Int32)) (by decide) ?_
  refine kr_iconst O dX1_behind_5 (v := (1 : Int32)) (by decide) ?_
  obtain ⟨b2, rfl, h⟩ := h
  obtain ⟨hco, h⟩ := h
  refine kr_caR (rest := []) O cd_X2_copy h (Nat.le_of_ble_eq_true rfl) (fun ls _ => kt_ivV (ci := 1) O dX1_behind_6 cd_X2_copy in_X2_copy (Or.inl q731) q732 q733 hco (by decide) hy_X2_copy) (fun p3 M4 hq => ?_) (fun E q M9 hx => kr_out O hx)
  replace h := hq
  clear hq
  refine kr_astore_n O dX1_behind_9 rfl (Nat.le_of_ble_eq_true rfl) rfl rfl ?_
  refine kr_iconst O dX1_behind_10 (v := (0 : Int32)) (by decide) ?_
  refine kr_istore_n O dX1_behind_11 rfl (Nat.le_of_ble_eq_true rfl) (by simp [kt_nw, kt_nrf, kt_cI, kt_cJ, kt_cF, kt_cD, kt_cR, kt_cU]) rfl ?_
  refine kr_sub [3, 1, 0] rfl ?_
  exact cl_X1_behind_12 O  h
def vc_X1_dark_84 (w : kt_W) (gr : kt_g × kt_M) (d : Nat) (P : Option Value → kt_M → Prop) (X : String → Nat → kt_M → Prop) (nx41 : Int32 → Int32 → kt_M → Prop) (v1 : Int32) (v2 : Int32) (a4 : Nat) (v5 : Int32) (v7 : Int32) (s0 : Int32) (s1 : Int32) (M : kt_M) : Prop :=
  
  kt_Ca w gr d yX1_asInt kc_X1_asInt [.int s0] M (kt_pI fun u1 M2 => nx41 (s1 + u1) (v7 + (1 : Int32)) M2) X
theorem cj_X1_dark_84 {w : kt_W} {x : kt_X} {gr : kt_g × kt_M} {d : Nat} {P : Option Value → kt_M → Prop} {X : String → Nat → kt_M → Prop} {nx41 : Int32 → Int32 → kt_M → Prop} {v1 : Int32} {v2 : Int32} {a4 : Nat} {v5 : Int32} {v7 : Int32} {s0 : Int32} {s1 : Int32} {M : kt_M} (O : kt_O w x gr (d + 1) cX1_dark "KeyTurns" 8 ("dark", "(II)I") (Option.some Jvm.ClassFile.FieldType.int) []) (hn41 : ∀ v6 v7 M, nx41 v6 v7 M → kt_S w x 8 (kt_E w x P X) M 41 [(1, .int v1), (2, .int v2), (4, va_rf (some a4)), (5, .int v5), (6, .int v6), (7, .int v7)] []) (h : vc_X1_dark_84 w gr d P X nx41 v1 v2 a4 v5 v7 s0 s1 M) : kt_S w x 8 (kt_E w x P X) M 84 [(1, .int v1), (2, .int v2), (4, va_rf (some a4)), (5, .int v5), (7, .int v7)] [.int s0, .int s1] := by
  unfold vc_X1_dark_84 at h
  refine kr_caI (rest := [.int s1]) O cd_X1_asInt h (Nat.le_of_ble_eq_true rfl) (fun ls _ => kt_ivS O dX1_dark_84 cd_X1_asInt in_X1_asInt q2015 q574 hy_X1_asInt) (fun u1 M2 hq => ?_) (fun E q M9 hx => kr_out O hx)
  replace h := hq
  clear hq
  refine kr_iadd O dX1_dark_87 ?_
  refine kr_istore O dX1_dark_88 (Nat.le_of_ble_eq_true rfl) rfl rfl ?_
  refine kr_iinc O dX1_dark_90 5 rfl (v := v7 + (1 : Int32)) rfl (Nat.le_of_ble_eq_true rfl) rfl rfl ?_
  refine kr_goto (tgt := 41) O dX1_dark_93 rfl ?_
  refine kr_sub [2, 3, 4, 5, 1, 0] rfl ?_
  exact hn41 _ _ _ h
def vc_X1_dark_41 (w : kt_W) (gr : kt_g × kt_M) (d : Nat) (P : Option Value → kt_M → Prop) (X : String → Nat → kt_M → Prop) (nx41 : Int32 → Int32 → kt_M → Prop) (v1 : Int32) (v2 : Int32) (r4 : Option Nat) (v5 : Int32) (v6 : Int32) (v7 : Int32) (M : kt_M) : Prop :=
  
    ((v2 ≤ v7 → P (some (.int v6)) M) ∧
    (¬ v2 ≤ v7 → ∃ b1, r4 = some b1 ∧ ∃ u2, kt_gf M b1 14 = some (.int u2) ∧ 
      (((9999 : Int32) ≤ u2 → P (some (.int v6)) M) ∧
      (¬ (9999 : Int32) ≤ u2 → (kt_co M b1 = some 1) ∧ 
      kt_Ca w gr d yX2_pass kc_X2_pass [va_rf (some b1)] M (kt_pV fun M3 => (kt_co M3 b1 = some 1) ∧ 
      kt_Ca w gr d yX2_share kc_X2_share [va_rf (some b1), .int v1] M3 (kt_pF fun u4 M5 => 
      kt_Ca w gr d yJ30_floatToIntBits kc_J30_floatToIntBits [.float u4] M5 (kt_pI fun u6 M7 => 
        ((u6 = v5 → vc_X1_dark_84 w gr d P X nx41 v1 v2 b1 v5 v7 (0 : Int32) v6 M7) ∧
        (¬ u6 = v5 → vc_X1_dark_84 w gr d P X nx41 v1 v2 b1 v5 v7 (1 : Int32) v6 M7))) X) X) X))))
theorem cj_X1_dark_41 {w : kt_W} {x : kt_X} {gr : kt_g × kt_M} {d : Nat} {P : Option Value → kt_M → Prop} {X : String → Nat → kt_M → Prop} {nx41 : Int32 → Int32 → kt_M → Prop} {v1 : Int32} {v2 : Int32} {r4 : Option Nat} {v5 : Int32} {v6 : Int32} {v7 : Int32} {M : kt_M} (O : kt_O w x gr (d + 1) cX1_dark "KeyTurns" 8 ("dark", "(II)I") (Option.some Jvm.ClassFile.FieldType.int) []) (hn41 : ∀ v6 v7 M, nx41 v6 v7 M → kt_S w x 8 (kt_E w x P X) M 41 [(1, .int v1), (2, .int v2), (4, va_rf r4), (5, .int v5), (6, .int v6), (7, .int v7)] []) (h : vc_X1_dark_41 w gr d P X nx41 v1 v2 r4 v5 v6 v7 M) : kt_S w x 8 (kt_E w x P X) M 41 [(1, .int v1), (2, .int v2), (4, va_rf r4), (5, .int v5), (6, .int v6), (7, .int v7)] [] := by
  unfold vc_X1_dark_41 at h
  refine kr_iload O dX1_dark_41 5 rfl ?_
  refine kr_iload_n O dX1_dark_43 rfl 1 rfl ?_
  refine kr_icmp_ge (tgt := 96) O dX1_dark_44 rfl (fun hc => ?_) (fun hc => ?_)
  · replace h := h.1 hc
    refine kr_iload O dX1_dark_96 4 rfl ?_
    exact kr_iret O dX1_dark_98 rfl h
  · replace h := h.2 hc
    refine kr_aload O dX1_dark_47 2 rfl ?_
    obtain ⟨b1, rfl, h⟩ := h
    obtain ⟨u2, eu2, h⟩ := h
    refine kr_getf O dX1_dark_49 fs_X1_197 eu2 ?_
    refine kr_sipush O dX1_dark_52 (v := (9999 : Int32)) (by decide) ?_
    refine kr_icmp_ge (tgt := 96) O dX1_dark_55 rfl (fun hc => ?_) (fun hc => ?_)
    · replace h := h.1 hc
      refine kr_iload O dX1_dark_96 4 rfl ?_
      exact kr_iret O dX1_dark_98 rfl h
    · replace h := h.2 hc
      refine kr_aload O dX1_dark_58 2 rfl ?_
      obtain ⟨hco, h⟩ := h
      refine kr_caV (rest := []) O cd_X2_pass h (Nat.le_of_ble_eq_true rfl) (fun ls _ => kt_ivV (ci := 1) O dX1_dark_60 cd_X2_pass in_X2_pass (Or.inl q1979) q1980 q1981 hco (by decide) hy_X2_pass) (fun M3 hq => ?_) (fun E q M9 hx => kr_out O hx)
      replace h := hq
      clear hq
      refine kr_iload O dX1_dark_63 4 rfl ?_
      refine kr_aload O dX1_dark_65 2 rfl ?_
      refine kr_iload_n O dX1_dark_67 rfl 0 rfl ?_
      obtain ⟨hco, h⟩ := h
      refine kr_caF (rest := [.int v6]) O cd_X2_share h (Nat.le_of_ble_eq_true rfl) (fun ls _ => kt_ivV (ci := 1) O dX1_dark_68 cd_X2_share in_X2_share (Or.inl q2009) q2010 q2011 hco (by decide) hy_X2_share) (fun u4 M5 hq => ?_) (fun E q M9 hx => kr_out O hx)
      replace h := hq
      clear hq
      refine kr_caI (rest := [.int v6]) O cd_J30_floatToIntBits h (Nat.le_of_ble_eq_true rfl) (fun ls _ => kt_ivS O dX1_dark_71 cd_J30_floatToIntBits in_J30_floatToIntBits q1999 q2000 hy_J30_floatToIntBits) (fun u6 M7 hq => ?_) (fun E q M9 hx => kr_out O hx)
      replace h := hq
      clear hq
      refine kr_iload O dX1_dark_74 3 rfl ?_
      refine kr_icmp_eq (tgt := 83) O dX1_dark_76 rfl (fun hc => ?_) (fun hc => ?_)
      · replace h := h.1 hc
        refine kr_iconst O dX1_dark_83 (v := (0 : Int32)) (by decide) ?_
        refine kr_sub [0, 1, 2, 3, 5] rfl ?_
        exact cj_X1_dark_84 O hn41 h
      · replace h := h.2 hc
        refine kr_iconst O dX1_dark_79 (v := (1 : Int32)) (by decide) ?_
        refine kr_goto (tgt := 84) O dX1_dark_80 rfl ?_
        refine kr_sub [0, 1, 2, 3, 5] rfl ?_
        exact cj_X1_dark_84 O hn41 h
def vl_X1_dark_41 (w : kt_W) (gr : kt_g × kt_M) (d : Nat) (P : Option Value → kt_M → Prop) (X : String → Nat → kt_M → Prop)  (v1 : Int32) (v2 : Int32) (r4 : Option Nat) (v5 : Int32) (v6 : Int32) (v7 : Int32) (M : kt_M) : Prop :=
  ∃ Inv : Nat → Int32 → Int32 → kt_M → Prop, (∃ k, Inv k v6 v7 M) ∧ ∀ k v6 v7 M, kt_le gr.1 gr.2 M → Inv k v6 v7 M → vc_X1_dark_41 w gr d P X (fun v6' v7' M' => ∃ k', k' < k ∧ Inv k' v6' v7' M') v1 v2 r4 v5 v6 v7 M
theorem cl_X1_dark_41 {w : kt_W} {x : kt_X} {gr : kt_g × kt_M} {d : Nat} {P : Option Value → kt_M → Prop} {X : String → Nat → kt_M → Prop}  {v1 : Int32} {v2 : Int32} {r4 : Option Nat} {v5 : Int32} {v6 : Int32} {v7 : Int32} {M : kt_M} (O : kt_O w x gr (d + 1) cX1_dark "KeyTurns" 8 ("dark", "(II)I") (Option.some Jvm.ClassFile.FieldType.int) [])  (h : vl_X1_dark_41 w gr d P X  v1 v2 r4 v5 v6 v7 M) : kt_S w x 8 (kt_E w x P X) M 41 [(1, .int v1), (2, .int v2), (4, va_rf r4), (5, .int v5), (6, .int v6), (7, .int v7)] [] := by
  obtain ⟨Inv, ⟨k, hk⟩, hb⟩ := h
  induction k using Nat.strongRecOn generalizing v6 v7 M with
  | ind k ih =>
    exact kr_le O fun hle => cj_X1_dark_41 O (fun v6' v7' M' hi => let ⟨k', h1, h2⟩ := hi; ih k' h1 h2) (hb k _ _ _ hle hk)
def vc_X1_dark (w : kt_W) (gr : kt_g × kt_M) (d : Nat) (P : Option Value → kt_M → Prop) (X : String → Nat → kt_M → Prop) (a0 : Nat) (v1 : Int32) (v2 : Int32) (M : kt_M) : Prop :=
  (kt_co M a0 = some 0) ∧ 
  kt_Ca w gr d yX1_clientOf kc_X1_clientOf [va_rf (some a0), .int v1] M (kt_pR fun p1 M2 => 
  kt_Ca w gr d yX1_isIn kc_X1_isIn [.long v2.toInt64, .long (1 : Int64), .long (100 : Int64)] M2 (kt_pI fun u3 M4 => 
  kt_Ca w gr d yX1_requireArgument kc_X1_requireArgument [.int u3] M4 (kt_pV fun M5 => ∃ p6, kt_gf M5 a0 0 = some (va_rf p6) ∧ ∃ b7, p6 = some b7 ∧ (kt_co M5 b7 = some 1) ∧ 
  kt_Ca w gr d yX2_copy kc_X2_copy [va_rf (some b7), .int (0 : Int32), .int (1 : Int32)] M5 (kt_pR fun p8 M9 => 
  kt_Ca w gr d yJ30_floatToIntBits kc_J30_floatToIntBits [.float FP.fconst1] M9 (kt_pI fun u10 M11 => vl_X1_dark_41 w gr d P X  v1 v2 p8 u10 (0 : Int32) (0 : Int32) M11) X) X) X) X) X
theorem ce_X1_dark {w : kt_W} {g : kt_g} {d : Nat} {P : Option Value → kt_M → Prop} {X : String → Nat → kt_M → Prop} {a0 : Nat} {v1 : Int32} {v2 : Int32} {M : kt_M} (h : vc_X1_dark w (g, M) d P X a0 v1 v2 M) : kt_Sp w g (d + 1) yX1_dark kc_X1_dark [va_rf (some a0), .int v1, .int v2] M P X := by
  refine kt_of (L0 := [(0, va_rf (some a0)), (1, .int v1), (2, .int v2)]) (by decide +kernel) (Nat.le_of_ble_eq_true rfl) rfl fun x O => ?_
  replace O : kt_O w x (g, M) (d + 1) cX1_dark "KeyTurns" 8 ("dark", "(II)I") (Option.some Jvm.ClassFile.FieldType.int) [] := O
  unfold vc_X1_dark at h
  refine kr_aload_n O dX1_dark_0 rfl 0 rfl ?_
  refine kr_iload_n O dX1_dark_1 rfl 1 rfl ?_
  obtain ⟨hco, h⟩ := h
  refine kr_caR (rest := []) O cd_X1_clientOf h (Nat.le_of_ble_eq_true rfl) (fun ls _ => kt_ivV (ci := 0) O dX1_dark_2 cd_X1_clientOf in_X1_clientOf (Or.inl q1914) q1916 qs26 hco (by decide) hy_X1_clientOf) (fun p1 M2 hq => ?_) (fun E q M9 hx => kr_out O hx)
  replace h := hq
  clear hq
  refine kr_astore_n O dX1_dark_5 rfl (Nat.le_of_ble_eq_true rfl) rfl rfl ?_
  refine kr_iload_n O dX1_dark_6 rfl 3 rfl ?_
  refine kr_i2l O dX1_dark_7 ?_
  refine kr_lconst O dX1_dark_8 (v := (1 : Int64)) (by decide) ?_
  refine kr_ldc2 O dX1_dark_9 q1974 ?_
  refine kr_caI (rest := []) O cd_X1_isIn h (Nat.le_of_ble_eq_true rfl) (fun ls _ => kt_ivS O dX1_dark_12 cd_X1_isIn in_X1_isIn q1459 q510 hy_X1_isIn) (fun u3 M4 hq => ?_) (fun E q M9 hx => kr_out O hx)
  replace h := hq
  clear hq
  refine kr_caV (rest := []) O cd_X1_requireArgument h (Nat.le_of_ble_eq_true rfl) (fun ls _ => kt_ivS O dX1_dark_15 cd_X1_requireArgument in_X1_requireArgument q1496 q1497 hy_X1_requireArgument) (fun M5 hq => ?_) (fun E q M9 hx => kr_out O hx)
  replace h := hq
  clear hq
  refine kr_aload_n O dX1_dark_18 rfl 1 rfl ?_
  obtain ⟨p6, ep6, h⟩ := h
  refine kr_getf O dX1_dark_19 fs_X1_133 ep6 ?_
  refine kr_iconst O dX1_dark_22 (v := (0 : Int32)) (by decide) ?_
  refine kr_iconst O dX1_dark_23 (v := (1 : Int32)) (by decide) ?_
  obtain ⟨b7, rfl, h⟩ := h
  obtain ⟨hco, h⟩ := h
  refine kr_caR (rest := []) O cd_X2_copy h (Nat.le_of_ble_eq_true rfl) (fun ls _ => kt_ivV (ci := 1) O dX1_dark_24 cd_X2_copy in_X2_copy (Or.inl q731) q732 q733 hco (by decide) hy_X2_copy) (fun p8 M9 hq => ?_) (fun E q M9 hx => kr_out O hx)
  replace h := hq
  clear hq
  refine kr_astore O dX1_dark_27 (Nat.le_of_ble_eq_true rfl) (by simp [kt_nw, kt_nrf, kt_cI, kt_cJ, kt_cF, kt_cD, kt_cR, kt_cU]) rfl ?_
  refine kr_fconst1 O dX1_dark_29 ?_
  refine kr_caI (rest := []) O cd_J30_floatToIntBits h (Nat.le_of_ble_eq_true rfl) (fun ls _ => kt_ivS O dX1_dark_30 cd_J30_floatToIntBits in_J30_floatToIntBits q1999 q2000 hy_J30_floatToIntBits) (fun u10 M11 hq => ?_) (fun E q M9 hx => kr_out O hx)
  replace h := hq
  clear hq
  refine kr_istore O dX1_dark_33 (Nat.le_of_ble_eq_true rfl) (by simp [kt_nw, kt_nrf, kt_cI, kt_cJ, kt_cF, kt_cD, kt_cR, kt_cU]) rfl ?_
  refine kr_iconst O dX1_dark_35 (v := (0 : Int32)) (by decide) ?_
  refine kr_istore O dX1_dark_36 (Nat.le_of_ble_eq_true rfl) rfl rfl ?_
  refine kr_iconst O dX1_dark_38 (v := (0 : Int32)) (by decide) ?_
  refine kr_istore O dX1_dark_39 (Nat.le_of_ble_eq_true rfl) rfl rfl ?_
  refine kr_sub [6, 7, 3, 2, 1, 0] rfl ?_
  exact cl_X1_dark_41 O  h
def vc_X1_leastBatch_78 (w : kt_W) (gr : kt_g × kt_M) (d : Nat) (P : Option Value → kt_M → Prop) (X : String → Nat → kt_M → Prop) (nx14 : Int32 → kt_M → Prop) (a0 : Nat) (v1 : Int32) (v2 : Int32) (a3 : Nat) (M : kt_M) : Prop :=
  ∃ u1, kt_gf M a3 16 = some (.int u1) ∧ ∃ p2, kt_gf M a0 0 = some (va_rf p2) ∧ ∃ b3, p2 = some b3 ∧ ∃ u4, kt_gf M b3 16 = some (.int u4) ∧ 
    ((¬ u1 = u4 → nx14 (v2 + (1 : Int32)) M) ∧
    (u1 = u4 → P (some (.int v2)) M))
theorem cj_X1_leastBatch_78 {w : kt_W} {x : kt_X} {gr : kt_g × kt_M} {d : Nat} {P : Option Value → kt_M → Prop} {X : String → Nat → kt_M → Prop} {nx14 : Int32 → kt_M → Prop} {a0 : Nat} {v1 : Int32} {v2 : Int32} {a3 : Nat} {M : kt_M} (O : kt_O w x gr (d + 1) cX1_leastBatch "KeyTurns" 5 ("leastBatch", "(I)I") (Option.some Jvm.ClassFile.FieldType.int) []) (hn14 : ∀ v2 M, nx14 v2 M → kt_S w x 5 (kt_E w x P X) M 14 [(0, va_rf (some a0)), (1, .int v1), (2, .int v2)] []) (h : vc_X1_leastBatch_78 w gr d P X nx14 a0 v1 v2 a3 M) : kt_S w x 5 (kt_E w x P X) M 78 [(0, va_rf (some a0)), (1, .int v1), (2, .int v2), (3, va_rf (some a3))] [] := by
  unfold vc_X1_leastBatch_78 at h
  refine kr_aload_n O dX1_leastBatch_78 rfl 3 rfl ?_
  obtain ⟨u1, eu1, h⟩ := h
  refine kr_getf O dX1_leastBatch_79 fs_X1_224 eu1 ?_
  refine kr_aload_n O dX1_leastBatch_82 rfl 0 rfl ?_
  obtain ⟨p2, ep2, h⟩ := h
  refine kr_getf O dX1_leastBatch_83 fs_X1_133 ep2 ?_
  obtain ⟨b3, rfl, h⟩ := h
  obtain ⟨u4, eu4, h⟩ := h
  refine kr_getf O dX1_leastBatch_86 fs_X1_224 eu4 ?_
  refine kr_icmp_ne (tgt := 94) O dX1_leastBatch_89 rfl (fun hc => ?_) (fun hc => ?_)
  · replace h := h.1 hc
    refine kr_iinc O dX1_leastBatch_94 2 rfl (v := v2 + (1 : Int32)) rfl (Nat.le_of_ble_eq_true rfl) rfl rfl ?_
    refine kr_goto (tgt := 14) O dX1_leastBatch_97 rfl ?_
    refine kr_sub [1, 2, 0] rfl ?_
    exact hn14 _ _ h
  · replace h := h.2 hc
    refine kr_iload_n O dX1_leastBatch_92 rfl 2 rfl ?_
    exact kr_iret O dX1_leastBatch_93 rfl h
def vc_X1_leastBatch_38 (w : kt_W) (gr : kt_g × kt_M) (d : Nat) (P : Option Value → kt_M → Prop) (X : String → Nat → kt_M → Prop) (nx14 : Int32 → kt_M → Prop) (nx38 : Int32 → kt_M → Prop) (a0 : Nat) (v1 : Int32) (v2 : Int32) (a3 : Nat) (v4 : Int32) (M : kt_M) : Prop :=
  
    ((v1 ≤ v4 → vc_X1_leastBatch_78 w gr d P X nx14 a0 v1 v2 a3 M) ∧
    (¬ v1 ≤ v4 → ∃ u1, kt_gf M a3 14 = some (.int u1) ∧ 
      (((9999 : Int32) ≤ u1 → vc_X1_leastBatch_78 w gr d P X nx14 a0 v1 v2 a3 M) ∧
      (¬ (9999 : Int32) ≤ u1 → ∃ u2, kt_gf M a3 16 = some (.int u2) ∧ ∃ p3, kt_gf M a0 0 = some (va_rf p3) ∧ ∃ b4, p3 = some b4 ∧ ∃ u5, kt_gf M b4 16 = some (.int u5) ∧ 
        ((¬ u2 = u5 → vc_X1_leastBatch_78 w gr d P X nx14 a0 v1 v2 a3 M) ∧
        (u2 = u5 → (kt_co M a3 = some 1) ∧ 
        kt_Ca w gr d yX2_pass kc_X2_pass [va_rf (some a3)] M (kt_pV fun M6 => nx38 (v4 + (1 : Int32)) M6) X))))))
theorem cj_X1_leastBatch_38 {w : kt_W} {x : kt_X} {gr : kt_g × kt_M} {d : Nat} {P : Option Value → kt_M → Prop} {X : String → Nat → kt_M → Prop} {nx14 : Int32 → kt_M → Prop} {nx38 : Int32 → kt_M → Prop} {a0 : Nat} {v1 : Int32} {v2 : Int32} {a3 : Nat} {v4 : Int32} {M : kt_M} (O : kt_O w x gr (d + 1) cX1_leastBatch "KeyTurns" 5 ("leastBatch", "(I)I") (Option.some Jvm.ClassFile.FieldType.int) []) (hn14 : ∀ v2 M, nx14 v2 M → kt_S w x 5 (kt_E w x P X) M 14 [(0, va_rf (some a0)), (1, .int v1), (2, .int v2)] []) (hn38 : ∀ v4 M, nx38 v4 M → kt_S w x 5 (kt_E w x P X) M 38 [(0, va_rf (some a0)), (1, .int v1), (2, .int v2), (3, va_rf (some a3)), (4, .int v4)] []) (h : vc_X1_leastBatch_38 w gr d P X nx14 nx38 a0 v1 v2 a3 v4 M) : kt_S w x 5 (kt_E w x P X) M 38 [(0, va_rf (some a0)), (1, .int v1), (2, .int v2), (3, va_rf (some a3)), (4, .int v4)] [] := by
  unfold vc_X1_leastBatch_38 at h
  refine kr_iload O dX1_leastBatch_38 4 rfl ?_
  refine kr_iload_n O dX1_leastBatch_40 rfl 1 rfl ?_
  refine kr_icmp_ge (tgt := 78) O dX1_leastBatch_41 rfl (fun hc => ?_) (fun hc => ?_)
  · replace h := h.1 hc
    refine kr_sub [0, 1, 2, 3] rfl ?_
    exact cj_X1_leastBatch_78 O hn14 h
  · replace h := h.2 hc
    refine kr_aload_n O dX1_leastBatch_44 rfl 3 rfl ?_
    obtain ⟨u1, eu1, h⟩ := h
    refine kr_getf O dX1_leastBatch_45 fs_X1_197 eu1 ?_
    refine kr_sipush O dX1_leastBatch_48 (v := (9999 : Int32)) (by decide) ?_
    refine kr_icmp_ge (tgt := 78) O dX1_leastBatch_51 rfl (fun hc => ?_) (fun hc => ?_)
    · replace h := h.1 hc
      refine kr_sub [0, 1, 2, 3] rfl ?_
      exact cj_X1_leastBatch_78 O hn14 h
    · replace h := h.2 hc
      refine kr_aload_n O dX1_leastBatch_54 rfl 3 rfl ?_
      obtain ⟨u2, eu2, h⟩ := h
      refine kr_getf O dX1_leastBatch_55 fs_X1_224 eu2 ?_
      refine kr_aload_n O dX1_leastBatch_58 rfl 0 rfl ?_
      obtain ⟨p3, ep3, h⟩ := h
      refine kr_getf O dX1_leastBatch_59 fs_X1_133 ep3 ?_
      obtain ⟨b4, rfl, h⟩ := h
      obtain ⟨u5, eu5, h⟩ := h
      refine kr_getf O dX1_leastBatch_62 fs_X1_224 eu5 ?_
      refine kr_icmp_ne (tgt := 78) O dX1_leastBatch_65 rfl (fun hc => ?_) (fun hc => ?_)
      · replace h := h.1 hc
        refine kr_sub [0, 1, 2, 3] rfl ?_
        exact cj_X1_leastBatch_78 O hn14 h
      · replace h := h.2 hc
        refine kr_aload_n O dX1_leastBatch_68 rfl 3 rfl ?_
        obtain ⟨hco, h⟩ := h
        refine kr_caV (rest := []) O cd_X2_pass h (Nat.le_of_ble_eq_true rfl) (fun ls _ => kt_ivV (ci := 1) O dX1_leastBatch_69 cd_X2_pass in_X2_pass (Or.inl q1979) q1980 q1981 hco (by decide) hy_X2_pass) (fun M6 hq => ?_) (fun E q M9 hx => kr_out O hx)
        replace h := hq
        clear hq
        refine kr_iinc O dX1_leastBatch_72 4 rfl (v := v4 + (1 : Int32)) rfl (Nat.le_of_ble_eq_true rfl) rfl rfl ?_
        refine kr_goto (tgt := 38) O dX1_leastBatch_75 rfl ?_
        refine kr_sub [1, 2, 3, 4, 0] rfl ?_
        exact hn38 _ _ h
def vl_X1_leastBatch_38 (w : kt_W) (gr : kt_g × kt_M) (d : Nat) (P : Option Value → kt_M → Prop) (X : String → Nat → kt_M → Prop) (nx14 : Int32 → kt_M → Prop) (a0 : Nat) (v1 : Int32) (v2 : Int32) (a3 : Nat) (v4 : Int32) (M : kt_M) : Prop :=
  ∃ Inv : Nat → Int32 → kt_M → Prop, (∃ k, Inv k v4 M) ∧ ∀ k v4 M, kt_le gr.1 gr.2 M → Inv k v4 M → vc_X1_leastBatch_38 w gr d P X nx14 (fun v4' M' => ∃ k', k' < k ∧ Inv k' v4' M') a0 v1 v2 a3 v4 M
theorem cl_X1_leastBatch_38 {w : kt_W} {x : kt_X} {gr : kt_g × kt_M} {d : Nat} {P : Option Value → kt_M → Prop} {X : String → Nat → kt_M → Prop} {nx14 : Int32 → kt_M → Prop} {a0 : Nat} {v1 : Int32} {v2 : Int32} {a3 : Nat} {v4 : Int32} {M : kt_M} (O : kt_O w x gr (d + 1) cX1_leastBatch "KeyTurns" 5 ("leastBatch", "(I)I") (Option.some Jvm.ClassFile.FieldType.int) []) (hn14 : ∀ v2 M, nx14 v2 M → kt_S w x 5 (kt_E w x P X) M 14 [(0, va_rf (some a0)), (1, .int v1), (2, .int v2)] []) (h : vl_X1_leastBatch_38 w gr d P X nx14 a0 v1 v2 a3 v4 M) : kt_S w x 5 (kt_E w x P X) M 38 [(0, va_rf (some a0)), (1, .int v1), (2, .int v2), (3, va_rf (some a3)), (4, .int v4)] [] := by
  obtain ⟨Inv, ⟨k, hk⟩, hb⟩ := h
  induction k using Nat.strongRecOn generalizing v4 M with
  | ind k ih =>
    exact kr_le O fun hle => cj_X1_leastBatch_38 O hn14 (fun v4' M' hi => let ⟨k', h1, h2⟩ := hi; ih k' h1 h2) (hb k _ _ hle hk)
def vc_X1_leastBatch_14 (w : kt_W) (gr : kt_g × kt_M) (d : Nat) (P : Option Value → kt_M → Prop) (X : String → Nat → kt_M → Prop) (nx14 : Int32 → kt_M → Prop) (a0 : Nat) (v1 : Int32) (v2 : Int32) (M : kt_M) : Prop :=
  
    (((30 : Int32) < v2 → P (some (.int (-1 : Int32))) M) ∧
    (¬ (30 : Int32) < v2 → ∃ p1, kt_gf M a0 0 = some (va_rf p1) ∧ ∃ b2, p1 = some b2 ∧ (kt_co M b2 = some 1) ∧ 
    kt_Ca w gr d yX2_copy kc_X2_copy [va_rf (some b2), .int (0 : Int32), .int (0 : Int32)] M (kt_pR fun p3 M4 => ∃ b5, p3 = some b5 ∧ kt_hf gr M4 b5 15 ∧ ∀ M6, M6 = kt_pf M4 b5 15 (.int v2) → vl_X1_leastBatch_38 w gr d P X nx14 a0 v1 v2 b5 (0 : Int32) M6) X))
theorem cj_X1_leastBatch_14 {w : kt_W} {x : kt_X} {gr : kt_g × kt_M} {d : Nat} {P : Option Value → kt_M → Prop} {X : String → Nat → kt_M → Prop} {nx14 : Int32 → kt_M → Prop} {a0 : Nat} {v1 : Int32} {v2 : Int32} {M : kt_M} (O : kt_O w x gr (d + 1) cX1_leastBatch "KeyTurns" 5 ("leastBatch", "(I)I") (Option.some Jvm.ClassFile.FieldType.int) []) (hn14 : ∀ v2 M, nx14 v2 M → kt_S w x 5 (kt_E w x P X) M 14 [(0, va_rf (some a0)), (1, .int v1), (2, .int v2)] []) (h : vc_X1_leastBatch_14 w gr d P X nx14 a0 v1 v2 M) : kt_S w x 5 (kt_E w x P X) M 14 [(0, va_rf (some a0)), (1, .int v1), (2, .int v2)] [] := by
  unfold vc_X1_leastBatch_14 at h
  refine kr_iload_n O dX1_leastBatch_14 rfl 2 rfl ?_
  refine kr_bipush O dX1_leastBatch_15 (v := (30 : Int32)) (by decide) ?_
  refine kr_icmp_gt (tgt := 100) O dX1_leastBatch_17 rfl (fun hc => ?_) (fun hc => ?_)
  · replace h := h.1 hc
    refine kr_iconst O dX1_leastBatch_100 (v := (-1 : Int32)) (by decide) ?_
    exact kr_iret O dX1_leastBatch_101 rfl h
  · replace h := h.2 hc
    refine kr_aload_n O dX1_leastBatch_20 rfl 0 rfl ?_
    obtain ⟨p1, ep1, h⟩ := h
    refine kr_getf O dX1_leastBatch_21 fs_X1_133 ep1 ?_
    refine kr_iconst O dX1_leastBatch_24 (v := (0 : Int32)) (by decide) ?_
    refine kr_iconst O dX1_leastBatch_25 (v := (0 : Int32)) (by decide) ?_
    obtain ⟨b2, rfl, h⟩ := h
    obtain ⟨hco, h⟩ := h
    refine kr_caR (rest := []) O cd_X2_copy h (Nat.le_of_ble_eq_true rfl) (fun ls _ => kt_ivV (ci := 1) O dX1_leastBatch_26 cd_X2_copy in_X2_copy (Or.inl q731) q732 q733 hco (by decide) hy_X2_copy) (fun p3 M4 hq => ?_) (fun E q M9 hx => kr_out O hx)
    replace h := hq
    clear hq
    refine kr_astore_n O dX1_leastBatch_29 rfl (Nat.le_of_ble_eq_true rfl) rfl rfl ?_
    refine kr_aload_n O dX1_leastBatch_30 rfl 0 rfl ?_
    refine kr_iload_n O dX1_leastBatch_31 rfl 3 rfl ?_
    obtain ⟨b5, rfl, h⟩ := h
    obtain ⟨hw, h⟩ := h
    refine kr_putf O dX1_leastBatch_32 fs_X1_215 (Or.inl rfl) ⟨rfl, rfl⟩ hw (kr_nmM fun M6 hM6 => ?_)
    replace h := h M6 hM6
    refine kr_iconst O dX1_leastBatch_35 (v := (0 : Int32)) (by decide) ?_
    refine kr_istore O dX1_leastBatch_36 (Nat.le_of_ble_eq_true rfl) rfl rfl ?_
    refine kr_sub [2, 3, 4, 1, 0] rfl ?_
    exact cl_X1_leastBatch_38 O hn14 h
def vl_X1_leastBatch_14 (w : kt_W) (gr : kt_g × kt_M) (d : Nat) (P : Option Value → kt_M → Prop) (X : String → Nat → kt_M → Prop)  (a0 : Nat) (v1 : Int32) (v2 : Int32) (M : kt_M) : Prop :=
  ∃ Inv : Nat → Int32 → kt_M → Prop, (∃ k, Inv k v2 M) ∧ ∀ k v2 M, kt_le gr.1 gr.2 M → Inv k v2 M → vc_X1_leastBatch_14 w gr d P X (fun v2' M' => ∃ k', k' < k ∧ Inv k' v2' M') a0 v1 v2 M
theorem cl_X1_leastBatch_14 {w : kt_W} {x : kt_X} {gr : kt_g × kt_M} {d : Nat} {P : Option Value → kt_M → Prop} {X : String → Nat → kt_M → Prop}  {a0 : Nat} {v1 : Int32} {v2 : Int32} {M : kt_M} (O : kt_O w x gr (d + 1) cX1_leastBatch "KeyTurns" 5 ("leastBatch", "(I)I") (Option.some Jvm.ClassFile.FieldType.int) [])  (h : vl_X1_leastBatch_14 w gr d P X  a0 v1 v2 M) : kt_S w x 5 (kt_E w x P X) M 14 [(0, va_rf (some a0)), (1, .int v1), (2, .int v2)] [] := by
  obtain ⟨Inv, ⟨k, hk⟩, hb⟩ := h
  induction k using Nat.strongRecOn generalizing v2 M with
  | ind k ih =>
    exact kr_le O fun hle => cj_X1_leastBatch_14 O (fun v2' M' hi => let ⟨k', h1, h2⟩ := hi; ih k' h1 h2) (hb k _ _ hle hk)
def vc_X1_leastBatch (w : kt_W) (gr : kt_g × kt_M) (d : Nat) (P : Option Value → kt_M → Prop) (X : String → Nat → kt_M → Prop) (a0 : Nat) (v1 : Int32) (M : kt_M) : Prop :=
  
  kt_Ca w gr d yX1_isIn kc_X1_isIn [.long v1.toInt64, .long (1 : Int64), .long (100 : Int64)] M (kt_pI fun u1 M2 => 
  kt_Ca w gr d yX1_requireArgument kc_X1_requireArgument [.int u1] M2 (kt_pV fun M3 => vl_X1_leastBatch_14 w gr d P X  a0 v1 (1 : Int32) M3) X) X
theorem ce_X1_leastBatch {w : kt_W} {g : kt_g} {d : Nat} {P : Option Value → kt_M → Prop} {X : String → Nat → kt_M → Prop} {a0 : Nat} {v1 : Int32} {M : kt_M} (h : vc_X1_leastBatch w (g, M) d P X a0 v1 M) : kt_Sp w g (d + 1) yX1_leastBatch kc_X1_leastBatch [va_rf (some a0), .int v1] M P X := by
  refine kt_of (L0 := [(0, va_rf (some a0)), (1, .int v1)]) (by decide +kernel) (Nat.le_of_ble_eq_true rfl) rfl fun x O => ?_
  replace O : kt_O w x (g, M) (d + 1) cX1_leastBatch "KeyTurns" 5 ("leastBatch", "(I)I") (Option.some Jvm.ClassFile.FieldType.int) [] := O
  unfold vc_X1_leastBatch at h
  refine kr_iload_n O dX1_leastBatch_0 rfl 1 rfl ?_
  refine kr_i2l O dX1_leastBatch_1 ?_
  refine kr_lconst O dX1_leastBatch_2 (v := (1 : Int64)) (by decide) ?_
  refine kr_ldc2 O dX1_leastBatch_3 q1974 ?_
  refine kr_caI (rest := []) O cd_X1_isIn h (Nat.le_of_ble_eq_true rfl) (fun ls _ => kt_ivS O dX1_leastBatch_6 cd_X1_isIn in_X1_isIn q1459 q510 hy_X1_isIn) (fun u1 M2 hq => ?_) (fun E q M9 hx => kr_out O hx)
  replace h := hq
  clear hq
  refine kr_caV (rest := []) O cd_X1_requireArgument h (Nat.le_of_ble_eq_true rfl) (fun ls _ => kt_ivS O dX1_leastBatch_9 cd_X1_requireArgument in_X1_requireArgument q1496 q1497 hy_X1_requireArgument) (fun M3 hq => ?_) (fun E q M9 hx => kr_out O hx)
  replace h := hq
  clear hq
  refine kr_iconst O dX1_leastBatch_12 (v := (1 : Int32)) (by decide) ?_
  refine kr_istore_n O dX1_leastBatch_13 rfl (Nat.le_of_ble_eq_true rfl) rfl rfl ?_
  refine kr_sub [1, 2, 0] rfl ?_
  exact cl_X1_leastBatch_14 O  h
def vc_X1_damage (w : kt_W) (gr : kt_g × kt_M) (d : Nat) (P : Option Value → kt_M → Prop) (X : String → Nat → kt_M → Prop) (a0 : Nat) (v1 : Int32) (M : kt_M) : Prop :=
  (kt_co M a0 = some 0) ∧ 
  kt_Ca w gr d yX1_versionOf kc_X1_versionOf [va_rf (some a0), .int v1] M (kt_pR fun p1 M2 => ∃ p3, kt_gf M2 a0 0 = some (va_rf p3) ∧ ∃ b4, p3 = some b4 ∧ (kt_co M2 b4 = some 1) ∧ 
  kt_Ca w gr d yX2_canWithdraw kc_X2_canWithdraw [va_rf (some b4), .int v1] M2 (kt_pI fun u5 M6 => 
    ((u5 = 0 → P (some (.int (0 : Int32))) M6) ∧
    (¬ u5 = 0 → (kt_co M6 a0 = some 0) ∧ 
    kt_Ca w gr d yX1_isStuck kc_X1_isStuck [va_rf (some a0), .int v1] M6 (kt_pI fun u7 M8 => 
      ((¬ u7 = 0 → P (some (.int (0 : Int32))) M8) ∧
      (u7 = 0 → ∃ p9, kt_gf M8 a0 0 = some (va_rf p9) ∧ ∃ b10, p9 = some b10 ∧ (kt_co M8 b10 = some 1) ∧ 
      kt_Ca w gr d yX2_copy kc_X2_copy [va_rf (some b10), .int (0 : Int32), .int (0 : Int32)] M8 (kt_pR fun p11 M12 => ∃ b13, p11 = some b13 ∧ (kt_co M12 b13 = some 1) ∧ 
      kt_Ca w gr d yX2_withdraw kc_X2_withdraw [va_rf (some b13), .int v1] M12 (kt_pI fun u14 M15 => P (some (.int u14)) M15) X) X))) X))) X) X
theorem ce_X1_damage {w : kt_W} {g : kt_g} {d : Nat} {P : Option Value → kt_M → Prop} {X : String → Nat → kt_M → Prop} {a0 : Nat} {v1 : Int32} {M : kt_M} (h : vc_X1_damage w (g, M) d P X a0 v1 M) : kt_Sp w g (d + 1) yX1_damage kc_X1_damage [va_rf (some a0), .int v1] M P X := by
  refine kt_of (L0 := [(0, va_rf (some a0)), (1, .int v1)]) (by decide +kernel) (Nat.le_of_ble_eq_true rfl) rfl fun x O => ?_
  replace O : kt_O w x (g, M) (d + 1) cX1_damage "KeyTurns" 3 ("damage", "(I)I") (Option.some Jvm.ClassFile.FieldType.int) [] := O
  unfold vc_X1_damage at h
  refine kr_aload_n O dX1_damage_0 rfl 0 rfl ?_
  refine kr_iload_n O dX1_damage_1 rfl 1 rfl ?_
  obtain ⟨hco, h⟩ := h
  refine kr_caR (rest := []) O cd_X1_versionOf h (Nat.le_of_ble_eq_true rfl) (fun ls _ => kt_ivV (ci := 0) O dX1_damage_2 cd_X1_versionOf in_X1_versionOf (Or.inl q1830) q1832 qs24 hco (by decide) hy_X1_versionOf) (fun p1 M2 hq => ?_) (fun E q M9 hx => kr_out O hx)
  replace h := hq
  clear hq
  refine kr_astore_n O dX1_damage_5 rfl (Nat.le_of_ble_eq_true rfl) rfl rfl ?_
  refine kr_aload_n O dX1_damage_6 rfl 1 rfl ?_
  obtain ⟨p3, ep3, h⟩ := h
  refine kr_getf O dX1_damage_7 fs_X1_133 ep3 ?_
  refine kr_iload_n O dX1_damage_10 rfl 2 rfl ?_
  obtain ⟨b4, rfl, h⟩ := h
  obtain ⟨hco, h⟩ := h
  refine kr_caI (rest := []) O cd_X2_canWithdraw h (Nat.le_of_ble_eq_true rfl) (fun ls _ => kt_ivV (ci := 1) O dX1_damage_11 cd_X2_canWithdraw in_X2_canWithdraw (Or.inl q2030) q2031 q2032 hco (by decide) hy_X2_canWithdraw) (fun u5 M6 hq => ?_) (fun E q M9 hx => kr_out O hx)
  replace h := hq
  clear hq
  refine kr_if_eq (tgt := 41) O dX1_damage_14 rfl (fun hc => ?_) (fun hc => ?_)
  · replace h := h.1 hc
    refine kr_iconst O dX1_damage_41 (v := (0 : Int32)) (by decide) ?_
    exact kr_iret O dX1_damage_42 rfl h
  · replace h := h.2 hc
    refine kr_aload_n O dX1_damage_17 rfl 1 rfl ?_
    refine kr_iload_n O dX1_damage_18 rfl 2 rfl ?_
    obtain ⟨hco, h⟩ := h
    refine kr_caI (rest := []) O cd_X1_isStuck h (Nat.le_of_ble_eq_true rfl) (fun ls _ => kt_ivV (ci := 0) O dX1_damage_19 cd_X1_isStuck in_X1_isStuck (Or.inl q2034) q2036 qs28 hco (by decide) hy_X1_isStuck) (fun u7 M8 hq => ?_) (fun E q M9 hx => kr_out O hx)
    replace h := hq
    clear hq
    refine kr_if_ne (tgt := 41) O dX1_damage_22 rfl (fun hc => ?_) (fun hc => ?_)
    · replace h := h.1 hc
      refine kr_iconst O dX1_damage_41 (v := (0 : Int32)) (by decide) ?_
      exact kr_iret O dX1_damage_42 rfl h
    · replace h := h.2 hc
      refine kr_aload_n O dX1_damage_25 rfl 1 rfl ?_
      obtain ⟨p9, ep9, h⟩ := h
      refine kr_getf O dX1_damage_26 fs_X1_133 ep9 ?_
      refine kr_iconst O dX1_damage_29 (v := (0 : Int32)) (by decide) ?_
      refine kr_iconst O dX1_damage_30 (v := (0 : Int32)) (by decide) ?_
      obtain ⟨b10, rfl, h⟩ := h
      obtain ⟨hco, h⟩ := h
      refine kr_caR (rest := []) O cd_X2_copy h (Nat.le_of_ble_eq_true rfl) (fun ls _ => kt_ivV (ci := 1) O dX1_damage_31 cd_X2_copy in_X2_copy (Or.inl q731) q732 q733 hco (by decide) hy_X2_copy) (fun p11 M12 hq => ?_) (fun E q M9 hx => kr_out O hx)
      replace h := hq
      clear hq
      refine kr_iload_n O dX1_damage_34 rfl 2 rfl ?_
      obtain ⟨b13, rfl, h⟩ := h
      obtain ⟨hco, h⟩ := h
      refine kr_caI (rest := []) O cd_X2_withdraw h (Nat.le_of_ble_eq_true rfl) (fun ls _ => kt_ivV (ci := 1) O dX1_damage_35 cd_X2_withdraw in_X2_withdraw (Or.inl q2045) q2046 q2047 hco (by decide) hy_X2_withdraw) (fun u14 M15 hq => ?_) (fun E q M9 hx => kr_out O hx)
      replace h := hq
      clear hq
      refine kr_goto (tgt := 42) O dX1_damage_38 rfl ?_
      exact kr_iret O dX1_damage_42 rfl h
def vc_X1_isStuck (w : kt_W) (gr : kt_g × kt_M) (d : Nat) (P : Option Value → kt_M → Prop) (X : String → Nat → kt_M → Prop) (a0 : Nat) (v1 : Int32) (M : kt_M) : Prop :=
  ∃ p1, kt_gf M a0 0 = some (va_rf p1) ∧ ∃ b2, p1 = some b2 ∧ ∃ p3, kt_gf M b2 10 = some (va_rf p3) ∧ ∃ b4, p3 = some b4 ∧ (kt_co M b4 = some 13) ∧ 
  kt_Ca w gr d yJ3_size kc_J3_size [va_rf (some b4)] M (kt_pI fun u5 M6 => 
    ((¬ u5 = (30 : Int32) → P (some (.int (0 : Int32))) M6) ∧
    (u5 = (30 : Int32) → ∃ p7, kt_gf M6 a0 0 = some (va_rf p7) ∧ ∃ b8, p7 = some b8 ∧ (kt_co M6 b8 = some 1) ∧ 
    kt_Ca w gr d yX2_isAlone kc_X2_isAlone [va_rf (some b8), .int v1] M6 (kt_pI fun u9 M10 => 
      ((u9 = 0 → P (some (.int (0 : Int32))) M10) ∧
      (¬ u9 = 0 → P (some (.int (1 : Int32))) M10))) X))) X
theorem ce_X1_isStuck {w : kt_W} {g : kt_g} {d : Nat} {P : Option Value → kt_M → Prop} {X : String → Nat → kt_M → Prop} {a0 : Nat} {v1 : Int32} {M : kt_M} (h : vc_X1_isStuck w (g, M) d P X a0 v1 M) : kt_Sp w g (d + 1) yX1_isStuck kc_X1_isStuck [va_rf (some a0), .int v1] M P X := by
  refine kt_of (L0 := [(0, va_rf (some a0)), (1, .int v1)]) (by decide +kernel) (Nat.le_of_ble_eq_true rfl) rfl fun x O => ?_
  replace O : kt_O w x (g, M) (d + 1) cX1_isStuck "KeyTurns" 2 ("isStuck", "(I)Z") (Option.some Jvm.ClassFile.FieldType.boolean) [] := O
  unfold vc_X1_isStuck at h
  refine kr_aload_n O dX1_isStuck_0 rfl 0 rfl ?_
  obtain ⟨p1, ep1, h⟩ := h
  refine kr_getf O dX1_isStuck_1 fs_X1_133 ep1 ?_
  obtain ⟨b2, rfl, h⟩ := h
  obtain ⟨p3, ep3, h⟩ := h
  refine kr_getf O dX1_isStuck_4 fs_X1_15 ep3 ?_
  obtain ⟨b4, rfl, h⟩ := h
  obtain ⟨hco, h⟩ := h
  refine kr_caI (rest := []) O cd_J3_size h (Nat.le_of_ble_eq_true rfl) (fun ls _ => kt_ivV (ci := 13) O dX1_isStuck_7 cd_J3_size in_J3_size (Or.inl q594) q478 q479 hco (by decide) hy_J3_size) (fun u5 M6 hq => ?_) (fun E q M9 hx => kr_out O hx)
  replace h := hq
  clear hq
  refine kr_bipush O dX1_isStuck_10 (v := (30 : Int32)) (by decide) ?_
  refine kr_icmp_ne (tgt := 30) O dX1_isStuck_12 rfl (fun hc => ?_) (fun hc => ?_)
  · replace h := h.1 hc
    refine kr_iconst O dX1_isStuck_30 (v := (0 : Int32)) (by decide) ?_
    exact kr_iret O dX1_isStuck_31 (by decide) h
  · replace h := h.2 hc
    refine kr_aload_n O dX1_isStuck_15 rfl 0 rfl ?_
    obtain ⟨p7, ep7, h⟩ := h
    refine kr_getf O dX1_isStuck_16 fs_X1_133 ep7 ?_
    refine kr_iload_n O dX1_isStuck_19 rfl 1 rfl ?_
    obtain ⟨b8, rfl, h⟩ := h
    obtain ⟨hco, h⟩ := h
    refine kr_caI (rest := []) O cd_X2_isAlone h (Nat.le_of_ble_eq_true rfl) (fun ls _ => kt_ivV (ci := 1) O dX1_isStuck_20 cd_X2_isAlone in_X2_isAlone (Or.inl q2038) q2039 q2040 hco (by decide) hy_X2_isAlone) (fun u9 M10 hq => ?_) (fun E q M9 hx => kr_out O hx)
    replace h := hq
    clear hq
    refine kr_if_eq (tgt := 30) O dX1_isStuck_23 rfl (fun hc => ?_) (fun hc => ?_)
    · replace h := h.1 hc
      refine kr_iconst O dX1_isStuck_30 (v := (0 : Int32)) (by decide) ?_
      exact kr_iret O dX1_isStuck_31 (by decide) h
    · replace h := h.2 hc
      refine kr_iconst O dX1_isStuck_26 (v := (1 : Int32)) (by decide) ?_
      refine kr_goto (tgt := 31) O dX1_isStuck_27 rfl ?_
      exact kr_iret O dX1_isStuck_31 (by decide) h
def vc_X1_pass_43 (w : kt_W) (gr : kt_g × kt_M) (d : Nat) (P : Option Value → kt_M → Prop) (X : String → Nat → kt_M → Prop) (nx43 : Int32 → kt_M → Prop) (v1 : Int32) (a2 : Nat) (v3 : Int32) (v4 : Int32) (M : kt_M) : Prop :=
  
    ((v1 ≤ v4 → ∃ u1, kt_gf M a2 16 = some (.int u1) ∧ P (some (.int (u1 - v3))) M) ∧
    (¬ v1 ≤ v4 → (kt_co M a2 = some 1) ∧ 
    kt_Ca w gr d yX2_pass kc_X2_pass [va_rf (some a2)] M (kt_pV fun M2 => (kt_co M2 a2 = some 1) ∧ 
    kt_Ca w gr d yX2_keep kc_X2_keep [va_rf (some a2)] M2 (kt_pV fun M3 => nx43 (v4 + (1 : Int32)) M3) X) X))
theorem cj_X1_pass_43 {w : kt_W} {x : kt_X} {gr : kt_g × kt_M} {d : Nat} {P : Option Value → kt_M → Prop} {X : String → Nat → kt_M → Prop} {nx43 : Int32 → kt_M → Prop} {v1 : Int32} {a2 : Nat} {v3 : Int32} {v4 : Int32} {M : kt_M} (O : kt_O w x gr (d + 1) cX1_pass "KeyTurns" 5 ("pass", "(I)I") (Option.some Jvm.ClassFile.FieldType.int) []) (hn43 : ∀ v4 M, nx43 v4 M → kt_S w x 5 (kt_E w x P X) M 43 [(1, .int v1), (2, va_rf (some a2)), (3, .int v3), (4, .int v4)] []) (h : vc_X1_pass_43 w gr d P X nx43 v1 a2 v3 v4 M) : kt_S w x 5 (kt_E w x P X) M 43 [(1, .int v1), (2, va_rf (some a2)), (3, .int v3), (4, .int v4)] [] := by
  unfold vc_X1_pass_43 at h
  refine kr_iload O dX1_pass_43 3 rfl ?_
  refine kr_iload_n O dX1_pass_45 rfl 0 rfl ?_
  refine kr_icmp_ge (tgt := 63) O dX1_pass_46 rfl (fun hc => ?_) (fun hc => ?_)
  · replace h := h.1 hc
    refine kr_aload_n O dX1_pass_63 rfl 1 rfl ?_
    obtain ⟨u1, eu1, h⟩ := h
    refine kr_getf O dX1_pass_64 fs_X1_224 eu1 ?_
    refine kr_iload_n O dX1_pass_67 rfl 2 rfl ?_
    refine kr_isub O dX1_pass_68 ?_
    exact kr_iret O dX1_pass_69 rfl h
  · replace h := h.2 hc
    refine kr_aload_n O dX1_pass_49 rfl 1 rfl ?_
    obtain ⟨hco, h⟩ := h
    refine kr_caV (rest := []) O cd_X2_pass h (Nat.le_of_ble_eq_true rfl) (fun ls _ => kt_ivV (ci := 1) O dX1_pass_50 cd_X2_pass in_X2_pass (Or.inl q1979) q1980 q1981 hco (by decide) hy_X2_pass) (fun M2 hq => ?_) (fun E q M9 hx => kr_out O hx)
    replace h := hq
    clear hq
    refine kr_aload_n O dX1_pass_53 rfl 1 rfl ?_
    obtain ⟨hco, h⟩ := h
    refine kr_caV (rest := []) O cd_X2_keep h (Nat.le_of_ble_eq_true rfl) (fun ls _ => kt_ivV (ci := 1) O dX1_pass_54 cd_X2_keep in_X2_keep (Or.inl q2072) q2073 q2074 hco (by decide) hy_X2_keep) (fun M3 hq => ?_) (fun E q M9 hx => kr_out O hx)
    replace h := hq
    clear hq
    refine kr_iinc O dX1_pass_57 3 rfl (v := v4 + (1 : Int32)) rfl (Nat.le_of_ble_eq_true rfl) rfl rfl ?_
    refine kr_goto (tgt := 43) O dX1_pass_60 rfl ?_
    refine kr_sub [1, 2, 3, 0] rfl ?_
    exact hn43 _ _ h
def vl_X1_pass_43 (w : kt_W) (gr : kt_g × kt_M) (d : Nat) (P : Option Value → kt_M → Prop) (X : String → Nat → kt_M → Prop)  (v1 : Int32) (a2 : Nat) (v3 : Int32) (v4 : Int32) (M : kt_M) : Prop :=
  ∃ Inv : Nat → Int32 → kt_M → Prop, (∃ k, Inv k v4 M) ∧ ∀ k v4 M, kt_le gr.1 gr.2 M → Inv k v4 M → vc_X1_pass_43 w gr d P X (fun v4' M' => ∃ k', k' < k ∧ Inv k' v4' M') v1 a2 v3 v4 M
theorem cl_X1_pass_43 {w : kt_W} {x : kt_X} {gr : kt_g × kt_M} {d : Nat} {P : Option Value → kt_M → Prop} {X : String → Nat → kt_M → Prop}  {v1 : Int32} {a2 : Nat} {v3 : Int32} {v4 : Int32} {M : kt_M} (O : kt_O w x gr (d + 1) cX1_pass "KeyTurns" 5 ("pass", "(I)I") (Option.some Jvm.ClassFile.FieldType.int) [])  (h : vl_X1_pass_43 w gr d P X  v1 a2 v3 v4 M) : kt_S w x 5 (kt_E w x P X) M 43 [(1, .int v1), (2, va_rf (some a2)), (3, .int v3), (4, .int v4)] [] := by
  obtain ⟨Inv, ⟨k, hk⟩, hb⟩ := h
  induction k using Nat.strongRecOn generalizing v4 M with
  | ind k ih =>
    exact kr_le O fun hle => cj_X1_pass_43 O (fun v4' M' hi => let ⟨k', h1, h2⟩ := hi; ih k' h1 h2) (hb k _ _ hle hk)
def vc_X1_pass (w : kt_W) (gr : kt_g × kt_M) (d : Nat) (P : Option Value → kt_M → Prop) (X : String → Nat → kt_M → Prop) (a0 : Nat) (v1 : Int32) (M : kt_M) : Prop :=
  
  kt_Ca w gr d yX1_isIn kc_X1_isIn [.long v1.toInt64, .long (1 : Int64), .long (200 : Int64)] M (kt_pI fun u1 M2 => 
  kt_Ca w gr d yX1_requireArgument kc_X1_requireArgument [.int u1] M2 (kt_pV fun M3 => ∃ p4, kt_gf M3 a0 0 = some (va_rf p4) ∧ ∃ b5, p4 = some b5 ∧ ∃ u6, kt_gf M3 b5 14 = some (.int u6) ∧ 
    (((u6 + v1) ≤ (9999 : Int32) → (kt_co M3 a0 = some 0) ∧ 
    kt_Ca w gr d yX1_keeping kc_X1_keeping [va_rf (some a0)] M3 (kt_pR fun p7 M8 => ∃ b9, p7 = some b9 ∧ ∃ u10, kt_gf M8 b9 16 = some (.int u10) ∧ vl_X1_pass_43 w gr d P X  v1 b9 u10 (0 : Int32) M8) X) ∧
    (¬ (u6 + v1) ≤ (9999 : Int32) → P (some (.int (-2 : Int32))) M3))) X) X
theorem ce_X1_pass {w : kt_W} {g : kt_g} {d : Nat} {P : Option Value → kt_M → Prop} {X : String → Nat → kt_M → Prop} {a0 : Nat} {v1 : Int32} {M : kt_M} (h : vc_X1_pass w (g, M) d P X a0 v1 M) : kt_Sp w g (d + 1) yX1_pass kc_X1_pass [va_rf (some a0), .int v1] M P X := by
  refine kt_of (L0 := [(0, va_rf (some a0)), (1, .int v1)]) (by decide +kernel) (Nat.le_of_ble_eq_true rfl) rfl fun x O => ?_
  replace O : kt_O w x (g, M) (d + 1) cX1_pass "KeyTurns" 5 ("pass", "(I)I") (Option.some Jvm.ClassFile.FieldType.int) [] := O
  unfold vc_X1_pass at h
  refine kr_iload_n O dX1_pass_0 rfl 1 rfl ?_
  refine kr_i2l O dX1_pass_1 ?_
  refine kr_lconst O dX1_pass_2 (v := (1 : Int64)) (by decide) ?_
  refine kr_ldc2 O dX1_pass_3 q2071 ?_
  refine kr_caI (rest := []) O cd_X1_isIn h (Nat.le_of_ble_eq_true rfl) (fun ls _ => kt_ivS O dX1_pass_6 cd_X1_isIn in_X1_isIn q1459 q510 hy_X1_isIn) (fun u1 M2 hq => ?_) (fun E q M9 hx => kr_out O hx)
  replace h := hq
  clear hq
  refine kr_caV (rest := []) O cd_X1_requireArgument h (Nat.le_of_ble_eq_true rfl) (fun ls _ => kt_ivS O dX1_pass_9 cd_X1_requireArgument in_X1_requireArgument q1496 q1497 hy_X1_requireArgument) (fun M3 hq => ?_) (fun E q M9 hx => kr_out O hx)
  replace h := hq
  clear hq
  refine kr_aload_n O dX1_pass_12 rfl 0 rfl ?_
  obtain ⟨p4, ep4, h⟩ := h
  refine kr_getf O dX1_pass_13 fs_X1_133 ep4 ?_
  obtain ⟨b5, rfl, h⟩ := h
  obtain ⟨u6, eu6, h⟩ := h
  refine kr_getf O dX1_pass_16 fs_X1_197 eu6 ?_
  refine kr_iload_n O dX1_pass_19 rfl 1 rfl ?_
  refine kr_iadd O dX1_pass_20 ?_
  refine kr_sipush O dX1_pass_21 (v := (9999 : Int32)) (by decide) ?_
  refine kr_icmp_le (tgt := 30) O dX1_pass_24 rfl (fun hc => ?_) (fun hc => ?_)
  · replace h := h.1 hc
    refine kr_aload_n O dX1_pass_30 rfl 0 rfl ?_
    obtain ⟨hco, h⟩ := h
    refine kr_caR (rest := []) O cd_X1_keeping h (Nat.le_of_ble_eq_true rfl) (fun ls _ => kt_ivV (ci := 0) O dX1_pass_31 cd_X1_keeping in_X1_keeping (Or.inl q626) q628 qs6 hco (by decide) hy_X1_keeping) (fun p7 M8 hq => ?_) (fun E q M9 hx => kr_out O hx)
    replace h := hq
    clear hq
    refine kr_astore_n O dX1_pass_34 rfl (Nat.le_of_ble_eq_true rfl) rfl rfl ?_
    refine kr_aload_n O dX1_pass_35 rfl 0 rfl ?_
    obtain ⟨b9, rfl, h⟩ := h
    obtain ⟨u10, eu10, h⟩ := h
    refine kr_getf O dX1_pass_36 fs_X1_224 eu10 ?_
    refine kr_istore_n O dX1_pass_39 rfl (Nat.le_of_ble_eq_true rfl) rfl rfl ?_
    refine kr_iconst O dX1_pass_40 (v := (0 : Int32)) (by decide) ?_
    refine kr_istore O dX1_pass_41 (Nat.le_of_ble_eq_true rfl) rfl rfl ?_
    refine kr_sub [4, 2, 1, 0] rfl ?_
    exact cl_X1_pass_43 O  h
  · replace h := h.2 hc
    refine kr_bipush O dX1_pass_27 (v := (-2 : Int32)) (by decide) ?_
    exact kr_iret O dX1_pass_29 rfl h
def vc_X1_withdraw (w : kt_W) (gr : kt_g × kt_M) (d : Nat) (P : Option Value → kt_M → Prop) (X : String → Nat → kt_M → Prop) (a0 : Nat) (v1 : Int32) (M : kt_M) : Prop :=
  (kt_co M a0 = some 0) ∧ 
  kt_Ca w gr d yX1_versionOf kc_X1_versionOf [va_rf (some a0), .int v1] M (kt_pR fun p1 M2 => ∃ p3, kt_gf M2 a0 0 = some (va_rf p3) ∧ ∃ b4, p3 = some b4 ∧ (kt_co M2 b4 = some 1) ∧ 
  kt_Ca w gr d yX2_canWithdraw kc_X2_canWithdraw [va_rf (some b4), .int v1] M2 (kt_pI fun u5 M6 => 
    ((¬ u5 = 0 → (kt_co M6 a0 = some 0) ∧ 
    kt_Ca w gr d yX1_isStuck kc_X1_isStuck [va_rf (some a0), .int v1] M6 (kt_pI fun u7 M8 => 
      ((u7 = 0 → (kt_co M8 a0 = some 0) ∧ 
      kt_Ca w gr d yX1_keeping kc_X1_keeping [va_rf (some a0)] M8 (kt_pR fun p9 M10 => ∃ b11, p9 = some b11 ∧ (kt_co M10 b11 = some 1) ∧ 
      kt_Ca w gr d yX2_withdraw kc_X2_withdraw [va_rf (some b11), .int v1] M10 (kt_pI fun u12 M13 => P (some (.int u12)) M13) X) X) ∧
      (¬ u7 = 0 → P (some (.int (-3 : Int32))) M8))) X) ∧
    (u5 = 0 → P (some (.int (-2 : Int32))) M6))) X) X
theorem ce_X1_withdraw {w : kt_W} {g : kt_g} {d : Nat} {P : Option Value → kt_M → Prop} {X : String → Nat → kt_M → Prop} {a0 : Nat} {v1 : Int32} {M : kt_M} (h : vc_X1_withdraw w (g, M) d P X a0 v1 M) : kt_Sp w g (d + 1) yX1_withdraw kc_X1_withdraw [va_rf (some a0), .int v1] M P X := by
  refine kt_of (L0 := [(0, va_rf (some a0)), (1, .int v1)]) (by decide +kernel) (Nat.le_of_ble_eq_true rfl) rfl fun x O => ?_
  replace O : kt_O w x (g, M) (d + 1) cX1_withdraw "KeyTurns" 3 ("withdraw", "(I)I") (Option.some Jvm.ClassFile.FieldType.int) [] := O
  unfold vc_X1_withdraw at h
  refine kr_aload_n O dX1_withdraw_0 rfl 0 rfl ?_
  refine kr_iload_n O dX1_withdraw_1 rfl 1 rfl ?_
  obtain ⟨hco, h⟩ := h
  refine kr_caR (rest := []) O cd_X1_versionOf h (Nat.le_of_ble_eq_true rfl) (fun ls _ => kt_ivV (ci := 0) O dX1_withdraw_2 cd_X1_versionOf in_X1_versionOf (Or.inl q1830) q1832 qs24 hco (by decide) hy_X1_versionOf) (fun p1 M2 hq => ?_) (fun E q M9 hx => kr_out O hx)
  replace h := hq
  clear hq
  refine kr_astore_n O dX1_withdraw_5 rfl (Nat.le_of_ble_eq_true rfl) rfl rfl ?_
  refine kr_aload_n O dX1_withdraw_6 rfl 1 rfl ?_
  obtain ⟨p3, ep3, h⟩ := h
  refine kr_getf O dX1_withdraw_7 fs_X1_133 ep3 ?_
  refine kr_iload_n O dX1_withdraw_10 rfl 2 rfl ?_
  obtain ⟨b4, rfl, h⟩ := h
  obtain ⟨hco, h⟩ := h
  refine kr_caI (rest := []) O cd_X2_canWithdraw h (Nat.le_of_ble_eq_true rfl) (fun ls _ => kt_ivV (ci := 1) O dX1_withdraw_11 cd_X2_canWithdraw in_X2_canWithdraw (Or.inl q2030) q2031 q2032 hco (by decide) hy_X2_canWithdraw) (fun u5 M6 hq => ?_) (fun E q M9 hx => kr_out O hx)
  replace h := hq
  clear hq
  refine kr_if_ne (tgt := 20) O dX1_withdraw_14 rfl (fun hc => ?_) (fun hc => ?_)
  · replace h := h.1 hc
    refine kr_aload_n O dX1_withdraw_20 rfl 1 rfl ?_
    refine kr_iload_n O dX1_withdraw_21 rfl 2 rfl ?_
    obtain ⟨hco, h⟩ := h
    refine kr_caI (rest := []) O cd_X1_isStuck h (Nat.le_of_ble_eq_true rfl) (fun ls _ => kt_ivV (ci := 0) O dX1_withdraw_22 cd_X1_isStuck in_X1_isStuck (Or.inl q2034) q2036 qs28 hco (by decide) hy_X1_isStuck) (fun u7 M8 hq => ?_) (fun E q M9 hx => kr_out O hx)
    replace h := hq
    clear hq
    refine kr_if_eq (tgt := 33) O dX1_withdraw_25 rfl (fun hc => ?_) (fun hc => ?_)
    · replace h := h.1 hc
      refine kr_aload_n O dX1_withdraw_33 rfl 1 rfl ?_
      obtain ⟨hco, h⟩ := h
      refine kr_caR (rest := []) O cd_X1_keeping h (Nat.le_of_ble_eq_true rfl) (fun ls _ => kt_ivV (ci := 0) O dX1_withdraw_34 cd_X1_keeping in_X1_keeping (Or.inl q626) q628 qs6 hco (by decide) hy_X1_keeping) (fun p9 M10 hq => ?_) (fun E q M9 hx => kr_out O hx)
      replace h := hq
      clear hq
      refine kr_iload_n O dX1_withdraw_37 rfl 2 rfl ?_
      obtain ⟨b11, rfl, h⟩ := h
      obtain ⟨hco, h⟩ := h
      refine kr_caI (rest := []) O cd_X2_withdraw h (Nat.le_of_ble_eq_true rfl) (fun ls _ => kt_ivV (ci := 1) O dX1_withdraw_38 cd_X2_withdraw in_X2_withdraw (Or.inl q2045) q2046 q2047 hco (by decide) hy_X2_withdraw) (fun u12 M13 hq => ?_) (fun E q M9 hx => kr_out O hx)
      replace h := hq
      clear hq
      exact kr_iret O dX1_withdraw_41 rfl h
    · replace h := h.2 hc
      refine kr_bipush O dX1_withdraw_28 (v := (-3 : Int32)) (by decide) ?_
      refine kr_goto (tgt := 41) O dX1_withdraw_30 rfl ?_
      exact kr_iret O dX1_withdraw_41 rfl h
  · replace h := h.2 hc
    refine kr_bipush O dX1_withdraw_17 (v := (-2 : Int32)) (by decide) ?_
    exact kr_iret O dX1_withdraw_19 rfl h
def vc_X1_drop (w : kt_W) (gr : kt_g × kt_M) (d : Nat) (P : Option Value → kt_M → Prop) (X : String → Nat → kt_M → Prop) (a0 : Nat) (v1 : Int32) (M : kt_M) : Prop :=
  (kt_co M a0 = some 0) ∧ 
  kt_Ca w gr d yX1_recordOf kc_X1_recordOf [va_rf (some a0), .int v1] M (kt_pR fun p1 M2 => (kt_co M2 a0 = some 0) ∧ 
  kt_Ca w gr d yX1_keeping kc_X1_keeping [va_rf (some a0)] M2 (kt_pR fun p3 M4 => ∃ b5, p3 = some b5 ∧ ∃ p6, kt_gf M4 b5 11 = some (va_rf p6) ∧ ∃ b7, p6 = some b7 ∧ (kt_co M4 b7 = some 13) ∧ 
  kt_Ca w gr d yJ3_get kc_J3_get [va_rf (some b7), .int v1] M4 (kt_pR fun p8 M9 => ∃ b10, p8 = some b10 ∧ (∃ c, kt_co M9 b10 = some c ∧ kt_is c "KeyTurns$Sealed") ∧ kt_hf gr M9 b10 28 ∧ ∀ M11, M11 = kt_pf M9 b10 28 (.int (1 : Int32)) → ∃ p12, kt_gf M11 a0 0 = some (va_rf p12) ∧ ∃ b13, p12 = some b13 ∧ (kt_co M11 b13 = some 1) ∧ 
  kt_Ca w gr d yX2_recordCount kc_X2_recordCount [va_rf (some b13)] M11 (kt_pI fun u14 M15 => P (some (.int u14)) M15) X) X) X) X
theorem ce_X1_drop {w : kt_W} {g : kt_g} {d : Nat} {P : Option Value → kt_M → Prop} {X : String → Nat → kt_M → Prop} {a0 : Nat} {v1 : Int32} {M : kt_M} (h : vc_X1_drop w (g, M) d P X a0 v1 M) : kt_Sp w g (d + 1) yX1_drop kc_X1_drop [va_rf (some a0), .int v1] M P X := by
  refine kt_of (L0 := [(0, va_rf (some a0)), (1, .int v1)]) (by decide +kernel) (Nat.le_of_ble_eq_true rfl) rfl fun x O => ?_
  replace O : kt_O w x (g, M) (d + 1) cX1_drop "KeyTurns" 3 ("drop", "(I)I") (Option.some Jvm.ClassFile.FieldType.int) [] := O
  unfold vc_X1_drop at h
  refine kr_aload_n O dX1_drop_0 rfl 0 rfl ?_
  refine kr_iload_n O dX1_drop_1 rfl 1 rfl ?_
  obtain ⟨hco, h⟩ := h
  refine kr_caR (rest := []) O cd_X1_recordOf h (Nat.le_of_ble_eq_true rfl) (fun ls _ => kt_ivV (ci := 0) O dX1_drop_2 cd_X1_recordOf in_X1_recordOf (Or.inl q1893) q1895 qs25 hco (by decide) hy_X1_recordOf) (fun p1 M2 hq => ?_) (fun E q M9 hx => kr_out O hx)
  replace h := hq
  clear hq
  refine kr_astore_n O dX1_drop_5 rfl (Nat.le_of_ble_eq_true rfl) rfl rfl ?_
  refine kr_aload_n O dX1_drop_6 rfl 1 rfl ?_
  obtain ⟨hco, h⟩ := h
  refine kr_caR (rest := []) O cd_X1_keeping h (Nat.le_of_ble_eq_true rfl) (fun ls _ => kt_ivV (ci := 0) O dX1_drop_7 cd_X1_keeping in_X1_keeping (Or.inl q626) q628 qs6 hco (by decide) hy_X1_keeping) (fun p3 M4 hq => ?_) (fun E q M9 hx => kr_out O hx)
  replace h := hq
  clear hq
  obtain ⟨b5, rfl, h⟩ := h
  obtain ⟨p6, ep6, h⟩ := h
  refine kr_getf O dX1_drop_10 fs_X1_58 ep6 ?_
  refine kr_iload_n O dX1_drop_13 rfl 2 rfl ?_
  obtain ⟨b7, rfl, h⟩ := h
  obtain ⟨hco, h⟩ := h
  refine kr_caR (rest := []) O cd_J3_get h (Nat.le_of_ble_eq_true rfl) (fun ls _ => kt_ivV (ci := 13) O dX1_drop_14 cd_J3_get in_J3_get (Or.inl q1834) q482 q483 hco (by decide) hy_J3_get) (fun p8 M9 hq => ?_) (fun E q M9 hx => kr_out O hx)
  replace h := hq
  clear hq
  obtain ⟨b10, rfl, h⟩ := h
  obtain ⟨⟨cc1, hc1, hc2⟩, h⟩ := h
  refine kr_cast O dX1_drop_17 q1898 hc1 hc2 ?_
  refine kr_iconst O dX1_drop_20 (v := (1 : Int32)) (by decide) ?_
  obtain ⟨hw, h⟩ := h
  refine kr_putf O dX1_drop_21 fs_X1_388 (Or.inl rfl) ⟨by decide, by decide⟩ hw (kr_nmM fun M11 hM11 => ?_)
  replace h := h M11 hM11
  refine kr_aload_n O dX1_drop_24 rfl 1 rfl ?_
  obtain ⟨p12, ep12, h⟩ := h
  refine kr_getf O dX1_drop_25 fs_X1_133 ep12 ?_
  obtain ⟨b13, rfl, h⟩ := h
  obtain ⟨hco, h⟩ := h
  refine kr_caI (rest := []) O cd_X2_recordCount h (Nat.le_of_ble_eq_true rfl) (fun ls _ => kt_ivV (ci := 1) O dX1_drop_28 cd_X2_recordCount in_X2_recordCount (Or.inl q569) q570 q571 hco (by decide) hy_X2_recordCount) (fun u14 M15 hq => ?_) (fun E q M9 hx => kr_out O hx)
  replace h := hq
  clear hq
  exact kr_iret O dX1_drop_31 rfl h
def vc_X1_ask (w : kt_W) (gr : kt_g × kt_M) (d : Nat) (P : Option Value → kt_M → Prop) (X : String → Nat → kt_M → Prop) (a0 : Nat) (v1 : Int32) (M : kt_M) : Prop :=
  (kt_co M a0 = some 0) ∧ 
  kt_Ca w gr d yX1_clientOf kc_X1_clientOf [va_rf (some a0), .int v1] M (kt_pR fun p1 M2 => (kt_co M2 a0 = some 0) ∧ 
  kt_Ca w gr d yX1_keeping kc_X1_keeping [va_rf (some a0)] M2 (kt_pR fun p3 M4 => ∃ b5, p3 = some b5 ∧ ∃ p6, kt_gf M4 b5 12 = some (va_rf p6) ∧ ∃ b7, p6 = some b7 ∧ (kt_co M4 b7 = some 13) ∧ 
  kt_Ca w gr d yJ3_get kc_J3_get [va_rf (some b7), .int v1] M4 (kt_pR fun p8 M9 => ∃ b10, p8 = some b10 ∧ (∃ c, kt_co M9 b10 = some c ∧ kt_is c "KeyTurns$Client") ∧ (kt_co M9 b5 = some 1) ∧ 
  kt_Ca w gr d yX2_ask kc_X2_ask [va_rf (some b5), va_rf (some b10)] M9 (kt_pI fun u11 M12 => P (some (.int u11)) M12) X) X) X) X
theorem ce_X1_ask {w : kt_W} {g : kt_g} {d : Nat} {P : Option Value → kt_M → Prop} {X : String → Nat → kt_M → Prop} {a0 : Nat} {v1 : Int32} {M : kt_M} (h : vc_X1_ask w (g, M) d P X a0 v1 M) : kt_Sp w g (d + 1) yX1_ask kc_X1_ask [va_rf (some a0), .int v1] M P X := by
  refine kt_of (L0 := [(0, va_rf (some a0)), (1, .int v1)]) (by decide +kernel) (Nat.le_of_ble_eq_true rfl) rfl fun x O => ?_
  replace O : kt_O w x (g, M) (d + 1) cX1_ask "KeyTurns" 4 ("ask", "(I)I") (Option.some Jvm.ClassFile.FieldType.int) [] := O
  unfold vc_X1_ask at h
  refine kr_aload_n O dX1_ask_0 rfl 0 rfl ?_
  refine kr_iload_n O dX1_ask_1 rfl 1 rfl ?_
  obtain ⟨hco, h⟩ := h
  refine kr_caR (rest := []) O cd_X1_clientOf h (Nat.le_of_ble_eq_true rfl) (fun ls _ => kt_ivV (ci := 0) O dX1_ask_2 cd_X1_clientOf in_X1_clientOf (Or.inl q1914) q1916 qs26 hco (by decide) hy_X1_clientOf) (fun p1 M2 hq => ?_) (fun E q M9 hx => kr_out O hx)
  replace h := hq
  clear hq
  refine kr_astore_n O dX1_ask_5 rfl (Nat.le_of_ble_eq_true rfl) rfl rfl ?_
  refine kr_aload_n O dX1_ask_6 rfl 1 rfl ?_
  obtain ⟨hco, h⟩ := h
  refine kr_caR (rest := []) O cd_X1_keeping h (Nat.le_of_ble_eq_true rfl) (fun ls _ => kt_ivV (ci := 0) O dX1_ask_7 cd_X1_keeping in_X1_keeping (Or.inl q626) q628 qs6 hco (by decide) hy_X1_keeping) (fun p3 M4 hq => ?_) (fun E q M9 hx => kr_out O hx)
  replace h := hq
  clear hq
  refine kr_astore_n O dX1_ask_10 rfl (Nat.le_of_ble_eq_true rfl) (by simp [kt_nw, kt_nrf, kt_cI, kt_cJ, kt_cF, kt_cD, kt_cR, kt_cU]) rfl ?_
  refine kr_aload_n O dX1_ask_11 rfl 0 rfl ?_
  refine kr_aload_n O dX1_ask_12 rfl 0 rfl ?_
  obtain ⟨b5, rfl, h⟩ := h
  obtain ⟨p6, ep6, h⟩ := h
  refine kr_getf O dX1_ask_13 fs_X1_203 ep6 ?_
  refine kr_iload_n O dX1_ask_16 rfl 3 rfl ?_
  obtain ⟨b7, rfl, h⟩ := h
  obtain ⟨hco, h⟩ := h
  refine kr_caR (rest := [va_rf (some b5)]) O cd_J3_get h (Nat.le_of_ble_eq_true rfl) (fun ls _ => kt_ivV (ci := 13) O dX1_ask_17 cd_J3_get in_J3_get (Or.inl q1834) q482 q483 hco (by decide) hy_J3_get) (fun p8 M9 hq => ?_) (fun E q M9 hx => kr_out O hx)
  replace h := hq
  clear hq
  obtain ⟨b10, rfl, h⟩ := h
  obtain ⟨⟨cc1, hc1, hc2⟩, h⟩ := h
  refine kr_cast O dX1_ask_20 q1918 hc1 hc2 ?_
  obtain ⟨hco, h⟩ := h
  refine kr_caI (rest := []) O cd_X2_ask h (Nat.le_of_ble_eq_true rfl) (fun ls _ => kt_ivV (ci := 1) O dX1_ask_23 cd_X2_ask in_X2_ask (Or.inl q2108) q1786 q1787 hco (by decide) hy_X2_ask) (fun u11 M12 hq => ?_) (fun E q M9 hx => kr_out O hx)
  replace h := hq
  clear hq
  exact kr_iret O dX1_ask_26 rfl h
def vc_X1_read (w : kt_W) (gr : kt_g × kt_M) (d : Nat) (P : Option Value → kt_M → Prop) (X : String → Nat → kt_M → Prop) (a0 : Nat) (v1 : Int32) (v2 : Int32) (M : kt_M) : Prop :=
  (kt_co M a0 = some 0) ∧ 
  kt_Ca w gr d yX1_clientOf kc_X1_clientOf [va_rf (some a0), .int v1] M (kt_pR fun p1 M2 => (kt_co M2 a0 = some 0) ∧ 
  kt_Ca w gr d yX1_recordOf kc_X1_recordOf [va_rf (some a0), .int v2] M2 (kt_pR fun p3 M4 => ∃ p5, kt_gf M4 a0 0 = some (va_rf p5) ∧ ∃ b6, p5 = some b6 ∧ (kt_co M4 b6 = some 1) ∧ 
  kt_Ca w gr d yX2_readsBy kc_X2_readsBy [va_rf (some b6), .int v1, .int v2] M4 (kt_pI fun u7 M8 => 
    ((¬ u7 = (-1 : Int32) → (kt_co M8 a0 = some 0) ∧ 
    kt_Ca w gr d yX1_keeping kc_X1_keeping [va_rf (some a0)] M8 (kt_pR fun p9 M10 => ∃ b11, p9 = some b11 ∧ ∃ p12, kt_gf M10 b11 12 = some (va_rf p12) ∧ ∃ b13, p12 = some b13 ∧ (kt_co M10 b13 = some 13) ∧ 
    kt_Ca w gr d yJ3_get kc_J3_get [va_rf (some b13), .int v1] M10 (kt_pR fun p14 M15 => ∃ b16, p14 = some b16 ∧ (∃ c, kt_co M15 b16 = some c ∧ kt_is c "KeyTurns$Client") ∧ ∃ u17, kt_gf M15 b16 32 = some (.int u17) ∧ kt_hf gr M15 b16 32 ∧ ∀ M18, M18 = kt_pf M15 b16 32 (.int (u17 + (1 : Int32))) → P (some (.int u7)) M18) X) X) ∧
    (u7 = (-1 : Int32) → P (some (.int (-2 : Int32))) M8))) X) X) X
theorem ce_X1_read {w : kt_W} {g : kt_g} {d : Nat} {P : Option Value → kt_M → Prop} {X : String → Nat → kt_M → Prop} {a0 : Nat} {v1 : Int32} {v2 : Int32} {M : kt_M} (h : vc_X1_read w (g, M) d P X a0 v1 v2 M) : kt_Sp w g (d + 1) yX1_read kc_X1_read [va_rf (some a0), .int v1, .int v2] M P X := by
  refine kt_of (L0 := [(0, va_rf (some a0)), (1, .int v1), (2, .int v2)]) (by decide +kernel) (Nat.le_of_ble_eq_true rfl) rfl fun x O => ?_
  replace O : kt_O w x (g, M) (d + 1) cX1_read "KeyTurns" 6 ("read", "(II)I") (Option.some Jvm.ClassFile.FieldType.int) [] := O
  unfold vc_X1_read at h
  refine kr_aload_n O dX1_read_0 rfl 0 rfl ?_
  refine kr_iload_n O dX1_read_1 rfl 1 rfl ?_
  obtain ⟨hco, h⟩ := h
  refine kr_caR (rest := []) O cd_X1_clientOf h (Nat.le_of_ble_eq_true rfl) (fun ls _ => kt_ivV (ci := 0) O dX1_read_2 cd_X1_clientOf in_X1_clientOf (Or.inl q1914) q1916 qs26 hco (by decide) hy_X1_clientOf) (fun p1 M2 hq => ?_) (fun E q M9 hx => kr_out O hx)
  replace h := hq
  clear hq
  refine kr_astore_n O dX1_read_5 rfl (Nat.le_of_ble_eq_true rfl) rfl rfl ?_
  refine kr_aload_n O dX1_read_6 rfl 1 rfl ?_
  refine kr_iload_n O dX1_read_7 rfl 3 rfl ?_
  obtain ⟨hco, h⟩ := h
  refine kr_caR (rest := []) O cd_X1_recordOf h (Nat.le_of_ble_eq_true rfl) (fun ls _ => kt_ivV (ci := 0) O dX1_read_8 cd_X1_recordOf in_X1_recordOf (Or.inl q1893) q1895 qs25 hco (by decide) hy_X1_recordOf) (fun p3 M4 hq => ?_) (fun E q M9 hx => kr_out O hx)
  replace h := hq
  clear hq
  refine kr_astore O dX1_read_11 (Nat.le_of_ble_eq_true rfl) (by simp [kt_nw, kt_nrf, kt_cI, kt_cJ, kt_cF, kt_cD, kt_cR, kt_cU]) rfl ?_
  refine kr_aload_n O dX1_read_13 rfl 2 rfl ?_
  obtain ⟨p5, ep5, h⟩ := h
  refine kr_getf O dX1_read_14 fs_X1_133 ep5 ?_
  refine kr_iload_n O dX1_read_17 rfl 3 rfl ?_
  refine kr_iload_n O dX1_read_18 rfl 4 rfl ?_
  obtain ⟨b6, rfl, h⟩ := h
  obtain ⟨hco, h⟩ := h
  refine kr_caI (rest := []) O cd_X2_readsBy h (Nat.le_of_ble_eq_true rfl) (fun ls _ => kt_ivV (ci := 1) O dX1_read_19 cd_X2_readsBy in_X2_readsBy (Or.inl q1942) q600 q601 hco (by decide) hy_X2_readsBy) (fun u7 M8 hq => ?_) (fun E q M9 hx => kr_out O hx)
  replace h := hq
  clear hq
  refine kr_istore O dX1_read_22 (Nat.le_of_ble_eq_true rfl) (by simp [kt_nw, kt_nrf, kt_cI, kt_cJ, kt_cF, kt_cD, kt_cR, kt_cU]) rfl ?_
  refine kr_iload O dX1_read_24 0 rfl ?_
  refine kr_iconst O dX1_read_26 (v := (-1 : Int32)) (by decide) ?_
  refine kr_icmp_ne (tgt := 33) O dX1_read_27 rfl (fun hc => ?_) (fun hc => ?_)
  · replace h := h.1 hc
    refine kr_aload_n O dX1_read_33 rfl 3 rfl ?_
    obtain ⟨hco, h⟩ := h
    refine kr_caR (rest := []) O cd_X1_keeping h (Nat.le_of_ble_eq_true rfl) (fun ls _ => kt_ivV (ci := 0) O dX1_read_34 cd_X1_keeping in_X1_keeping (Or.inl q626) q628 qs6 hco (by decide) hy_X1_keeping) (fun p9 M10 hq => ?_) (fun E q M9 hx => kr_out O hx)
    replace h := hq
    clear hq
    obtain ⟨b11, rfl, h⟩ := h
    obtain ⟨p12, ep12, h⟩ := h
    refine kr_getf O dX1_read_37 fs_X1_203 ep12 ?_
    refine kr_iload_n O dX1_read_40 rfl 4 rfl ?_
    obtain ⟨b13, rfl, h⟩ := h
    obtain ⟨hco, h⟩ := h
    refine kr_caR (rest := []) O cd_J3_get h (Nat.le_of_ble_eq_true rfl) (fun ls _ => kt_ivV (ci := 13) O dX1_read_41 cd_J3_get in_J3_get (Or.inl q1834) q482 q483 hco (by decide) hy_J3_get) (fun p14 M15 hq => ?_) (fun E q M9 hx => kr_out O hx)
    replace h := hq
    clear hq
    obtain ⟨b16, rfl, h⟩ := h
    obtain ⟨⟨cc1, hc1, hc2⟩, h⟩ := h
    refine kr_cast O dX1_read_44 q1918 hc1 hc2 ?_
    refine kr_dup O dX1_read_47 (kt_nrf _) ?_
    obtain ⟨u17, eu17, h⟩ := h
    refine kr_getf O dX1_read_48 fs_X1_297 eu17 ?_
    refine kr_iconst O dX1_read_51 (v := (1 : Int32)) (by decide) ?_
    refine kr_iadd O dX1_read_52 ?_
    obtain ⟨hw, h⟩ := h
    refine kr_putf O dX1_read_53 fs_X1_297 (Or.inl rfl) ⟨rfl, rfl⟩ hw (kr_nmM fun M18 hM18 => ?_)
    replace h := h M18 hM18
    refine kr_iload O dX1_read_56 0 rfl ?_
    exact kr_iret O dX1_read_58 rfl h
  · replace h := h.2 hc
    refine kr_bipush O dX1_read_30 (v := (-2 : Int32)) (by decide) ?_
    exact kr_iret O dX1_read_32 rfl h
def vc_X1_setBatch (w : kt_W) (gr : kt_g × kt_M) (d : Nat) (P : Option Value → kt_M → Prop) (X : String → Nat → kt_M → Prop) (a0 : Nat) (v1 : Int32) (M : kt_M) : Prop :=
  
  kt_Ca w gr d yX1_isIn kc_X1_isIn [.long v1.toInt64, .long (1 : Int64), .long (30 : Int64)] M (kt_pI fun u1 M2 => 
  kt_Ca w gr d yX1_requireArgument kc_X1_requireArgument [.int u1] M2 (kt_pV fun M3 => ∃ p4, kt_gf M3 a0 0 = some (va_rf p4) ∧ ∃ b5, p4 = some b5 ∧ ∃ u6, kt_gf M3 b5 15 = some (.int u6) ∧ (kt_co M3 a0 = some 0) ∧ 
  kt_Ca w gr d yX1_keeping kc_X1_keeping [va_rf (some a0)] M3 (kt_pR fun p7 M8 => ∃ b9, p7 = some b9 ∧ kt_hf gr M8 b9 15 ∧ ∀ M10, M10 = kt_pf M8 b9 15 (.int v1) → P (some (.int u6)) M10) X) X) X
theorem ce_X1_setBatch {w : kt_W} {g : kt_g} {d : Nat} {P : Option Value → kt_M → Prop} {X : String → Nat → kt_M → Prop} {a0 : Nat} {v1 : Int32} {M : kt_M} (h : vc_X1_setBatch w (g, M) d P X a0 v1 M) : kt_Sp w g (d + 1) yX1_setBatch kc_X1_setBatch [va_rf (some a0), .int v1] M P X := by
  refine kt_of (L0 := [(0, va_rf (some a0)), (1, .int v1)]) (by decide +kernel) (Nat.le_of_ble_eq_true rfl) rfl fun x O => ?_
  replace O : kt_O w x (g, M) (d + 1) cX1_setBatch "KeyTurns" 3 ("setBatch", "(I)I") (Option.some Jvm.ClassFile.FieldType.int) [] := O
  unfold vc_X1_setBatch at h
  refine kr_iload_n O dX1_setBatch_0 rfl 1 rfl ?_
  refine kr_i2l O dX1_setBatch_1 ?_
  refine kr_lconst O dX1_setBatch_2 (v := (1 : Int64)) (by decide) ?_
  refine kr_ldc2 O dX1_setBatch_3 q2123 ?_
  refine kr_caI (rest := []) O cd_X1_isIn h (Nat.le_of_ble_eq_true rfl) (fun ls _ => kt_ivS O dX1_setBatch_6 cd_X1_isIn in_X1_isIn q1459 q510 hy_X1_isIn) (fun u1 M2 hq => ?_) (fun E q M9 hx => kr_out O hx)
  replace h := hq
  clear hq
  refine kr_caV (rest := []) O cd_X1_requireArgument h (Nat.le_of_ble_eq_true rfl) (fun ls _ => kt_ivS O dX1_setBatch_9 cd_X1_requireArgument in_X1_requireArgument q1496 q1497 hy_X1_requireArgument) (fun M3 hq => ?_) (fun E q M9 hx => kr_out O hx)
  replace h := hq
  clear hq
  refine kr_aload_n O dX1_setBatch_12 rfl 0 rfl ?_
  obtain ⟨p4, ep4, h⟩ := h
  refine kr_getf O dX1_setBatch_13 fs_X1_133 ep4 ?_
  obtain ⟨b5, rfl, h⟩ := h
  obtain ⟨u6, eu6, h⟩ := h
  refine kr_getf O dX1_setBatch_16 fs_X1_215 eu6 ?_
  refine kr_istore_n O dX1_setBatch_19 rfl (Nat.le_of_ble_eq_true rfl) rfl rfl ?_
  refine kr_aload_n O dX1_setBatch_20 rfl 1 rfl ?_
  obtain ⟨hco, h⟩ := h
  refine kr_caR (rest := []) O cd_X1_keeping h (Nat.le_of_ble_eq_true rfl) (fun ls _ => kt_ivV (ci := 0) O dX1_setBatch_21 cd_X1_keeping in_X1_keeping (Or.inl q626) q628 qs6 hco (by decide) hy_X1_keeping) (fun p7 M8 hq => ?_) (fun E q M9 hx => kr_out O hx)
  replace h := hq
  clear hq
  refine kr_iload_n O dX1_setBatch_24 rfl 2 rfl ?_
  obtain ⟨b9, rfl, h⟩ := h
  obtain ⟨hw, h⟩ := h
  refine kr_putf O dX1_setBatch_25 fs_X1_215 (Or.inl rfl) ⟨rfl, rfl⟩ hw (kr_nmM fun M10 hM10 => ?_)
  replace h := h M10 hM10
  refine kr_iload_n O dX1_setBatch_28 rfl 0 rfl ?_
  exact kr_iret O dX1_setBatch_29 rfl h
def vc_X1_format_110 (w : kt_W) (gr : kt_g × kt_M) (d : Nat) (P : Option Value → kt_M → Prop) (X : String → Nat → kt_M → Prop) (nx110 : Int32 → kt_M → Prop) (a0 : Nat) (a3 : Nat) (v4 : Int32) (v5 : Int32) (M : kt_M) : Prop :=
  ∃ p1, kt_gf M a0 0 = some (va_rf p1) ∧ ∃ b2, p1 = some b2 ∧ ∃ p3, kt_gf M b2 12 = some (va_rf p3) ∧ ∃ b4, p3 = some b4 ∧ (kt_co M b4 = some 13) ∧ 
  kt_Ca w gr d yJ3_size kc_J3_size [va_rf (some b4)] M (kt_pI fun u5 M6 => 
    ((u5 ≤ v5 → (kt_co M6 a3 = some 19) ∧ 
    kt_Ca w gr d yJ14_toString kc_J14_toString [va_rf (some a3)] M6 (kt_pR fun p7 M8 => kt_hf gr M8 a0 6 ∧ ∀ M9, M9 = kt_pf M8 a0 6 (va_rf p7) → ∃ p10, kt_gf M9 a0 6 = some (va_rf p10) ∧ ∃ b11, p10 = some b11 ∧ (kt_co M9 b11 = some 20) ∧ 
    kt_Ca w gr d yJ15_length kc_J15_length [va_rf (some b11)] M9 (kt_pI fun u12 M13 => P (some (.int u12)) M13) X) X) ∧
    (¬ u5 ≤ v5 → 
    kt_Ca w gr d yX1_has kc_X1_has [.int v4, .int v5] M6 (kt_pI fun u14 M15 => 
      ((u14 = 0 → (kt_co M15 a3 = some 19) ∧ 
      kt_Ca w gr d yJ14_append_3 kc_J14_append_3 [va_rf (some a3), .int (45 : Int32)] M15 (kt_pR fun p16 M17 => nx110 (v5 + (1 : Int32)) M17) X) ∧
      (¬ u14 = 0 → (kt_co M15 a3 = some 19) ∧ 
      kt_Ca w gr d yJ14_append_2 kc_J14_append_2 [va_rf (some a3), .int v5] M15 (kt_pR fun p18 M19 => nx110 (v5 + (1 : Int32)) M19) X))) X))) X
theorem cj_X1_format_110 {w : kt_W} {x : kt_X} {gr : kt_g × kt_M} {d : Nat} {P : Option Value → kt_M → Prop} {X : String → Nat → kt_M → Prop} {nx110 : Int32 → kt_M → Prop} {a0 : Nat} {a3 : Nat} {v4 : Int32} {v5 : Int32} {M : kt_M} (O : kt_O w x gr (d + 1) cX1_format "KeyTurns" 6 ("format", "(I)I") (Option.some Jvm.ClassFile.FieldType.int) []) (hn110 : ∀ v5 M, nx110 v5 M → kt_S w x 6 (kt_E w x P X) M 110 [(0, va_rf (some a0)), (3, va_rf (some a3)), (4, .int v4), (5, .int v5)] []) (h : vc_X1_format_110 w gr d P X nx110 a0 a3 v4 v5 M) : kt_S w x 6 (kt_E w x P X) M 110 [(0, va_rf (some a0)), (3, va_rf (some a3)), (4, .int v4), (5, .int v5)] [] := by
  unfold vc_X1_format_110 at h
  refine kr_iload O dX1_format_110 3 rfl ?_
  refine kr_aload_n O dX1_format_112 rfl 0 rfl ?_
  obtain ⟨p1, ep1, h⟩ := h
  refine kr_getf O dX1_format_113 fs_X1_133 ep1 ?_
  obtain ⟨b2, rfl, h⟩ := h
  obtain ⟨p3, ep3, h⟩ := h
  refine kr_getf O dX1_format_116 fs_X1_203 ep3 ?_
  obtain ⟨b4, rfl, h⟩ := h
  obtain ⟨hco, h⟩ := h
  refine kr_caI (rest := [.int v5]) O cd_J3_size h (Nat.le_of_ble_eq_true rfl) (fun ls _ => kt_ivV (ci := 13) O dX1_format_119 cd_J3_size in_J3_size (Or.inl q594) q478 q479 hco (by decide) hy_J3_size) (fun u5 M6 hq => ?_) (fun E q M9 hx => kr_out O hx)
  replace h := hq
  clear hq
  refine kr_icmp_ge (tgt := 158) O dX1_format_122 rfl (fun hc => ?_) (fun hc => ?_)
  · replace h := h.1 hc
    refine kr_aload_n O dX1_format_158 rfl 0 rfl ?_
    refine kr_aload_n O dX1_format_159 rfl 1 rfl ?_
    obtain ⟨hco, h⟩ := h
    refine kr_caR (rest := [va_rf (some a0)]) O cd_J14_toString h (Nat.le_of_ble_eq_true rfl) (fun ls _ => kt_ivV (ci := 19) O dX1_format_160 cd_J14_toString in_J14_toString (Or.inl q2138) q1178 q1179 hco (by decide) hy_J14_toString) (fun p7 M8 hq => ?_) (fun E q M9 hx => kr_out O hx)
    replace h := hq
    clear hq
    obtain ⟨hw, h⟩ := h
    refine kr_putf O dX1_format_163 fs_X1_125 (Or.inl rfl) (kt_ok_rf _ rfl) hw (kr_nmM fun M9 hM9 => ?_)
    replace h := h M9 hM9
    refine kr_aload_n O dX1_format_166 rfl 0 rfl ?_
    obtain ⟨p10, ep10, h⟩ := h
    refine kr_getf O dX1_format_167 fs_X1_125 ep10 ?_
    obtain ⟨b11, rfl, h⟩ := h
    obtain ⟨hco, h⟩ := h
    refine kr_caI (rest := []) O cd_J15_length h (Nat.le_of_ble_eq_true rfl) (fun ls _ => kt_ivV (ci := 20) O dX1_format_170 cd_J15_length in_J15_length (Or.inl q1458) q1134 q1135 hco (by decide) hy_J15_length) (fun u12 M13 hq => ?_) (fun E q M9 hx => kr_out O hx)
    replace h := hq
    clear hq
    exact kr_iret O dX1_format_173 rfl h
  · replace h := h.2 hc
    refine kr_iload O dX1_format_125 2 rfl ?_
    refine kr_iload O dX1_format_127 3 rfl ?_
    refine kr_caI (rest := []) O cd_X1_has h (Nat.le_of_ble_eq_true rfl) (fun ls _ => kt_ivS O dX1_format_129 cd_X1_has in_X1_has q2137 q614 hy_X1_has) (fun u14 M15 hq => ?_) (fun E q M9 hx => kr_out O hx)
    replace h := hq
    clear hq
    refine kr_if_eq (tgt := 145) O dX1_format_132 rfl (fun hc => ?_) (fun hc => ?_)
    · replace h := h.1 hc
      refine kr_aload_n O dX1_format_145 rfl 1 rfl ?_
      refine kr_bipush O dX1_format_146 (v := (45 : Int32)) (by decide) ?_
      obtain ⟨hco, h⟩ := h
      refine kr_caR (rest := []) O cd_J14_append_3 h (Nat.le_of_ble_eq_true rfl) (fun ls _ => kt_ivV (ci := 19) O dX1_format_148 cd_J14_append_3 in_J14_append_3 (Or.inl q2135) q1554 q1555 hco (by decide) hy_J14_append_3) (fun p16 M17 hq => ?_) (fun E q M9 hx => kr_out O hx)
      replace h := hq
      clear hq
      refine kr_pop O dX1_format_151 (kt_nrf _) ?_
      refine kr_iinc O dX1_format_152 3 rfl (v := v5 + (1 : Int32)) rfl (Nat.le_of_ble_eq_true rfl) rfl rfl ?_
      refine kr_goto (tgt := 110) O dX1_format_155 rfl ?_
      refine kr_sub [1, 2, 3, 0] rfl ?_
      exact hn110 _ _ h
    · replace h := h.2 hc
      refine kr_aload_n O dX1_format_135 rfl 1 rfl ?_
      refine kr_iload O dX1_format_136 3 rfl ?_
      obtain ⟨hco, h⟩ := h
      refine kr_caR (rest := []) O cd_J14_append_2 h (Nat.le_of_ble_eq_true rfl) (fun ls _ => kt_ivV (ci := 19) O dX1_format_138 cd_J14_append_2 in_J14_append_2 (Or.inl q2136) q1225 q1226 hco (by decide) hy_J14_append_2) (fun p18 M19 hq => ?_) (fun E q M9 hx => kr_out O hx)
      replace h := hq
      clear hq
      refine kr_pop O dX1_format_141 (kt_nrf _) ?_
      refine kr_goto (tgt := 152) O dX1_format_142 rfl ?_
      refine kr_iinc O dX1_format_152 3 rfl (v := v5 + (1 : Int32)) rfl (Nat.le_of_ble_eq_true rfl) rfl rfl ?_
      refine kr_goto (tgt := 110) O dX1_format_155 rfl ?_
      refine kr_sub [1, 2, 3, 0] rfl ?_
      exact hn110 _ _ h
def vl_X1_format_110 (w : kt_W) (gr : kt_g × kt_M) (d : Nat) (P : Option Value → kt_M → Prop) (X : String → Nat → kt_M → Prop)  (a0 : Nat) (a3 : Nat) (v4 : Int32) (v5 : Int32) (M : kt_M) : Prop :=
  ∃ Inv : Nat → Int32 → kt_M → Prop, (∃ k, Inv k v5 M) ∧ ∀ k v5 M, kt_le gr.1 gr.2 M → Inv k v5 M → vc_X1_format_110 w gr d P X (fun v5' M' => ∃ k', k' < k ∧ Inv k' v5' M') a0 a3 v4 v5 M
theorem cl_X1_format_110 {w : kt_W} {x : kt_X} {gr : kt_g × kt_M} {d : Nat} {P : Option Value → kt_M → Prop} {X : String → Nat → kt_M → Prop}  {a0 : Nat} {a3 : Nat} {v4 : Int32} {v5 : Int32} {M : kt_M} (O : kt_O w x gr (d + 1) cX1_format "KeyTurns" 6 ("format", "(I)I") (Option.some Jvm.ClassFile.FieldType.int) [])  (h : vl_X1_format_110 w gr d P X  a0 a3 v4 v5 M) : kt_S w x 6 (kt_E w x P X) M 110 [(0, va_rf (some a0)), (3, va_rf (some a3)), (4, .int v4), (5, .int v5)] [] := by
  obtain ⟨Inv, ⟨k, hk⟩, hb⟩ := h
  induction k using Nat.strongRecOn generalizing v5 M with
  | ind k ih =>
    exact kr_le O fun hle => cj_X1_format_110 O (fun v5' M' hi => let ⟨k', h1, h2⟩ := hi; ih k' h1 h2) (hb k _ _ hle hk)
def vc_X1_format_74 (w : kt_W) (gr : kt_g × kt_M) (d : Nat) (P : Option Value → kt_M → Prop) (X : String → Nat → kt_M → Prop) (nx24 : Int32 → kt_M → Prop) (a0 : Nat) (v1 : Int32) (a2 : Nat) (a3 : Nat) (v4 : Int32) (M : kt_M) : Prop :=
  ∃ p1, kt_gf M a2 26 = some (va_rf p1) ∧ ∃ b2, p1 = some b2 ∧ (kt_co M b2 = some 18) ∧ 
  kt_Ca w gr d yJ21_nextSetBit kc_J21_nextSetBit [va_rf (some b2), .int (v4 + (1 : Int32))] M (kt_pI fun u3 M4 => nx24 u3 M4) X
theorem cj_X1_format_74 {w : kt_W} {x : kt_X} {gr : kt_g × kt_M} {d : Nat} {P : Option Value → kt_M → Prop} {X : String → Nat → kt_M → Prop} {nx24 : Int32 → kt_M → Prop} {a0 : Nat} {v1 : Int32} {a2 : Nat} {a3 : Nat} {v4 : Int32} {M : kt_M} (O : kt_O w x gr (d + 1) cX1_format "KeyTurns" 6 ("format", "(I)I") (Option.some Jvm.ClassFile.FieldType.int) []) (hn24 : ∀ v4 M, nx24 v4 M → kt_S w x 6 (kt_E w x P X) M 24 [(0, va_rf (some a0)), (1, .int v1), (2, va_rf (some a2)), (3, va_rf (some a3)), (4, .int v4)] []) (h : vc_X1_format_74 w gr d P X nx24 a0 v1 a2 a3 v4 M) : kt_S w x 6 (kt_E w x P X) M 74 [(0, va_rf (some a0)), (1, .int v1), (2, va_rf (some a2)), (3, va_rf (some a3)), (4, .int v4)] [] := by
  unfold vc_X1_format_74 at h
  refine kr_aload_n O dX1_format_74 rfl 2 rfl ?_
  obtain ⟨p1, ep1, h⟩ := h
  refine kr_getf O dX1_format_75 fs_X1_70 ep1 ?_
  refine kr_iload O dX1_format_78 4 rfl ?_
  refine kr_iconst O dX1_format_80 (v := (1 : Int32)) (by decide) ?_
  refine kr_iadd O dX1_format_81 ?_
  obtain ⟨b2, rfl, h⟩ := h
  obtain ⟨hco, h⟩ := h
  refine kr_caI (rest := []) O cd_J21_nextSetBit h (Nat.le_of_ble_eq_true rfl) (fun ls _ => kt_ivV (ci := 18) O dX1_format_82 cd_J21_nextSetBit in_J21_nextSetBit (Or.inl q2133) q537 q538 hco (by decide) hy_J21_nextSetBit) (fun u3 M4 hq => ?_) (fun E q M9 hx => kr_out O hx)
  replace h := hq
  clear hq
  refine kr_istore O dX1_format_85 (Nat.le_of_ble_eq_true rfl) rfl rfl ?_
  refine kr_goto (tgt := 24) O dX1_format_87 rfl ?_
  refine kr_sub [1, 2, 3, 4, 0] rfl ?_
  exact hn24 _ _ h
def vc_X1_format_43 (w : kt_W) (gr : kt_g × kt_M) (d : Nat) (P : Option Value → kt_M → Prop) (X : String → Nat → kt_M → Prop) (nx24 : Int32 → kt_M → Prop) (a0 : Nat) (v1 : Int32) (a2 : Nat) (a3 : Nat) (v4 : Int32) (M : kt_M) : Prop :=
  (kt_co M a3 = some 19) ∧ 
  kt_Ca w gr d yJ14_append_3 kc_J14_append_3 [va_rf (some a3), .int (118 : Int32)] M (kt_pR fun p1 M2 => ∃ b3, p1 = some b3 ∧ (kt_co M2 b3 = some 19) ∧ 
  kt_Ca w gr d yJ14_append_2 kc_J14_append_2 [va_rf (some b3), .int v4] M2 (kt_pR fun p4 M5 => ∃ p6, kt_gf M5 a0 0 = some (va_rf p6) ∧ ∃ b7, p6 = some b7 ∧ (kt_co M5 b7 = some 1) ∧ 
  kt_Ca w gr d yX2_writing kc_X2_writing [va_rf (some b7)] M5 (kt_pI fun u8 M9 => 
    ((¬ v4 = u8 → vc_X1_format_74 w gr d P X nx24 a0 v1 a2 a3 v4 M9) ∧
    (v4 = u8 → (kt_co M9 a3 = some 19) ∧ 
    kt_Ca w gr d yJ14_append_3 kc_J14_append_3 [va_rf (some a3), .int (42 : Int32)] M9 (kt_pR fun p10 M11 => vc_X1_format_74 w gr d P X nx24 a0 v1 a2 a3 v4 M11) X))) X) X) X
theorem cj_X1_format_43 {w : kt_W} {x : kt_X} {gr : kt_g × kt_M} {d : Nat} {P : Option Value → kt_M → Prop} {X : String → Nat → kt_M → Prop} {nx24 : Int32 → kt_M → Prop} {a0 : Nat} {v1 : Int32} {a2 : Nat} {a3 : Nat} {v4 : Int32} {M : kt_M} (O : kt_O w x gr (d + 1) cX1_format "KeyTurns" 6 ("format", "(I)I") (Option.some Jvm.ClassFile.FieldType.int) []) (hn24 : ∀ v4 M, nx24 v4 M → kt_S w x 6 (kt_E w x P X) M 24 [(0, va_rf (some a0)), (1, .int v1), (2, va_rf (some a2)), (3, va_rf (some a3)), (4, .int v4)] []) (h : vc_X1_format_43 w gr d P X nx24 a0 v1 a2 a3 v4 M) : kt_S w x 6 (kt_E w x P X) M 43 [(0, va_rf (some a0)), (1, .int v1), (2, va_rf (some a2)), (3, va_rf (some a3)), (4, .int v4)] [] := by
  unfold vc_X1_format_43 at h
  refine kr_aload_n O dX1_format_43 rfl 3 rfl ?_
  refine kr_bipush O dX1_format_44 (v := (118 : Int32)) (by decide) ?_
  obtain ⟨hco, h⟩ := h
  refine kr_caR (rest := []) O cd_J14_append_3 h (Nat.le_of_ble_eq_true rfl) (fun ls _ => kt_ivV (ci := 19) O dX1_format_46 cd_J14_append_3 in_J14_append_3 (Or.inl q2135) q1554 q1555 hco (by decide) hy_J14_append_3) (fun p1 M2 hq => ?_) (fun E q M9 hx => kr_out O hx)
  replace h := hq
  clear hq
  refine kr_iload O dX1_format_49 4 rfl ?_
  obtain ⟨b3, rfl, h⟩ := h
  obtain ⟨hco, h⟩ := h
  refine kr_caR (rest := []) O cd_J14_append_2 h (Nat.le_of_ble_eq_true rfl) (fun ls _ => kt_ivV (ci := 19) O dX1_format_51 cd_J14_append_2 in_J14_append_2 (Or.inl q2136) q1225 q1226 hco (by decide) hy_J14_append_2) (fun p4 M5 hq => ?_) (fun E q M9 hx => kr_out O hx)
  replace h := hq
  clear hq
  refine kr_pop O dX1_format_54 (kt_nrf _) ?_
  refine kr_iload O dX1_format_55 4 rfl ?_
  refine kr_aload_n O dX1_format_57 rfl 0 rfl ?_
  obtain ⟨p6, ep6, h⟩ := h
  refine kr_getf O dX1_format_58 fs_X1_133 ep6 ?_
  obtain ⟨b7, rfl, h⟩ := h
  obtain ⟨hco, h⟩ := h
  refine kr_caI (rest := [.int v4]) O cd_X2_writing h (Nat.le_of_ble_eq_true rfl) (fun ls _ => kt_ivV (ci := 1) O dX1_format_61 cd_X2_writing in_X2_writing (Or.inl q1807) q474 q475 hco (by decide) hy_X2_writing) (fun u8 M9 hq => ?_) (fun E q M9 hx => kr_out O hx)
  replace h := hq
  clear hq
  refine kr_icmp_ne (tgt := 74) O dX1_format_64 rfl (fun hc => ?_) (fun hc => ?_)
  · replace h := h.1 hc
    exact cj_X1_format_74 O hn24 h
  · replace h := h.2 hc
    refine kr_aload_n O dX1_format_67 rfl 3 rfl ?_
    refine kr_bipush O dX1_format_68 (v := (42 : Int32)) (by decide) ?_
    obtain ⟨hco, h⟩ := h
    refine kr_caR (rest := []) O cd_J14_append_3 h (Nat.le_of_ble_eq_true rfl) (fun ls _ => kt_ivV (ci := 19) O dX1_format_70 cd_J14_append_3 in_J14_append_3 (Or.inl q2135) q1554 q1555 hco (by decide) hy_J14_append_3) (fun p10 M11 hq => ?_) (fun E q M9 hx => kr_out O hx)
    replace h := hq
    clear hq
    refine kr_pop O dX1_format_73 (kt_nrf _) ?_
    exact cj_X1_format_74 O hn24 h
def vc_X1_format_24 (w : kt_W) (gr : kt_g × kt_M) (d : Nat) (P : Option Value → kt_M → Prop) (X : String → Nat → kt_M → Prop) (nx24 : Int32 → kt_M → Prop) (a0 : Nat) (v1 : Int32) (a2 : Nat) (a3 : Nat) (v4 : Int32) (M : kt_M) : Prop :=
  
    ((v4 < 0 → (kt_co M a3 = some 19) ∧ 
    kt_Ca w gr d yJ14_append_3 kc_J14_append_3 [va_rf (some a3), .int (32 : Int32)] M (kt_pR fun p1 M2 => ∃ p3, kt_gf M2 a0 0 = some (va_rf p3) ∧ ∃ b4, p3 = some b4 ∧ (kt_co M2 b4 = some 1) ∧ 
    kt_Ca w gr d yX2_readers kc_X2_readers [va_rf (some b4), .int v1] M2 (kt_pI fun u5 M6 => vl_X1_format_110 w gr d P X  a0 a3 u5 (0 : Int32) M6) X) X) ∧
    (¬ v4 < 0 → (kt_co M a3 = some 19) ∧ 
    kt_Ca w gr d yJ14_length kc_J14_length [va_rf (some a3)] M (kt_pI fun u7 M8 => 
      ((u7 ≤ 0 → vc_X1_format_43 w gr d P X nx24 a0 v1 a2 a3 v4 M8) ∧
      (¬ u7 ≤ 0 → (kt_co M8 a3 = some 19) ∧ 
      kt_Ca w gr d yJ14_append_3 kc_J14_append_3 [va_rf (some a3), .int (32 : Int32)] M8 (kt_pR fun p9 M10 => vc_X1_format_43 w gr d P X nx24 a0 v1 a2 a3 v4 M10) X))) X))
theorem cj_X1_format_24 {w : kt_W} {x : kt_X} {gr : kt_g × kt_M} {d : Nat} {P : Option Value → kt_M → Prop} {X : String → Nat → kt_M → Prop} {nx24 : Int32 → kt_M → Prop} {a0 : Nat} {v1 : Int32} {a2 : Nat} {a3 : Nat} {v4 : Int32} {M : kt_M} (O : kt_O w x gr (d + 1) cX1_format "KeyTurns" 6 ("format", "(I)I") (Option.some Jvm.ClassFile.FieldType.int) []) (hn24 : ∀ v4 M, nx24 v4 M → kt_S w x 6 (kt_E w x P X) M 24 [(0, va_rf (some a0)), (1, .int v1), (2, va_rf (some a2)), (3, va_rf (some a3)), (4, .int v4)] []) (h : vc_X1_format_24 w gr d P X nx24 a0 v1 a2 a3 v4 M) : kt_S w x 6 (kt_E w x P X) M 24 [(0, va_rf (some a0)), (1, .int v1), (2, va_rf (some a2)), (3, va_rf (some a3)), (4, .int v4)] [] := by
  unfold vc_X1_format_24 at h
  refine kr_iload O dX1_format_24 4 rfl ?_
  refine kr_if_lt (tgt := 90) O dX1_format_26 rfl (fun hc => ?_) (fun hc => ?_)
  · replace h := h.1 hc
    refine kr_aload_n O dX1_format_90 rfl 3 rfl ?_
    refine kr_bipush O dX1_format_91 (v := (32 : Int32)) (by decide) ?_
    obtain ⟨hco, h⟩ := h
    refine kr_caR (rest := []) O cd_J14_append_3 h (Nat.le_of_ble_eq_true rfl) (fun ls _ => kt_ivV (ci := 19) O dX1_format_93 cd_J14_append_3 in_J14_append_3 (Or.inl q2135) q1554 q1555 hco (by decide) hy_J14_append_3) (fun p1 M2 hq => ?_) (fun E q M9 hx => kr_out O hx)
    replace h := hq
    clear hq
    refine kr_pop O dX1_format_96 (kt_nrf _) ?_
    refine kr_aload_n O dX1_format_97 rfl 0 rfl ?_
    obtain ⟨p3, ep3, h⟩ := h
    refine kr_getf O dX1_format_98 fs_X1_133 ep3 ?_
    refine kr_iload_n O dX1_format_101 rfl 1 rfl ?_
    obtain ⟨b4, rfl, h⟩ := h
    obtain ⟨hco, h⟩ := h
    refine kr_caI (rest := []) O cd_X2_readers h (Nat.le_of_ble_eq_true rfl) (fun ls _ => kt_ivV (ci := 1) O dX1_format_102 cd_X2_readers in_X2_readers (Or.inl q1903) q1904 q1905 hco (by decide) hy_X2_readers) (fun u5 M6 hq => ?_) (fun E q M9 hx => kr_out O hx)
    replace h := hq
    clear hq
    refine kr_istore O dX1_format_105 (Nat.le_of_ble_eq_true rfl) rfl rfl ?_
    refine kr_iconst O dX1_format_107 (v := (0 : Int32)) (by decide) ?_
    refine kr_istore O dX1_format_108 (Nat.le_of_ble_eq_true rfl) rfl rfl ?_
    refine kr_sub [2, 5, 1, 0] rfl ?_
    exact cl_X1_format_110 O  h
  · replace h := h.2 hc
    refine kr_aload_n O dX1_format_29 rfl 3 rfl ?_
    obtain ⟨hco, h⟩ := h
    refine kr_caI (rest := []) O cd_J14_length h (Nat.le_of_ble_eq_true rfl) (fun ls _ => kt_ivV (ci := 19) O dX1_format_30 cd_J14_length in_J14_length (Or.inl q2134) q1199 q3024 hco (by decide) hy_J14_length) (fun u7 M8 hq => ?_) (fun E q M9 hx => kr_out O hx)
    replace h := hq
    clear hq
    refine kr_if_le (tgt := 43) O dX1_format_33 rfl (fun hc => ?_) (fun hc => ?_)
    · replace h := h.1 hc
      exact cj_X1_format_43 O hn24 h
    · replace h := h.2 hc
      refine kr_aload_n O dX1_format_36 rfl 3 rfl ?_
      refine kr_bipush O dX1_format_37 (v := (32 : Int32)) (by decide) ?_
      obtain ⟨hco, h⟩ := h
      refine kr_caR (rest := []) O cd_J14_append_3 h (Nat.le_of_ble_eq_true rfl) (fun ls _ => kt_ivV (ci := 19) O dX1_format_39 cd_J14_append_3 in_J14_append_3 (Or.inl q2135) q1554 q1555 hco (by decide) hy_J14_append_3) (fun p9 M10 hq => ?_) (fun E q M9 hx => kr_out O hx)
      replace h := hq
      clear hq
      refine kr_pop O dX1_format_42 (kt_nrf _) ?_
      exact cj_X1_format_43 O hn24 h
def vl_X1_format_24 (w : kt_W) (gr : kt_g × kt_M) (d : Nat) (P : Option Value → kt_M → Prop) (X : String → Nat → kt_M → Prop)  (a0 : Nat) (v1 : Int32) (a2 : Nat) (a3 : Nat) (v4 : Int32) (M : kt_M) : Prop :=
  ∃ Inv : Nat → Int32 → kt_M → Prop, (∃ k, Inv k v4 M) ∧ ∀ k v4 M, kt_le gr.1 gr.2 M → Inv k v4 M → vc_X1_format_24 w gr d P X (fun v4' M' => ∃ k', k' < k ∧ Inv k' v4' M') a0 v1 a2 a3 v4 M
theorem cl_X1_format_24 {w : kt_W} {x : kt_X} {gr : kt_g × kt_M} {d : Nat} {P : Option Value → kt_M → Prop} {X : String → Nat → kt_M → Prop}  {a0 : Nat} {v1 : Int32} {a2 : Nat} {a3 : Nat} {v4 : Int32} {M : kt_M} (O : kt_O w x gr (d + 1) cX1_format "KeyTurns" 6 ("format", "(I)I") (Option.some Jvm.ClassFile.FieldType.int) [])  (h : vl_X1_format_24 w gr d P X  a0 v1 a2 a3 v4 M) : kt_S w x 6 (kt_E w x P X) M 24 [(0, va_rf (some a0)), (1, .int v1), (2, va_rf (some a2)), (3, va_rf (some a3)), (4, .int v4)] [] := by
  obtain ⟨Inv, ⟨k, hk⟩, hb⟩ := h
  induction k using Nat.strongRecOn generalizing v4 M with
  | ind k ih =>
    exact kr_le O fun hle => cj_X1_format_24 O (fun v4' M' hi => let ⟨k', h1, h2⟩ := hi; ih k' h1 h2) (hb k _ _ hle hk)
def vc_X1_format (w : kt_W) (gr : kt_g × kt_M) (d : Nat) (P : Option Value → kt_M → Prop) (X : String → Nat → kt_M → Prop) (a0 : Nat) (v1 : Int32) (M : kt_M) : Prop :=
  (kt_co M a0 = some 0) ∧ 
  kt_Ca w gr d yX1_recordOf kc_X1_recordOf [va_rf (some a0), .int v1] M (kt_pR fun p1 M2 => kt_fits w M2 4 ∧ ∃ t3, ∀ M4, M4 = kt_new M2 4 (t3 + 2, .inr (19, [va_rf none, .int 0, .int 0, .int 0])) → 
  kt_Ca w gr d yJ14_init kc_J14_init [va_rf (some M2.1)] M4 (kt_pV fun M5 => ∃ b6, p1 = some b6 ∧ ∃ p7, kt_gf M5 b6 26 = some (va_rf p7) ∧ ∃ b8, p7 = some b8 ∧ (kt_co M5 b8 = some 18) ∧ 
  kt_Ca w gr d yJ21_nextSetBit kc_J21_nextSetBit [va_rf (some b8), .int (0 : Int32)] M5 (kt_pI fun u9 M10 => vl_X1_format_24 w gr d P X  a0 v1 b6 M2.1 u9 M10) X) X) X
theorem ce_X1_format {w : kt_W} {g : kt_g} {d : Nat} {P : Option Value → kt_M → Prop} {X : String → Nat → kt_M → Prop} {a0 : Nat} {v1 : Int32} {M : kt_M} (h : vc_X1_format w (g, M) d P X a0 v1 M) : kt_Sp w g (d + 1) yX1_format kc_X1_format [va_rf (some a0), .int v1] M P X := by
  refine kt_of (L0 := [(0, va_rf (some a0)), (1, .int v1)]) (by decide +kernel) (Nat.le_of_ble_eq_true rfl) rfl fun x O => ?_
  replace O : kt_O w x (g, M) (d + 1) cX1_format "KeyTurns" 6 ("format", "(I)I") (Option.some Jvm.ClassFile.FieldType.int) [] := O
  unfold vc_X1_format at h
  refine kr_aload_n O dX1_format_0 rfl 0 rfl ?_
  refine kr_iload_n O dX1_format_1 rfl 1 rfl ?_
  obtain ⟨hco, h⟩ := h
  refine kr_caR (rest := []) O cd_X1_recordOf h (Nat.le_of_ble_eq_true rfl) (fun ls _ => kt_ivV (ci := 0) O dX1_format_2 cd_X1_recordOf in_X1_recordOf (Or.inl q1893) q1895 qs25 hco (by decide) hy_X1_recordOf) (fun p1 M2 hq => ?_) (fun E q M9 hx => kr_out O hx)
  replace h := hq
  clear hq
  refine kr_astore_n O dX1_format_5 rfl (Nat.le_of_ble_eq_true rfl) rfl rfl ?_
  obtain ⟨hf, t3, h⟩ := h
  refine kr_new (c := 19) (r := (RJ14, TJ14, 4)) (fs := [va_rf none, .int 0, .int 0, .int 0]) t3 O dX1_format_6 rfl q2131 q1042 q131 rfl hf (kr_nmM fun M4 hM4 => ?_)
  replace h := h M4 hM4
  refine kr_dup O dX1_format_9 (kt_nrf _) ?_
  refine kr_caV (rest := [va_rf (some M2.1)]) O cd_J14_init h (Nat.le_of_ble_eq_true rfl) (fun ls _ => kt_ivI O dX1_format_10 cd_J14_init in_J14_init (Or.inl q2132) q1044 hi_J14_init) (fun M5 hq => ?_) (fun E q M9 hx => kr_out O hx)
  replace h := hq
  clear hq
  refine kr_astore_n O dX1_format_13 rfl (Nat.le_of_ble_eq_true rfl) (by simp [kt_nw, kt_nrf, kt_cI, kt_cJ, kt_cF, kt_cD, kt_cR, kt_cU]) rfl ?_
  refine kr_aload_n O dX1_format_14 rfl 1 rfl ?_
  obtain ⟨b6, rfl, h⟩ := h
  obtain ⟨p7, ep7, h⟩ := h
  refine kr_getf O dX1_format_15 fs_X1_70 ep7 ?_
  refine kr_iconst O dX1_format_18 (v := (0 : Int32)) (by decide) ?_
  obtain ⟨b8, rfl, h⟩ := h
  obtain ⟨hco, h⟩ := h
  refine kr_caI (rest := []) O cd_J21_nextSetBit h (Nat.le_of_ble_eq_true rfl) (fun ls _ => kt_ivV (ci := 18) O dX1_format_19 cd_J21_nextSetBit in_J21_nextSetBit (Or.inl q2133) q537 q538 hco (by decide) hy_J21_nextSetBit) (fun u9 M10 hq => ?_) (fun E q M9 hx => kr_out O hx)
  replace h := hq
  clear hq
  refine kr_istore O dX1_format_22 (Nat.le_of_ble_eq_true rfl) rfl rfl ?_
  refine kr_sub [3, 4, 2, 1, 0] rfl ?_
  exact cl_X1_format_24 O  h
def vc_X1_query_44 (w : kt_W) (gr : kt_g × kt_M) (d : Nat) (P : Option Value → kt_M → Prop) (X : String → Nat → kt_M → Prop) (nx44 : Int32 → Int32 → kt_M → Prop) (a0 : Nat) (a2 : Nat) (r3 : Option Nat) (v4 : Int32) (v5 : Int32) (M : kt_M) : Prop :=
  ∃ p1, kt_gf M a0 0 = some (va_rf p1) ∧ ∃ b2, p1 = some b2 ∧ ∃ p3, kt_gf M b2 11 = some (va_rf p3) ∧ ∃ b4, p3 = some b4 ∧ (kt_co M b4 = some 13) ∧ 
  kt_Ca w gr d yJ3_size kc_J3_size [va_rf (some b4)] M (kt_pI fun u5 M6 => 
    ((u5 ≤ v5 → ∃ u7, kt_gf M6 a2 56 = some (.int u7) ∧ 
      ((u7 = 0 → P (some (.int v4)) M6) ∧
      (¬ u7 = 0 → P (some (.int (-1 : Int32))) M6))) ∧
    (¬ u5 ≤ v5 → ∃ p8, kt_gf M6 a0 0 = some (va_rf p8) ∧ ∃ b9, p8 = some b9 ∧ (kt_co M6 b9 = some 1) ∧ 
    kt_Ca w gr d yX2_isThere kc_X2_isThere [va_rf (some b9), .int v5] M6 (kt_pI fun u10 M11 => 
      ((u10 = 0 → nx44 v4 (v5 + (1 : Int32)) M11) ∧
      (¬ u10 = 0 → ∃ p12, kt_gf M11 a0 0 = some (va_rf p12) ∧ ∃ b13, r3 = some b13 ∧ ∃ K16 : Int32 → kt_M → Prop, ((kt_co M11 b13 = some 9 ∧ kt_Ca w gr d yX15_holds kc_X15_holds [va_rf (some b13), va_rf p12, .int v5] M11 (kt_pI K16) X) ∨ (kt_co M11 b13 = some 10 ∧ kt_Ca w gr d yX16_holds kc_X16_holds [va_rf (some b13), va_rf p12, .int v5] M11 (kt_pI K16) X) ∨ (kt_co M11 b13 = some 11 ∧ kt_Ca w gr d yX17_holds kc_X17_holds [va_rf (some b13), va_rf p12, .int v5] M11 (kt_pI K16) X)) ∧ (∀ u14 M15, K16 u14 M15 → 
          ((¬ u14 = 0 → ∃ u17, kt_gf M15 a2 56 = some (.int u17) ∧ 
            ((u17 = 0 → nx44 (v4 + (1 : Int32)) (v5 + (1 : Int32)) M15) ∧
            (¬ u17 = 0 → P (some (.int v5)) M15))) ∧
          (u14 = 0 → nx44 v4 (v5 + (1 : Int32)) M15)))))) X))) X
theorem cj_X1_query_44 {w : kt_W} {x : kt_X} {gr : kt_g × kt_M} {d : Nat} {P : Option Value → kt_M → Prop} {X : String → Nat → kt_M → Prop} {nx44 : Int32 → Int32 → kt_M → Prop} {a0 : Nat} {a2 : Nat} {r3 : Option Nat} {v4 : Int32} {v5 : Int32} {M : kt_M} (O : kt_O w x gr (d + 1) cX1_query "KeyTurns" 6 ("query", "(I)I") (Option.some Jvm.ClassFile.FieldType.int) [(18, 23, 26, 159)]) (hn44 : ∀ v4 v5 M, nx44 v4 v5 M → kt_S w x 6 (kt_E w x P X) M 44 [(0, va_rf (some a0)), (2, va_rf (some a2)), (3, va_rf r3), (4, .int v4), (5, .int v5)] []) (h : vc_X1_query_44 w gr d P X nx44 a0 a2 r3 v4 v5 M) : kt_S w x 6 (kt_E w x P X) M 44 [(0, va_rf (some a0)), (2, va_rf (some a2)), (3, va_rf r3), (4, .int v4), (5, .int v5)] [] := by
  unfold vc_X1_query_44 at h
  refine kr_iload O dX1_query_44 4 rfl ?_
  refine kr_aload_n O dX1_query_46 rfl 0 rfl ?_
  obtain ⟨p1, ep1, h⟩ := h
  refine kr_getf O dX1_query_47 fs_X1_133 ep1 ?_
  obtain ⟨b2, rfl, h⟩ := h
  obtain ⟨p3, ep3, h⟩ := h
  refine kr_getf O dX1_query_50 fs_X1_58 ep3 ?_
  obtain ⟨b4, rfl, h⟩ := h
  obtain ⟨hco, h⟩ := h
  refine kr_caI (rest := [.int v5]) O cd_J3_size h (Nat.le_of_ble_eq_true rfl) (fun ls _ => kt_ivV (ci := 13) O dX1_query_53 cd_J3_size in_J3_size (Or.inl q594) q478 q479 hco (by decide) hy_J3_size) (fun u5 M6 hq => ?_) (fun E q M9 hx => kr_outH O rfl hx)
  replace h := hq
  clear hq
  refine kr_icmp_ge (tgt := 106) O dX1_query_56 rfl (fun hc => ?_) (fun hc => ?_)
  · replace h := h.1 hc
    refine kr_aload_n O dX1_query_106 rfl 1 rfl ?_
    obtain ⟨u7, eu7, h⟩ := h
    refine kr_getf O dX1_query_107 fs_X1_445 eu7 ?_
    refine kr_if_eq (tgt := 117) O dX1_query_110 rfl (fun hc => ?_) (fun hc => ?_)
    · replace h := h.1 hc
      refine kr_iload O dX1_query_117 3 rfl ?_
      exact kr_iret O dX1_query_119 rfl h
    · replace h := h.2 hc
      refine kr_iconst O dX1_query_113 (v := (-1 : Int32)) (by decide) ?_
      refine kr_goto (tgt := 119) O dX1_query_114 rfl ?_
      exact kr_iret O dX1_query_119 rfl h
  · replace h := h.2 hc
    refine kr_aload_n O dX1_query_59 rfl 0 rfl ?_
    obtain ⟨p8, ep8, h⟩ := h
    refine kr_getf O dX1_query_60 fs_X1_133 ep8 ?_
    refine kr_iload O dX1_query_63 4 rfl ?_
    obtain ⟨b9, rfl, h⟩ := h
    obtain ⟨hco, h⟩ := h
    refine kr_caI (rest := []) O cd_X2_isThere h (Nat.le_of_ble_eq_true rfl) (fun ls _ => kt_ivV (ci := 1) O dX1_query_65 cd_X2_isThere in_X2_isThere (Or.inl q1897) q513 q514 hco (by decide) hy_X2_isThere) (fun u10 M11 hq => ?_) (fun E q M9 hx => kr_outH O rfl hx)
    replace h := hq
    clear hq
    refine kr_if_eq (tgt := 100) O dX1_query_68 rfl (fun hc => ?_) (fun hc => ?_)
    · replace h := h.1 hc
      refine kr_iinc O dX1_query_100 4 rfl (v := v5 + (1 : Int32)) rfl (Nat.le_of_ble_eq_true rfl) rfl rfl ?_
      refine kr_goto (tgt := 44) O dX1_query_103 rfl ?_
      refine kr_sub [1, 2, 3, 4, 0] rfl ?_
      exact hn44 _ _ _ h
    · replace h := h.2 hc
      refine kr_aload_n O dX1_query_71 rfl 2 rfl ?_
      refine kr_aload_n O dX1_query_72 rfl 0 rfl ?_
      obtain ⟨p12, ep12, h⟩ := h
      refine kr_getf O dX1_query_73 fs_X1_133 ep12 ?_
      refine kr_iload O dX1_query_76 4 rfl ?_
      obtain ⟨b13, rfl, h⟩ := h
      obtain ⟨K16, hca, hK⟩ := h
      have h9 : ∀ u14 M15, K16 u14 M15 → kt_S w x 6 (kt_E w x P X) M15 (78 + 3) [(0, va_rf (some a0)), (2, va_rf (some a2)), (3, va_rf (some b13)), (4, .int v4), (5, .int v5)] (.int u14 :: []) := by
        intro u14 M15 h
        replace h := hK u14 M15 h
        refine kr_if_ne (tgt := 87) O dX1_query_81 rfl (fun hc => ?_) (fun hc => ?_)
        · replace h := h.1 hc
          refine kr_aload_n O dX1_query_87 rfl 1 rfl ?_
          obtain ⟨u17, eu17, h⟩ := h
          refine kr_getf O dX1_query_88 fs_X1_445 eu17 ?_
          refine kr_if_eq (tgt := 97) O dX1_query_91 rfl (fun hc => ?_) (fun hc => ?_)
          · replace h := h.1 hc
            refine kr_iinc O dX1_query_97 3 rfl (v := v4 + (1 : Int32)) rfl (Nat.le_of_ble_eq_true rfl) rfl rfl ?_
            refine kr_iinc O dX1_query_100 4 rfl (v := v5 + (1 : Int32)) rfl (Nat.le_of_ble_eq_true rfl) rfl rfl ?_
            refine kr_goto (tgt := 44) O dX1_query_103 rfl ?_
            refine kr_sub [2, 3, 4, 1, 0] rfl ?_
            exact hn44 _ _ _ h
          · replace h := h.2 hc
            refine kr_iload O dX1_query_94 4 rfl ?_
            exact kr_iret O dX1_query_96 rfl h
        · replace h := h.2 hc
          refine kr_goto (tgt := 100) O dX1_query_84 rfl ?_
          refine kr_iinc O dX1_query_100 4 rfl (v := v5 + (1 : Int32)) rfl (Nat.le_of_ble_eq_true rfl) rfl rfl ?_
          refine kr_goto (tgt := 44) O dX1_query_103 rfl ?_
          refine kr_sub [1, 2, 3, 4, 0] rfl ?_
          exact hn44 _ _ _ h
      rcases hca with ⟨hco, h⟩ | ⟨hco, h⟩ | ⟨hco, h⟩
      · exact kr_caI (rest := []) O cd_X15_holds h (Nat.le_of_ble_eq_true rfl) (fun ls _ => kt_ivU (ci := 9) O dX1_query_78 cd_X15_holds q2409 q2411 (Or.inr q2410) q2439 q2442 hco (by decide) ⟨by decide, by decide, rfl⟩) h9 (fun E q M9 hx => kr_outH O rfl hx)
      · exact kr_caI (rest := []) O cd_X16_holds h (Nat.le_of_ble_eq_true rfl) (fun ls _ => kt_ivU (ci := 10) O dX1_query_78 cd_X16_holds q2409 q2411 (Or.inr q2410) q2413 q2412 hco (by decide) ⟨by decide, by decide, rfl⟩) h9 (fun E q M9 hx => kr_outH O rfl hx)
      · exact kr_caI (rest := []) O cd_X17_holds h (Nat.le_of_ble_eq_true rfl) (fun ls _ => kt_ivU (ci := 11) O dX1_query_78 cd_X17_holds q2409 q2411 (Or.inr q2410) q2433 q2432 hco (by decide) ⟨by decide, by decide, rfl⟩) h9 (fun E q M9 hx => kr_outH O rfl hx)
def vl_X1_query_44 (w : kt_W) (gr : kt_g × kt_M) (d : Nat) (P : Option Value → kt_M → Prop) (X : String → Nat → kt_M → Prop)  (a0 : Nat) (a2 : Nat) (r3 : Option Nat) (v4 : Int32) (v5 : Int32) (M : kt_M) : Prop :=
  ∃ Inv : Nat → Int32 → Int32 → kt_M → Prop, (∃ k, Inv k v4 v5 M) ∧ ∀ k v4 v5 M, kt_le gr.1 gr.2 M → Inv k v4 v5 M → vc_X1_query_44 w gr d P X (fun v4' v5' M' => ∃ k', k' < k ∧ Inv k' v4' v5' M') a0 a2 r3 v4 v5 M
theorem cl_X1_query_44 {w : kt_W} {x : kt_X} {gr : kt_g × kt_M} {d : Nat} {P : Option Value → kt_M → Prop} {X : String → Nat → kt_M → Prop}  {a0 : Nat} {a2 : Nat} {r3 : Option Nat} {v4 : Int32} {v5 : Int32} {M : kt_M} (O : kt_O w x gr (d + 1) cX1_query "KeyTurns" 6 ("query", "(I)I") (Option.some Jvm.ClassFile.FieldType.int) [(18, 23, 26, 159)])  (h : vl_X1_query_44 w gr d P X  a0 a2 r3 v4 v5 M) : kt_S w x 6 (kt_E w x P X) M 44 [(0, va_rf (some a0)), (2, va_rf (some a2)), (3, va_rf r3), (4, .int v4), (5, .int v5)] [] := by
  obtain ⟨Inv, ⟨k, hk⟩, hb⟩ := h
  induction k using Nat.strongRecOn generalizing v4 v5 M with
  | ind k ih =>
    exact kr_le O fun hle => cj_X1_query_44 O (fun v4' v5' M' hi => let ⟨k', h1, h2⟩ := hi; ih k' h1 h2) (hb k _ _ _ hle hk)
def vc_X1_query (w : kt_W) (gr : kt_g × kt_M) (d : Nat) (P : Option Value → kt_M → Prop) (X : String → Nat → kt_M → Prop) (a0 : Nat) (v1 : Int32) (M : kt_M) : Prop :=
  (kt_co M a0 = some 0) ∧ 
  kt_Ca w gr d yX1_startReading kc_X1_startReading [va_rf (some a0), .int v1, .int (200 : Int32)] M (kt_pV fun M1 => kt_fits w M1 11 ∧ ∃ t2, ∀ M3, M3 = kt_new M1 11 (t2 + 2, .inr (8, [va_rf none, .int 0, .int 0, .int 0, .int 0, .int 0, va_rf none, va_rf none, .int 0, .int 0, va_rf none])) → 
  kt_Ca w gr d yX13_init kc_X13_init [va_rf (some M1.1), va_rf (some a0), .int v1] M3 (kt_pV fun M4 => (kt_co M4 M1.1 = some 8) ∧ 
  kt_Ca w gr d yX13_parse kc_X13_parse [va_rf (some M1.1)] M4 (kt_pR fun p5 M6 => vl_X1_query_44 w gr d P X  a0 M1.1 p5 (0 : Int32) (0 : Int32) M6) (fun E q M6 => (E = "KeyTurns$TextError" ∧ (kt_co M6 a0 = some 0) ∧ 
      kt_Ca w gr d yX1_failed kc_X1_failed [va_rf (some a0), va_rf (some q), .int (-1000000000 : Int32)] M6 (kt_pI fun u7 M8 => P (some (.int u7)) M8) X))) X) X
theorem ce_X1_query {w : kt_W} {g : kt_g} {d : Nat} {P : Option Value → kt_M → Prop} {X : String → Nat → kt_M → Prop} {a0 : Nat} {v1 : Int32} {M : kt_M} (h : vc_X1_query w (g, M) d P X a0 v1 M) : kt_Sp w g (d + 1) yX1_query kc_X1_query [va_rf (some a0), .int v1] M P X := by
  refine kt_ofH (L0 := [(0, va_rf (some a0)), (1, .int v1)]) (by decide +kernel) (Nat.le_of_ble_eq_true rfl) rfl fun x O => ?_
  replace O : kt_O w x (g, M) (d + 1) cX1_query "KeyTurns" 6 ("query", "(I)I") (Option.some Jvm.ClassFile.FieldType.int) [(18, 23, 26, 159)] := O
  unfold vc_X1_query at h
  refine kr_aload_n O dX1_query_0 rfl 0 rfl ?_
  refine kr_iload_n O dX1_query_1 rfl 1 rfl ?_
  refine kr_sipush O dX1_query_2 (v := (200 : Int32)) (by decide) ?_
  obtain ⟨hco, h⟩ := h
  refine kr_caV (rest := []) O cd_X1_startReading h (Nat.le_of_ble_eq_true rfl) (fun ls _ => kt_ivV (ci := 0) O dX1_query_5 cd_X1_startReading in_X1_startReading (Or.inl q1491) q1493 qs20 hco (by decide) hy_X1_startReading) (fun M1 hq => ?_) (fun E q M9 hx => kr_outH O rfl hx)
  replace h := hq
  clear hq
  obtain ⟨hf, t2, h⟩ := h
  refine kr_new (c := 8) (r := (RX13, TX13, 11)) (fs := [va_rf none, .int 0, .int 0, .int 0, .int 0, .int 0, va_rf none, va_rf none, .int 0, .int 0, va_rf none]) t2 O dX1_query_8 rfl q2146 q2147 q156 rfl hf (kr_nmM fun M3 hM3 => ?_)
  replace h := h M3 hM3
  refine kr_dup O dX1_query_11 (kt_nrf _) ?_
  refine kr_aload_n O dX1_query_12 rfl 0 rfl ?_
  refine kr_iload_n O dX1_query_13 rfl 1 rfl ?_
  refine kr_caV (rest := [va_rf (some M1.1)]) O cd_X13_init h (Nat.le_of_ble_eq_true rfl) (fun ls _ => kt_ivI O dX1_query_14 cd_X13_init in_X13_init (Or.inl q2148) q2149 hi_X13_init) (fun M4 hq => ?_) (fun E q M9 hx => kr_outH O rfl hx)
  replace h := hq
  clear hq
  refine kr_astore_n O dX1_query_17 rfl (Nat.le_of_ble_eq_true rfl) rfl rfl ?_
  refine kr_aload_n O dX1_query_18 rfl 0 rfl ?_
  obtain ⟨hco, h⟩ := h
  refine kr_caR (rest := []) O cd_X13_parse h (Nat.le_of_ble_eq_true rfl) (fun ls _ => kt_ivV (ci := 8) O dX1_query_19 cd_X13_parse in_X13_parse (Or.inl q2171) q2172 q2173 hco (by decide) hy_X13_parse) (fun p5 M6 hq => ?_) (fun E q M9 hx => ?_)
  · replace h := hq
    clear hq
    refine kr_astore_n O dX1_query_22 rfl (Nat.le_of_ble_eq_true rfl) rfl rfl ?_
    refine kr_goto (tgt := 38) O dX1_query_23 rfl ?_
    refine kr_iconst O dX1_query_38 (v := (0 : Int32)) (by decide) ?_
    refine kr_istore O dX1_query_39 (Nat.le_of_ble_eq_true rfl) (by simp [kt_nw, kt_nrf, kt_cI, kt_cJ, kt_cF, kt_cD, kt_cR, kt_cU]) rfl ?_
    refine kr_iconst O dX1_query_41 (v := (0 : Int32)) (by decide) ?_
    refine kr_istore O dX1_query_42 (Nat.le_of_ble_eq_true rfl) rfl rfl ?_
    refine kr_sub [4, 3, 2, 1, 0] rfl ?_
    exact cl_X1_query_44 O  h
  · obtain ⟨rfl, h⟩ := hx
    · refine kr_catch (sp := 18) (ep := 23) (hp := 26) (ct := 159) (pre := []) (suf := []) O rfl (by decide) (by decide) q1490 q1650 (fun z hz => nomatch hz) ?_
      refine kr_astore O dX1_query_26 (Nat.le_of_ble_eq_true rfl) rfl rfl ?_
      refine kr_aload_n O dX1_query_28 rfl 2 rfl ?_
      refine kr_aload O dX1_query_29 0 rfl ?_
      refine kr_ldcw O dX1_query_31 q2408 ?_
      obtain ⟨hco, h⟩ := h
      refine kr_caI (rest := []) O cd_X1_failed h (Nat.le_of_ble_eq_true rfl) (fun ls _ => kt_ivV (ci := 0) O dX1_query_34 cd_X1_failed in_X1_failed (Or.inl q1789) q1791 qs22 hco (by decide) hy_X1_failed) (fun u7 M8 hq => ?_) (fun E q M9 hx => kr_outH O rfl hx)
      replace h := hq
      clear hq
      exact kr_iret O dX1_query_37 rfl h
def vc_X1_propertyCode (w : kt_W) (gr : kt_g × kt_M) (d : Nat) (P : Option Value → kt_M → Prop) (X : String → Nat → kt_M → Prop) (r0 : Option Nat) (M : kt_M) : Prop :=
  
  kt_Ca w gr d yJ31_of kc_J31_of [va_rf (some (kt_cA w 33)), va_rf (some (kt_cA w 34)), va_rf (some (kt_cA w 35)), va_rf (some (kt_cA w 36)), va_rf (some (kt_cA w 37)), va_rf (some (kt_cA w 38)), va_rf (some (kt_cA w 39)), va_rf (some (kt_cA w 40))] M (kt_pR fun p1 M2 => ∃ b3, p1 = some b3 ∧ (kt_co M2 b3 = some 21) ∧ 
  kt_Ca w gr d yJ36_indexOf kc_J36_indexOf [va_rf (some b3), va_rf r0] M2 (kt_pI fun u4 M5 => P (some (.int u4)) M5) X) X
theorem ce_X1_propertyCode {w : kt_W} {g : kt_g} {d : Nat} {P : Option Value → kt_M → Prop} {X : String → Nat → kt_M → Prop} {r0 : Option Nat} {M : kt_M} (h : vc_X1_propertyCode w (g, M) d P X r0 M) : kt_Sp w g (d + 1) yX1_propertyCode kc_X1_propertyCode [va_rf r0] M P X := by
  refine kt_of (L0 := [(0, va_rf r0)]) (by decide +kernel) (by simp only [kt_lgR, kt_lgI, kt_lgN] <;> exact Nat.le_of_ble_eq_true rfl) (by simp only [kt_lvR, kt_lvI, kt_lvN] <;> rfl) fun x O => ?_
  replace O : kt_O w x (g, M) (d + 1) cX1_propertyCode "KeyTurns" 2 ("propertyCode", "(Ljava/lang/String;)I") (Option.some Jvm.ClassFile.FieldType.int) [] := O
  unfold vc_X1_propertyCode at h
  refine kr_ldcS O dX1_propertyCode_0 st_X1_32 ?_
  refine kr_ldcS O dX1_propertyCode_2 st_X1_34 ?_
  refine kr_ldcS O dX1_propertyCode_4 st_X1_36 ?_
  refine kr_ldcS O dX1_propertyCode_6 st_X1_38 ?_
  refine kr_ldcS O dX1_propertyCode_8 st_X1_40 ?_
  refine kr_ldcS O dX1_propertyCode_10 st_X1_42 ?_
  refine kr_ldcS O dX1_propertyCode_12 st_X1_44 ?_
  refine kr_ldcS O dX1_propertyCode_14 st_X1_46 ?_
  refine kr_caR (rest := []) O cd_J31_of h (Nat.le_of_ble_eq_true rfl) (fun ls _ => kt_ivS O dX1_propertyCode_16 cd_J31_of in_J31_of q2248 q2249 hy_J31_of) (fun p1 M2 hq => ?_) (fun E q M9 hx => kr_out O hx)
  replace h := hq
  clear hq
  refine kr_astore_n O dX1_propertyCode_19 rfl (Nat.le_of_ble_eq_true rfl) (by simp [kt_nw, kt_nrf, kt_cI, kt_cJ, kt_cF, kt_cD, kt_cR, kt_cU]) rfl ?_
  refine kr_aload_n O dX1_propertyCode_20 rfl 0 rfl ?_
  refine kr_aload_n O dX1_propertyCode_21 rfl 1 rfl ?_
  obtain ⟨b3, rfl, h⟩ := h
  obtain ⟨hco, h⟩ := h
  refine kr_caI (rest := []) O cd_J36_indexOf h (Nat.le_of_ble_eq_true rfl) (fun ls _ => kt_ivF (C := "java/util/ImmutableCollections$ListN") O dX1_propertyCode_22 cd_J36_indexOf q2303 q2305 q2304 q2353 q2355 q2356 q2354 q2352 (kt_cls_co hco (by decide)) ⟨by decide, by decide, rfl⟩) (fun u4 M5 hq => ?_) (fun E q M9 hx => kr_out O hx)
  replace h := hq
  clear hq
  exact kr_iret O dX1_propertyCode_27 rfl h
def vc_X1_of_124 (w : kt_W) (gr : kt_g × kt_M) (d : Nat) (P : Option Value → kt_M → Prop) (X : String → Nat → kt_M → Prop)  (s0 : Int32) (M : kt_M) : Prop :=
  
  kt_Ca w gr d yX1_asInt kc_X1_asInt [.int s0] M (kt_pI fun u1 M2 => P (some (.int u1)) M2) X
theorem cj_X1_of_124 {w : kt_W} {x : kt_X} {gr : kt_g × kt_M} {d : Nat} {P : Option Value → kt_M → Prop} {X : String → Nat → kt_M → Prop}  {s0 : Int32} {M : kt_M} (O : kt_O w x gr (d + 1) cX1_of "KeyTurns" 4 ("of", "(ILKeyTurns$State;I)I") (Option.some Jvm.ClassFile.FieldType.int) [])  (h : vc_X1_of_124 w gr d P X  s0 M) : kt_S w x 4 (kt_E w x P X) M 124 [] [.int s0] := by
  unfold vc_X1_of_124 at h
  refine kr_caI (rest := []) O cd_X1_asInt h (Nat.le_of_ble_eq_true rfl) (fun ls _ => kt_ivS O dX1_of_124 cd_X1_asInt in_X1_asInt q2015 q574 hy_X1_asInt) (fun u1 M2 hq => ?_) (fun E q M9 hx => kr_out O hx)
  replace h := hq
  clear hq
  refine kr_goto (tgt := 145) O dX1_of_127 rfl ?_
  exact kr_iret O dX1_of_145 rfl h
def vc_X1_of_123 (w : kt_W) (gr : kt_g × kt_M) (d : Nat) (P : Option Value → kt_M → Prop) (X : String → Nat → kt_M → Prop)   (M : kt_M) : Prop :=
  vc_X1_of_124 w gr d P X  (0 : Int32) M
theorem cj_X1_of_123 {w : kt_W} {x : kt_X} {gr : kt_g × kt_M} {d : Nat} {P : Option Value → kt_M → Prop} {X : String → Nat → kt_M → Prop}   {M : kt_M} (O : kt_O w x gr (d + 1) cX1_of "KeyTurns" 4 ("of", "(ILKeyTurns$State;I)I") (Option.some Jvm.ClassFile.FieldType.int) [])  (h : vc_X1_of_123 w gr d P X   M) : kt_S w x 4 (kt_E w x P X) M 123 [] [] := by
  unfold vc_X1_of_123 at h
  refine kr_iconst O dX1_of_123 (v := (0 : Int32)) (by decide) ?_
  exact cj_X1_of_124 O  h
def vc_X1_of (w : kt_W) (gr : kt_g × kt_M) (d : Nat) (P : Option Value → kt_M → Prop) (X : String → Nat → kt_M → Prop) (v0 : Int32) (r1 : Option Nat) (v2 : Int32) (M : kt_M) : Prop :=
  ∃ b1, r1 = some b1 ∧ ∃ p2, kt_gf M b1 11 = some (va_rf p2) ∧ ∃ b3, p2 = some b3 ∧ (kt_co M b3 = some 13) ∧ 
  kt_Ca w gr d yJ3_get kc_J3_get [va_rf (some b3), .int v2] M (kt_pR fun p4 M5 => ∃ b6, p4 = some b6 ∧ (∃ c, kt_co M5 b6 = some c ∧ kt_is c "KeyTurns$Sealed") ∧ 
    ((v0.toInt < 0 ∨ 6 < v0.toInt → ∃ u7, kt_gf M5 b6 27 = some (.int u7) ∧ P (some (.int u7)) M5) ∧
    (v0.toInt = 0 → P (some (.int v2)) M5) ∧
    (v0.toInt = 1 → ∃ u8, kt_gf M5 b6 25 = some (.int u8) ∧ P (some (.int u8)) M5) ∧
    (v0.toInt = 2 → ∃ p9, kt_gf M5 b6 26 = some (va_rf p9) ∧ ∃ b10, p9 = some b10 ∧ (kt_co M5 b10 = some 18) ∧ 
    kt_Ca w gr d yJ21_cardinality kc_J21_cardinality [va_rf (some b10)] M5 (kt_pI fun u11 M12 => P (some (.int u11)) M12) X) ∧
    (v0.toInt = 3 → ∃ p13, kt_gf M5 b6 26 = some (va_rf p13) ∧ ∃ b14, p13 = some b14 ∧ (kt_co M5 b14 = some 18) ∧ 
    kt_Ca w gr d yJ21_length kc_J21_length [va_rf (some b14)] M5 (kt_pI fun u15 M16 => P (some (.int (u15 - (1 : Int32)))) M16) X) ∧
    (v0.toInt = 4 → (kt_co M5 b1 = some 1) ∧ 
    kt_Ca w gr d yX2_endOf kc_X2_endOf [va_rf (some b1), va_rf (some b6)] M5 (kt_pI fun u17 M18 => P (some (.int u17)) M18) X) ∧
    (v0.toInt = 5 → (kt_co M5 b1 = some 1) ∧ 
    kt_Ca w gr d yX2_writing kc_X2_writing [va_rf (some b1)] M5 (kt_pI fun u19 M20 => 
      ((u19 = (-1 : Int32) → vc_X1_of_123 w gr d P X   M20) ∧
      (¬ u19 = (-1 : Int32) → ∃ p21, kt_gf M20 b6 26 = some (va_rf p21) ∧ (kt_co M20 b1 = some 1) ∧ 
      kt_Ca w gr d yX2_writing kc_X2_writing [va_rf (some b1)] M20 (kt_pI fun u22 M23 => ∃ b24, p21 = some b24 ∧ (kt_co M23 b24 = some 18) ∧ 
      kt_Ca w gr d yJ21_get kc_J21_get [va_rf (some b24), .int u22] M23 (kt_pI fun u25 M26 => 
        ((u25 = 0 → vc_X1_of_123 w gr d P X   M26) ∧
        (¬ u25 = 0 → vc_X1_of_124 w gr d P X  (1 : Int32) M26))) X) X))) X) ∧
    (v0.toInt = 6 → (kt_co M5 b1 = some 1) ∧ 
    kt_Ca w gr d yX2_readers kc_X2_readers [va_rf (some b1), .int v2] M5 (kt_pI fun u27 M28 => 
    kt_Ca w gr d yJ19_bitCount kc_J19_bitCount [.int u27] M28 (kt_pI fun u29 M30 => P (some (.int u29)) M30) X) X))) X
theorem ce_X1_of {w : kt_W} {g : kt_g} {d : Nat} {P : Option Value → kt_M → Prop} {X : String → Nat → kt_M → Prop} {v0 : Int32} {r1 : Option Nat} {v2 : Int32} {M : kt_M} (h : vc_X1_of w (g, M) d P X v0 r1 v2 M) : kt_Sp w g (d + 1) yX1_of kc_X1_of [.int v0, va_rf r1, .int v2] M P X := by
  refine kt_of (L0 := [(0, .int v0), (1, va_rf r1), (2, .int v2)]) (by decide +kernel) (by simp only [kt_lgR, kt_lgI, kt_lgN] <;> exact Nat.le_of_ble_eq_true rfl) (by simp only [kt_lvR, kt_lvI, kt_lvN] <;> rfl) fun x O => ?_
  replace O : kt_O w x (g, M) (d + 1) cX1_of "KeyTurns" 4 ("of", "(ILKeyTurns$State;I)I") (Option.some Jvm.ClassFile.FieldType.int) [] := O
  unfold vc_X1_of at h
  refine kr_aload_n O dX1_of_0 rfl 1 rfl ?_
  obtain ⟨b1, rfl, h⟩ := h
  obtain ⟨p2, ep2, h⟩ := h
  refine kr_getf O dX1_of_1 fs_X1_58 ep2 ?_
  refine kr_iload_n O dX1_of_4 rfl 2 rfl ?_
  obtain ⟨b3, rfl, h⟩ := h
  obtain ⟨hco, h⟩ := h
  refine kr_caR (rest := []) O cd_J3_get h (Nat.le_of_ble_eq_true rfl) (fun ls _ => kt_ivV (ci := 13) O dX1_of_5 cd_J3_get in_J3_get (Or.inl q1834) q482 q483 hco (by decide) hy_J3_get) (fun p4 M5 hq => ?_) (fun E q M9 hx => kr_out O hx)
  replace h := hq
  clear hq
  obtain ⟨b6, rfl, h⟩ := h
  obtain ⟨⟨cc1, hc1, hc2⟩, h⟩ := h
  refine kr_cast O dX1_of_8 q1898 hc1 hc2 ?_
  refine kr_astore_n O dX1_of_11 rfl (Nat.le_of_ble_eq_true rfl) rfl rfl ?_
  refine kr_iload_n O dX1_of_12 rfl 1 rfl ?_
  by_cases hs : v0.toInt < 0 ∨ 6 < v0.toInt
  · refine kr_tableOut (tgt := 141) O dX1_of_13 hs rfl ?_
    replace h := h.1 hs
    refine kr_aload_n O dX1_of_141 rfl 0 rfl ?_
    obtain ⟨u7, eu7, h⟩ := h
    refine kr_getf O dX1_of_142 fs_X1_104 eu7 ?_
    exact kr_iret O dX1_of_145 rfl h
  replace h := h.2
  have hs2 : v0.toInt = 0 ∨ v0.toInt = 1 ∨ v0.toInt = 2 ∨ v0.toInt = 3 ∨ v0.toInt = 4 ∨ v0.toInt = 5 ∨ v0.toInt = 6 := by omega
  rcases hs2 with hs2 | hs2 | hs2 | hs2 | hs2 | hs2 | hs2
  · refine kr_tableIn (tgt := 56) O dX1_of_13 (0) hs2 (by decide) (by decide) rfl rfl ?_
    replace h := h.1 hs2
    refine kr_iload_n O dX1_of_56 rfl 3 rfl ?_
    refine kr_goto (tgt := 145) O dX1_of_57 rfl ?_
    exact kr_iret O dX1_of_145 rfl h
  · refine kr_tableIn (tgt := 60) O dX1_of_13 (1) hs2 (by decide) (by decide) rfl rfl ?_
    replace h := h.2.1 hs2
    refine kr_aload_n O dX1_of_60 rfl 0 rfl ?_
    obtain ⟨u8, eu8, h⟩ := h
    refine kr_getf O dX1_of_61 fs_X1_67 eu8 ?_
    refine kr_goto (tgt := 145) O dX1_of_64 rfl ?_
    exact kr_iret O dX1_of_145 rfl h
  · refine kr_tableIn (tgt := 67) O dX1_of_13 (2) hs2 (by decide) (by decide) rfl rfl ?_
    replace h := h.2.2.1 hs2
    refine kr_aload_n O dX1_of_67 rfl 0 rfl ?_
    obtain ⟨p9, ep9, h⟩ := h
    refine kr_getf O dX1_of_68 fs_X1_70 ep9 ?_
    obtain ⟨b10, rfl, h⟩ := h
    obtain ⟨hco, h⟩ := h
    refine kr_caI (rest := []) O cd_J21_cardinality h (Nat.le_of_ble_eq_true rfl) (fun ls _ => kt_ivV (ci := 18) O dX1_of_71 cd_J21_cardinality in_J21_cardinality (Or.inl q1900) q581 q582 hco (by decide) hy_J21_cardinality) (fun u11 M12 hq => ?_) (fun E q M9 hx => kr_out O hx)
    replace h := hq
    clear hq
    refine kr_goto (tgt := 145) O dX1_of_74 rfl ?_
    exact kr_iret O dX1_of_145 rfl h
  · refine kr_tableIn (tgt := 77) O dX1_of_13 (3) hs2 (by decide) (by decide) rfl rfl ?_
    replace h := h.2.2.2.1 hs2
    refine kr_aload_n O dX1_of_77 rfl 0 rfl ?_
    obtain ⟨p13, ep13, h⟩ := h
    refine kr_getf O dX1_of_78 fs_X1_70 ep13 ?_
    obtain ⟨b14, rfl, h⟩ := h
    obtain ⟨hco, h⟩ := h
    refine kr_caI (rest := []) O cd_J21_length h (Nat.le_of_ble_eq_true rfl) (fun ls _ => kt_ivV (ci := 18) O dX1_of_81 cd_J21_length in_J21_length (Or.inl q2421) q2422 q2423 hco (by decide) hy_J21_length) (fun u15 M16 hq => ?_) (fun E q M9 hx => kr_out O hx)
    replace h := hq
    clear hq
    refine kr_iconst O dX1_of_84 (v := (1 : Int32)) (by decide) ?_
    refine kr_isub O dX1_of_85 ?_
    refine kr_goto (tgt := 145) O dX1_of_86 rfl ?_
    exact kr_iret O dX1_of_145 rfl h
  · refine kr_tableIn (tgt := 89) O dX1_of_13 (4) hs2 (by decide) (by decide) rfl rfl ?_
    replace h := h.2.2.2.2.1 hs2
    refine kr_aload_n O dX1_of_89 rfl 2 rfl ?_
    refine kr_aload_n O dX1_of_90 rfl 0 rfl ?_
    obtain ⟨hco, h⟩ := h
    refine kr_caI (rest := []) O cd_X2_endOf h (Nat.le_of_ble_eq_true rfl) (fun ls _ => kt_ivV (ci := 1) O dX1_of_91 cd_X2_endOf in_X2_endOf (Or.inl q1902) q533 q534 hco (by decide) hy_X2_endOf) (fun u17 M18 hq => ?_) (fun E q M9 hx => kr_out O hx)
    replace h := hq
    clear hq
    refine kr_goto (tgt := 145) O dX1_of_94 rfl ?_
    exact kr_iret O dX1_of_145 rfl h
  · refine kr_tableIn (tgt := 97) O dX1_of_13 (5) hs2 (by decide) (by decide) rfl rfl ?_
    replace h := h.2.2.2.2.2.1 hs2
    refine kr_aload_n O dX1_of_97 rfl 2 rfl ?_
    obtain ⟨hco, h⟩ := h
    refine kr_caI (rest := []) O cd_X2_writing h (Nat.le_of_ble_eq_true rfl) (fun ls _ => kt_ivV (ci := 1) O dX1_of_98 cd_X2_writing in_X2_writing (Or.inl q1807) q474 q475 hco (by decide) hy_X2_writing) (fun u19 M20 hq => ?_) (fun E q M9 hx => kr_out O hx)
    replace h := hq
    clear hq
    refine kr_iconst O dX1_of_101 (v := (-1 : Int32)) (by decide) ?_
    refine kr_icmp_eq (tgt := 123) O dX1_of_102 rfl (fun hc => ?_) (fun hc => ?_)
    · replace h := h.1 hc
      refine kr_sub [] rfl ?_
      exact cj_X1_of_123 O  h
    · replace h := h.2 hc
      refine kr_aload_n O dX1_of_105 rfl 0 rfl ?_
      obtain ⟨p21, ep21, h⟩ := h
      refine kr_getf O dX1_of_106 fs_X1_70 ep21 ?_
      refine kr_aload_n O dX1_of_109 rfl 2 rfl ?_
      obtain ⟨hco, h⟩ := h
      refine kr_caI (rest := [va_rf p21]) O cd_X2_writing h (Nat.le_of_ble_eq_true rfl) (fun ls _ => kt_ivV (ci := 1) O dX1_of_110 cd_X2_writing in_X2_writing (Or.inl q1807) q474 q475 hco (by decide) hy_X2_writing) (fun u22 M23 hq => ?_) (fun E q M9 hx => kr_out O hx)
      replace h := hq
      clear hq
      obtain ⟨b24, rfl, h⟩ := h
      obtain ⟨hco, h⟩ := h
      refine kr_caI (rest := []) O cd_J21_get h (Nat.le_of_ble_eq_true rfl) (fun ls _ => kt_ivV (ci := 18) O dX1_of_113 cd_J21_get in_J21_get (Or.inl q2431) q519 q520 hco (by decide) hy_J21_get) (fun u25 M26 hq => ?_) (fun E q M9 hx => kr_out O hx)
      replace h := hq
      clear hq
      refine kr_if_eq (tgt := 123) O dX1_of_116 rfl (fun hc => ?_) (fun hc => ?_)
      · replace h := h.1 hc
        refine kr_sub [] rfl ?_
        exact cj_X1_of_123 O  h
      · replace h := h.2 hc
        refine kr_iconst O dX1_of_119 (v := (1 : Int32)) (by decide) ?_
        refine kr_goto (tgt := 124) O dX1_of_120 rfl ?_
        refine kr_sub [] rfl ?_
        exact cj_X1_of_124 O  h
  · refine kr_tableIn (tgt := 130) O dX1_of_13 (6) hs2 (by decide) (by decide) rfl rfl ?_
    replace h := h.2.2.2.2.2.2 hs2
    refine kr_aload_n O dX1_of_130 rfl 2 rfl ?_
    refine kr_iload_n O dX1_of_131 rfl 3 rfl ?_
    obtain ⟨hco, h⟩ := h
    refine kr_caI (rest := []) O cd_X2_readers h (Nat.le_of_ble_eq_true rfl) (fun ls _ => kt_ivV (ci := 1) O dX1_of_132 cd_X2_readers in_X2_readers (Or.inl q1903) q1904 q1905 hco (by decide) hy_X2_readers) (fun u27 M28 hq => ?_) (fun E q M9 hx => kr_out O hx)
    replace h := hq
    clear hq
    refine kr_caI (rest := []) O cd_J19_bitCount h (Nat.le_of_ble_eq_true rfl) (fun ls _ => kt_ivS O dX1_of_135 cd_J19_bitCount in_J19_bitCount q1920 q1921 hy_J19_bitCount) (fun u29 M30 hq => ?_) (fun E q M9 hx => kr_out O hx)
    replace h := hq
    clear hq
    refine kr_goto (tgt := 145) O dX1_of_138 rfl ?_
    exact kr_iret O dX1_of_145 rfl h
def vc_J0_init (w : kt_W) (gr : kt_g × kt_M) (d : Nat) (P : Option Value → kt_M → Prop) (X : String → Nat → kt_M → Prop) (a0 : Nat) (M : kt_M) : Prop :=
  P none M
theorem ce_J0_init {w : kt_W} {g : kt_g} {d : Nat} {P : Option Value → kt_M → Prop} {X : String → Nat → kt_M → Prop} {a0 : Nat} {M : kt_M} (h : vc_J0_init w (g, M) d P X a0 M) : kt_Sp w g (d + 1) yJ0_init kc_J0_init [va_rf (some a0)] M P X := by
  refine kt_of (L0 := [(0, va_rf (some a0))]) (by decide +kernel) (Nat.le_of_ble_eq_true rfl) rfl fun x O => ?_
  replace O : kt_O w x (g, M) (d + 1) cJ0_init "java/util/AbstractCollection" 1 ("<init>", "()V") (Option.none : Option Jvm.ClassFile.FieldType) [] := O
  unfold vc_J0_init at h
  refine kr_aload_n O dJ0_init_0 rfl 0 rfl ?_
  refine kr_objinit O dJ0_init_1 q183 q173 q174 (Nat.le_of_ble_eq_true rfl) ?_
  exact kr_vret O dJ0_init_4 h
