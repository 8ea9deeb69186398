set_option maxRecDepth 100000
def vc_X5_init (w : kt_W) (gr : kt_g × kt_M) (d : Nat) (P : Option Value → kt_M → Prop) (X : String → Nat → kt_M → Prop) (a0 : Nat) (M : kt_M) : Prop :=
  ∃ n1, (2229 : Int32) = nI n1 ∧ n1 < 2 ^ 31 ∧ kt_fits w M n1 ∧ ∃ t2, ∀ M3, M3 = kt_new M n1 (t2 + 2, .inl (0, kt_z 0 n1)) → kt_hf gr M3 a0 65 ∧ ∀ M4, M4 = kt_pf M3 a0 65 (va_rf (some M.1)) → ∃ n5, (2229 : Int32) = nI n5 ∧ n5 < 2 ^ 31 ∧ kt_fits w M4 n5 ∧ ∃ t6, ∀ M7, M7 = kt_new M4 n5 (t6 + 2, .inl (0, kt_z 0 n5)) → kt_hf gr M7 a0 66 ∧ ∀ M8, M8 = kt_pf M7 a0 66 (va_rf (some M4.1)) → ∃ n9, (2229 : Int32) = nI n9 ∧ n9 < 2 ^ 31 ∧ kt_fits w M8 n9 ∧ ∃ t10, ∀ M11, M11 = kt_new M8 n9 (t10 + 2, .inl (0, kt_z 0 n9)) → kt_hf gr M11 a0 67 ∧ ∀ M12, M12 = kt_pf M11 a0 67 (va_rf (some M8.1)) → ∃ n13, (2229 : Int32) = nI n13 ∧ n13 < 2 ^ 31 ∧ kt_fits w M12 n13 ∧ ∃ t14, ∀ M15, M15 = kt_new M12 n13 (t14 + 2, .inl (0, kt_z 0 n13)) → kt_hf gr M15 a0 68 ∧ ∀ M16, M16 = kt_pf M15 a0 68 (va_rf (some M12.1)) → ∃ n17, (22290 : Int32) = nI n17 ∧ n17 < 2 ^ 31 ∧ kt_fits w M16 n17 ∧ ∃ t18, ∀ M19, M19 = kt_new M16 n17 (t18 + 2, .inl (0, kt_z 0 n17)) → kt_hf gr M19 a0 69 ∧ ∀ M20, M20 = kt_pf M19 a0 69 (va_rf (some M16.1)) → ∃ p21, kt_gf M20 a0 65 = some (va_rf p21) ∧ kt_hf gr M20 a0 73 ∧ ∀ M22, M22 = kt_pf M20 a0 73 (va_rf p21) → ∃ n23, (160 : Int32) = nI n23 ∧ n23 < 2 ^ 31 ∧ kt_fits w M22 n23 ∧ ∃ t24, ∀ M25, M25 = kt_new M22 n23 (t24 + 2, .inl (0, kt_z 0 n23)) → kt_hf gr M25 a0 74 ∧ ∀ M26, M26 = kt_pf M25 a0 74 (va_rf (some M22.1)) → ∃ n27, (400 : Int32) = nI n27 ∧ n27 < 2 ^ 31 ∧ kt_fits w M26 n27 ∧ ∃ t28, ∀ M29, M29 = kt_new M26 n27 (t28 + 2, .inl (0, kt_z 0 n27)) → kt_hf gr M29 a0 76 ∧ ∀ M30, M30 = kt_pf M29 a0 76 (va_rf (some M26.1)) → kt_hf gr M30 a0 84 ∧ ∀ M31, M31 = kt_pf M30 a0 84 (.int (-1 : Int32)) → ∃ n32, (8 : Int32) = nI n32 ∧ n32 < 2 ^ 31 ∧ kt_fits w M31 n32 ∧ ∃ t33, ∀ M34, M34 = kt_new M31 n32 (t33 + 2, .inl (5, kt_z 5 n32)) → ∃ k35, 3 ≤ k35 ∧ kt_hiq gr k35 M34 M31.1 (0 : Int32) ∧ (∀ c, (some (kt_cA w 33)) = some c → kt_fo k35 M34 c) ∧ ∀ M36, M36 = kt_sq M34 M31.1 (0 : Int32) (some (kt_cA w 33)) → ∃ k37, 3 ≤ k37 ∧ kt_hiq gr k37 M36 M31.1 (1 : Int32) ∧ (∀ c, (some (kt_cA w 34)) = some c → kt_fo k37 M36 c) ∧ ∀ M38, M38 = kt_sq M36 M31.1 (1 : Int32) (some (kt_cA w 34)) → ∃ k39, 3 ≤ k39 ∧ kt_hiq gr k39 M38 M31.1 (2 : Int32) ∧ (∀ c, (some (kt_cA w 35)) = some c → kt_fo k39 M38 c) ∧ ∀ M40, M40 = kt_sq M38 M31.1 (2 : Int32) (some (kt_cA w 35)) → ∃ k41, 3 ≤ k41 ∧ kt_hiq gr k41 M40 M31.1 (3 : Int32) ∧ (∀ c, (some (kt_cA w 36)) = some c → kt_fo k41 M40 c) ∧ ∀ M42, M42 = kt_sq M40 M31.1 (3 : Int32) (some (kt_cA w 36)) → ∃ k43, 3 ≤ k43 ∧ kt_hiq gr k43 M42 M31.1 (4 : Int32) ∧ (∀ c, (some (kt_cA w 37)) = some c → kt_fo k43 M42 c) ∧ ∀ M44, M44 = kt_sq M42 M31.1 (4 : Int32) (some (kt_cA w 37)) → ∃ k45, 3 ≤ k45 ∧ kt_hiq gr k45 M44 M31.1 (5 : Int32) ∧ (∀ c, (some (kt_cA w 38)) = some c → kt_fo k45 M44 c) ∧ ∀ M46, M46 = kt_sq M44 M31.1 (5 : Int32) (some (kt_cA w 38)) → ∃ k47, 3 ≤ k47 ∧ kt_hiq gr k47 M46 M31.1 (6 : Int32) ∧ (∀ c, (some (kt_cA w 39)) = some c → kt_fo k47 M46 c) ∧ ∀ M48, M48 = kt_sq M46 M31.1 (6 : Int32) (some (kt_cA w 39)) → ∃ k49, 3 ≤ k49 ∧ kt_hiq gr k49 M48 M31.1 (7 : Int32) ∧ (∀ c, (some (kt_cA w 40)) = some c → kt_fo k49 M48 c) ∧ ∀ M50, M50 = kt_sq M48 M31.1 (7 : Int32) (some (kt_cA w 40)) → kt_hf gr M50 a0 86 ∧ ∀ M51, M51 = kt_pf M50 a0 86 (va_rf (some M31.1)) → ∃ n52, (200 : Int32) = nI n52 ∧ n52 < 2 ^ 31 ∧ kt_fits w M51 n52 ∧ ∃ t53, ∀ M54, M54 = kt_new M51 n52 (t53 + 2, .inl (0, kt_z 0 n52)) → kt_hf gr M54 a0 87 ∧ ∀ M55, M55 = kt_pf M54 a0 87 (va_rf (some M51.1)) → ∃ n56, (200 : Int32) = nI n56 ∧ n56 < 2 ^ 31 ∧ kt_fits w M55 n56 ∧ ∃ t57, ∀ M58, M58 = kt_new M55 n56 (t57 + 2, .inl (1, kt_z 1 n56)) → kt_hf gr M58 a0 88 ∧ ∀ M59, M59 = kt_pf M58 a0 88 (va_rf (some M55.1)) → (kt_co M59 a0 = some 12) ∧ 
  kt_Ca w gr d yX5_clear kc_X5_clear [va_rf (some a0), .int (100 : Int32), .int (10 : Int32), .int (5 : Int32), .int (1 : Int32)] M59 (kt_pV fun M60 => P none M60) X
theorem ce_X5_init {w : kt_W} {g : kt_g} {d : Nat} {P : Option Value → kt_M → Prop} {X : String → Nat → kt_M → Prop} {a0 : Nat} {M : kt_M} (h : vc_X5_init w (g, M) d P X a0 M) : kt_Sp w g (d + 1) yX5_init kc_X5_init [va_rf (some a0)] M P X := by
  refine kt_of (L0 := [(0, va_rf (some a0))]) (by decide +kernel) (Nat.le_of_ble_eq_true rfl) rfl fun x O => ?_
  replace O : kt_O w x (g, M) (d + 1) cX5_init "KeyTurnsModel" 1 ("<init>", "()V") (Option.none : Option Jvm.ClassFile.FieldType) [] := O
  unfold vc_X5_init at h
  refine kr_aload_n O dX5_init_0 rfl 0 rfl ?_
  refine kr_objinit O dX5_init_1 q2448 q173 q174 (Nat.le_of_ble_eq_true rfl) ?_
  refine kr_aload_n O dX5_init_4 rfl 0 rfl ?_
  refine kr_sipush O dX5_init_5 (v := (2229 : Int32)) (by decide) ?_
  obtain ⟨n1, hn, hl, hf, t2, h⟩ := h
  refine kr_newarr t2 0 O dX5_init_8 (by decide) rfl q312 hn hl hf (kr_nmM fun M3 hM3 => ?_)
  replace h := h M3 hM3
  obtain ⟨hw, h⟩ := h
  refine kr_putf O dX5_init_10 fs_X5_9 (Or.inr ⟨rfl, rfl⟩) (kt_ok_ra _ rfl) hw (kr_nmM fun M4 hM4 => ?_)
  replace h := h M4 hM4
  refine kr_aload_n O dX5_init_13 rfl 0 rfl ?_
  refine kr_sipush O dX5_init_14 (v := (2229 : Int32)) (by decide) ?_
  obtain ⟨n5, hn, hl, hf, t6, h⟩ := h
  refine kr_newarr t6 0 O dX5_init_17 (by decide) rfl q312 hn hl hf (kr_nmM fun M7 hM7 => ?_)
  replace h := h M7 hM7
  obtain ⟨hw, h⟩ := h
  refine kr_putf O dX5_init_19 fs_X5_13 (Or.inr ⟨rfl, rfl⟩) (kt_ok_ra _ rfl) hw (kr_nmM fun M8 hM8 => ?_)
  replace h := h M8 hM8
  refine kr_aload_n O dX5_init_22 rfl 0 rfl ?_
  refine kr_sipush O dX5_init_23 (v := (2229 : Int32)) (by decide) ?_
  obtain ⟨n9, hn, hl, hf, t10, h⟩ := h
  refine kr_newarr t10 0 O dX5_init_26 (by decide) rfl q312 hn hl hf (kr_nmM fun M11 hM11 => ?_)
  replace h := h M11 hM11
  obtain ⟨hw, h⟩ := h
  refine kr_putf O dX5_init_28 fs_X5_16 (Or.inr ⟨rfl, rfl⟩) (kt_ok_ra _ rfl) hw (kr_nmM fun M12 hM12 => ?_)
  replace h := h M12 hM12
  refine kr_aload_n O dX5_init_31 rfl 0 rfl ?_
  refine kr_sipush O dX5_init_32 (v := (2229 : Int32)) (by decide) ?_
  obtain ⟨n13, hn, hl, hf, t14, h⟩ := h
  refine kr_newarr t14 0 O dX5_init_35 (by decide) rfl q312 hn hl hf (kr_nmM fun M15 hM15 => ?_)
  replace h := h M15 hM15
  obtain ⟨hw, h⟩ := h
  refine kr_putf O dX5_init_37 fs_X5_19 (Or.inr ⟨rfl, rfl⟩) (kt_ok_ra _ rfl) hw (kr_nmM fun M16 hM16 => ?_)
  replace h := h M16 hM16
  refine kr_aload_n O dX5_init_40 rfl 0 rfl ?_
  refine kr_sipush O dX5_init_41 (v := (22290 : Int32)) (by decide) ?_
  obtain ⟨n17, hn, hl, hf, t18, h⟩ := h
  refine kr_newarr t18 0 O dX5_init_44 (by decide) rfl q312 hn hl hf (kr_nmM fun M19 hM19 => ?_)
  replace h := h M19 hM19
  obtain ⟨hw, h⟩ := h
  refine kr_putf O dX5_init_46 fs_X5_22 (Or.inr ⟨rfl, rfl⟩) (kt_ok_ra _ rfl) hw (kr_nmM fun M20 hM20 => ?_)
  replace h := h M20 hM20
  refine kr_aload_n O dX5_init_49 rfl 0 rfl ?_
  refine kr_aload_n O dX5_init_50 rfl 0 rfl ?_
  obtain ⟨p21, ep21, h⟩ := h
  refine kr_getf O dX5_init_51 fs_X5_9 ep21 ?_
  obtain ⟨hw, h⟩ := h
  refine kr_putf O dX5_init_54 fs_X5_25 (Or.inl rfl) (kt_ok_ra _ rfl) hw (kr_nmM fun M22 hM22 => ?_)
  replace h := h M22 hM22
  refine kr_aload_n O dX5_init_57 rfl 0 rfl ?_
  refine kr_sipush O dX5_init_58 (v := (160 : Int32)) (by decide) ?_
  obtain ⟨n23, hn, hl, hf, t24, h⟩ := h
  refine kr_newarr t24 0 O dX5_init_61 (by decide) rfl q312 hn hl hf (kr_nmM fun M25 hM25 => ?_)
  replace h := h M25 hM25
  obtain ⟨hw, h⟩ := h
  refine kr_putf O dX5_init_63 fs_X5_28 (Or.inr ⟨rfl, rfl⟩) (kt_ok_ra _ rfl) hw (kr_nmM fun M26 hM26 => ?_)
  replace h := h M26 hM26
  refine kr_aload_n O dX5_init_66 rfl 0 rfl ?_
  refine kr_sipush O dX5_init_67 (v := (400 : Int32)) (by decide) ?_
  obtain ⟨n27, hn, hl, hf, t28, h⟩ := h
  refine kr_newarr t28 0 O dX5_init_70 (by decide) rfl q312 hn hl hf (kr_nmM fun M29 hM29 => ?_)
  replace h := h M29 hM29
  obtain ⟨hw, h⟩ := h
  refine kr_putf O dX5_init_72 fs_X5_31 (Or.inr ⟨rfl, rfl⟩) (kt_ok_ra _ rfl) hw (kr_nmM fun M30 hM30 => ?_)
  replace h := h M30 hM30
  refine kr_aload_n O dX5_init_75 rfl 0 rfl ?_
  refine kr_iconst O dX5_init_76 (v := (-1 : Int32)) (by decide) ?_
  obtain ⟨hw, h⟩ := h
  refine kr_putf O dX5_init_77 fs_X5_34 (Or.inl rfl) ⟨rfl, rfl⟩ hw (kr_nmM fun M31 hM31 => ?_)
  replace h := h M31 hM31
  refine kr_aload_n O dX5_init_80 rfl 0 rfl ?_
  refine kr_bipush O dX5_init_81 (v := (8 : Int32)) (by decide) ?_
  obtain ⟨n32, hn, hl, hf, t33, h⟩ := h
  refine kr_anew t33 5 O dX5_init_83 (by decide) (by decide) rfl q2449 q2450 hn hl hf (kr_nmM fun M34 hM34 => ?_)
  replace h := h M34 hM34
  refine kr_dup O dX5_init_86 (kt_nrf _) ?_
  refine kr_iconst O dX5_init_87 (v := (0 : Int32)) (by decide) ?_
  refine kr_ldcS O dX5_init_88 st_X5_40 ?_
  obtain ⟨k35, hk35, hw, hfo, h⟩ := h
  refine kr_aastore k35 hk35 O dX5_init_90 hw hfo (kr_nmM fun M36 hM36 => ?_)
  replace h := h M36 hM36
  refine kr_dup O dX5_init_91 (kt_nrf _) ?_
  refine kr_iconst O dX5_init_92 (v := (1 : Int32)) (by decide) ?_
  refine kr_ldcS O dX5_init_93 st_X5_42 ?_
  obtain ⟨k37, hk37, hw, hfo, h⟩ := h
  refine kr_aastore k37 hk37 O dX5_init_95 hw hfo (kr_nmM fun M38 hM38 => ?_)
  replace h := h M38 hM38
  refine kr_dup O dX5_init_96 (kt_nrf _) ?_
  refine kr_iconst O dX5_init_97 (v := (2 : Int32)) (by decide) ?_
  refine kr_ldcS O dX5_init_98 st_X5_44 ?_
  obtain ⟨k39, hk39, hw, hfo, h⟩ := h
  refine kr_aastore k39 hk39 O dX5_init_100 hw hfo (kr_nmM fun M40 hM40 => ?_)
  replace h := h M40 hM40
  refine kr_dup O dX5_init_101 (kt_nrf _) ?_
  refine kr_iconst O dX5_init_102 (v := (3 : Int32)) (by decide) ?_
  refine kr_ldcS O dX5_init_103 st_X5_46 ?_
  obtain ⟨k41, hk41, hw, hfo, h⟩ := h
  refine kr_aastore k41 hk41 O dX5_init_105 hw hfo (kr_nmM fun M42 hM42 => ?_)
  replace h := h M42 hM42
  refine kr_dup O dX5_init_106 (kt_nrf _) ?_
  refine kr_iconst O dX5_init_107 (v := (4 : Int32)) (by decide) ?_
  refine kr_ldcS O dX5_init_108 st_X5_48 ?_
  obtain ⟨k43, hk43, hw, hfo, h⟩ := h
  refine kr_aastore k43 hk43 O dX5_init_110 hw hfo (kr_nmM fun M44 hM44 => ?_)
  replace h := h M44 hM44
  refine kr_dup O dX5_init_111 (kt_nrf _) ?_
  refine kr_iconst O dX5_init_112 (v := (5 : Int32)) (by decide) ?_
  refine kr_ldcS O dX5_init_113 st_X5_50 ?_
  obtain ⟨k45, hk45, hw, hfo, h⟩ := h
  refine kr_aastore k45 hk45 O dX5_init_115 hw hfo (kr_nmM fun M46 hM46 => ?_)
  replace h := h M46 hM46
  refine kr_dup O dX5_init_116 (kt_nrf _) ?_
  refine kr_bipush O dX5_init_117 (v := (6 : Int32)) (by decide) ?_
  refine kr_ldcS O dX5_init_119 st_X5_52 ?_
  obtain ⟨k47, hk47, hw, hfo, h⟩ := h
  refine kr_aastore k47 hk47 O dX5_init_121 hw hfo (kr_nmM fun M48 hM48 => ?_)
  replace h := h M48 hM48
  refine kr_dup O dX5_init_122 (kt_nrf _) ?_
  refine kr_bipush O dX5_init_123 (v := (7 : Int32)) (by decide) ?_
  refine kr_ldcS O dX5_init_125 st_X5_54 ?_
  obtain ⟨k49, hk49, hw, hfo, h⟩ := h
  refine kr_aastore k49 hk49 O dX5_init_127 hw hfo (kr_nmM fun M50 hM50 => ?_)
  replace h := h M50 hM50
  obtain ⟨hw, h⟩ := h
  refine kr_putf O dX5_init_128 fs_X5_56 (Or.inr ⟨rfl, rfl⟩) (kt_ok_ra _ rfl) hw (kr_nmM fun M51 hM51 => ?_)
  replace h := h M51 hM51
  refine kr_aload_n O dX5_init_131 rfl 0 rfl ?_
  refine kr_sipush O dX5_init_132 (v := (200 : Int32)) (by decide) ?_
  obtain ⟨n52, hn, hl, hf, t53, h⟩ := h
  refine kr_newarr t53 0 O dX5_init_135 (by decide) rfl q312 hn hl hf (kr_nmM fun M54 hM54 => ?_)
  replace h := h M54 hM54
  obtain ⟨hw, h⟩ := h
  refine kr_putf O dX5_init_137 fs_X5_60 (Or.inr ⟨rfl, rfl⟩) (kt_ok_ra _ rfl) hw (kr_nmM fun M55 hM55 => ?_)
  replace h := h M55 hM55
  refine kr_aload_n O dX5_init_140 rfl 0 rfl ?_
  refine kr_sipush O dX5_init_141 (v := (200 : Int32)) (by decide) ?_
  obtain ⟨n56, hn, hl, hf, t57, h⟩ := h
  refine kr_newarr t57 1 O dX5_init_144 (by decide) rfl q767 hn hl hf (kr_nmM fun M58 hM58 => ?_)
  replace h := h M58 hM58
  obtain ⟨hw, h⟩ := h
  refine kr_putf O dX5_init_146 fs_X5_63 (Or.inr ⟨rfl, rfl⟩) (kt_ok_ra _ rfl) hw (kr_nmM fun M59 hM59 => ?_)
  replace h := h M59 hM59
  refine kr_aload_n O dX5_init_149 rfl 0 rfl ?_
  refine kr_bipush O dX5_init_150 (v := (100 : Int32)) (by decide) ?_
  refine kr_bipush O dX5_init_152 (v := (10 : Int32)) (by decide) ?_
  refine kr_iconst O dX5_init_154 (v := (5 : Int32)) (by decide) ?_
  refine kr_iconst O dX5_init_155 (v := (1 : Int32)) (by decide) ?_
  obtain ⟨hco, h⟩ := h
  refine kr_caV (rest := []) O cd_X5_clear h (Nat.le_of_ble_eq_true rfl) (fun ls _ => kt_ivV (ci := 12) O dX5_init_156 cd_X5_clear in_X5_clear (Or.inl q2459) q2461 qs37 hco (by decide) hy_X5_clear) (fun M60 hq => ?_) (fun E q M9 hx => kr_out O hx)
  replace h := hq
  clear hq
  exact kr_vret O dX5_init_159 h
def vc_X5_clear_3 (w : kt_W) (gr : kt_g × kt_M) (d : Nat) (P : Option Value → kt_M → Prop) (X : String → Nat → kt_M → Prop) (nx3 : Int32 → kt_M → Prop) (a0 : Nat) (v1 : Int32) (v2 : Int32) (v3 : Int32) (v4 : Int32) (v5 : Int32) (M : kt_M) : Prop :=
  
    (((2229 : Int32) ≤ v5 → ∃ p1, kt_gf M a0 73 = some (va_rf p1) ∧ ∃ b2, p1 = some b2 ∧ kt_hii gr 0 M b2 (4 : Int32) ∧ ∀ M3, M3 = kt_si M b2 (4 : Int32) v1 → ∃ p4, kt_gf M3 a0 73 = some (va_rf p4) ∧ ∃ b5, p4 = some b5 ∧ kt_hii gr 0 M3 b5 (5 : Int32) ∧ ∀ M6, M6 = kt_si M3 b5 (5 : Int32) v2 → ∃ p7, kt_gf M6 a0 73 = some (va_rf p7) ∧ ∃ b8, p7 = some b8 ∧ kt_hii gr 0 M6 b8 (6 : Int32) ∧ ∀ M9, M9 = kt_si M6 b8 (6 : Int32) v3 → ∃ p10, kt_gf M9 a0 73 = some (va_rf p10) ∧ ∃ b11, p10 = some b11 ∧ kt_hii gr 0 M9 b11 (7 : Int32) ∧ ∀ M12, M12 = kt_si M9 b11 (7 : Int32) v4 → (kt_co M12 a0 = some 12) ∧ 
    kt_Ca w gr d yX5_issue kc_X5_issue [va_rf (some a0), .int (0 : Int32)] M12 (kt_pV fun M13 => P none M13) X) ∧
    (¬ (2229 : Int32) ≤ v5 → ∃ p14, kt_gf M a0 73 = some (va_rf p14) ∧ ∃ b15, p14 = some b15 ∧ kt_hii gr 0 M b15 v5 ∧ ∀ M16, M16 = kt_si M b15 v5 (0 : Int32) → nx3 (v5 + (1 : Int32)) M16))
theorem cj_X5_clear_3 {w : kt_W} {x : kt_X} {gr : kt_g × kt_M} {d : Nat} {P : Option Value → kt_M → Prop} {X : String → Nat → kt_M → Prop} {nx3 : Int32 → kt_M → Prop} {a0 : Nat} {v1 : Int32} {v2 : Int32} {v3 : Int32} {v4 : Int32} {v5 : Int32} {M : kt_M} (O : kt_O w x gr (d + 1) cX5_clear "KeyTurnsModel" 6 ("clear", "(IIII)V") (Option.none : Option Jvm.ClassFile.FieldType) []) (hn3 : ∀ v5 M, nx3 v5 M → kt_S w x 6 (kt_E w x P X) M 3 [(0, va_rf (some a0)), (1, .int v1), (2, .int v2), (3, .int v3), (4, .int v4), (5, .int v5)] []) (h : vc_X5_clear_3 w gr d P X nx3 a0 v1 v2 v3 v4 v5 M) : kt_S w x 6 (kt_E w x P X) M 3 [(0, va_rf (some a0)), (1, .int v1), (2, .int v2), (3, .int v3), (4, .int v4), (5, .int v5)] [] := by
  unfold vc_X5_clear_3 at h
  refine kr_iload O dX5_clear_3 5 rfl ?_
  refine kr_sipush O dX5_clear_5 (v := (2229 : Int32)) (by decide) ?_
  refine kr_icmp_ge (tgt := 25) O dX5_clear_8 rfl (fun hc => ?_) (fun hc => ?_)
  · replace h := h.1 hc
    refine kr_aload_n O dX5_clear_25 rfl 0 rfl ?_
    obtain ⟨p1, ep1, h⟩ := h
    refine kr_getf O dX5_clear_26 fs_X5_25 ep1 ?_
    refine kr_iconst O dX5_clear_29 (v := (4 : Int32)) (by decide) ?_
    refine kr_iload_n O dX5_clear_30 rfl 1 rfl ?_
    obtain ⟨b2, rfl, h⟩ := h
    obtain ⟨hw, h⟩ := h
    refine kr_iastore O dX5_clear_31 hw (kr_nmM fun M3 hM3 => ?_)
    replace h := h M3 hM3
    refine kr_aload_n O dX5_clear_32 rfl 0 rfl ?_
    obtain ⟨p4, ep4, h⟩ := h
    refine kr_getf O dX5_clear_33 fs_X5_25 ep4 ?_
    refine kr_iconst O dX5_clear_36 (v := (5 : Int32)) (by decide) ?_
    refine kr_iload_n O dX5_clear_37 rfl 2 rfl ?_
    obtain ⟨b5, rfl, h⟩ := h
    obtain ⟨hw, h⟩ := h
    refine kr_iastore O dX5_clear_38 hw (kr_nmM fun M6 hM6 => ?_)
    replace h := h M6 hM6
    refine kr_aload_n O dX5_clear_39 rfl 0 rfl ?_
    obtain ⟨p7, ep7, h⟩ := h
    refine kr_getf O dX5_clear_40 fs_X5_25 ep7 ?_
    refine kr_bipush O dX5_clear_43 (v := (6 : Int32)) (by decide) ?_
    refine kr_iload_n O dX5_clear_45 rfl 3 rfl ?_
    obtain ⟨b8, rfl, h⟩ := h
    obtain ⟨hw, h⟩ := h
    refine kr_iastore O dX5_clear_46 hw (kr_nmM fun M9 hM9 => ?_)
    replace h := h M9 hM9
    refine kr_aload_n O dX5_clear_47 rfl 0 rfl ?_
    obtain ⟨p10, ep10, h⟩ := h
    refine kr_getf O dX5_clear_48 fs_X5_25 ep10 ?_
    refine kr_bipush O dX5_clear_51 (v := (7 : Int32)) (by decide) ?_
    refine kr_iload O dX5_clear_53 4 rfl ?_
    obtain ⟨b11, rfl, h⟩ := h
    obtain ⟨hw, h⟩ := h
    refine kr_iastore O dX5_clear_55 hw (kr_nmM fun M12 hM12 => ?_)
    replace h := h M12 hM12
    refine kr_aload_n O dX5_clear_56 rfl 0 rfl ?_
    refine kr_iconst O dX5_clear_57 (v := (0 : Int32)) (by decide) ?_
    obtain ⟨hco, h⟩ := h
    refine kr_caV (rest := []) O cd_X5_issue h (Nat.le_of_ble_eq_true rfl) (fun ls _ => kt_ivV (ci := 12) O dX5_clear_58 cd_X5_issue in_X5_issue (Or.inl q2463) q2465 qs38 hco (by decide) hy_X5_issue) (fun M13 hq => ?_) (fun E q M9 hx => kr_out O hx)
    replace h := hq
    clear hq
    exact kr_vret O dX5_clear_61 h
  · replace h := h.2 hc
    refine kr_aload_n O dX5_clear_11 rfl 0 rfl ?_
    obtain ⟨p14, ep14, h⟩ := h
    refine kr_getf O dX5_clear_12 fs_X5_25 ep14 ?_
    refine kr_iload O dX5_clear_15 5 rfl ?_
    refine kr_iconst O dX5_clear_17 (v := (0 : Int32)) (by decide) ?_
    obtain ⟨b15, rfl, h⟩ := h
    obtain ⟨hw, h⟩ := h
    refine kr_iastore O dX5_clear_18 hw (kr_nmM fun M16 hM16 => ?_)
    replace h := h M16 hM16
    refine kr_iinc O dX5_clear_19 5 rfl (v := v5 + (1 : Int32)) rfl (Nat.le_of_ble_eq_true rfl) rfl rfl ?_
    refine kr_goto (tgt := 3) O dX5_clear_22 rfl ?_
    refine kr_sub [1, 2, 3, 4, 5, 0] rfl ?_
    exact hn3 _ _ h
def vl_X5_clear_3 (w : kt_W) (gr : kt_g × kt_M) (d : Nat) (P : Option Value → kt_M → Prop) (X : String → Nat → kt_M → Prop)  (a0 : Nat) (v1 : Int32) (v2 : Int32) (v3 : Int32) (v4 : Int32) (v5 : Int32) (M : kt_M) : Prop :=
  ∃ Inv : Nat → Int32 → kt_M → Prop, (∃ k, Inv k v5 M) ∧ ∀ k v5 M, kt_le gr.1 gr.2 M → Inv k v5 M → vc_X5_clear_3 w gr d P X (fun v5' M' => ∃ k', k' < k ∧ Inv k' v5' M') a0 v1 v2 v3 v4 v5 M
theorem cl_X5_clear_3 {w : kt_W} {x : kt_X} {gr : kt_g × kt_M} {d : Nat} {P : Option Value → kt_M → Prop} {X : String → Nat → kt_M → Prop}  {a0 : Nat} {v1 : Int32} {v2 : Int32} {v3 : Int32} {v4 : Int32} {v5 : Int32} {M : kt_M} (O : kt_O w x gr (d + 1) cX5_clear "KeyTurnsModel" 6 ("clear", "(IIII)V") (Option.none : Option Jvm.ClassFile.FieldType) [])  (h : vl_X5_clear_3 w gr d P X  a0 v1 v2 v3 v4 v5 M) : kt_S w x 6 (kt_E w x P X) M 3 [(0, va_rf (some a0)), (1, .int v1), (2, .int v2), (3, .int v3), (4, .int v4), (5, .int v5)] [] := by
  obtain ⟨Inv, ⟨k, hk⟩, hb⟩ := h
  induction k using Nat.strongRecOn generalizing v5 M with
  | ind k ih =>
    exact kr_le O fun hle => cj_X5_clear_3 O (fun v5' M' hi => let ⟨k', h1, h2⟩ := hi; ih k' h1 h2) (hb k _ _ hle hk)
def vc_X5_clear (w : kt_W) (gr : kt_g × kt_M) (d : Nat) (P : Option Value → kt_M → Prop) (X : String → Nat → kt_M → Prop) (a0 : Nat) (v1 : Int32) (v2 : Int32) (v3 : Int32) (v4 : Int32) (M : kt_M) : Prop :=
  vl_X5_clear_3 w gr d P X  a0 v1 v2 v3 v4 (0 : Int32) M
theorem ce_X5_clear {w : kt_W} {g : kt_g} {d : Nat} {P : Option Value → kt_M → Prop} {X : String → Nat → kt_M → Prop} {a0 : Nat} {v1 : Int32} {v2 : Int32} {v3 : Int32} {v4 : Int32} {M : kt_M} (h : vc_X5_clear w (g, M) d P X a0 v1 v2 v3 v4 M) : kt_Sp w g (d + 1) yX5_clear kc_X5_clear [va_rf (some a0), .int v1, .int v2, .int v3, .int v4] M P X := by
  refine kt_of (L0 := [(0, va_rf (some a0)), (1, .int v1), (2, .int v2), (3, .int v3), (4, .int v4)]) (by decide +kernel) (Nat.le_of_ble_eq_true rfl) rfl fun x O => ?_
  replace O : kt_O w x (g, M) (d + 1) cX5_clear "KeyTurnsModel" 6 ("clear", "(IIII)V") (Option.none : Option Jvm.ClassFile.FieldType) [] := O
  unfold vc_X5_clear at h
  refine kr_iconst O dX5_clear_0 (v := (0 : Int32)) (by decide) ?_
  refine kr_istore O dX5_clear_1 (Nat.le_of_ble_eq_true rfl) rfl rfl ?_
  refine kr_sub [1, 2, 3, 4, 5, 0] rfl ?_
  exact cl_X5_clear_3 O  h
def vc_X5_issue_9 (w : kt_W) (gr : kt_g × kt_M) (d : Nat) (P : Option Value → kt_M → Prop) (X : String → Nat → kt_M → Prop) (nx9 : Int32 → kt_M → Prop) (a0 : Nat) (v1 : Int32) (v2 : Int32) (v3 : Int32) (M : kt_M) : Prop :=
  
    ((v2 ≤ v3 → ∃ p1, kt_gf M a0 73 = some (va_rf p1) ∧ 
    kt_Ca w gr d yX5_versionAt kc_X5_versionAt [.int v2, .int (0 : Int32)] M (kt_pI fun u2 M3 => ∃ b4, p1 = some b4 ∧ kt_hii gr 0 M3 b4 u2 ∧ ∀ M5, M5 = kt_si M3 b4 u2 v1 → ∃ p6, kt_gf M5 a0 73 = some (va_rf p6) ∧ 
    kt_Ca w gr d yX5_versionAt kc_X5_versionAt [.int v2, .int (1 : Int32)] M5 (kt_pI fun u7 M8 => ∃ b9, p6 = some b9 ∧ kt_hii gr 0 M8 b9 u7 ∧ ∀ M10, M10 = kt_si M8 b9 u7 (9999 : Int32) → ∃ p11, kt_gf M10 a0 73 = some (va_rf p11) ∧ 
    kt_Ca w gr d yX5_versionAt kc_X5_versionAt [.int v2, .int (2 : Int32)] M10 (kt_pI fun u12 M13 => ∃ b14, p11 = some b14 ∧ kt_hii gr 0 M13 b14 u12 ∧ ∀ M15, M15 = kt_si M13 b14 u12 (-1 : Int32) → ∃ p16, kt_gf M15 a0 73 = some (va_rf p16) ∧ ∃ b17, p16 = some b17 ∧ ∃ u18, kt_el 0 M15 b17 (1 : Int32) = some (.int u18) ∧ kt_hii gr 0 M15 b17 (1 : Int32) ∧ ∀ M19, M19 = kt_si M15 b17 (1 : Int32) (u18 + (1 : Int32)) → P none M19) X) X) X) ∧
    (¬ v2 ≤ v3 → ∃ p20, kt_gf M a0 73 = some (va_rf p20) ∧ ∃ b21, p20 = some b21 ∧ ∃ u22, kt_el 0 M b21 (5 : Int32) = some (.int u22) ∧ ∃ p23, kt_gf M a0 73 = some (va_rf p23) ∧ 
    kt_Ca w gr d yX5_versionAt kc_X5_versionAt [.int v3, .int (1 : Int32)] M (kt_pI fun u24 M25 => (kt_co M25 a0 = some 12) ∧ 
    kt_Ca w gr d yX5_ofVersion kc_X5_ofVersion [va_rf (some a0), .int v3, .int (1 : Int32)] M25 (kt_pI fun u26 M27 => 
    kt_Ca w gr d yJ7_min kc_J7_min [.int u26, .int ((v1 + u22) - (1 : Int32))] M27 (kt_pI fun u28 M29 => ∃ b30, p23 = some b30 ∧ kt_hii gr 0 M29 b30 u24 ∧ ∀ M31, M31 = kt_si M29 b30 u24 u28 → nx9 (v3 + (1 : Int32)) M31) X) X) X))
theorem cj_X5_issue_9 {w : kt_W} {x : kt_X} {gr : kt_g × kt_M} {d : Nat} {P : Option Value → kt_M → Prop} {X : String → Nat → kt_M → Prop} {nx9 : Int32 → kt_M → Prop} {a0 : Nat} {v1 : Int32} {v2 : Int32} {v3 : Int32} {M : kt_M} (O : kt_O w x gr (d + 1) cX5_issue "KeyTurnsModel" 5 ("issue", "(I)V") (Option.none : Option Jvm.ClassFile.FieldType) []) (hn9 : ∀ v3 M, nx9 v3 M → kt_S w x 5 (kt_E w x P X) M 9 [(0, va_rf (some a0)), (1, .int v1), (2, .int v2), (3, .int v3)] []) (h : vc_X5_issue_9 w gr d P X nx9 a0 v1 v2 v3 M) : kt_S w x 5 (kt_E w x P X) M 9 [(0, va_rf (some a0)), (1, .int v1), (2, .int v2), (3, .int v3)] [] := by
  unfold vc_X5_issue_9 at h
  refine kr_iload_n O dX5_issue_9 rfl 3 rfl ?_
  refine kr_iload_n O dX5_issue_10 rfl 2 rfl ?_
  refine kr_icmp_ge (tgt := 53) O dX5_issue_11 rfl (fun hc => ?_) (fun hc => ?_)
  · replace h := h.1 hc
    refine kr_aload_n O dX5_issue_53 rfl 0 rfl ?_
    obtain ⟨p1, ep1, h⟩ := h
    refine kr_getf O dX5_issue_54 fs_X5_25 ep1 ?_
    refine kr_iload_n O dX5_issue_57 rfl 2 rfl ?_
    refine kr_iconst O dX5_issue_58 (v := (0 : Int32)) (by decide) ?_
    refine kr_caI (rest := [va_rf p1]) O cd_X5_versionAt h (Nat.le_of_ble_eq_true rfl) (fun ls _ => kt_ivS O dX5_issue_59 cd_X5_versionAt in_X5_versionAt q2467 q2468 hy_X5_versionAt) (fun u2 M3 hq => ?_) (fun E q M9 hx => kr_out O hx)
    replace h := hq
    clear hq
    refine kr_iload_n O dX5_issue_62 rfl 1 rfl ?_
    obtain ⟨b4, rfl, h⟩ := h
    obtain ⟨hw, h⟩ := h
    refine kr_iastore O dX5_issue_63 hw (kr_nmM fun M5 hM5 => ?_)
    replace h := h M5 hM5
    refine kr_aload_n O dX5_issue_64 rfl 0 rfl ?_
    obtain ⟨p6, ep6, h⟩ := h
    refine kr_getf O dX5_issue_65 fs_X5_25 ep6 ?_
    refine kr_iload_n O dX5_issue_68 rfl 2 rfl ?_
    refine kr_iconst O dX5_issue_69 (v := (1 : Int32)) (by decide) ?_
    refine kr_caI (rest := [va_rf p6]) O cd_X5_versionAt h (Nat.le_of_ble_eq_true rfl) (fun ls _ => kt_ivS O dX5_issue_70 cd_X5_versionAt in_X5_versionAt q2467 q2468 hy_X5_versionAt) (fun u7 M8 hq => ?_) (fun E q M9 hx => kr_out O hx)
    replace h := hq
    clear hq
    refine kr_sipush O dX5_issue_73 (v := (9999 : Int32)) (by decide) ?_
    obtain ⟨b9, rfl, h⟩ := h
    obtain ⟨hw, h⟩ := h
    refine kr_iastore O dX5_issue_76 hw (kr_nmM fun M10 hM10 => ?_)
    replace h := h M10 hM10
    refine kr_aload_n O dX5_issue_77 rfl 0 rfl ?_
    obtain ⟨p11, ep11, h⟩ := h
    refine kr_getf O dX5_issue_78 fs_X5_25 ep11 ?_
    refine kr_iload_n O dX5_issue_81 rfl 2 rfl ?_
    refine kr_iconst O dX5_issue_82 (v := (2 : Int32)) (by decide) ?_
    refine kr_caI (rest := [va_rf p11]) O cd_X5_versionAt h (Nat.le_of_ble_eq_true rfl) (fun ls _ => kt_ivS O dX5_issue_83 cd_X5_versionAt in_X5_versionAt q2467 q2468 hy_X5_versionAt) (fun u12 M13 hq => ?_) (fun E q M9 hx => kr_out O hx)
    replace h := hq
    clear hq
    refine kr_iconst O dX5_issue_86 (v := (-1 : Int32)) (by decide) ?_
    obtain ⟨b14, rfl, h⟩ := h
    obtain ⟨hw, h⟩ := h
    refine kr_iastore O dX5_issue_87 hw (kr_nmM fun M15 hM15 => ?_)
    replace h := h M15 hM15
    refine kr_aload_n O dX5_issue_88 rfl 0 rfl ?_
    obtain ⟨p16, ep16, h⟩ := h
    refine kr_getf O dX5_issue_89 fs_X5_25 ep16 ?_
    refine kr_iconst O dX5_issue_92 (v := (1 : Int32)) (by decide) ?_
    refine kr_dup2 O dX5_issue_93 rfl (kt_nrf _) ?_
    obtain ⟨b17, rfl, h⟩ := h
    obtain ⟨u18, eu18, h⟩ := h
    refine kr_iaload O dX5_issue_94 eu18 ?_
    refine kr_iconst O dX5_issue_95 (v := (1 : Int32)) (by decide) ?_
    refine kr_iadd O dX5_issue_96 ?_
    obtain ⟨hw, h⟩ := h
    refine kr_iastore O dX5_issue_97 hw (kr_nmM fun M19 hM19 => ?_)
    replace h := h M19 hM19
    exact kr_vret O dX5_issue_98 h
  · replace h := h.2 hc
    refine kr_iload_n O dX5_issue_14 rfl 1 rfl ?_
    refine kr_aload_n O dX5_issue_15 rfl 0 rfl ?_
    obtain ⟨p20, ep20, h⟩ := h
    refine kr_getf O dX5_issue_16 fs_X5_25 ep20 ?_
    refine kr_iconst O dX5_issue_19 (v := (5 : Int32)) (by decide) ?_
    obtain ⟨b21, rfl, h⟩ := h
    obtain ⟨u22, eu22, h⟩ := h
    refine kr_iaload O dX5_issue_20 eu22 ?_
    refine kr_iadd O dX5_issue_21 ?_
    refine kr_iconst O dX5_issue_22 (v := (1 : Int32)) (by decide) ?_
    refine kr_isub O dX5_issue_23 ?_
    refine kr_istore O dX5_issue_24 (Nat.le_of_ble_eq_true rfl) rfl rfl ?_
    refine kr_aload_n O dX5_issue_26 rfl 1 rfl ?_
    obtain ⟨p23, ep23, h⟩ := h
    refine kr_getf O dX5_issue_27 fs_X5_25 ep23 ?_
    refine kr_iload_n O dX5_issue_30 rfl 4 rfl ?_
    refine kr_iconst O dX5_issue_31 (v := (1 : Int32)) (by decide) ?_
    refine kr_caI (rest := [va_rf p23]) O cd_X5_versionAt h (Nat.le_of_ble_eq_true rfl) (fun ls _ => kt_ivS O dX5_issue_32 cd_X5_versionAt in_X5_versionAt q2467 q2468 hy_X5_versionAt) (fun u24 M25 hq => ?_) (fun E q M9 hx => kr_out O hx)
    replace h := hq
    clear hq
    refine kr_aload_n O dX5_issue_35 rfl 1 rfl ?_
    refine kr_iload_n O dX5_issue_36 rfl 4 rfl ?_
    refine kr_iconst O dX5_issue_37 (v := (1 : Int32)) (by decide) ?_
    obtain ⟨hco, h⟩ := h
    refine kr_caI (rest := [.int u24, va_rf p23]) O cd_X5_ofVersion h (Nat.le_of_ble_eq_true rfl) (fun ls _ => kt_ivV (ci := 12) O dX5_issue_38 cd_X5_ofVersion in_X5_ofVersion (Or.inl q2470) q2472 qs39 hco (by decide) hy_X5_ofVersion) (fun u26 M27 hq => ?_) (fun E q M9 hx => kr_out O hx)
    replace h := hq
    clear hq
    refine kr_iload O dX5_issue_41 0 rfl ?_
    refine kr_caI (rest := [.int u24, va_rf p23]) O cd_J7_min h (Nat.le_of_ble_eq_true rfl) (fun ls _ => kt_ivS O dX5_issue_43 cd_J7_min in_J7_min q2474 q419 hy_J7_min) (fun u28 M29 hq => ?_) (fun E q M9 hx => kr_out O hx)
    replace h := hq
    clear hq
    obtain ⟨b30, rfl, h⟩ := h
    obtain ⟨hw, h⟩ := h
    refine kr_iastore O dX5_issue_46 hw (kr_nmM fun M31 hM31 => ?_)
    replace h := h M31 hM31
    refine kr_iinc O dX5_issue_47 4 rfl (v := v3 + (1 : Int32)) rfl (Nat.le_of_ble_eq_true rfl) rfl rfl ?_
    refine kr_goto (tgt := 9) O dX5_issue_50 rfl ?_
    refine kr_sub [2, 3, 4, 0] rfl ?_
    exact hn9 _ _ h
def vl_X5_issue_9 (w : kt_W) (gr : kt_g × kt_M) (d : Nat) (P : Option Value → kt_M → Prop) (X : String → Nat → kt_M → Prop)  (a0 : Nat) (v1 : Int32) (v2 : Int32) (v3 : Int32) (M : kt_M) : Prop :=
  ∃ Inv : Nat → Int32 → kt_M → Prop, (∃ k, Inv k v3 M) ∧ ∀ k v3 M, kt_le gr.1 gr.2 M → Inv k v3 M → vc_X5_issue_9 w gr d P X (fun v3' M' => ∃ k', k' < k ∧ Inv k' v3' M') a0 v1 v2 v3 M
theorem cl_X5_issue_9 {w : kt_W} {x : kt_X} {gr : kt_g × kt_M} {d : Nat} {P : Option Value → kt_M → Prop} {X : String → Nat → kt_M → Prop}  {a0 : Nat} {v1 : Int32} {v2 : Int32} {v3 : Int32} {M : kt_M} (O : kt_O w x gr (d + 1) cX5_issue "KeyTurnsModel" 5 ("issue", "(I)V") (Option.none : Option Jvm.ClassFile.FieldType) [])  (h : vl_X5_issue_9 w gr d P X  a0 v1 v2 v3 M) : kt_S w x 5 (kt_E w x P X) M 9 [(0, va_rf (some a0)), (1, .int v1), (2, .int v2), (3, .int v3)] [] := by
  obtain ⟨Inv, ⟨k, hk⟩, hb⟩ := h
  induction k using Nat.strongRecOn generalizing v3 M with
  | ind k ih =>
    exact kr_le O fun hle => cj_X5_issue_9 O (fun v3' M' hi => let ⟨k', h1, h2⟩ := hi; ih k' h1 h2) (hb k _ _ hle hk)
def vc_X5_issue (w : kt_W) (gr : kt_g × kt_M) (d : Nat) (P : Option Value → kt_M → Prop) (X : String → Nat → kt_M → Prop) (a0 : Nat) (v1 : Int32) (M : kt_M) : Prop :=
  ∃ p1, kt_gf M a0 73 = some (va_rf p1) ∧ ∃ b2, p1 = some b2 ∧ ∃ u3, kt_el 0 M b2 (1 : Int32) = some (.int u3) ∧ vl_X5_issue_9 w gr d P X  a0 v1 u3 (0 : Int32) M
theorem ce_X5_issue {w : kt_W} {g : kt_g} {d : Nat} {P : Option Value → kt_M → Prop} {X : String → Nat → kt_M → Prop} {a0 : Nat} {v1 : Int32} {M : kt_M} (h : vc_X5_issue w (g, M) d P X a0 v1 M) : kt_Sp w g (d + 1) yX5_issue kc_X5_issue [va_rf (some a0), .int v1] M P X := by
  refine kt_of (L0 := [(0, va_rf (some a0)), (1, .int v1)]) (by decide +kernel) (Nat.le_of_ble_eq_true rfl) rfl fun x O => ?_
  replace O : kt_O w x (g, M) (d + 1) cX5_issue "KeyTurnsModel" 5 ("issue", "(I)V") (Option.none : Option Jvm.ClassFile.FieldType) [] := O
  unfold vc_X5_issue at h
  refine kr_aload_n O dX5_issue_0 rfl 0 rfl ?_
  obtain ⟨p1, ep1, h⟩ := h
  refine kr_getf O dX5_issue_1 fs_X5_25 ep1 ?_
  refine kr_iconst O dX5_issue_4 (v := (1 : Int32)) (by decide) ?_
  obtain ⟨b2, rfl, h⟩ := h
  obtain ⟨u3, eu3, h⟩ := h
  refine kr_iaload O dX5_issue_5 eu3 ?_
  refine kr_istore_n O dX5_issue_6 rfl (Nat.le_of_ble_eq_true rfl) rfl rfl ?_
  refine kr_iconst O dX5_issue_7 (v := (0 : Int32)) (by decide) ?_
  refine kr_istore_n O dX5_issue_8 rfl (Nat.le_of_ble_eq_true rfl) rfl rfl ?_
  refine kr_sub [2, 3, 1, 0] rfl ?_
  exact cl_X5_issue_9 O  h
def vc_X5_versionAt (w : kt_W) (gr : kt_g × kt_M) (d : Nat) (P : Option Value → kt_M → Prop) (X : String → Nat → kt_M → Prop) (v0 : Int32) (v1 : Int32) (M : kt_M) : Prop :=
  P (some (.int (((11 : Int32) + ((3 : Int32) * v0)) + v1))) M
theorem ce_X5_versionAt {w : kt_W} {g : kt_g} {d : Nat} {P : Option Value → kt_M → Prop} {X : String → Nat → kt_M → Prop} {v0 : Int32} {v1 : Int32} {M : kt_M} (h : vc_X5_versionAt w (g, M) d P X v0 v1 M) : kt_Sp w g (d + 1) yX5_versionAt kc_X5_versionAt [.int v0, .int v1] M P X := by
  refine kt_of (L0 := [(0, .int v0), (1, .int v1)]) (by decide +kernel) (Nat.le_of_ble_eq_true rfl) rfl fun x O => ?_
  replace O : kt_O w x (g, M) (d + 1) cX5_versionAt "KeyTurnsModel" 2 ("versionAt", "(II)I") (Option.some Jvm.ClassFile.FieldType.int) [] := O
  unfold vc_X5_versionAt at h
  refine kr_bipush O dX5_versionAt_0 (v := (11 : Int32)) (by decide) ?_
  refine kr_iconst O dX5_versionAt_2 (v := (3 : Int32)) (by decide) ?_
  refine kr_iload_n O dX5_versionAt_3 rfl 0 rfl ?_
  refine kr_imul O dX5_versionAt_4 ?_
  refine kr_iadd O dX5_versionAt_5 ?_
  refine kr_iload_n O dX5_versionAt_6 rfl 1 rfl ?_
  refine kr_iadd O dX5_versionAt_7 ?_
  exact kr_iret O dX5_versionAt_8 rfl h
def vc_X5_ofVersion (w : kt_W) (gr : kt_g × kt_M) (d : Nat) (P : Option Value → kt_M → Prop) (X : String → Nat → kt_M → Prop) (a0 : Nat) (v1 : Int32) (v2 : Int32) (M : kt_M) : Prop :=
  ∃ p1, kt_gf M a0 73 = some (va_rf p1) ∧ 
  kt_Ca w gr d yX5_versionAt kc_X5_versionAt [.int v1, .int v2] M (kt_pI fun u2 M3 => ∃ b4, p1 = some b4 ∧ ∃ u5, kt_el 0 M3 b4 u2 = some (.int u5) ∧ P (some (.int u5)) M3) X
theorem ce_X5_ofVersion {w : kt_W} {g : kt_g} {d : Nat} {P : Option Value → kt_M → Prop} {X : String → Nat → kt_M → Prop} {a0 : Nat} {v1 : Int32} {v2 : Int32} {M : kt_M} (h : vc_X5_ofVersion w (g, M) d P X a0 v1 v2 M) : kt_Sp w g (d + 1) yX5_ofVersion kc_X5_ofVersion [va_rf (some a0), .int v1, .int v2] M P X := by
  refine kt_of (L0 := [(0, va_rf (some a0)), (1, .int v1), (2, .int v2)]) (by decide +kernel) (Nat.le_of_ble_eq_true rfl) rfl fun x O => ?_
  replace O : kt_O w x (g, M) (d + 1) cX5_ofVersion "KeyTurnsModel" 3 ("ofVersion", "(II)I") (Option.some Jvm.ClassFile.FieldType.int) [] := O
  unfold vc_X5_ofVersion at h
  refine kr_aload_n O dX5_ofVersion_0 rfl 0 rfl ?_
  obtain ⟨p1, ep1, h⟩ := h
  refine kr_getf O dX5_ofVersion_1 fs_X5_25 ep1 ?_
  refine kr_iload_n O dX5_ofVersion_4 rfl 1 rfl ?_
  refine kr_iload_n O dX5_ofVersion_5 rfl 2 rfl ?_
  refine kr_caI (rest := [va_rf p1]) O cd_X5_versionAt h (Nat.le_of_ble_eq_true rfl) (fun ls _ => kt_ivS O dX5_ofVersion_6 cd_X5_versionAt in_X5_versionAt q2467 q2468 hy_X5_versionAt) (fun u2 M3 hq => ?_) (fun E q M9 hx => kr_out O hx)
  replace h := hq
  clear hq
  obtain ⟨b4, rfl, h⟩ := h
  obtain ⟨u5, eu5, h⟩ := h
  refine kr_iaload O dX5_ofVersion_9 eu5 ?_
  exact kr_iret O dX5_ofVersion_10 rfl h
def vc_X5_thrown (w : kt_W) (gr : kt_g × kt_M) (d : Nat) (P : Option Value → kt_M → Prop) (X : String → Nat → kt_M → Prop) (a0 : Nat) (M : kt_M) : Prop :=
  ∃ u1, kt_gf M a0 71 = some (.int u1) ∧ P (some (.int u1)) M
theorem ce_X5_thrown {w : kt_W} {g : kt_g} {d : Nat} {P : Option Value → kt_M → Prop} {X : String → Nat → kt_M → Prop} {a0 : Nat} {M : kt_M} (h : vc_X5_thrown w (g, M) d P X a0 M) : kt_Sp w g (d + 1) yX5_thrown kc_X5_thrown [va_rf (some a0)] M P X := by
  refine kt_of (L0 := [(0, va_rf (some a0))]) (by decide +kernel) (Nat.le_of_ble_eq_true rfl) rfl fun x O => ?_
  replace O : kt_O w x (g, M) (d + 1) cX5_thrown "KeyTurnsModel" 1 ("thrown", "()I") (Option.some Jvm.ClassFile.FieldType.int) [] := O
  unfold vc_X5_thrown at h
  refine kr_aload_n O dX5_thrown_0 rfl 0 rfl ?_
  obtain ⟨u1, eu1, h⟩ := h
  refine kr_getf O dX5_thrown_1 fs_X5_71 eu1 ?_
  exact kr_iret O dX5_thrown_4 rfl h
def vc_X5_size_76 (w : kt_W) (gr : kt_g × kt_M) (d : Nat) (P : Option Value → kt_M → Prop) (X : String → Nat → kt_M → Prop)  (a0 : Nat) (v1 : Int32) (M : kt_M) : Prop :=
  ∃ p1, kt_gf M a0 65 = some (va_rf p1) ∧ ∃ b2, p1 = some b2 ∧ ∃ u3, kt_el 0 M b2 v1 = some (.int u3) ∧ P (some (.int u3)) M
theorem cj_X5_size_76 {w : kt_W} {x : kt_X} {gr : kt_g × kt_M} {d : Nat} {P : Option Value → kt_M → Prop} {X : String → Nat → kt_M → Prop}  {a0 : Nat} {v1 : Int32} {M : kt_M} (O : kt_O w x gr (d + 1) cX5_size "KeyTurnsModel" 2 ("size", "(I)I") (Option.some Jvm.ClassFile.FieldType.int) [])  (h : vc_X5_size_76 w gr d P X  a0 v1 M) : kt_S w x 2 (kt_E w x P X) M 76 [(0, va_rf (some a0)), (1, .int v1)] [] := by
  unfold vc_X5_size_76 at h
  refine kr_aload_n O dX5_size_76 rfl 0 rfl ?_
  obtain ⟨p1, ep1, h⟩ := h
  refine kr_getf O dX5_size_77 fs_X5_9 ep1 ?_
  refine kr_iload_n O dX5_size_80 rfl 1 rfl ?_
  obtain ⟨b2, rfl, h⟩ := h
  obtain ⟨u3, eu3, h⟩ := h
  refine kr_iaload O dX5_size_81 eu3 ?_
  exact kr_iret O dX5_size_82 rfl h
def vc_X5_size (w : kt_W) (gr : kt_g × kt_M) (d : Nat) (P : Option Value → kt_M → Prop) (X : String → Nat → kt_M → Prop) (a0 : Nat) (v1 : Int32) (M : kt_M) : Prop :=
  kt_hf gr M a0 71 ∧ ∀ M1, M1 = kt_pf M a0 71 (.int (0 : Int32)) → 
    ((v1.toInt < 0 ∨ 13 < v1.toInt → (kt_co M1 a0 = some 12) ∧ 
    kt_Ca w gr d yX5_raise kc_X5_raise [va_rf (some a0), .int (1 : Int32)] M1 (kt_pI fun u2 M3 => P (some (.int u2)) M3) X) ∧
    (v1.toInt = 0 → vc_X5_size_76 w gr d P X  a0 v1 M1) ∧
    (v1.toInt = 1 → vc_X5_size_76 w gr d P X  a0 v1 M1) ∧
    (v1.toInt = 2 → (kt_co M1 a0 = some 12) ∧ 
    kt_Ca w gr d yX5_present kc_X5_present [va_rf (some a0)] M1 (kt_pI fun u4 M5 => P (some (.int u4)) M5) X) ∧
    (v1.toInt = 3 → vc_X5_size_76 w gr d P X  a0 v1 M1) ∧
    (v1.toInt = 4 → vc_X5_size_76 w gr d P X  a0 v1 M1) ∧
    (v1.toInt = 5 → vc_X5_size_76 w gr d P X  a0 v1 M1) ∧
    (v1.toInt = 6 → vc_X5_size_76 w gr d P X  a0 v1 M1) ∧
    (v1.toInt = 7 → vc_X5_size_76 w gr d P X  a0 v1 M1) ∧
    (v1.toInt = 8 → (kt_co M1 a0 = some 12) ∧ 
    kt_Ca w gr d yX5_writing kc_X5_writing [va_rf (some a0)] M1 (kt_pI fun u6 M7 => P (some (.int u6)) M7) X) ∧
    (v1.toInt = 9 → (kt_co M1 a0 = some 12) ∧ 
    kt_Ca w gr d yX5_inForce kc_X5_inForce [va_rf (some a0)] M1 (kt_pI fun u8 M9 => P (some (.int u8)) M9) X) ∧
    (v1.toInt = 10 → (kt_co M1 a0 = some 12) ∧ 
    kt_Ca w gr d yX5_allWraps kc_X5_allWraps [va_rf (some a0)] M1 (kt_pI fun u10 M11 => P (some (.int u10)) M11) X) ∧
    (v1.toInt = 11 → ∃ p12, kt_gf M1 a0 65 = some (va_rf p12) ∧ ∃ b13, p12 = some b13 ∧ ∃ u14, kt_el 0 M1 b13 (8 : Int32) = some (.int u14) ∧ P (some (.int u14)) M1) ∧
    (v1.toInt = 12 → ∃ p15, kt_gf M1 a0 65 = some (va_rf p15) ∧ ∃ b16, p15 = some b16 ∧ ∃ u17, kt_el 0 M1 b16 (9 : Int32) = some (.int u17) ∧ P (some (.int u17)) M1) ∧
    (v1.toInt = 13 → ∃ p18, kt_gf M1 a0 65 = some (va_rf p18) ∧ ∃ b19, p18 = some b19 ∧ ∃ u20, kt_el 0 M1 b19 (2 : Int32) = some (.int u20) ∧ P (some (.int u20)) M1))
theorem ce_X5_size {w : kt_W} {g : kt_g} {d : Nat} {P : Option Value → kt_M → Prop} {X : String → Nat → kt_M → Prop} {a0 : Nat} {v1 : Int32} {M : kt_M} (h : vc_X5_size w (g, M) d P X a0 v1 M) : kt_Sp w g (d + 1) yX5_size kc_X5_size [va_rf (some a0), .int v1] M P X := by
  refine kt_of (L0 := [(0, va_rf (some a0)), (1, .int v1)]) (by decide +kernel) (Nat.le_of_ble_eq_true rfl) rfl fun x O => ?_
  replace O : kt_O w x (g, M) (d + 1) cX5_size "KeyTurnsModel" 2 ("size", "(I)I") (Option.some Jvm.ClassFile.FieldType.int) [] := O
  unfold vc_X5_size at h
  refine kr_aload_n O dX5_size_0 rfl 0 rfl ?_
  refine kr_iconst O dX5_size_1 (v := (0 : Int32)) (by decide) ?_
  obtain ⟨hw, h⟩ := h
  refine kr_putf O dX5_size_2 fs_X5_71 (Or.inl rfl) ⟨rfl, rfl⟩ hw (kr_nmM fun M1 hM1 => ?_)
  replace h := h M1 hM1
  refine kr_iload_n O dX5_size_5 rfl 1 rfl ?_
  by_cases hs : v1.toInt < 0 ∨ 13 < v1.toInt
  · refine kr_tableOut (tgt := 126) O dX5_size_6 hs rfl ?_
    replace h := h.1 hs
    refine kr_aload_n O dX5_size_126 rfl 0 rfl ?_
    refine kr_iconst O dX5_size_127 (v := (1 : Int32)) (by decide) ?_
    obtain ⟨hco, h⟩ := h
    refine kr_caI (rest := []) O cd_X5_raise h (Nat.le_of_ble_eq_true rfl) (fun ls _ => kt_ivV (ci := 12) O dX5_size_128 cd_X5_raise in_X5_raise (Or.inl q2606) q2608 qs50 hco (by decide) hy_X5_raise) (fun u2 M3 hq => ?_) (fun E q M9 hx => kr_out O hx)
    replace h := hq
    clear hq
    exact kr_iret O dX5_size_131 rfl h
  replace h := h.2
  have hs2 : v1.toInt = 0 ∨ v1.toInt = 1 ∨ v1.toInt = 2 ∨ v1.toInt = 3 ∨ v1.toInt = 4 ∨ v1.toInt = 5 ∨ v1.toInt = 6 ∨ v1.toInt = 7 ∨ v1.toInt = 8 ∨ v1.toInt = 9 ∨ v1.toInt = 10 ∨ v1.toInt = 11 ∨ v1.toInt = 12 ∨ v1.toInt = 13 := by omega
  rcases hs2 with hs2 | hs2 | hs2 | hs2 | hs2 | hs2 | hs2 | hs2 | hs2 | hs2 | hs2 | hs2 | hs2 | hs2
  · refine kr_tableIn (tgt := 76) O dX5_size_6 (0) hs2 (by decide) (by decide) rfl rfl ?_
    replace h := h.1 hs2
    exact cj_X5_size_76 O  h
  · refine kr_tableIn (tgt := 76) O dX5_size_6 (1) hs2 (by decide) (by decide) rfl rfl ?_
    replace h := h.2.1 hs2
    exact cj_X5_size_76 O  h
  · refine kr_tableIn (tgt := 83) O dX5_size_6 (2) hs2 (by decide) (by decide) rfl rfl ?_
    replace h := h.2.2.1 hs2
    refine kr_aload_n O dX5_size_83 rfl 0 rfl ?_
    obtain ⟨hco, h⟩ := h
    refine kr_caI (rest := []) O cd_X5_present h (Nat.le_of_ble_eq_true rfl) (fun ls _ => kt_ivV (ci := 12) O dX5_size_84 cd_X5_present in_X5_present (Or.inl q2559) q2561 qs40 hco (by decide) hy_X5_present) (fun u4 M5 hq => ?_) (fun E q M9 hx => kr_out O hx)
    replace h := hq
    clear hq
    exact kr_iret O dX5_size_87 rfl h
  · refine kr_tableIn (tgt := 76) O dX5_size_6 (3) hs2 (by decide) (by decide) rfl rfl ?_
    replace h := h.2.2.2.1 hs2
    exact cj_X5_size_76 O  h
  · refine kr_tableIn (tgt := 76) O dX5_size_6 (4) hs2 (by decide) (by decide) rfl rfl ?_
    replace h := h.2.2.2.2.1 hs2
    exact cj_X5_size_76 O  h
  · refine kr_tableIn (tgt := 76) O dX5_size_6 (5) hs2 (by decide) (by decide) rfl rfl ?_
    replace h := h.2.2.2.2.2.1 hs2
    exact cj_X5_size_76 O  h
  · refine kr_tableIn (tgt := 76) O dX5_size_6 (6) hs2 (by decide) (by decide) rfl rfl ?_
    replace h := h.2.2.2.2.2.2.1 hs2
    exact cj_X5_size_76 O  h
  · refine kr_tableIn (tgt := 76) O dX5_size_6 (7) hs2 (by decide) (by decide) rfl rfl ?_
    replace h := h.2.2.2.2.2.2.2.1 hs2
    exact cj_X5_size_76 O  h
  · refine kr_tableIn (tgt := 88) O dX5_size_6 (8) hs2 (by decide) (by decide) rfl rfl ?_
    replace h := h.2.2.2.2.2.2.2.2.1 hs2
    refine kr_aload_n O dX5_size_88 rfl 0 rfl ?_
    obtain ⟨hco, h⟩ := h
    refine kr_caI (rest := []) O cd_X5_writing h (Nat.le_of_ble_eq_true rfl) (fun ls _ => kt_ivV (ci := 12) O dX5_size_89 cd_X5_writing in_X5_writing (Or.inl q2570) q2572 qs42 hco (by decide) hy_X5_writing) (fun u6 M7 hq => ?_) (fun E q M9 hx => kr_out O hx)
    replace h := hq
    clear hq
    exact kr_iret O dX5_size_92 rfl h
  · refine kr_tableIn (tgt := 93) O dX5_size_6 (9) hs2 (by decide) (by decide) rfl rfl ?_
    replace h := h.2.2.2.2.2.2.2.2.2.1 hs2
    refine kr_aload_n O dX5_size_93 rfl 0 rfl ?_
    obtain ⟨hco, h⟩ := h
    refine kr_caI (rest := []) O cd_X5_inForce h (Nat.le_of_ble_eq_true rfl) (fun ls _ => kt_ivV (ci := 12) O dX5_size_94 cd_X5_inForce in_X5_inForce (Or.inl q2589) q2591 qs46 hco (by decide) hy_X5_inForce) (fun u8 M9 hq => ?_) (fun E q M9 hx => kr_out O hx)
    replace h := hq
    clear hq
    exact kr_iret O dX5_size_97 rfl h
  · refine kr_tableIn (tgt := 98) O dX5_size_6 (10) hs2 (by decide) (by decide) rfl rfl ?_
    replace h := h.2.2.2.2.2.2.2.2.2.2.1 hs2
    refine kr_aload_n O dX5_size_98 rfl 0 rfl ?_
    obtain ⟨hco, h⟩ := h
    refine kr_caI (rest := []) O cd_X5_allWraps h (Nat.le_of_ble_eq_true rfl) (fun ls _ => kt_ivV (ci := 12) O dX5_size_99 cd_X5_allWraps in_X5_allWraps (Or.inl q2593) q2595 qs47 hco (by decide) hy_X5_allWraps) (fun u10 M11 hq => ?_) (fun E q M9 hx => kr_out O hx)
    replace h := hq
    clear hq
    exact kr_iret O dX5_size_102 rfl h
  · refine kr_tableIn (tgt := 103) O dX5_size_6 (11) hs2 (by decide) (by decide) rfl rfl ?_
    replace h := h.2.2.2.2.2.2.2.2.2.2.2.1 hs2
    refine kr_aload_n O dX5_size_103 rfl 0 rfl ?_
    obtain ⟨p12, ep12, h⟩ := h
    refine kr_getf O dX5_size_104 fs_X5_9 ep12 ?_
    refine kr_bipush O dX5_size_107 (v := (8 : Int32)) (by decide) ?_
    obtain ⟨b13, rfl, h⟩ := h
    obtain ⟨u14, eu14, h⟩ := h
    refine kr_iaload O dX5_size_109 eu14 ?_
    exact kr_iret O dX5_size_110 rfl h
  · refine kr_tableIn (tgt := 111) O dX5_size_6 (12) hs2 (by decide) (by decide) rfl rfl ?_
    replace h := h.2.2.2.2.2.2.2.2.2.2.2.2.1 hs2
    refine kr_aload_n O dX5_size_111 rfl 0 rfl ?_
    obtain ⟨p15, ep15, h⟩ := h
    refine kr_getf O dX5_size_112 fs_X5_9 ep15 ?_
    refine kr_bipush O dX5_size_115 (v := (9 : Int32)) (by decide) ?_
    obtain ⟨b16, rfl, h⟩ := h
    obtain ⟨u17, eu17, h⟩ := h
    refine kr_iaload O dX5_size_117 eu17 ?_
    exact kr_iret O dX5_size_118 rfl h
  · refine kr_tableIn (tgt := 119) O dX5_size_6 (13) hs2 (by decide) (by decide) rfl rfl ?_
    replace h := h.2.2.2.2.2.2.2.2.2.2.2.2.2 hs2
    refine kr_aload_n O dX5_size_119 rfl 0 rfl ?_
    obtain ⟨p18, ep18, h⟩ := h
    refine kr_getf O dX5_size_120 fs_X5_9 ep18 ?_
    refine kr_iconst O dX5_size_123 (v := (2 : Int32)) (by decide) ?_
    obtain ⟨b19, rfl, h⟩ := h
    obtain ⟨u20, eu20, h⟩ := h
    refine kr_iaload O dX5_size_124 eu20 ?_
    exact kr_iret O dX5_size_125 rfl h
def vc_X5_present_4 (w : kt_W) (gr : kt_g × kt_M) (d : Nat) (P : Option Value → kt_M → Prop) (X : String → Nat → kt_M → Prop) (nx4 : Int32 → Int32 → kt_M → Prop) (a0 : Nat) (v1 : Int32) (v2 : Int32) (M : kt_M) : Prop :=
  ∃ p1, kt_gf M a0 73 = some (va_rf p1) ∧ ∃ b2, p1 = some b2 ∧ ∃ u3, kt_el 0 M b2 (2 : Int32) = some (.int u3) ∧ 
    ((u3 ≤ v2 → P (some (.int v1)) M) ∧
    (¬ u3 ≤ v2 → (kt_co M a0 = some 12) ∧ 
    kt_Ca w gr d yX5_ofRecord kc_X5_ofRecord [va_rf (some a0), .int v2, .int (3 : Int32)] M (kt_pI fun u4 M5 => nx4 (v1 + ((1 : Int32) - u4)) (v2 + (1 : Int32)) M5) X))
theorem cj_X5_present_4 {w : kt_W} {x : kt_X} {gr : kt_g × kt_M} {d : Nat} {P : Option Value → kt_M → Prop} {X : String → Nat → kt_M → Prop} {nx4 : Int32 → Int32 → kt_M → Prop} {a0 : Nat} {v1 : Int32} {v2 : Int32} {M : kt_M} (O : kt_O w x gr (d + 1) cX5_present "KeyTurnsModel" 3 ("present", "()I") (Option.some Jvm.ClassFile.FieldType.int) []) (hn4 : ∀ v1 v2 M, nx4 v1 v2 M → kt_S w x 3 (kt_E w x P X) M 4 [(0, va_rf (some a0)), (1, .int v1), (2, .int v2)] []) (h : vc_X5_present_4 w gr d P X nx4 a0 v1 v2 M) : kt_S w x 3 (kt_E w x P X) M 4 [(0, va_rf (some a0)), (1, .int v1), (2, .int v2)] [] := by
  unfold vc_X5_present_4 at h
  refine kr_iload_n O dX5_present_4 rfl 2 rfl ?_
  refine kr_aload_n O dX5_present_5 rfl 0 rfl ?_
  obtain ⟨p1, ep1, h⟩ := h
  refine kr_getf O dX5_present_6 fs_X5_25 ep1 ?_
  refine kr_iconst O dX5_present_9 (v := (2 : Int32)) (by decide) ?_
  obtain ⟨b2, rfl, h⟩ := h
  obtain ⟨u3, eu3, h⟩ := h
  refine kr_iaload O dX5_present_10 eu3 ?_
  refine kr_icmp_ge (tgt := 31) O dX5_present_11 rfl (fun hc => ?_) (fun hc => ?_)
  · replace h := h.1 hc
    refine kr_iload_n O dX5_present_31 rfl 1 rfl ?_
    exact kr_iret O dX5_present_32 rfl h
  · replace h := h.2 hc
    refine kr_iload_n O dX5_present_14 rfl 1 rfl ?_
    refine kr_iconst O dX5_present_15 (v := (1 : Int32)) (by decide) ?_
    refine kr_aload_n O dX5_present_16 rfl 0 rfl ?_
    refine kr_iload_n O dX5_present_17 rfl 2 rfl ?_
    refine kr_iconst O dX5_present_18 (v := (3 : Int32)) (by decide) ?_
    obtain ⟨hco, h⟩ := h
    refine kr_caI (rest := [.int (1 : Int32), .int v1]) O cd_X5_ofRecord h (Nat.le_of_ble_eq_true rfl) (fun ls _ => kt_ivV (ci := 12) O dX5_present_19 cd_X5_ofRecord in_X5_ofRecord (Or.inl q2563) q2565 qs41 hco (by decide) hy_X5_ofRecord) (fun u4 M5 hq => ?_) (fun E q M9 hx => kr_out O hx)
    replace h := hq
    clear hq
    refine kr_isub O dX5_present_22 ?_
    refine kr_iadd O dX5_present_23 ?_
    refine kr_istore_n O dX5_present_24 rfl (Nat.le_of_ble_eq_true rfl) rfl rfl ?_
    refine kr_iinc O dX5_present_25 2 rfl (v := v2 + (1 : Int32)) rfl (Nat.le_of_ble_eq_true rfl) rfl rfl ?_
    refine kr_goto (tgt := 4) O dX5_present_28 rfl ?_
    refine kr_sub [2, 1, 0] rfl ?_
    exact hn4 _ _ _ h
def vl_X5_present_4 (w : kt_W) (gr : kt_g × kt_M) (d : Nat) (P : Option Value → kt_M → Prop) (X : String → Nat → kt_M → Prop)  (a0 : Nat) (v1 : Int32) (v2 : Int32) (M : kt_M) : Prop :=
  ∃ Inv : Nat → Int32 → Int32 → kt_M → Prop, (∃ k, Inv k v1 v2 M) ∧ ∀ k v1 v2 M, kt_le gr.1 gr.2 M → Inv k v1 v2 M → vc_X5_present_4 w gr d P X (fun v1' v2' M' => ∃ k', k' < k ∧ Inv k' v1' v2' M') a0 v1 v2 M
theorem cl_X5_present_4 {w : kt_W} {x : kt_X} {gr : kt_g × kt_M} {d : Nat} {P : Option Value → kt_M → Prop} {X : String → Nat → kt_M → Prop}  {a0 : Nat} {v1 : Int32} {v2 : Int32} {M : kt_M} (O : kt_O w x gr (d + 1) cX5_present "KeyTurnsModel" 3 ("present", "()I") (Option.some Jvm.ClassFile.FieldType.int) [])  (h : vl_X5_present_4 w gr d P X  a0 v1 v2 M) : kt_S w x 3 (kt_E w x P X) M 4 [(0, va_rf (some a0)), (1, .int v1), (2, .int v2)] [] := by
  obtain ⟨Inv, ⟨k, hk⟩, hb⟩ := h
  induction k using Nat.strongRecOn generalizing v1 v2 M with
  | ind k ih =>
    exact kr_le O fun hle => cj_X5_present_4 O (fun v1' v2' M' hi => let ⟨k', h1, h2⟩ := hi; ih k' h1 h2) (hb k _ _ _ hle hk)
def vc_X5_present (w : kt_W) (gr : kt_g × kt_M) (d : Nat) (P : Option Value → kt_M → Prop) (X : String → Nat → kt_M → Prop) (a0 : Nat) (M : kt_M) : Prop :=
  vl_X5_present_4 w gr d P X  a0 (0 : Int32) (0 : Int32) M
theorem ce_X5_present {w : kt_W} {g : kt_g} {d : Nat} {P : Option Value → kt_M → Prop} {X : String → Nat → kt_M → Prop} {a0 : Nat} {M : kt_M} (h : vc_X5_present w (g, M) d P X a0 M) : kt_Sp w g (d + 1) yX5_present kc_X5_present [va_rf (some a0)] M P X := by
  refine kt_of (L0 := [(0, va_rf (some a0))]) (by decide +kernel) (Nat.le_of_ble_eq_true rfl) rfl fun x O => ?_
  replace O : kt_O w x (g, M) (d + 1) cX5_present "KeyTurnsModel" 3 ("present", "()I") (Option.some Jvm.ClassFile.FieldType.int) [] := O
  unfold vc_X5_present at h
  refine kr_iconst O dX5_present_0 (v := (0 : Int32)) (by decide) ?_
  refine kr_istore_n O dX5_present_1 rfl (Nat.le_of_ble_eq_true rfl) rfl rfl ?_
  refine kr_iconst O dX5_present_2 (v := (0 : Int32)) (by decide) ?_
  refine kr_istore_n O dX5_present_3 rfl (Nat.le_of_ble_eq_true rfl) rfl rfl ?_
  refine kr_sub [2, 1, 0] rfl ?_
  exact cl_X5_present_4 O  h
def vc_X5_ofRecord (w : kt_W) (gr : kt_g × kt_M) (d : Nat) (P : Option Value → kt_M → Prop) (X : String → Nat → kt_M → Prop) (a0 : Nat) (v1 : Int32) (v2 : Int32) (M : kt_M) : Prop :=
  ∃ p1, kt_gf M a0 73 = some (va_rf p1) ∧ 
  kt_Ca w gr d yX5_recordAt kc_X5_recordAt [.int v1, .int v2] M (kt_pI fun u2 M3 => ∃ b4, p1 = some b4 ∧ ∃ u5, kt_el 0 M3 b4 u2 = some (.int u5) ∧ P (some (.int u5)) M3) X
theorem ce_X5_ofRecord {w : kt_W} {g : kt_g} {d : Nat} {P : Option Value → kt_M → Prop} {X : String → Nat → kt_M → Prop} {a0 : Nat} {v1 : Int32} {v2 : Int32} {M : kt_M} (h : vc_X5_ofRecord w (g, M) d P X a0 v1 v2 M) : kt_Sp w g (d + 1) yX5_ofRecord kc_X5_ofRecord [va_rf (some a0), .int v1, .int v2] M P X := by
  refine kt_of (L0 := [(0, va_rf (some a0)), (1, .int v1), (2, .int v2)]) (by decide +kernel) (Nat.le_of_ble_eq_true rfl) rfl fun x O => ?_
  replace O : kt_O w x (g, M) (d + 1) cX5_ofRecord "KeyTurnsModel" 3 ("ofRecord", "(II)I") (Option.some Jvm.ClassFile.FieldType.int) [] := O
  unfold vc_X5_ofRecord at h
  refine kr_aload_n O dX5_ofRecord_0 rfl 0 rfl ?_
  obtain ⟨p1, ep1, h⟩ := h
  refine kr_getf O dX5_ofRecord_1 fs_X5_25 ep1 ?_
  refine kr_iload_n O dX5_ofRecord_4 rfl 1 rfl ?_
  refine kr_iload_n O dX5_ofRecord_5 rfl 2 rfl ?_
  refine kr_caI (rest := [va_rf p1]) O cd_X5_recordAt h (Nat.le_of_ble_eq_true rfl) (fun ls _ => kt_ivS O dX5_ofRecord_6 cd_X5_recordAt in_X5_recordAt q2567 q2568 hy_X5_recordAt) (fun u2 M3 hq => ?_) (fun E q M9 hx => kr_out O hx)
  replace h := hq
  clear hq
  obtain ⟨b4, rfl, h⟩ := h
  obtain ⟨u5, eu5, h⟩ := h
  refine kr_iaload O dX5_ofRecord_9 eu5 ?_
  exact kr_iret O dX5_ofRecord_10 rfl h
def vc_X5_recordAt (w : kt_W) (gr : kt_g × kt_M) (d : Nat) (P : Option Value → kt_M → Prop) (X : String → Nat → kt_M → Prop) (v0 : Int32) (v1 : Int32) (M : kt_M) : Prop :=
  P (some (.int (((101 : Int32) + ((4 : Int32) * v0)) + v1))) M
theorem ce_X5_recordAt {w : kt_W} {g : kt_g} {d : Nat} {P : Option Value → kt_M → Prop} {X : String → Nat → kt_M → Prop} {v0 : Int32} {v1 : Int32} {M : kt_M} (h : vc_X5_recordAt w (g, M) d P X v0 v1 M) : kt_Sp w g (d + 1) yX5_recordAt kc_X5_recordAt [.int v0, .int v1] M P X := by
  refine kt_of (L0 := [(0, .int v0), (1, .int v1)]) (by decide +kernel) (Nat.le_of_ble_eq_true rfl) rfl fun x O => ?_
  replace O : kt_O w x (g, M) (d + 1) cX5_recordAt "KeyTurnsModel" 2 ("recordAt", "(II)I") (Option.some Jvm.ClassFile.FieldType.int) [] := O
  unfold vc_X5_recordAt at h
  refine kr_bipush O dX5_recordAt_0 (v := (101 : Int32)) (by decide) ?_
  refine kr_iconst O dX5_recordAt_2 (v := (4 : Int32)) (by decide) ?_
  refine kr_iload_n O dX5_recordAt_3 rfl 0 rfl ?_
  refine kr_imul O dX5_recordAt_4 ?_
  refine kr_iadd O dX5_recordAt_5 ?_
  refine kr_iload_n O dX5_recordAt_6 rfl 1 rfl ?_
  refine kr_iadd O dX5_recordAt_7 ?_
  exact kr_iret O dX5_recordAt_8 rfl h
def vc_X5_writing_4 (w : kt_W) (gr : kt_g × kt_M) (d : Nat) (P : Option Value → kt_M → Prop) (X : String → Nat → kt_M → Prop) (nx4 : Int32 → Int32 → kt_M → Prop) (a0 : Nat) (v1 : Int32) (v2 : Int32) (M : kt_M) : Prop :=
  ∃ p1, kt_gf M a0 73 = some (va_rf p1) ∧ ∃ b2, p1 = some b2 ∧ ∃ u3, kt_el 0 M b2 (1 : Int32) = some (.int u3) ∧ 
    ((u3 ≤ v2 → P (some (.int v1)) M) ∧
    (¬ u3 ≤ v2 → (kt_co M a0 = some 12) ∧ 
    kt_Ca w gr d yX5_isForced kc_X5_isForced [va_rf (some a0), .int v2] M (kt_pI fun u4 M5 => 
      ((u4 = 0 → nx4 v1 (v2 + (1 : Int32)) M5) ∧
      (¬ u4 = 0 → nx4 v2 (v2 + (1 : Int32)) M5))) X))
theorem cj_X5_writing_4 {w : kt_W} {x : kt_X} {gr : kt_g × kt_M} {d : Nat} {P : Option Value → kt_M → Prop} {X : String → Nat → kt_M → Prop} {nx4 : Int32 → Int32 → kt_M → Prop} {a0 : Nat} {v1 : Int32} {v2 : Int32} {M : kt_M} (O : kt_O w x gr (d + 1) cX5_writing "KeyTurnsModel" 3 ("writing", "()I") (Option.some Jvm.ClassFile.FieldType.int) []) (hn4 : ∀ v1 v2 M, nx4 v1 v2 M → kt_S w x 3 (kt_E w x P X) M 4 [(0, va_rf (some a0)), (1, .int v1), (2, .int v2)] []) (h : vc_X5_writing_4 w gr d P X nx4 a0 v1 v2 M) : kt_S w x 3 (kt_E w x P X) M 4 [(0, va_rf (some a0)), (1, .int v1), (2, .int v2)] [] := by
  unfold vc_X5_writing_4 at h
  refine kr_iload_n O dX5_writing_4 rfl 2 rfl ?_
  refine kr_aload_n O dX5_writing_5 rfl 0 rfl ?_
  obtain ⟨p1, ep1, h⟩ := h
  refine kr_getf O dX5_writing_6 fs_X5_25 ep1 ?_
  refine kr_iconst O dX5_writing_9 (v := (1 : Int32)) (by decide) ?_
  obtain ⟨b2, rfl, h⟩ := h
  obtain ⟨u3, eu3, h⟩ := h
  refine kr_iaload O dX5_writing_10 eu3 ?_
  refine kr_icmp_ge (tgt := 34) O dX5_writing_11 rfl (fun hc => ?_) (fun hc => ?_)
  · replace h := h.1 hc
    refine kr_iload_n O dX5_writing_34 rfl 1 rfl ?_
    exact kr_iret O dX5_writing_35 rfl h
  · replace h := h.2 hc
    refine kr_aload_n O dX5_writing_14 rfl 0 rfl ?_
    refine kr_iload_n O dX5_writing_15 rfl 2 rfl ?_
    obtain ⟨hco, h⟩ := h
    refine kr_caI (rest := []) O cd_X5_isForced h (Nat.le_of_ble_eq_true rfl) (fun ls _ => kt_ivV (ci := 12) O dX5_writing_16 cd_X5_isForced in_X5_isForced (Or.inl q2574) q2576 qs43 hco (by decide) hy_X5_isForced) (fun u4 M5 hq => ?_) (fun E q M9 hx => kr_out O hx)
    replace h := hq
    clear hq
    refine kr_if_eq (tgt := 26) O dX5_writing_19 rfl (fun hc => ?_) (fun hc => ?_)
    · replace h := h.1 hc
      refine kr_iload_n O dX5_writing_26 rfl 1 rfl ?_
      refine kr_istore_n O dX5_writing_27 rfl (Nat.le_of_ble_eq_true rfl) rfl rfl ?_
      refine kr_iinc O dX5_writing_28 2 rfl (v := v2 + (1 : Int32)) rfl (Nat.le_of_ble_eq_true rfl) rfl rfl ?_
      refine kr_goto (tgt := 4) O dX5_writing_31 rfl ?_
      refine kr_sub [2, 1, 0] rfl ?_
      exact hn4 _ _ _ h
    · replace h := h.2 hc
      refine kr_iload_n O dX5_writing_22 rfl 2 rfl ?_
      refine kr_goto (tgt := 27) O dX5_writing_23 rfl ?_
      refine kr_istore_n O dX5_writing_27 rfl (Nat.le_of_ble_eq_true rfl) rfl rfl ?_
      refine kr_iinc O dX5_writing_28 2 rfl (v := v2 + (1 : Int32)) rfl (Nat.le_of_ble_eq_true rfl) rfl rfl ?_
      refine kr_goto (tgt := 4) O dX5_writing_31 rfl ?_
      refine kr_sub [2, 1, 0] rfl ?_
      exact hn4 _ _ _ h
def vl_X5_writing_4 (w : kt_W) (gr : kt_g × kt_M) (d : Nat) (P : Option Value → kt_M → Prop) (X : String → Nat → kt_M → Prop)  (a0 : Nat) (v1 : Int32) (v2 : Int32) (M : kt_M) : Prop :=
  ∃ Inv : Nat → Int32 → Int32 → kt_M → Prop, (∃ k, Inv k v1 v2 M) ∧ ∀ k v1 v2 M, kt_le gr.1 gr.2 M → Inv k v1 v2 M → vc_X5_writing_4 w gr d P X (fun v1' v2' M' => ∃ k', k' < k ∧ Inv k' v1' v2' M') a0 v1 v2 M
theorem cl_X5_writing_4 {w : kt_W} {x : kt_X} {gr : kt_g × kt_M} {d : Nat} {P : Option Value → kt_M → Prop} {X : String → Nat → kt_M → Prop}  {a0 : Nat} {v1 : Int32} {v2 : Int32} {M : kt_M} (O : kt_O w x gr (d + 1) cX5_writing "KeyTurnsModel" 3 ("writing", "()I") (Option.some Jvm.ClassFile.FieldType.int) [])  (h : vl_X5_writing_4 w gr d P X  a0 v1 v2 M) : kt_S w x 3 (kt_E w x P X) M 4 [(0, va_rf (some a0)), (1, .int v1), (2, .int v2)] [] := by
  obtain ⟨Inv, ⟨k, hk⟩, hb⟩ := h
  induction k using Nat.strongRecOn generalizing v1 v2 M with
  | ind k ih =>
    exact kr_le O fun hle => cj_X5_writing_4 O (fun v1' v2' M' hi => let ⟨k', h1, h2⟩ := hi; ih k' h1 h2) (hb k _ _ _ hle hk)
def vc_X5_writing (w : kt_W) (gr : kt_g × kt_M) (d : Nat) (P : Option Value → kt_M → Prop) (X : String → Nat → kt_M → Prop) (a0 : Nat) (M : kt_M) : Prop :=
  vl_X5_writing_4 w gr d P X  a0 (-1 : Int32) (0 : Int32) M
theorem ce_X5_writing {w : kt_W} {g : kt_g} {d : Nat} {P : Option Value → kt_M → Prop} {X : String → Nat → kt_M → Prop} {a0 : Nat} {M : kt_M} (h : vc_X5_writing w (g, M) d P X a0 M) : kt_Sp w g (d + 1) yX5_writing kc_X5_writing [va_rf (some a0)] M P X := by
  refine kt_of (L0 := [(0, va_rf (some a0))]) (by decide +kernel) (Nat.le_of_ble_eq_true rfl) rfl fun x O => ?_
  replace O : kt_O w x (g, M) (d + 1) cX5_writing "KeyTurnsModel" 3 ("writing", "()I") (Option.some Jvm.ClassFile.FieldType.int) [] := O
  unfold vc_X5_writing at h
  refine kr_iconst O dX5_writing_0 (v := (-1 : Int32)) (by decide) ?_
  refine kr_istore_n O dX5_writing_1 rfl (Nat.le_of_ble_eq_true rfl) rfl rfl ?_
  refine kr_iconst O dX5_writing_2 (v := (0 : Int32)) (by decide) ?_
  refine kr_istore_n O dX5_writing_3 rfl (Nat.le_of_ble_eq_true rfl) rfl rfl ?_
  refine kr_sub [2, 1, 0] rfl ?_
  exact cl_X5_writing_4 O  h
def vc_X5_isForced (w : kt_W) (gr : kt_g × kt_M) (d : Nat) (P : Option Value → kt_M → Prop) (X : String → Nat → kt_M → Prop) (a0 : Nat) (v1 : Int32) (M : kt_M) : Prop :=
  (kt_co M a0 = some 12) ∧ 
  kt_Ca w gr d yX5_isGone kc_X5_isGone [va_rf (some a0), .int v1] M (kt_pI fun u1 M2 => 
    ((¬ u1 = 0 → P (some (.int (0 : Int32))) M2) ∧
    (u1 = 0 → (kt_co M2 a0 = some 12) ∧ 
    kt_Ca w gr d yX5_hour kc_X5_hour [va_rf (some a0)] M2 (kt_pI fun u3 M4 => (kt_co M4 a0 = some 12) ∧ 
    kt_Ca w gr d yX5_ofVersion kc_X5_ofVersion [va_rf (some a0), .int v1, .int (0 : Int32)] M4 (kt_pI fun u5 M6 => (kt_co M6 a0 = some 12) ∧ 
    kt_Ca w gr d yX5_ofVersion kc_X5_ofVersion [va_rf (some a0), .int v1, .int (1 : Int32)] M6 (kt_pI fun u7 M8 => 
    kt_Ca w gr d yX5_inRange kc_X5_inRange [.int u3, .int u5, .int u7] M8 (kt_pI fun u9 M10 => 
      ((u9 = 0 → P (some (.int (0 : Int32))) M10) ∧
      (¬ u9 = 0 → P (some (.int (1 : Int32))) M10))) X) X) X) X))) X
theorem ce_X5_isForced {w : kt_W} {g : kt_g} {d : Nat} {P : Option Value → kt_M → Prop} {X : String → Nat → kt_M → Prop} {a0 : Nat} {v1 : Int32} {M : kt_M} (h : vc_X5_isForced w (g, M) d P X a0 v1 M) : kt_Sp w g (d + 1) yX5_isForced kc_X5_isForced [va_rf (some a0), .int v1] M P X := by
  refine kt_of (L0 := [(0, va_rf (some a0)), (1, .int v1)]) (by decide +kernel) (Nat.le_of_ble_eq_true rfl) rfl fun x O => ?_
  replace O : kt_O w x (g, M) (d + 1) cX5_isForced "KeyTurnsModel" 2 ("isForced", "(I)Z") (Option.some Jvm.ClassFile.FieldType.boolean) [] := O
  unfold vc_X5_isForced at h
  refine kr_aload_n O dX5_isForced_0 rfl 0 rfl ?_
  refine kr_iload_n O dX5_isForced_1 rfl 1 rfl ?_
  obtain ⟨hco, h⟩ := h
  refine kr_caI (rest := []) O cd_X5_isGone h (Nat.le_of_ble_eq_true rfl) (fun ls _ => kt_ivV (ci := 12) O dX5_isForced_2 cd_X5_isGone in_X5_isGone (Or.inl q2578) q2580 qs44 hco (by decide) hy_X5_isGone) (fun u1 M2 hq => ?_) (fun E q M9 hx => kr_out O hx)
  replace h := hq
  clear hq
  refine kr_if_ne (tgt := 34) O dX5_isForced_5 rfl (fun hc => ?_) (fun hc => ?_)
  · replace h := h.1 hc
    refine kr_iconst O dX5_isForced_34 (v := (0 : Int32)) (by decide) ?_
    exact kr_iret O dX5_isForced_35 (by decide) h
  · replace h := h.2 hc
    refine kr_aload_n O dX5_isForced_8 rfl 0 rfl ?_
    obtain ⟨hco, h⟩ := h
    refine kr_caI (rest := []) O cd_X5_hour h (Nat.le_of_ble_eq_true rfl) (fun ls _ => kt_ivV (ci := 12) O dX5_isForced_9 cd_X5_hour in_X5_hour (Or.inl q2582) q2584 qs45 hco (by decide) hy_X5_hour) (fun u3 M4 hq => ?_) (fun E q M9 hx => kr_out O hx)
    replace h := hq
    clear hq
    refine kr_aload_n O dX5_isForced_12 rfl 0 rfl ?_
    refine kr_iload_n O dX5_isForced_13 rfl 1 rfl ?_
    refine kr_iconst O dX5_isForced_14 (v := (0 : Int32)) (by decide) ?_
    obtain ⟨hco, h⟩ := h
    refine kr_caI (rest := [.int u3]) O cd_X5_ofVersion h (Nat.le_of_ble_eq_true rfl) (fun ls _ => kt_ivV (ci := 12) O dX5_isForced_15 cd_X5_ofVersion in_X5_ofVersion (Or.inl q2470) q2472 qs39 hco (by decide) hy_X5_ofVersion) (fun u5 M6 hq => ?_) (fun E q M9 hx => kr_out O hx)
    replace h := hq
    clear hq
    refine kr_aload_n O dX5_isForced_18 rfl 0 rfl ?_
    refine kr_iload_n O dX5_isForced_19 rfl 1 rfl ?_
    refine kr_iconst O dX5_isForced_20 (v := (1 : Int32)) (by decide) ?_
    obtain ⟨hco, h⟩ := h
    refine kr_caI (rest := [.int u5, .int u3]) O cd_X5_ofVersion h (Nat.le_of_ble_eq_true rfl) (fun ls _ => kt_ivV (ci := 12) O dX5_isForced_21 cd_X5_ofVersion in_X5_ofVersion (Or.inl q2470) q2472 qs39 hco (by decide) hy_X5_ofVersion) (fun u7 M8 hq => ?_) (fun E q M9 hx => kr_out O hx)
    replace h := hq
    clear hq
    refine kr_caI (rest := []) O cd_X5_inRange h (Nat.le_of_ble_eq_true rfl) (fun ls _ => kt_ivS O dX5_isForced_24 cd_X5_inRange in_X5_inRange q2586 q2587 hy_X5_inRange) (fun u9 M10 hq => ?_) (fun E q M9 hx => kr_out O hx)
    replace h := hq
    clear hq
    refine kr_if_eq (tgt := 34) O dX5_isForced_27 rfl (fun hc => ?_) (fun hc => ?_)
    · replace h := h.1 hc
      refine kr_iconst O dX5_isForced_34 (v := (0 : Int32)) (by decide) ?_
      exact kr_iret O dX5_isForced_35 (by decide) h
    · replace h := h.2 hc
      refine kr_iconst O dX5_isForced_30 (v := (1 : Int32)) (by decide) ?_
      refine kr_goto (tgt := 35) O dX5_isForced_31 rfl ?_
      exact kr_iret O dX5_isForced_35 (by decide) h
def vc_X5_isGone (w : kt_W) (gr : kt_g × kt_M) (d : Nat) (P : Option Value → kt_M → Prop) (X : String → Nat → kt_M → Prop) (a0 : Nat) (v1 : Int32) (M : kt_M) : Prop :=
  (kt_co M a0 = some 12) ∧ 
  kt_Ca w gr d yX5_ofVersion kc_X5_ofVersion [va_rf (some a0), .int v1, .int (2 : Int32)] M (kt_pI fun u1 M2 => 
    ((u1 = (-1 : Int32) → P (some (.int (0 : Int32))) M2) ∧
    (¬ u1 = (-1 : Int32) → P (some (.int (1 : Int32))) M2))) X
theorem ce_X5_isGone {w : kt_W} {g : kt_g} {d : Nat} {P : Option Value → kt_M → Prop} {X : String → Nat → kt_M → Prop} {a0 : Nat} {v1 : Int32} {M : kt_M} (h : vc_X5_isGone w (g, M) d P X a0 v1 M) : kt_Sp w g (d + 1) yX5_isGone kc_X5_isGone [va_rf (some a0), .int v1] M P X := by
  refine kt_of (L0 := [(0, va_rf (some a0)), (1, .int v1)]) (by decide +kernel) (Nat.le_of_ble_eq_true rfl) rfl fun x O => ?_
  replace O : kt_O w x (g, M) (d + 1) cX5_isGone "KeyTurnsModel" 2 ("isGone", "(I)Z") (Option.some Jvm.ClassFile.FieldType.boolean) [] := O
  unfold vc_X5_isGone at h
  refine kr_aload_n O dX5_isGone_0 rfl 0 rfl ?_
  refine kr_iload_n O dX5_isGone_1 rfl 1 rfl ?_
  refine kr_iconst O dX5_isGone_2 (v := (2 : Int32)) (by decide) ?_
  obtain ⟨hco, h⟩ := h
  refine kr_caI (rest := []) O cd_X5_ofVersion h (Nat.le_of_ble_eq_true rfl) (fun ls _ => kt_ivV (ci := 12) O dX5_isGone_3 cd_X5_ofVersion in_X5_ofVersion (Or.inl q2470) q2472 qs39 hco (by decide) hy_X5_ofVersion) (fun u1 M2 hq => ?_) (fun E q M9 hx => kr_out O hx)
  replace h := hq
  clear hq
  refine kr_iconst O dX5_isGone_6 (v := (-1 : Int32)) (by decide) ?_
  refine kr_icmp_eq (tgt := 14) O dX5_isGone_7 rfl (fun hc => ?_) (fun hc => ?_)
  · replace h := h.1 hc
    refine kr_iconst O dX5_isGone_14 (v := (0 : Int32)) (by decide) ?_
    exact kr_iret O dX5_isGone_15 (by decide) h
  · replace h := h.2 hc
    refine kr_iconst O dX5_isGone_10 (v := (1 : Int32)) (by decide) ?_
    refine kr_goto (tgt := 15) O dX5_isGone_11 rfl ?_
    exact kr_iret O dX5_isGone_15 (by decide) h
def vc_X5_hour (w : kt_W) (gr : kt_g × kt_M) (d : Nat) (P : Option Value → kt_M → Prop) (X : String → Nat → kt_M → Prop) (a0 : Nat) (M : kt_M) : Prop :=
  ∃ p1, kt_gf M a0 73 = some (va_rf p1) ∧ ∃ b2, p1 = some b2 ∧ ∃ u3, kt_el 0 M b2 (0 : Int32) = some (.int u3) ∧ P (some (.int u3)) M
theorem ce_X5_hour {w : kt_W} {g : kt_g} {d : Nat} {P : Option Value → kt_M → Prop} {X : String → Nat → kt_M → Prop} {a0 : Nat} {M : kt_M} (h : vc_X5_hour w (g, M) d P X a0 M) : kt_Sp w g (d + 1) yX5_hour kc_X5_hour [va_rf (some a0)] M P X := by
  refine kt_of (L0 := [(0, va_rf (some a0))]) (by decide +kernel) (Nat.le_of_ble_eq_true rfl) rfl fun x O => ?_
  replace O : kt_O w x (g, M) (d + 1) cX5_hour "KeyTurnsModel" 1 ("hour", "()I") (Option.some Jvm.ClassFile.FieldType.int) [] := O
  unfold vc_X5_hour at h
  refine kr_aload_n O dX5_hour_0 rfl 0 rfl ?_
  obtain ⟨p1, ep1, h⟩ := h
  refine kr_getf O dX5_hour_1 fs_X5_25 ep1 ?_
  refine kr_iconst O dX5_hour_4 (v := (0 : Int32)) (by decide) ?_
  obtain ⟨b2, rfl, h⟩ := h
  obtain ⟨u3, eu3, h⟩ := h
  refine kr_iaload O dX5_hour_5 eu3 ?_
  exact kr_iret O dX5_hour_6 rfl h
def vc_X5_inRange (w : kt_W) (gr : kt_g × kt_M) (d : Nat) (P : Option Value → kt_M → Prop) (X : String → Nat → kt_M → Prop) (v0 : Int32) (v1 : Int32) (v2 : Int32) (M : kt_M) : Prop :=
  
    ((v0 < v1 → P (some (.int (0 : Int32))) M) ∧
    (¬ v0 < v1 → 
      ((v2 < v0 → P (some (.int (0 : Int32))) M) ∧
      (¬ v2 < v0 → P (some (.int (1 : Int32))) M))))
theorem ce_X5_inRange {w : kt_W} {g : kt_g} {d : Nat} {P : Option Value → kt_M → Prop} {X : String → Nat → kt_M → Prop} {v0 : Int32} {v1 : Int32} {v2 : Int32} {M : kt_M} (h : vc_X5_inRange w (g, M) d P X v0 v1 v2 M) : kt_Sp w g (d + 1) yX5_inRange kc_X5_inRange [.int v0, .int v1, .int v2] M P X := by
  refine kt_of (L0 := [(0, .int v0), (1, .int v1), (2, .int v2)]) (by decide +kernel) (Nat.le_of_ble_eq_true rfl) rfl fun x O => ?_
  replace O : kt_O w x (g, M) (d + 1) cX5_inRange "KeyTurnsModel" 3 ("inRange", "(III)Z") (Option.some Jvm.ClassFile.FieldType.boolean) [] := O
  unfold vc_X5_inRange at h
  refine kr_iload_n O dX5_inRange_0 rfl 0 rfl ?_
  refine kr_iload_n O dX5_inRange_1 rfl 1 rfl ?_
  refine kr_icmp_lt (tgt := 14) O dX5_inRange_2 rfl (fun hc => ?_) (fun hc => ?_)
  · replace h := h.1 hc
    refine kr_iconst O dX5_inRange_14 (v := (0 : Int32)) (by decide) ?_
    exact kr_iret O dX5_inRange_15 (by decide) h
  · replace h := h.2 hc
    refine kr_iload_n O dX5_inRange_5 rfl 0 rfl ?_
    refine kr_iload_n O dX5_inRange_6 rfl 2 rfl ?_
    refine kr_icmp_gt (tgt := 14) O dX5_inRange_7 rfl (fun hc => ?_) (fun hc => ?_)
    · replace h := h.1 hc
      refine kr_iconst O dX5_inRange_14 (v := (0 : Int32)) (by decide) ?_
      exact kr_iret O dX5_inRange_15 (by decide) h
    · replace h := h.2 hc
      refine kr_iconst O dX5_inRange_10 (v := (1 : Int32)) (by decide) ?_
      refine kr_goto (tgt := 15) O dX5_inRange_11 rfl ?_
      exact kr_iret O dX5_inRange_15 (by decide) h
def vc_X5_inForce_4 (w : kt_W) (gr : kt_g × kt_M) (d : Nat) (P : Option Value → kt_M → Prop) (X : String → Nat → kt_M → Prop) (nx4 : Int32 → Int32 → kt_M → Prop) (a0 : Nat) (v1 : Int32) (v2 : Int32) (M : kt_M) : Prop :=
  ∃ p1, kt_gf M a0 73 = some (va_rf p1) ∧ ∃ b2, p1 = some b2 ∧ ∃ u3, kt_el 0 M b2 (1 : Int32) = some (.int u3) ∧ 
    ((u3 ≤ v2 → P (some (.int v1)) M) ∧
    (¬ u3 ≤ v2 → (kt_co M a0 = some 12) ∧ 
    kt_Ca w gr d yX5_isForced kc_X5_isForced [va_rf (some a0), .int v2] M (kt_pI fun u4 M5 => 
      ((u4 = 0 → nx4 (v1 + (0 : Int32)) (v2 + (1 : Int32)) M5) ∧
      (¬ u4 = 0 → nx4 (v1 + (1 : Int32)) (v2 + (1 : Int32)) M5))) X))
theorem cj_X5_inForce_4 {w : kt_W} {x : kt_X} {gr : kt_g × kt_M} {d : Nat} {P : Option Value → kt_M → Prop} {X : String → Nat → kt_M → Prop} {nx4 : Int32 → Int32 → kt_M → Prop} {a0 : Nat} {v1 : Int32} {v2 : Int32} {M : kt_M} (O : kt_O w x gr (d + 1) cX5_inForce "KeyTurnsModel" 3 ("inForce", "()I") (Option.some Jvm.ClassFile.FieldType.int) []) (hn4 : ∀ v1 v2 M, nx4 v1 v2 M → kt_S w x 3 (kt_E w x P X) M 4 [(0, va_rf (some a0)), (1, .int v1), (2, .int v2)] []) (h : vc_X5_inForce_4 w gr d P X nx4 a0 v1 v2 M) : kt_S w x 3 (kt_E w x P X) M 4 [(0, va_rf (some a0)), (1, .int v1), (2, .int v2)] [] := by
  unfold vc_X5_inForce_4 at h
  refine kr_iload_n O dX5_inForce_4 rfl 2 rfl ?_
  refine kr_aload_n O dX5_inForce_5 rfl 0 rfl ?_
  obtain ⟨p1, ep1, h⟩ := h
  refine kr_getf O dX5_inForce_6 fs_X5_25 ep1 ?_
  refine kr_iconst O dX5_inForce_9 (v := (1 : Int32)) (by decide) ?_
  obtain ⟨b2, rfl, h⟩ := h
  obtain ⟨u3, eu3, h⟩ := h
  refine kr_iaload O dX5_inForce_10 eu3 ?_
  refine kr_icmp_ge (tgt := 36) O dX5_inForce_11 rfl (fun hc => ?_) (fun hc => ?_)
  · replace h := h.1 hc
    refine kr_iload_n O dX5_inForce_36 rfl 1 rfl ?_
    exact kr_iret O dX5_inForce_37 rfl h
  · replace h := h.2 hc
    refine kr_iload_n O dX5_inForce_14 rfl 1 rfl ?_
    refine kr_aload_n O dX5_inForce_15 rfl 0 rfl ?_
    refine kr_iload_n O dX5_inForce_16 rfl 2 rfl ?_
    obtain ⟨hco, h⟩ := h
    refine kr_caI (rest := [.int v1]) O cd_X5_isForced h (Nat.le_of_ble_eq_true rfl) (fun ls _ => kt_ivV (ci := 12) O dX5_inForce_17 cd_X5_isForced in_X5_isForced (Or.inl q2574) q2576 qs43 hco (by decide) hy_X5_isForced) (fun u4 M5 hq => ?_) (fun E q M9 hx => kr_out O hx)
    replace h := hq
    clear hq
    refine kr_if_eq (tgt := 27) O dX5_inForce_20 rfl (fun hc => ?_) (fun hc => ?_)
    · replace h := h.1 hc
      refine kr_iconst O dX5_inForce_27 (v := (0 : Int32)) (by decide) ?_
      refine kr_iadd O dX5_inForce_28 ?_
      refine kr_istore_n O dX5_inForce_29 rfl (Nat.le_of_ble_eq_true rfl) rfl rfl ?_
      refine kr_iinc O dX5_inForce_30 2 rfl (v := v2 + (1 : Int32)) rfl (Nat.le_of_ble_eq_true rfl) rfl rfl ?_
      refine kr_goto (tgt := 4) O dX5_inForce_33 rfl ?_
      refine kr_sub [2, 1, 0] rfl ?_
      exact hn4 _ _ _ h
    · replace h := h.2 hc
      refine kr_iconst O dX5_inForce_23 (v := (1 : Int32)) (by decide) ?_
      refine kr_goto (tgt := 28) O dX5_inForce_24 rfl ?_
      refine kr_iadd O dX5_inForce_28 ?_
      refine kr_istore_n O dX5_inForce_29 rfl (Nat.le_of_ble_eq_true rfl) rfl rfl ?_
      refine kr_iinc O dX5_inForce_30 2 rfl (v := v2 + (1 : Int32)) rfl (Nat.le_of_ble_eq_true rfl) rfl rfl ?_
      refine kr_goto (tgt := 4) O dX5_inForce_33 rfl ?_
      refine kr_sub [2, 1, 0] rfl ?_
      exact hn4 _ _ _ h
def vl_X5_inForce_4 (w : kt_W) (gr : kt_g × kt_M) (d : Nat) (P : Option Value → kt_M → Prop) (X : String → Nat → kt_M → Prop)  (a0 : Nat) (v1 : Int32) (v2 : Int32) (M : kt_M) : Prop :=
  ∃ Inv : Nat → Int32 → Int32 → kt_M → Prop, (∃ k, Inv k v1 v2 M) ∧ ∀ k v1 v2 M, kt_le gr.1 gr.2 M → Inv k v1 v2 M → vc_X5_inForce_4 w gr d P X (fun v1' v2' M' => ∃ k', k' < k ∧ Inv k' v1' v2' M') a0 v1 v2 M
theorem cl_X5_inForce_4 {w : kt_W} {x : kt_X} {gr : kt_g × kt_M} {d : Nat} {P : Option Value → kt_M → Prop} {X : String → Nat → kt_M → Prop}  {a0 : Nat} {v1 : Int32} {v2 : Int32} {M : kt_M} (O : kt_O w x gr (d + 1) cX5_inForce "KeyTurnsModel" 3 ("inForce", "()I") (Option.some Jvm.ClassFile.FieldType.int) [])  (h : vl_X5_inForce_4 w gr d P X  a0 v1 v2 M) : kt_S w x 3 (kt_E w x P X) M 4 [(0, va_rf (some a0)), (1, .int v1), (2, .int v2)] [] := by
  obtain ⟨Inv, ⟨k, hk⟩, hb⟩ := h
  induction k using Nat.strongRecOn generalizing v1 v2 M with
  | ind k ih =>
    exact kr_le O fun hle => cj_X5_inForce_4 O (fun v1' v2' M' hi => let ⟨k', h1, h2⟩ := hi; ih k' h1 h2) (hb k _ _ _ hle hk)
def vc_X5_inForce (w : kt_W) (gr : kt_g × kt_M) (d : Nat) (P : Option Value → kt_M → Prop) (X : String → Nat → kt_M → Prop) (a0 : Nat) (M : kt_M) : Prop :=
  vl_X5_inForce_4 w gr d P X  a0 (0 : Int32) (0 : Int32) M
theorem ce_X5_inForce {w : kt_W} {g : kt_g} {d : Nat} {P : Option Value → kt_M → Prop} {X : String → Nat → kt_M → Prop} {a0 : Nat} {M : kt_M} (h : vc_X5_inForce w (g, M) d P X a0 M) : kt_Sp w g (d + 1) yX5_inForce kc_X5_inForce [va_rf (some a0)] M P X := by
  refine kt_of (L0 := [(0, va_rf (some a0))]) (by decide +kernel) (Nat.le_of_ble_eq_true rfl) rfl fun x O => ?_
  replace O : kt_O w x (g, M) (d + 1) cX5_inForce "KeyTurnsModel" 3 ("inForce", "()I") (Option.some Jvm.ClassFile.FieldType.int) [] := O
  unfold vc_X5_inForce at h
  refine kr_iconst O dX5_inForce_0 (v := (0 : Int32)) (by decide) ?_
  refine kr_istore_n O dX5_inForce_1 rfl (Nat.le_of_ble_eq_true rfl) rfl rfl ?_
  refine kr_iconst O dX5_inForce_2 (v := (0 : Int32)) (by decide) ?_
  refine kr_istore_n O dX5_inForce_3 rfl (Nat.le_of_ble_eq_true rfl) rfl rfl ?_
  refine kr_sub [2, 1, 0] rfl ?_
  exact cl_X5_inForce_4 O  h
def vc_X5_allWraps_4 (w : kt_W) (gr : kt_g × kt_M) (d : Nat) (P : Option Value → kt_M → Prop) (X : String → Nat → kt_M → Prop) (nx4 : Int32 → Int32 → kt_M → Prop) (a0 : Nat) (v1 : Int32) (v2 : Int32) (M : kt_M) : Prop :=
  ∃ p1, kt_gf M a0 73 = some (va_rf p1) ∧ ∃ b2, p1 = some b2 ∧ ∃ u3, kt_el 0 M b2 (2 : Int32) = some (.int u3) ∧ 
    ((u3 ≤ v2 → P (some (.int v1)) M) ∧
    (¬ u3 ≤ v2 → (kt_co M a0 = some 12) ∧ 
    kt_Ca w gr d yX5_isRecord kc_X5_isRecord [va_rf (some a0), .int v2] M (kt_pI fun u4 M5 => 
      ((u4 = 0 → nx4 (v1 + (0 : Int32)) (v2 + (1 : Int32)) M5) ∧
      (¬ u4 = 0 → (kt_co M5 a0 = some 12) ∧ 
      kt_Ca w gr d yX5_ofRecord kc_X5_ofRecord [va_rf (some a0), .int v2, .int (1 : Int32)] M5 (kt_pI fun u6 M7 => 
      kt_Ca w gr d yJ19_bitCount kc_J19_bitCount [.int u6] M7 (kt_pI fun u8 M9 => nx4 (v1 + u8) (v2 + (1 : Int32)) M9) X) X))) X))
theorem cj_X5_allWraps_4 {w : kt_W} {x : kt_X} {gr : kt_g × kt_M} {d : Nat} {P : Option Value → kt_M → Prop} {X : String → Nat → kt_M → Prop} {nx4 : Int32 → Int32 → kt_M → Prop} {a0 : Nat} {v1 : Int32} {v2 : Int32} {M : kt_M} (O : kt_O w x gr (d + 1) cX5_allWraps "KeyTurnsModel" 3 ("allWraps", "()I") (Option.some Jvm.ClassFile.FieldType.int) []) (hn4 : ∀ v1 v2 M, nx4 v1 v2 M → kt_S w x 3 (kt_E w x P X) M 4 [(0, va_rf (some a0)), (1, .int v1), (2, .int v2)] []) (h : vc_X5_allWraps_4 w gr d P X nx4 a0 v1 v2 M) : kt_S w x 3 (kt_E w x P X) M 4 [(0, va_rf (some a0)), (1, .int v1), (2, .int v2)] [] := by
  unfold vc_X5_allWraps_4 at h
  refine kr_iload_n O dX5_allWraps_4 rfl 2 rfl ?_
  refine kr_aload_n O dX5_allWraps_5 rfl 0 rfl ?_
  obtain ⟨p1, ep1, h⟩ := h
  refine kr_getf O dX5_allWraps_6 fs_X5_25 ep1 ?_
  refine kr_iconst O dX5_allWraps_9 (v := (2 : Int32)) (by decide) ?_
  obtain ⟨b2, rfl, h⟩ := h
  obtain ⟨u3, eu3, h⟩ := h
  refine kr_iaload O dX5_allWraps_10 eu3 ?_
  refine kr_icmp_ge (tgt := 44) O dX5_allWraps_11 rfl (fun hc => ?_) (fun hc => ?_)
  · replace h := h.1 hc
    refine kr_iload_n O dX5_allWraps_44 rfl 1 rfl ?_
    exact kr_iret O dX5_allWraps_45 rfl h
  · replace h := h.2 hc
    refine kr_iload_n O dX5_allWraps_14 rfl 1 rfl ?_
    refine kr_aload_n O dX5_allWraps_15 rfl 0 rfl ?_
    refine kr_iload_n O dX5_allWraps_16 rfl 2 rfl ?_
    obtain ⟨hco, h⟩ := h
    refine kr_caI (rest := [.int v1]) O cd_X5_isRecord h (Nat.le_of_ble_eq_true rfl) (fun ls _ => kt_ivV (ci := 12) O dX5_allWraps_17 cd_X5_isRecord in_X5_isRecord (Or.inl q2597) q2599 qs48 hco (by decide) hy_X5_isRecord) (fun u4 M5 hq => ?_) (fun E q M9 hx => kr_out O hx)
    replace h := hq
    clear hq
    refine kr_if_eq (tgt := 35) O dX5_allWraps_20 rfl (fun hc => ?_) (fun hc => ?_)
    · replace h := h.1 hc
      refine kr_iconst O dX5_allWraps_35 (v := (0 : Int32)) (by decide) ?_
      refine kr_iadd O dX5_allWraps_36 ?_
      refine kr_istore_n O dX5_allWraps_37 rfl (Nat.le_of_ble_eq_true rfl) rfl rfl ?_
      refine kr_iinc O dX5_allWraps_38 2 rfl (v := v2 + (1 : Int32)) rfl (Nat.le_of_ble_eq_true rfl) rfl rfl ?_
      refine kr_goto (tgt := 4) O dX5_allWraps_41 rfl ?_
      refine kr_sub [2, 1, 0] rfl ?_
      exact hn4 _ _ _ h
    · replace h := h.2 hc
      refine kr_aload_n O dX5_allWraps_23 rfl 0 rfl ?_
      refine kr_iload_n O dX5_allWraps_24 rfl 2 rfl ?_
      refine kr_iconst O dX5_allWraps_25 (v := (1 : Int32)) (by decide) ?_
      obtain ⟨hco, h⟩ := h
      refine kr_caI (rest := [.int v1]) O cd_X5_ofRecord h (Nat.le_of_ble_eq_true rfl) (fun ls _ => kt_ivV (ci := 12) O dX5_allWraps_26 cd_X5_ofRecord in_X5_ofRecord (Or.inl q2563) q2565 qs41 hco (by decide) hy_X5_ofRecord) (fun u6 M7 hq => ?_) (fun E q M9 hx => kr_out O hx)
      replace h := hq
      clear hq
      refine kr_caI (rest := [.int v1]) O cd_J19_bitCount h (Nat.le_of_ble_eq_true rfl) (fun ls _ => kt_ivS O dX5_allWraps_29 cd_J19_bitCount in_J19_bitCount q2605 q1921 hy_J19_bitCount) (fun u8 M9 hq => ?_) (fun E q M9 hx => kr_out O hx)
      replace h := hq
      clear hq
      refine kr_goto (tgt := 36) O dX5_allWraps_32 rfl ?_
      refine kr_iadd O dX5_allWraps_36 ?_
      refine kr_istore_n O dX5_allWraps_37 rfl (Nat.le_of_ble_eq_true rfl) rfl rfl ?_
      refine kr_iinc O dX5_allWraps_38 2 rfl (v := v2 + (1 : Int32)) rfl (Nat.le_of_ble_eq_true rfl) rfl rfl ?_
      refine kr_goto (tgt := 4) O dX5_allWraps_41 rfl ?_
      refine kr_sub [2, 1, 0] rfl ?_
      exact hn4 _ _ _ h
def vl_X5_allWraps_4 (w : kt_W) (gr : kt_g × kt_M) (d : Nat) (P : Option Value → kt_M → Prop) (X : String → Nat → kt_M → Prop)  (a0 : Nat) (v1 : Int32) (v2 : Int32) (M : kt_M) : Prop :=
  ∃ Inv : Nat → Int32 → Int32 → kt_M → Prop, (∃ k, Inv k v1 v2 M) ∧ ∀ k v1 v2 M, kt_le gr.1 gr.2 M → Inv k v1 v2 M → vc_X5_allWraps_4 w gr d P X (fun v1' v2' M' => ∃ k', k' < k ∧ Inv k' v1' v2' M') a0 v1 v2 M
theorem cl_X5_allWraps_4 {w : kt_W} {x : kt_X} {gr : kt_g × kt_M} {d : Nat} {P : Option Value → kt_M → Prop} {X : String → Nat → kt_M → Prop}  {a0 : Nat} {v1 : Int32} {v2 : Int32} {M : kt_M} (O : kt_O w x gr (d + 1) cX5_allWraps "KeyTurnsModel" 3 ("allWraps", "()I") (Option.some Jvm.ClassFile.FieldType.int) [])  (h : vl_X5_allWraps_4 w gr d P X  a0 v1 v2 M) : kt_S w x 3 (kt_E w x P X) M 4 [(0, va_rf (some a0)), (1, .int v1), (2, .int v2)] [] := by
  obtain ⟨Inv, ⟨k, hk⟩, hb⟩ := h
  induction k using Nat.strongRecOn generalizing v1 v2 M with
  | ind k ih =>
    exact kr_le O fun hle => cj_X5_allWraps_4 O (fun v1' v2' M' hi => let ⟨k', h1, h2⟩ := hi; ih k' h1 h2) (hb k _ _ _ hle hk)
def vc_X5_allWraps (w : kt_W) (gr : kt_g × kt_M) (d : Nat) (P : Option Value → kt_M → Prop) (X : String → Nat → kt_M → Prop) (a0 : Nat) (M : kt_M) : Prop :=
  vl_X5_allWraps_4 w gr d P X  a0 (0 : Int32) (0 : Int32) M
theorem ce_X5_allWraps {w : kt_W} {g : kt_g} {d : Nat} {P : Option Value → kt_M → Prop} {X : String → Nat → kt_M → Prop} {a0 : Nat} {M : kt_M} (h : vc_X5_allWraps w (g, M) d P X a0 M) : kt_Sp w g (d + 1) yX5_allWraps kc_X5_allWraps [va_rf (some a0)] M P X := by
  refine kt_of (L0 := [(0, va_rf (some a0))]) (by decide +kernel) (Nat.le_of_ble_eq_true rfl) rfl fun x O => ?_
  replace O : kt_O w x (g, M) (d + 1) cX5_allWraps "KeyTurnsModel" 3 ("allWraps", "()I") (Option.some Jvm.ClassFile.FieldType.int) [] := O
  unfold vc_X5_allWraps at h
  refine kr_iconst O dX5_allWraps_0 (v := (0 : Int32)) (by decide) ?_
  refine kr_istore_n O dX5_allWraps_1 rfl (Nat.le_of_ble_eq_true rfl) rfl rfl ?_
  refine kr_iconst O dX5_allWraps_2 (v := (0 : Int32)) (by decide) ?_
  refine kr_istore_n O dX5_allWraps_3 rfl (Nat.le_of_ble_eq_true rfl) rfl rfl ?_
  refine kr_sub [2, 1, 0] rfl ?_
  exact cl_X5_allWraps_4 O  h
def vc_X5_isRecord (w : kt_W) (gr : kt_g × kt_M) (d : Nat) (P : Option Value → kt_M → Prop) (X : String → Nat → kt_M → Prop) (a0 : Nat) (v1 : Int32) (M : kt_M) : Prop :=
  (kt_co M a0 = some 12) ∧ 
  kt_Ca w gr d yX5_isMade kc_X5_isMade [va_rf (some a0), .int v1] M (kt_pI fun u1 M2 => 
    ((u1 = 0 → P (some (.int (0 : Int32))) M2) ∧
    (¬ u1 = 0 → (kt_co M2 a0 = some 12) ∧ 
    kt_Ca w gr d yX5_ofRecord kc_X5_ofRecord [va_rf (some a0), .int v1, .int (3 : Int32)] M2 (kt_pI fun u3 M4 => 
      ((¬ u3 = 0 → P (some (.int (0 : Int32))) M4) ∧
      (u3 = 0 → P (some (.int (1 : Int32))) M4))) X))) X
theorem ce_X5_isRecord {w : kt_W} {g : kt_g} {d : Nat} {P : Option Value → kt_M → Prop} {X : String → Nat → kt_M → Prop} {a0 : Nat} {v1 : Int32} {M : kt_M} (h : vc_X5_isRecord w (g, M) d P X a0 v1 M) : kt_Sp w g (d + 1) yX5_isRecord kc_X5_isRecord [va_rf (some a0), .int v1] M P X := by
  refine kt_of (L0 := [(0, va_rf (some a0)), (1, .int v1)]) (by decide +kernel) (Nat.le_of_ble_eq_true rfl) rfl fun x O => ?_
  replace O : kt_O w x (g, M) (d + 1) cX5_isRecord "KeyTurnsModel" 2 ("isRecord", "(I)Z") (Option.some Jvm.ClassFile.FieldType.boolean) [] := O
  unfold vc_X5_isRecord at h
  refine kr_aload_n O dX5_isRecord_0 rfl 0 rfl ?_
  refine kr_iload_n O dX5_isRecord_1 rfl 1 rfl ?_
  obtain ⟨hco, h⟩ := h
  refine kr_caI (rest := []) O cd_X5_isMade h (Nat.le_of_ble_eq_true rfl) (fun ls _ => kt_ivV (ci := 12) O dX5_isRecord_2 cd_X5_isMade in_X5_isMade (Or.inl q2601) q2603 qs49 hco (by decide) hy_X5_isMade) (fun u1 M2 hq => ?_) (fun E q M9 hx => kr_out O hx)
  replace h := hq
  clear hq
  refine kr_if_eq (tgt := 21) O dX5_isRecord_5 rfl (fun hc => ?_) (fun hc => ?_)
  · replace h := h.1 hc
    refine kr_iconst O dX5_isRecord_21 (v := (0 : Int32)) (by decide) ?_
    exact kr_iret O dX5_isRecord_22 (by decide) h
  · replace h := h.2 hc
    refine kr_aload_n O dX5_isRecord_8 rfl 0 rfl ?_
    refine kr_iload_n O dX5_isRecord_9 rfl 1 rfl ?_
    refine kr_iconst O dX5_isRecord_10 (v := (3 : Int32)) (by decide) ?_
    obtain ⟨hco, h⟩ := h
    refine kr_caI (rest := []) O cd_X5_ofRecord h (Nat.le_of_ble_eq_true rfl) (fun ls _ => kt_ivV (ci := 12) O dX5_isRecord_11 cd_X5_ofRecord in_X5_ofRecord (Or.inl q2563) q2565 qs41 hco (by decide) hy_X5_ofRecord) (fun u3 M4 hq => ?_) (fun E q M9 hx => kr_out O hx)
    replace h := hq
    clear hq
    refine kr_if_ne (tgt := 21) O dX5_isRecord_14 rfl (fun hc => ?_) (fun hc => ?_)
    · replace h := h.1 hc
      refine kr_iconst O dX5_isRecord_21 (v := (0 : Int32)) (by decide) ?_
      exact kr_iret O dX5_isRecord_22 (by decide) h
    · replace h := h.2 hc
      refine kr_iconst O dX5_isRecord_17 (v := (1 : Int32)) (by decide) ?_
      refine kr_goto (tgt := 22) O dX5_isRecord_18 rfl ?_
      exact kr_iret O dX5_isRecord_22 (by decide) h
def vc_X5_isMade (w : kt_W) (gr : kt_g × kt_M) (d : Nat) (P : Option Value → kt_M → Prop) (X : String → Nat → kt_M → Prop) (a0 : Nat) (v1 : Int32) (M : kt_M) : Prop :=
  ∃ p1, kt_gf M a0 73 = some (va_rf p1) ∧ ∃ b2, p1 = some b2 ∧ ∃ u3, kt_el 0 M b2 (2 : Int32) = some (.int u3) ∧ 
  kt_Ca w gr d yX5_inRange kc_X5_inRange [.int v1, .int (0 : Int32), .int (u3 - (1 : Int32))] M (kt_pI fun u4 M5 => narrow .boolean (.int u4) = .int u4 ∧ P (some (.int u4)) M5) X
theorem ce_X5_isMade {w : kt_W} {g : kt_g} {d : Nat} {P : Option Value → kt_M → Prop} {X : String → Nat → kt_M → Prop} {a0 : Nat} {v1 : Int32} {M : kt_M} (h : vc_X5_isMade w (g, M) d P X a0 v1 M) : kt_Sp w g (d + 1) yX5_isMade kc_X5_isMade [va_rf (some a0), .int v1] M P X := by
  refine kt_of (L0 := [(0, va_rf (some a0)), (1, .int v1)]) (by decide +kernel) (Nat.le_of_ble_eq_true rfl) rfl fun x O => ?_
  replace O : kt_O w x (g, M) (d + 1) cX5_isMade "KeyTurnsModel" 2 ("isMade", "(I)Z") (Option.some Jvm.ClassFile.FieldType.boolean) [] := O
  unfold vc_X5_isMade at h
  refine kr_iload_n O dX5_isMade_0 rfl 1 rfl ?_
  refine kr_iconst O dX5_isMade_1 (v := (0 : Int32)) (by decide) ?_
  refine kr_aload_n O dX5_isMade_2 rfl 0 rfl ?_
  obtain ⟨p1, ep1, h⟩ := h
  refine kr_getf O dX5_isMade_3 fs_X5_25 ep1 ?_
  refine kr_iconst O dX5_isMade_6 (v := (2 : Int32)) (by decide) ?_
  obtain ⟨b2, rfl, h⟩ := h
  obtain ⟨u3, eu3, h⟩ := h
  refine kr_iaload O dX5_isMade_7 eu3 ?_
  refine kr_iconst O dX5_isMade_8 (v := (1 : Int32)) (by decide) ?_
  refine kr_isub O dX5_isMade_9 ?_
  refine kr_caI (rest := []) O cd_X5_inRange h (Nat.le_of_ble_eq_true rfl) (fun ls _ => kt_ivS O dX5_isMade_10 cd_X5_inRange in_X5_inRange q2586 q2587 hy_X5_inRange) (fun u4 M5 hq => ?_) (fun E q M9 hx => kr_out O hx)
  replace h := hq
  clear hq
  exact kr_iret O dX5_isMade_13 h.1 h.2
def vc_X5_raise (w : kt_W) (gr : kt_g × kt_M) (d : Nat) (P : Option Value → kt_M → Prop) (X : String → Nat → kt_M → Prop) (a0 : Nat) (v1 : Int32) (M : kt_M) : Prop :=
  kt_hf gr M a0 71 ∧ ∀ M1, M1 = kt_pf M a0 71 (.int v1) → P (some (.int (0 : Int32))) M1
theorem ce_X5_raise {w : kt_W} {g : kt_g} {d : Nat} {P : Option Value → kt_M → Prop} {X : String → Nat → kt_M → Prop} {a0 : Nat} {v1 : Int32} {M : kt_M} (h : vc_X5_raise w (g, M) d P X a0 v1 M) : kt_Sp w g (d + 1) yX5_raise kc_X5_raise [va_rf (some a0), .int v1] M P X := by
  refine kt_of (L0 := [(0, va_rf (some a0)), (1, .int v1)]) (by decide +kernel) (Nat.le_of_ble_eq_true rfl) rfl fun x O => ?_
  replace O : kt_O w x (g, M) (d + 1) cX5_raise "KeyTurnsModel" 2 ("raise", "(I)I") (Option.some Jvm.ClassFile.FieldType.int) [] := O
  unfold vc_X5_raise at h
  refine kr_aload_n O dX5_raise_0 rfl 0 rfl ?_
  refine kr_iload_n O dX5_raise_1 rfl 1 rfl ?_
  obtain ⟨hw, h⟩ := h
  refine kr_putf O dX5_raise_2 fs_X5_71 (Or.inl rfl) ⟨rfl, rfl⟩ hw (kr_nmM fun M1 hM1 => ?_)
  replace h := h M1 hM1
  refine kr_iconst O dX5_raise_5 (v := (0 : Int32)) (by decide) ?_
  exact kr_iret O dX5_raise_6 rfl h
def vc_X5_version_22 (w : kt_W) (gr : kt_g × kt_M) (d : Nat) (P : Option Value → kt_M → Prop) (X : String → Nat → kt_M → Prop)  (a0 : Nat) (M : kt_M) : Prop :=
  (kt_co M a0 = some 12) ∧ 
  kt_Ca w gr d yX5_raise kc_X5_raise [va_rf (some a0), .int (1 : Int32)] M (kt_pI fun u1 M2 => P (some (.int u1)) M2) X
theorem cj_X5_version_22 {w : kt_W} {x : kt_X} {gr : kt_g × kt_M} {d : Nat} {P : Option Value → kt_M → Prop} {X : String → Nat → kt_M → Prop}  {a0 : Nat} {M : kt_M} (O : kt_O w x gr (d + 1) cX5_version "KeyTurnsModel" 3 ("version", "(II)I") (Option.some Jvm.ClassFile.FieldType.int) [])  (h : vc_X5_version_22 w gr d P X  a0 M) : kt_S w x 3 (kt_E w x P X) M 22 [(0, va_rf (some a0))] [] := by
  unfold vc_X5_version_22 at h
  refine kr_aload_n O dX5_version_22 rfl 0 rfl ?_
  refine kr_iconst O dX5_version_23 (v := (1 : Int32)) (by decide) ?_
  obtain ⟨hco, h⟩ := h
  refine kr_caI (rest := []) O cd_X5_raise h (Nat.le_of_ble_eq_true rfl) (fun ls _ => kt_ivV (ci := 12) O dX5_version_24 cd_X5_raise in_X5_raise (Or.inl q2606) q2608 qs50 hco (by decide) hy_X5_raise) (fun u1 M2 hq => ?_) (fun E q M9 hx => kr_out O hx)
  replace h := hq
  clear hq
  exact kr_iret O dX5_version_27 rfl h
def vc_X5_version (w : kt_W) (gr : kt_g × kt_M) (d : Nat) (P : Option Value → kt_M → Prop) (X : String → Nat → kt_M → Prop) (a0 : Nat) (v1 : Int32) (v2 : Int32) (M : kt_M) : Prop :=
  kt_hf gr M a0 71 ∧ ∀ M1, M1 = kt_pf M a0 71 (.int (0 : Int32)) → (kt_co M1 a0 = some 12) ∧ 
  kt_Ca w gr d yX5_isVersion kc_X5_isVersion [va_rf (some a0), .int v1] M1 (kt_pI fun u2 M3 => 
    ((u2 = 0 → vc_X5_version_22 w gr d P X  a0 M3) ∧
    (¬ u2 = 0 → 
    kt_Ca w gr d yX5_inRange kc_X5_inRange [.int v2, .int (0 : Int32), .int (4 : Int32)] M3 (kt_pI fun u4 M5 => 
      ((¬ u4 = 0 → 
        (((3 : Int32) ≤ v2 → 
          ((¬ v2 = (3 : Int32) → (kt_co M5 a0 = some 12) ∧ 
          kt_Ca w gr d yX5_wrappedBy kc_X5_wrappedBy [va_rf (some a0), .int v1] M5 (kt_pI fun u6 M7 => P (some (.int u6)) M7) X) ∧
          (v2 = (3 : Int32) → (kt_co M5 a0 = some 12) ∧ 
          kt_Ca w gr d yX5_stateOf kc_X5_stateOf [va_rf (some a0), .int v1] M5 (kt_pI fun u8 M9 => P (some (.int u8)) M9) X))) ∧
        (¬ (3 : Int32) ≤ v2 → (kt_co M5 a0 = some 12) ∧ 
        kt_Ca w gr d yX5_ofVersion kc_X5_ofVersion [va_rf (some a0), .int v1, .int v2] M5 (kt_pI fun u10 M11 => P (some (.int u10)) M11) X))) ∧
      (u4 = 0 → vc_X5_version_22 w gr d P X  a0 M5))) X))) X
theorem ce_X5_version {w : kt_W} {g : kt_g} {d : Nat} {P : Option Value → kt_M → Prop} {X : String → Nat → kt_M → Prop} {a0 : Nat} {v1 : Int32} {v2 : Int32} {M : kt_M} (h : vc_X5_version w (g, M) d P X a0 v1 v2 M) : kt_Sp w g (d + 1) yX5_version kc_X5_version [va_rf (some a0), .int v1, .int v2] M P X := by
  refine kt_of (L0 := [(0, va_rf (some a0)), (1, .int v1), (2, .int v2)]) (by decide +kernel) (Nat.le_of_ble_eq_true rfl) rfl fun x O => ?_
  replace O : kt_O w x (g, M) (d + 1) cX5_version "KeyTurnsModel" 3 ("version", "(II)I") (Option.some Jvm.ClassFile.FieldType.int) [] := O
  unfold vc_X5_version at h
  refine kr_aload_n O dX5_version_0 rfl 0 rfl ?_
  refine kr_iconst O dX5_version_1 (v := (0 : Int32)) (by decide) ?_
  obtain ⟨hw, h⟩ := h
  refine kr_putf O dX5_version_2 fs_X5_71 (Or.inl rfl) ⟨rfl, rfl⟩ hw (kr_nmM fun M1 hM1 => ?_)
  replace h := h M1 hM1
  refine kr_aload_n O dX5_version_5 rfl 0 rfl ?_
  refine kr_iload_n O dX5_version_6 rfl 1 rfl ?_
  obtain ⟨hco, h⟩ := h
  refine kr_caI (rest := []) O cd_X5_isVersion h (Nat.le_of_ble_eq_true rfl) (fun ls _ => kt_ivV (ci := 12) O dX5_version_7 cd_X5_isVersion in_X5_isVersion (Or.inl q2614) q2616 qs51 hco (by decide) hy_X5_isVersion) (fun u2 M3 hq => ?_) (fun E q M9 hx => kr_out O hx)
  replace h := hq
  clear hq
  refine kr_if_eq (tgt := 22) O dX5_version_10 rfl (fun hc => ?_) (fun hc => ?_)
  · replace h := h.1 hc
    refine kr_sub [0] rfl ?_
    exact cj_X5_version_22 O  h
  · replace h := h.2 hc
    refine kr_iload_n O dX5_version_13 rfl 2 rfl ?_
    refine kr_iconst O dX5_version_14 (v := (0 : Int32)) (by decide) ?_
    refine kr_iconst O dX5_version_15 (v := (4 : Int32)) (by decide) ?_
    refine kr_caI (rest := []) O cd_X5_inRange h (Nat.le_of_ble_eq_true rfl) (fun ls _ => kt_ivS O dX5_version_16 cd_X5_inRange in_X5_inRange q2586 q2587 hy_X5_inRange) (fun u4 M5 hq => ?_) (fun E q M9 hx => kr_out O hx)
    replace h := hq
    clear hq
    refine kr_if_ne (tgt := 28) O dX5_version_19 rfl (fun hc => ?_) (fun hc => ?_)
    · replace h := h.1 hc
      refine kr_iload_n O dX5_version_28 rfl 2 rfl ?_
      refine kr_iconst O dX5_version_29 (v := (3 : Int32)) (by decide) ?_
      refine kr_icmp_ge (tgt := 42) O dX5_version_30 rfl (fun hc => ?_) (fun hc => ?_)
      · replace h := h.1 hc
        refine kr_iload_n O dX5_version_42 rfl 2 rfl ?_
        refine kr_iconst O dX5_version_43 (v := (3 : Int32)) (by decide) ?_
        refine kr_icmp_ne (tgt := 55) O dX5_version_44 rfl (fun hc => ?_) (fun hc => ?_)
        · replace h := h.1 hc
          refine kr_aload_n O dX5_version_55 rfl 0 rfl ?_
          refine kr_iload_n O dX5_version_56 rfl 1 rfl ?_
          obtain ⟨hco, h⟩ := h
          refine kr_caI (rest := []) O cd_X5_wrappedBy h (Nat.le_of_ble_eq_true rfl) (fun ls _ => kt_ivV (ci := 12) O dX5_version_57 cd_X5_wrappedBy in_X5_wrappedBy (Or.inl q2622) q2624 qs53 hco (by decide) hy_X5_wrappedBy) (fun u6 M7 hq => ?_) (fun E q M9 hx => kr_out O hx)
          replace h := hq
          clear hq
          exact kr_iret O dX5_version_60 rfl h
        · replace h := h.2 hc
          refine kr_aload_n O dX5_version_47 rfl 0 rfl ?_
          refine kr_iload_n O dX5_version_48 rfl 1 rfl ?_
          obtain ⟨hco, h⟩ := h
          refine kr_caI (rest := []) O cd_X5_stateOf h (Nat.le_of_ble_eq_true rfl) (fun ls _ => kt_ivV (ci := 12) O dX5_version_49 cd_X5_stateOf in_X5_stateOf (Or.inl q2618) q2620 qs52 hco (by decide) hy_X5_stateOf) (fun u8 M9 hq => ?_) (fun E q M9 hx => kr_out O hx)
          replace h := hq
          clear hq
          refine kr_goto (tgt := 60) O dX5_version_52 rfl ?_
          exact kr_iret O dX5_version_60 rfl h
      · replace h := h.2 hc
        refine kr_aload_n O dX5_version_33 rfl 0 rfl ?_
        refine kr_iload_n O dX5_version_34 rfl 1 rfl ?_
        refine kr_iload_n O dX5_version_35 rfl 2 rfl ?_
        obtain ⟨hco, h⟩ := h
        refine kr_caI (rest := []) O cd_X5_ofVersion h (Nat.le_of_ble_eq_true rfl) (fun ls _ => kt_ivV (ci := 12) O dX5_version_36 cd_X5_ofVersion in_X5_ofVersion (Or.inl q2470) q2472 qs39 hco (by decide) hy_X5_ofVersion) (fun u10 M11 hq => ?_) (fun E q M9 hx => kr_out O hx)
        replace h := hq
        clear hq
        refine kr_goto (tgt := 60) O dX5_version_39 rfl ?_
        exact kr_iret O dX5_version_60 rfl h
    · replace h := h.2 hc
      refine kr_sub [0] rfl ?_
      exact cj_X5_version_22 O  h
def vc_X5_isVersion (w : kt_W) (gr : kt_g × kt_M) (d : Nat) (P : Option Value → kt_M → Prop) (X : String → Nat → kt_M → Prop) (a0 : Nat) (v1 : Int32) (M : kt_M) : Prop :=
  ∃ p1, kt_gf M a0 73 = some (va_rf p1) ∧ ∃ b2, p1 = some b2 ∧ ∃ u3, kt_el 0 M b2 (1 : Int32) = some (.int u3) ∧ 
  kt_Ca w gr d yX5_inRange kc_X5_inRange [.int v1, .int (0 : Int32), .int (u3 - (1 : Int32))] M (kt_pI fun u4 M5 => narrow .boolean (.int u4) = .int u4 ∧ P (some (.int u4)) M5) X
theorem ce_X5_isVersion {w : kt_W} {g : kt_g} {d : Nat} {P : Option Value → kt_M → Prop} {X : String → Nat → kt_M → Prop} {a0 : Nat} {v1 : Int32} {M : kt_M} (h : vc_X5_isVersion w (g, M) d P X a0 v1 M) : kt_Sp w g (d + 1) yX5_isVersion kc_X5_isVersion [va_rf (some a0), .int v1] M P X := by
  refine kt_of (L0 := [(0, va_rf (some a0)), (1, .int v1)]) (by decide +kernel) (Nat.le_of_ble_eq_true rfl) rfl fun x O => ?_
  replace O : kt_O w x (g, M) (d + 1) cX5_isVersion "KeyTurnsModel" 2 ("isVersion", "(I)Z") (Option.some Jvm.ClassFile.FieldType.boolean) [] := O
  unfold vc_X5_isVersion at h
  refine kr_iload_n O dX5_isVersion_0 rfl 1 rfl ?_
  refine kr_iconst O dX5_isVersion_1 (v := (0 : Int32)) (by decide) ?_
  refine kr_aload_n O dX5_isVersion_2 rfl 0 rfl ?_
  obtain ⟨p1, ep1, h⟩ := h
  refine kr_getf O dX5_isVersion_3 fs_X5_25 ep1 ?_
  refine kr_iconst O dX5_isVersion_6 (v := (1 : Int32)) (by decide) ?_
  obtain ⟨b2, rfl, h⟩ := h
  obtain ⟨u3, eu3, h⟩ := h
  refine kr_iaload O dX5_isVersion_7 eu3 ?_
  refine kr_iconst O dX5_isVersion_8 (v := (1 : Int32)) (by decide) ?_
  refine kr_isub O dX5_isVersion_9 ?_
  refine kr_caI (rest := []) O cd_X5_inRange h (Nat.le_of_ble_eq_true rfl) (fun ls _ => kt_ivS O dX5_isVersion_10 cd_X5_inRange in_X5_inRange q2586 q2587 hy_X5_inRange) (fun u4 M5 hq => ?_) (fun E q M9 hx => kr_out O hx)
  replace h := hq
  clear hq
  exact kr_iret O dX5_isVersion_13 h.1 h.2
def vc_X5_stateOf (w : kt_W) (gr : kt_g × kt_M) (d : Nat) (P : Option Value → kt_M → Prop) (X : String → Nat → kt_M → Prop) (a0 : Nat) (v1 : Int32) (M : kt_M) : Prop :=
  (kt_co M a0 = some 12) ∧ 
  kt_Ca w gr d yX5_isGone kc_X5_isGone [va_rf (some a0), .int v1] M (kt_pI fun u1 M2 => 
    ((u1 = 0 → (kt_co M2 a0 = some 12) ∧ 
    kt_Ca w gr d yX5_hour kc_X5_hour [va_rf (some a0)] M2 (kt_pI fun u3 M4 => (kt_co M4 a0 = some 12) ∧ 
    kt_Ca w gr d yX5_ofVersion kc_X5_ofVersion [va_rf (some a0), .int v1, .int (1 : Int32)] M4 (kt_pI fun u5 M6 => 
      ((u3 ≤ u5 → (kt_co M6 a0 = some 12) ∧ 
      kt_Ca w gr d yX5_hour kc_X5_hour [va_rf (some a0)] M6 (kt_pI fun u7 M8 => (kt_co M8 a0 = some 12) ∧ 
      kt_Ca w gr d yX5_ofVersion kc_X5_ofVersion [va_rf (some a0), .int v1, .int (0 : Int32)] M8 (kt_pI fun u9 M10 => 
        ((u9 ≤ u7 → P (some (.int (1 : Int32))) M10) ∧
        (¬ u9 ≤ u7 → P (some (.int (0 : Int32))) M10))) X) X) ∧
      (¬ u3 ≤ u5 → P (some (.int (2 : Int32))) M6))) X) X) ∧
    (¬ u1 = 0 → P (some (.int (3 : Int32))) M2))) X
theorem ce_X5_stateOf {w : kt_W} {g : kt_g} {d : Nat} {P : Option Value → kt_M → Prop} {X : String → Nat → kt_M → Prop} {a0 : Nat} {v1 : Int32} {M : kt_M} (h : vc_X5_stateOf w (g, M) d P X a0 v1 M) : kt_Sp w g (d + 1) yX5_stateOf kc_X5_stateOf [va_rf (some a0), .int v1] M P X := by
  refine kt_of (L0 := [(0, va_rf (some a0)), (1, .int v1)]) (by decide +kernel) (Nat.le_of_ble_eq_true rfl) rfl fun x O => ?_
  replace O : kt_O w x (g, M) (d + 1) cX5_stateOf "KeyTurnsModel" 2 ("stateOf", "(I)I") (Option.some Jvm.ClassFile.FieldType.int) [] := O
  unfold vc_X5_stateOf at h
  refine kr_aload_n O dX5_stateOf_0 rfl 0 rfl ?_
  refine kr_iload_n O dX5_stateOf_1 rfl 1 rfl ?_
  obtain ⟨hco, h⟩ := h
  refine kr_caI (rest := []) O cd_X5_isGone h (Nat.le_of_ble_eq_true rfl) (fun ls _ => kt_ivV (ci := 12) O dX5_stateOf_2 cd_X5_isGone in_X5_isGone (Or.inl q2578) q2580 qs44 hco (by decide) hy_X5_isGone) (fun u1 M2 hq => ?_) (fun E q M9 hx => kr_out O hx)
  replace h := hq
  clear hq
  refine kr_if_eq (tgt := 10) O dX5_stateOf_5 rfl (fun hc => ?_) (fun hc => ?_)
  · replace h := h.1 hc
    refine kr_aload_n O dX5_stateOf_10 rfl 0 rfl ?_
    obtain ⟨hco, h⟩ := h
    refine kr_caI (rest := []) O cd_X5_hour h (Nat.le_of_ble_eq_true rfl) (fun ls _ => kt_ivV (ci := 12) O dX5_stateOf_11 cd_X5_hour in_X5_hour (Or.inl q2582) q2584 qs45 hco (by decide) hy_X5_hour) (fun u3 M4 hq => ?_) (fun E q M9 hx => kr_out O hx)
    replace h := hq
    clear hq
    refine kr_aload_n O dX5_stateOf_14 rfl 0 rfl ?_
    refine kr_iload_n O dX5_stateOf_15 rfl 1 rfl ?_
    refine kr_iconst O dX5_stateOf_16 (v := (1 : Int32)) (by decide) ?_
    obtain ⟨hco, h⟩ := h
    refine kr_caI (rest := [.int u3]) O cd_X5_ofVersion h (Nat.le_of_ble_eq_true rfl) (fun ls _ => kt_ivV (ci := 12) O dX5_stateOf_17 cd_X5_ofVersion in_X5_ofVersion (Or.inl q2470) q2472 qs39 hco (by decide) hy_X5_ofVersion) (fun u5 M6 hq => ?_) (fun E q M9 hx => kr_out O hx)
    replace h := hq
    clear hq
    refine kr_icmp_le (tgt := 27) O dX5_stateOf_20 rfl (fun hc => ?_) (fun hc => ?_)
    · replace h := h.1 hc
      refine kr_aload_n O dX5_stateOf_27 rfl 0 rfl ?_
      obtain ⟨hco, h⟩ := h
      refine kr_caI (rest := []) O cd_X5_hour h (Nat.le_of_ble_eq_true rfl) (fun ls _ => kt_ivV (ci := 12) O dX5_stateOf_28 cd_X5_hour in_X5_hour (Or.inl q2582) q2584 qs45 hco (by decide) hy_X5_hour) (fun u7 M8 hq => ?_) (fun E q M9 hx => kr_out O hx)
      replace h := hq
      clear hq
      refine kr_aload_n O dX5_stateOf_31 rfl 0 rfl ?_
      refine kr_iload_n O dX5_stateOf_32 rfl 1 rfl ?_
      refine kr_iconst O dX5_stateOf_33 (v := (0 : Int32)) (by decide) ?_
      obtain ⟨hco, h⟩ := h
      refine kr_caI (rest := [.int u7]) O cd_X5_ofVersion h (Nat.le_of_ble_eq_true rfl) (fun ls _ => kt_ivV (ci := 12) O dX5_stateOf_34 cd_X5_ofVersion in_X5_ofVersion (Or.inl q2470) q2472 qs39 hco (by decide) hy_X5_ofVersion) (fun u9 M10 hq => ?_) (fun E q M9 hx => kr_out O hx)
      replace h := hq
      clear hq
      refine kr_icmp_ge (tgt := 44) O dX5_stateOf_37 rfl (fun hc => ?_) (fun hc => ?_)
      · replace h := h.1 hc
        refine kr_iconst O dX5_stateOf_44 (v := (1 : Int32)) (by decide) ?_
        exact kr_iret O dX5_stateOf_45 rfl h
      · replace h := h.2 hc
        refine kr_iconst O dX5_stateOf_40 (v := (0 : Int32)) (by decide) ?_
        refine kr_goto (tgt := 45) O dX5_stateOf_41 rfl ?_
        exact kr_iret O dX5_stateOf_45 rfl h
    · replace h := h.2 hc
      refine kr_iconst O dX5_stateOf_23 (v := (2 : Int32)) (by decide) ?_
      refine kr_goto (tgt := 45) O dX5_stateOf_24 rfl ?_
      exact kr_iret O dX5_stateOf_45 rfl h
  · replace h := h.2 hc
    refine kr_iconst O dX5_stateOf_8 (v := (3 : Int32)) (by decide) ?_
    exact kr_iret O dX5_stateOf_9 rfl h
def vc_X5_wrappedBy_4 (w : kt_W) (gr : kt_g × kt_M) (d : Nat) (P : Option Value → kt_M → Prop) (X : String → Nat → kt_M → Prop) (nx4 : Int32 → Int32 → kt_M → Prop) (a0 : Nat) (v1 : Int32) (v2 : Int32) (v3 : Int32) (M : kt_M) : Prop :=
  ∃ p1, kt_gf M a0 73 = some (va_rf p1) ∧ ∃ b2, p1 = some b2 ∧ ∃ u3, kt_el 0 M b2 (2 : Int32) = some (.int u3) ∧ 
    ((u3 ≤ v3 → P (some (.int v2)) M) ∧
    (¬ u3 ≤ v3 → (kt_co M a0 = some 12) ∧ 
    kt_Ca w gr d yX5_isRecord kc_X5_isRecord [va_rf (some a0), .int v3] M (kt_pI fun u4 M5 => 
      ((u4 = 0 → nx4 (v2 + (0 : Int32)) (v3 + (1 : Int32)) M5) ∧
      (¬ u4 = 0 → (kt_co M5 a0 = some 12) ∧ 
      kt_Ca w gr d yX5_ofRecord kc_X5_ofRecord [va_rf (some a0), .int v3, .int (1 : Int32)] M5 (kt_pI fun u6 M7 => 
      kt_Ca w gr d yX5_has kc_X5_has [.int u6, .int v1] M7 (kt_pI fun u8 M9 => 
        ((u8 = 0 → nx4 (v2 + (0 : Int32)) (v3 + (1 : Int32)) M9) ∧
        (¬ u8 = 0 → nx4 (v2 + (1 : Int32)) (v3 + (1 : Int32)) M9))) X) X))) X))
theorem cj_X5_wrappedBy_4 {w : kt_W} {x : kt_X} {gr : kt_g × kt_M} {d : Nat} {P : Option Value → kt_M → Prop} {X : String → Nat → kt_M → Prop} {nx4 : Int32 → Int32 → kt_M → Prop} {a0 : Nat} {v1 : Int32} {v2 : Int32} {v3 : Int32} {M : kt_M} (O : kt_O w x gr (d + 1) cX5_wrappedBy "KeyTurnsModel" 4 ("wrappedBy", "(I)I") (Option.some Jvm.ClassFile.FieldType.int) []) (hn4 : ∀ v2 v3 M, nx4 v2 v3 M → kt_S w x 4 (kt_E w x P X) M 4 [(0, va_rf (some a0)), (1, .int v1), (2, .int v2), (3, .int v3)] []) (h : vc_X5_wrappedBy_4 w gr d P X nx4 a0 v1 v2 v3 M) : kt_S w x 4 (kt_E w x P X) M 4 [(0, va_rf (some a0)), (1, .int v1), (2, .int v2), (3, .int v3)] [] := by
  unfold vc_X5_wrappedBy_4 at h
  refine kr_iload_n O dX5_wrappedBy_4 rfl 3 rfl ?_
  refine kr_aload_n O dX5_wrappedBy_5 rfl 0 rfl ?_
  obtain ⟨p1, ep1, h⟩ := h
  refine kr_getf O dX5_wrappedBy_6 fs_X5_25 ep1 ?_
  refine kr_iconst O dX5_wrappedBy_9 (v := (2 : Int32)) (by decide) ?_
  obtain ⟨b2, rfl, h⟩ := h
  obtain ⟨u3, eu3, h⟩ := h
  refine kr_iaload O dX5_wrappedBy_10 eu3 ?_
  refine kr_icmp_ge (tgt := 49) O dX5_wrappedBy_11 rfl (fun hc => ?_) (fun hc => ?_)
  · replace h := h.1 hc
    refine kr_iload_n O dX5_wrappedBy_49 rfl 2 rfl ?_
    exact kr_iret O dX5_wrappedBy_50 rfl h
  · replace h := h.2 hc
    refine kr_iload_n O dX5_wrappedBy_14 rfl 2 rfl ?_
    refine kr_aload_n O dX5_wrappedBy_15 rfl 0 rfl ?_
    refine kr_iload_n O dX5_wrappedBy_16 rfl 3 rfl ?_
    obtain ⟨hco, h⟩ := h
    refine kr_caI (rest := [.int v2]) O cd_X5_isRecord h (Nat.le_of_ble_eq_true rfl) (fun ls _ => kt_ivV (ci := 12) O dX5_wrappedBy_17 cd_X5_isRecord in_X5_isRecord (Or.inl q2597) q2599 qs48 hco (by decide) hy_X5_isRecord) (fun u4 M5 hq => ?_) (fun E q M9 hx => kr_out O hx)
    replace h := hq
    clear hq
    refine kr_if_eq (tgt := 40) O dX5_wrappedBy_20 rfl (fun hc => ?_) (fun hc => ?_)
    · replace h := h.1 hc
      refine kr_iconst O dX5_wrappedBy_40 (v := (0 : Int32)) (by decide) ?_
      refine kr_iadd O dX5_wrappedBy_41 ?_
      refine kr_istore_n O dX5_wrappedBy_42 rfl (Nat.le_of_ble_eq_true rfl) rfl rfl ?_
      refine kr_iinc O dX5_wrappedBy_43 3 rfl (v := v3 + (1 : Int32)) rfl (Nat.le_of_ble_eq_true rfl) rfl rfl ?_
      refine kr_goto (tgt := 4) O dX5_wrappedBy_46 rfl ?_
      refine kr_sub [2, 3, 1, 0] rfl ?_
      exact hn4 _ _ _ h
    · replace h := h.2 hc
      refine kr_aload_n O dX5_wrappedBy_23 rfl 0 rfl ?_
      refine kr_iload_n O dX5_wrappedBy_24 rfl 3 rfl ?_
      refine kr_iconst O dX5_wrappedBy_25 (v := (1 : Int32)) (by decide) ?_
      obtain ⟨hco, h⟩ := h
      refine kr_caI (rest := [.int v2]) O cd_X5_ofRecord h (Nat.le_of_ble_eq_true rfl) (fun ls _ => kt_ivV (ci := 12) O dX5_wrappedBy_26 cd_X5_ofRecord in_X5_ofRecord (Or.inl q2563) q2565 qs41 hco (by decide) hy_X5_ofRecord) (fun u6 M7 hq => ?_) (fun E q M9 hx => kr_out O hx)
      replace h := hq
      clear hq
      refine kr_iload_n O dX5_wrappedBy_29 rfl 1 rfl ?_
      refine kr_caI (rest := [.int v2]) O cd_X5_has h (Nat.le_of_ble_eq_true rfl) (fun ls _ => kt_ivS O dX5_wrappedBy_30 cd_X5_has in_X5_has q2626 q2627 hy_X5_has) (fun u8 M9 hq => ?_) (fun E q M9 hx => kr_out O hx)
      replace h := hq
      clear hq
      refine kr_if_eq (tgt := 40) O dX5_wrappedBy_33 rfl (fun hc => ?_) (fun hc => ?_)
      · replace h := h.1 hc
        refine kr_iconst O dX5_wrappedBy_40 (v := (0 : Int32)) (by decide) ?_
        refine kr_iadd O dX5_wrappedBy_41 ?_
        refine kr_istore_n O dX5_wrappedBy_42 rfl (Nat.le_of_ble_eq_true rfl) rfl rfl ?_
        refine kr_iinc O dX5_wrappedBy_43 3 rfl (v := v3 + (1 : Int32)) rfl (Nat.le_of_ble_eq_true rfl) rfl rfl ?_
        refine kr_goto (tgt := 4) O dX5_wrappedBy_46 rfl ?_
        refine kr_sub [2, 3, 1, 0] rfl ?_
        exact hn4 _ _ _ h
      · replace h := h.2 hc
        refine kr_iconst O dX5_wrappedBy_36 (v := (1 : Int32)) (by decide) ?_
        refine kr_goto (tgt := 41) O dX5_wrappedBy_37 rfl ?_
        refine kr_iadd O dX5_wrappedBy_41 ?_
        refine kr_istore_n O dX5_wrappedBy_42 rfl (Nat.le_of_ble_eq_true rfl) rfl rfl ?_
        refine kr_iinc O dX5_wrappedBy_43 3 rfl (v := v3 + (1 : Int32)) rfl (Nat.le_of_ble_eq_true rfl) rfl rfl ?_
        refine kr_goto (tgt := 4) O dX5_wrappedBy_46 rfl ?_
        refine kr_sub [2, 3, 1, 0] rfl ?_
        exact hn4 _ _ _ h
def vl_X5_wrappedBy_4 (w : kt_W) (gr : kt_g × kt_M) (d : Nat) (P : Option Value → kt_M → Prop) (X : String → Nat → kt_M → Prop)  (a0 : Nat) (v1 : Int32) (v2 : Int32) (v3 : Int32) (M : kt_M) : Prop :=
  ∃ Inv : Nat → Int32 → Int32 → kt_M → Prop, (∃ k, Inv k v2 v3 M) ∧ ∀ k v2 v3 M, kt_le gr.1 gr.2 M → Inv k v2 v3 M → vc_X5_wrappedBy_4 w gr d P X (fun v2' v3' M' => ∃ k', k' < k ∧ Inv k' v2' v3' M') a0 v1 v2 v3 M
theorem cl_X5_wrappedBy_4 {w : kt_W} {x : kt_X} {gr : kt_g × kt_M} {d : Nat} {P : Option Value → kt_M → Prop} {X : String → Nat → kt_M → Prop}  {a0 : Nat} {v1 : Int32} {v2 : Int32} {v3 : Int32} {M : kt_M} (O : kt_O w x gr (d + 1) cX5_wrappedBy "KeyTurnsModel" 4 ("wrappedBy", "(I)I") (Option.some Jvm.ClassFile.FieldType.int) [])  (h : vl_X5_wrappedBy_4 w gr d P X  a0 v1 v2 v3 M) : kt_S w x 4 (kt_E w x P X) M 4 [(0, va_rf (some a0)), (1, .int v1), (2, .int v2), (3, .int v3)] [] := by
  obtain ⟨Inv, ⟨k, hk⟩, hb⟩ := h
  induction k using Nat.strongRecOn generalizing v2 v3 M with
  | ind k ih =>
    exact kr_le O fun hle => cj_X5_wrappedBy_4 O (fun v2' v3' M' hi => let ⟨k', h1, h2⟩ := hi; ih k' h1 h2) (hb k _ _ _ hle hk)
def vc_X5_wrappedBy (w : kt_W) (gr : kt_g × kt_M) (d : Nat) (P : Option Value → kt_M → Prop) (X : String → Nat → kt_M → Prop) (a0 : Nat) (v1 : Int32) (M : kt_M) : Prop :=
  vl_X5_wrappedBy_4 w gr d P X  a0 v1 (0 : Int32) (0 : Int32) M
theorem ce_X5_wrappedBy {w : kt_W} {g : kt_g} {d : Nat} {P : Option Value → kt_M → Prop} {X : String → Nat → kt_M → Prop} {a0 : Nat} {v1 : Int32} {M : kt_M} (h : vc_X5_wrappedBy w (g, M) d P X a0 v1 M) : kt_Sp w g (d + 1) yX5_wrappedBy kc_X5_wrappedBy [va_rf (some a0), .int v1] M P X := by
  refine kt_of (L0 := [(0, va_rf (some a0)), (1, .int v1)]) (by decide +kernel) (Nat.le_of_ble_eq_true rfl) rfl fun x O => ?_
  replace O : kt_O w x (g, M) (d + 1) cX5_wrappedBy "KeyTurnsModel" 4 ("wrappedBy", "(I)I") (Option.some Jvm.ClassFile.FieldType.int) [] := O
  unfold vc_X5_wrappedBy at h
  refine kr_iconst O dX5_wrappedBy_0 (v := (0 : Int32)) (by decide) ?_
  refine kr_istore_n O dX5_wrappedBy_1 rfl (Nat.le_of_ble_eq_true rfl) rfl rfl ?_
  refine kr_iconst O dX5_wrappedBy_2 (v := (0 : Int32)) (by decide) ?_
  refine kr_istore_n O dX5_wrappedBy_3 rfl (Nat.le_of_ble_eq_true rfl) rfl rfl ?_
  refine kr_sub [2, 3, 1, 0] rfl ?_
  exact cl_X5_wrappedBy_4 O  h
def vc_X5_has (w : kt_W) (gr : kt_g × kt_M) (d : Nat) (P : Option Value → kt_M → Prop) (X : String → Nat → kt_M → Prop) (v0 : Int32) (v1 : Int32) (M : kt_M) : Prop :=
  
    ((¬ ((v0 >>> (v1 &&& 31)) &&& (1 : Int32)) = (1 : Int32) → P (some (.int (0 : Int32))) M) ∧
    (((v0 >>> (v1 &&& 31)) &&& (1 : Int32)) = (1 : Int32) → P (some (.int (1 : Int32))) M))
theorem ce_X5_has {w : kt_W} {g : kt_g} {d : Nat} {P : Option Value → kt_M → Prop} {X : String → Nat → kt_M → Prop} {v0 : Int32} {v1 : Int32} {M : kt_M} (h : vc_X5_has w (g, M) d P X v0 v1 M) : kt_Sp w g (d + 1) yX5_has kc_X5_has [.int v0, .int v1] M P X := by
  refine kt_of (L0 := [(0, .int v0), (1, .int v1)]) (by decide +kernel) (Nat.le_of_ble_eq_true rfl) rfl fun x O => ?_
  replace O : kt_O w x (g, M) (d + 1) cX5_has "KeyTurnsModel" 2 ("has", "(II)Z") (Option.some Jvm.ClassFile.FieldType.boolean) [] := O
  unfold vc_X5_has at h
  refine kr_iload_n O dX5_has_0 rfl 0 rfl ?_
  refine kr_iload_n O dX5_has_1 rfl 1 rfl ?_
  refine kr_ishr O dX5_has_2 ?_
  refine kr_iconst O dX5_has_3 (v := (1 : Int32)) (by decide) ?_
  refine kr_iand O dX5_has_4 ?_
  refine kr_iconst O dX5_has_5 (v := (1 : Int32)) (by decide) ?_
  refine kr_icmp_ne (tgt := 13) O dX5_has_6 rfl (fun hc => ?_) (fun hc => ?_)
  · replace h := h.1 hc
    refine kr_iconst O dX5_has_13 (v := (0 : Int32)) (by decide) ?_
    exact kr_iret O dX5_has_14 (by decide) h
  · replace h := h.2 hc
    refine kr_iconst O dX5_has_9 (v := (1 : Int32)) (by decide) ?_
    refine kr_goto (tgt := 14) O dX5_has_10 rfl ?_
    exact kr_iret O dX5_has_14 (by decide) h
def vc_X5_record (w : kt_W) (gr : kt_g × kt_M) (d : Nat) (P : Option Value → kt_M → Prop) (X : String → Nat → kt_M → Prop) (a0 : Nat) (v1 : Int32) (v2 : Int32) (M : kt_M) : Prop :=
  kt_hf gr M a0 71 ∧ ∀ M1, M1 = kt_pf M a0 71 (.int (0 : Int32)) → (kt_co M1 a0 = some 12) ∧ 
  kt_Ca w gr d yX5_isRecord kc_X5_isRecord [va_rf (some a0), .int v1] M1 (kt_pI fun u2 M3 => 
    ((¬ u2 = 0 → 
      ((v2.toInt < 0 ∨ 5 < v2.toInt → (kt_co M3 a0 = some 12) ∧ 
      kt_Ca w gr d yX5_raise kc_X5_raise [va_rf (some a0), .int (1 : Int32)] M3 (kt_pI fun u4 M5 => P (some (.int u4)) M5) X) ∧
      (v2.toInt = 0 → (kt_co M3 a0 = some 12) ∧ 
      kt_Ca w gr d yX5_ofRecord kc_X5_ofRecord [va_rf (some a0), .int v1, .int (0 : Int32)] M3 (kt_pI fun u6 M7 => P (some (.int u6)) M7) X) ∧
      (v2.toInt = 1 → (kt_co M3 a0 = some 12) ∧ 
      kt_Ca w gr d yX5_ofRecord kc_X5_ofRecord [va_rf (some a0), .int v1, .int (1 : Int32)] M3 (kt_pI fun u8 M9 => 
      kt_Ca w gr d yJ19_bitCount kc_J19_bitCount [.int u8] M9 (kt_pI fun u10 M11 => P (some (.int u10)) M11) X) X) ∧
      (v2.toInt = 2 → (kt_co M3 a0 = some 12) ∧ 
      kt_Ca w gr d yX5_ofRecord kc_X5_ofRecord [va_rf (some a0), .int v1, .int (1 : Int32)] M3 (kt_pI fun u12 M13 => P (some (.int u12)) M13) X) ∧
      (v2.toInt = 3 → (kt_co M3 a0 = some 12) ∧ 
      kt_Ca w gr d yX5_endOf kc_X5_endOf [va_rf (some a0), .int v1] M3 (kt_pI fun u14 M15 => P (some (.int u14)) M15) X) ∧
      (v2.toInt = 4 → (kt_co M3 a0 = some 12) ∧ 
      kt_Ca w gr d yX5_ofRecord kc_X5_ofRecord [va_rf (some a0), .int v1, .int (2 : Int32)] M3 (kt_pI fun u16 M17 => P (some (.int u16)) M17) X) ∧
      (v2.toInt = 5 → (kt_co M3 a0 = some 12) ∧ 
      kt_Ca w gr d yX5_readers kc_X5_readers [va_rf (some a0), .int v1] M3 (kt_pI fun u18 M19 => P (some (.int u18)) M19) X))) ∧
    (u2 = 0 → (kt_co M3 a0 = some 12) ∧ 
    kt_Ca w gr d yX5_raise kc_X5_raise [va_rf (some a0), .int (1 : Int32)] M3 (kt_pI fun u20 M21 => P (some (.int u20)) M21) X))) X
theorem ce_X5_record {w : kt_W} {g : kt_g} {d : Nat} {P : Option Value → kt_M → Prop} {X : String → Nat → kt_M → Prop} {a0 : Nat} {v1 : Int32} {v2 : Int32} {M : kt_M} (h : vc_X5_record w (g, M) d P X a0 v1 v2 M) : kt_Sp w g (d + 1) yX5_record kc_X5_record [va_rf (some a0), .int v1, .int v2] M P X := by
  refine kt_of (L0 := [(0, va_rf (some a0)), (1, .int v1), (2, .int v2)]) (by decide +kernel) (Nat.le_of_ble_eq_true rfl) rfl fun x O => ?_
  replace O : kt_O w x (g, M) (d + 1) cX5_record "KeyTurnsModel" 3 ("record", "(II)I") (Option.some Jvm.ClassFile.FieldType.int) [] := O
  unfold vc_X5_record at h
  refine kr_aload_n O dX5_record_0 rfl 0 rfl ?_
  refine kr_iconst O dX5_record_1 (v := (0 : Int32)) (by decide) ?_
  obtain ⟨hw, h⟩ := h
  refine kr_putf O dX5_record_2 fs_X5_71 (Or.inl rfl) ⟨rfl, rfl⟩ hw (kr_nmM fun M1 hM1 => ?_)
  replace h := h M1 hM1
  refine kr_aload_n O dX5_record_5 rfl 0 rfl ?_
  refine kr_iload_n O dX5_record_6 rfl 1 rfl ?_
  obtain ⟨hco, h⟩ := h
  refine kr_caI (rest := []) O cd_X5_isRecord h (Nat.le_of_ble_eq_true rfl) (fun ls _ => kt_ivV (ci := 12) O dX5_record_7 cd_X5_isRecord in_X5_isRecord (Or.inl q2597) q2599 qs48 hco (by decide) hy_X5_isRecord) (fun u2 M3 hq => ?_) (fun E q M9 hx => kr_out O hx)
  replace h := hq
  clear hq
  refine kr_if_ne (tgt := 19) O dX5_record_10 rfl (fun hc => ?_) (fun hc => ?_)
  · replace h := h.1 hc
    refine kr_iload_n O dX5_record_19 rfl 2 rfl ?_
    by_cases hs : v2.toInt < 0 ∨ 5 < v2.toInt
    · refine kr_tableOut (tgt := 103) O dX5_record_20 hs rfl ?_
      replace h := h.1 hs
      refine kr_aload_n O dX5_record_103 rfl 0 rfl ?_
      refine kr_iconst O dX5_record_104 (v := (1 : Int32)) (by decide) ?_
      obtain ⟨hco, h⟩ := h
      refine kr_caI (rest := []) O cd_X5_raise h (Nat.le_of_ble_eq_true rfl) (fun ls _ => kt_ivV (ci := 12) O dX5_record_105 cd_X5_raise in_X5_raise (Or.inl q2606) q2608 qs50 hco (by decide) hy_X5_raise) (fun u4 M5 hq => ?_) (fun E q M9 hx => kr_out O hx)
      replace h := hq
      clear hq
      exact kr_iret O dX5_record_108 rfl h
    replace h := h.2
    have hs2 : v2.toInt = 0 ∨ v2.toInt = 1 ∨ v2.toInt = 2 ∨ v2.toInt = 3 ∨ v2.toInt = 4 ∨ v2.toInt = 5 := by omega
    rcases hs2 with hs2 | hs2 | hs2 | hs2 | hs2 | hs2
    · refine kr_tableIn (tgt := 60) O dX5_record_20 (0) hs2 (by decide) (by decide) rfl rfl ?_
      replace h := h.1 hs2
      refine kr_aload_n O dX5_record_60 rfl 0 rfl ?_
      refine kr_iload_n O dX5_record_61 rfl 1 rfl ?_
      refine kr_iconst O dX5_record_62 (v := (0 : Int32)) (by decide) ?_
      obtain ⟨hco, h⟩ := h
      refine kr_caI (rest := []) O cd_X5_ofRecord h (Nat.le_of_ble_eq_true rfl) (fun ls _ => kt_ivV (ci := 12) O dX5_record_63 cd_X5_ofRecord in_X5_ofRecord (Or.inl q2563) q2565 qs41 hco (by decide) hy_X5_ofRecord) (fun u6 M7 hq => ?_) (fun E q M9 hx => kr_out O hx)
      replace h := hq
      clear hq
      exact kr_iret O dX5_record_66 rfl h
    · refine kr_tableIn (tgt := 67) O dX5_record_20 (1) hs2 (by decide) (by decide) rfl rfl ?_
      replace h := h.2.1 hs2
      refine kr_aload_n O dX5_record_67 rfl 0 rfl ?_
      refine kr_iload_n O dX5_record_68 rfl 1 rfl ?_
      refine kr_iconst O dX5_record_69 (v := (1 : Int32)) (by decide) ?_
      obtain ⟨hco, h⟩ := h
      refine kr_caI (rest := []) O cd_X5_ofRecord h (Nat.le_of_ble_eq_true rfl) (fun ls _ => kt_ivV (ci := 12) O dX5_record_70 cd_X5_ofRecord in_X5_ofRecord (Or.inl q2563) q2565 qs41 hco (by decide) hy_X5_ofRecord) (fun u8 M9 hq => ?_) (fun E q M9 hx => kr_out O hx)
      replace h := hq
      clear hq
      refine kr_caI (rest := []) O cd_J19_bitCount h (Nat.le_of_ble_eq_true rfl) (fun ls _ => kt_ivS O dX5_record_73 cd_J19_bitCount in_J19_bitCount q2605 q1921 hy_J19_bitCount) (fun u10 M11 hq => ?_) (fun E q M9 hx => kr_out O hx)
      replace h := hq
      clear hq
      exact kr_iret O dX5_record_76 rfl h
    · refine kr_tableIn (tgt := 77) O dX5_record_20 (2) hs2 (by decide) (by decide) rfl rfl ?_
      replace h := h.2.2.1 hs2
      refine kr_aload_n O dX5_record_77 rfl 0 rfl ?_
      refine kr_iload_n O dX5_record_78 rfl 1 rfl ?_
      refine kr_iconst O dX5_record_79 (v := (1 : Int32)) (by decide) ?_
      obtain ⟨hco, h⟩ := h
      refine kr_caI (rest := []) O cd_X5_ofRecord h (Nat.le_of_ble_eq_true rfl) (fun ls _ => kt_ivV (ci := 12) O dX5_record_80 cd_X5_ofRecord in_X5_ofRecord (Or.inl q2563) q2565 qs41 hco (by decide) hy_X5_ofRecord) (fun u12 M13 hq => ?_) (fun E q M9 hx => kr_out O hx)
      replace h := hq
      clear hq
      exact kr_iret O dX5_record_83 rfl h
    · refine kr_tableIn (tgt := 84) O dX5_record_20 (3) hs2 (by decide) (by decide) rfl rfl ?_
      replace h := h.2.2.2.1 hs2
      refine kr_aload_n O dX5_record_84 rfl 0 rfl ?_
      refine kr_iload_n O dX5_record_85 rfl 1 rfl ?_
      obtain ⟨hco, h⟩ := h
      refine kr_caI (rest := []) O cd_X5_endOf h (Nat.le_of_ble_eq_true rfl) (fun ls _ => kt_ivV (ci := 12) O dX5_record_86 cd_X5_endOf in_X5_endOf (Or.inl q2633) q2635 qs54 hco (by decide) hy_X5_endOf) (fun u14 M15 hq => ?_) (fun E q M9 hx => kr_out O hx)
      replace h := hq
      clear hq
      exact kr_iret O dX5_record_89 rfl h
    · refine kr_tableIn (tgt := 90) O dX5_record_20 (4) hs2 (by decide) (by decide) rfl rfl ?_
      replace h := h.2.2.2.2.1 hs2
      refine kr_aload_n O dX5_record_90 rfl 0 rfl ?_
      refine kr_iload_n O dX5_record_91 rfl 1 rfl ?_
      refine kr_iconst O dX5_record_92 (v := (2 : Int32)) (by decide) ?_
      obtain ⟨hco, h⟩ := h
      refine kr_caI (rest := []) O cd_X5_ofRecord h (Nat.le_of_ble_eq_true rfl) (fun ls _ => kt_ivV (ci := 12) O dX5_record_93 cd_X5_ofRecord in_X5_ofRecord (Or.inl q2563) q2565 qs41 hco (by decide) hy_X5_ofRecord) (fun u16 M17 hq => ?_) (fun E q M9 hx => kr_out O hx)
      replace h := hq
      clear hq
      exact kr_iret O dX5_record_96 rfl h
    · refine kr_tableIn (tgt := 97) O dX5_record_20 (5) hs2 (by decide) (by decide) rfl rfl ?_
      replace h := h.2.2.2.2.2 hs2
      refine kr_aload_n O dX5_record_97 rfl 0 rfl ?_
      refine kr_iload_n O dX5_record_98 rfl 1 rfl ?_
      obtain ⟨hco, h⟩ := h
      refine kr_caI (rest := []) O cd_X5_readers h (Nat.le_of_ble_eq_true rfl) (fun ls _ => kt_ivV (ci := 12) O dX5_record_99 cd_X5_readers in_X5_readers (Or.inl q2638) q2640 qs55 hco (by decide) hy_X5_readers) (fun u18 M19 hq => ?_) (fun E q M9 hx => kr_out O hx)
      replace h := hq
      clear hq
      exact kr_iret O dX5_record_102 rfl h
  · replace h := h.2 hc
    refine kr_aload_n O dX5_record_13 rfl 0 rfl ?_
    refine kr_iconst O dX5_record_14 (v := (1 : Int32)) (by decide) ?_
    obtain ⟨hco, h⟩ := h
    refine kr_caI (rest := []) O cd_X5_raise h (Nat.le_of_ble_eq_true rfl) (fun ls _ => kt_ivV (ci := 12) O dX5_record_15 cd_X5_raise in_X5_raise (Or.inl q2606) q2608 qs50 hco (by decide) hy_X5_raise) (fun u20 M21 hq => ?_) (fun E q M9 hx => kr_out O hx)
    replace h := hq
    clear hq
    exact kr_iret O dX5_record_18 rfl h
def vc_X5_endOf_4 (w : kt_W) (gr : kt_g × kt_M) (d : Nat) (P : Option Value → kt_M → Prop) (X : String → Nat → kt_M → Prop) (nx4 : Int32 → Int32 → kt_M → Prop) (a0 : Nat) (v1 : Int32) (v2 : Int32) (v3 : Int32) (M : kt_M) : Prop :=
  ∃ p1, kt_gf M a0 73 = some (va_rf p1) ∧ ∃ b2, p1 = some b2 ∧ ∃ u3, kt_el 0 M b2 (1 : Int32) = some (.int u3) ∧ 
    ((u3 ≤ v3 → P (some (.int v2)) M) ∧
    (¬ u3 ≤ v3 → (kt_co M a0 = some 12) ∧ 
    kt_Ca w gr d yX5_ofRecord kc_X5_ofRecord [va_rf (some a0), .int v1, .int (1 : Int32)] M (kt_pI fun u4 M5 => 
    kt_Ca w gr d yX5_has kc_X5_has [.int u4, .int v3] M5 (kt_pI fun u6 M7 => 
      ((u6 = 0 → nx4 v2 (v3 + (1 : Int32)) M7) ∧
      (¬ u6 = 0 → (kt_co M7 a0 = some 12) ∧ 
      kt_Ca w gr d yX5_ofVersion kc_X5_ofVersion [va_rf (some a0), .int v3, .int (1 : Int32)] M7 (kt_pI fun u8 M9 => 
      kt_Ca w gr d yJ7_max kc_J7_max [.int v2, .int u8] M9 (kt_pI fun u10 M11 => nx4 u10 (v3 + (1 : Int32)) M11) X) X))) X) X))
theorem cj_X5_endOf_4 {w : kt_W} {x : kt_X} {gr : kt_g × kt_M} {d : Nat} {P : Option Value → kt_M → Prop} {X : String → Nat → kt_M → Prop} {nx4 : Int32 → Int32 → kt_M → Prop} {a0 : Nat} {v1 : Int32} {v2 : Int32} {v3 : Int32} {M : kt_M} (O : kt_O w x gr (d + 1) cX5_endOf "KeyTurnsModel" 4 ("endOf", "(I)I") (Option.some Jvm.ClassFile.FieldType.int) []) (hn4 : ∀ v2 v3 M, nx4 v2 v3 M → kt_S w x 4 (kt_E w x P X) M 4 [(0, va_rf (some a0)), (1, .int v1), (2, .int v2), (3, .int v3)] []) (h : vc_X5_endOf_4 w gr d P X nx4 a0 v1 v2 v3 M) : kt_S w x 4 (kt_E w x P X) M 4 [(0, va_rf (some a0)), (1, .int v1), (2, .int v2), (3, .int v3)] [] := by
  unfold vc_X5_endOf_4 at h
  refine kr_iload_n O dX5_endOf_4 rfl 3 rfl ?_
  refine kr_aload_n O dX5_endOf_5 rfl 0 rfl ?_
  obtain ⟨p1, ep1, h⟩ := h
  refine kr_getf O dX5_endOf_6 fs_X5_25 ep1 ?_
  refine kr_iconst O dX5_endOf_9 (v := (1 : Int32)) (by decide) ?_
  obtain ⟨b2, rfl, h⟩ := h
  obtain ⟨u3, eu3, h⟩ := h
  refine kr_iaload O dX5_endOf_10 eu3 ?_
  refine kr_icmp_ge (tgt := 48) O dX5_endOf_11 rfl (fun hc => ?_) (fun hc => ?_)
  · replace h := h.1 hc
    refine kr_iload_n O dX5_endOf_48 rfl 2 rfl ?_
    exact kr_iret O dX5_endOf_49 rfl h
  · replace h := h.2 hc
    refine kr_aload_n O dX5_endOf_14 rfl 0 rfl ?_
    refine kr_iload_n O dX5_endOf_15 rfl 1 rfl ?_
    refine kr_iconst O dX5_endOf_16 (v := (1 : Int32)) (by decide) ?_
    obtain ⟨hco, h⟩ := h
    refine kr_caI (rest := []) O cd_X5_ofRecord h (Nat.le_of_ble_eq_true rfl) (fun ls _ => kt_ivV (ci := 12) O dX5_endOf_17 cd_X5_ofRecord in_X5_ofRecord (Or.inl q2563) q2565 qs41 hco (by decide) hy_X5_ofRecord) (fun u4 M5 hq => ?_) (fun E q M9 hx => kr_out O hx)
    replace h := hq
    clear hq
    refine kr_iload_n O dX5_endOf_20 rfl 3 rfl ?_
    refine kr_caI (rest := []) O cd_X5_has h (Nat.le_of_ble_eq_true rfl) (fun ls _ => kt_ivS O dX5_endOf_21 cd_X5_has in_X5_has q2626 q2627 hy_X5_has) (fun u6 M7 hq => ?_) (fun E q M9 hx => kr_out O hx)
    replace h := hq
    clear hq
    refine kr_if_eq (tgt := 40) O dX5_endOf_24 rfl (fun hc => ?_) (fun hc => ?_)
    · replace h := h.1 hc
      refine kr_iload_n O dX5_endOf_40 rfl 2 rfl ?_
      refine kr_istore_n O dX5_endOf_41 rfl (Nat.le_of_ble_eq_true rfl) rfl rfl ?_
      refine kr_iinc O dX5_endOf_42 3 rfl (v := v3 + (1 : Int32)) rfl (Nat.le_of_ble_eq_true rfl) rfl rfl ?_
      refine kr_goto (tgt := 4) O dX5_endOf_45 rfl ?_
      refine kr_sub [2, 3, 1, 0] rfl ?_
      exact hn4 _ _ _ h
    · replace h := h.2 hc
      refine kr_iload_n O dX5_endOf_27 rfl 2 rfl ?_
      refine kr_aload_n O dX5_endOf_28 rfl 0 rfl ?_
      refine kr_iload_n O dX5_endOf_29 rfl 3 rfl ?_
      refine kr_iconst O dX5_endOf_30 (v := (1 : Int32)) (by decide) ?_
      obtain ⟨hco, h⟩ := h
      refine kr_caI (rest := [.int v2]) O cd_X5_ofVersion h (Nat.le_of_ble_eq_true rfl) (fun ls _ => kt_ivV (ci := 12) O dX5_endOf_31 cd_X5_ofVersion in_X5_ofVersion (Or.inl q2470) q2472 qs39 hco (by decide) hy_X5_ofVersion) (fun u8 M9 hq => ?_) (fun E q M9 hx => kr_out O hx)
      replace h := hq
      clear hq
      refine kr_caI (rest := []) O cd_J7_max h (Nat.le_of_ble_eq_true rfl) (fun ls _ => kt_ivS O dX5_endOf_34 cd_J7_max in_J7_max q2637 q367 hy_J7_max) (fun u10 M11 hq => ?_) (fun E q M9 hx => kr_out O hx)
      replace h := hq
      clear hq
      refine kr_goto (tgt := 41) O dX5_endOf_37 rfl ?_
      refine kr_istore_n O dX5_endOf_41 rfl (Nat.le_of_ble_eq_true rfl) rfl rfl ?_
      refine kr_iinc O dX5_endOf_42 3 rfl (v := v3 + (1 : Int32)) rfl (Nat.le_of_ble_eq_true rfl) rfl rfl ?_
      refine kr_goto (tgt := 4) O dX5_endOf_45 rfl ?_
      refine kr_sub [2, 3, 1, 0] rfl ?_
      exact hn4 _ _ _ h
def vl_X5_endOf_4 (w : kt_W) (gr : kt_g × kt_M) (d : Nat) (P : Option Value → kt_M → Prop) (X : String → Nat → kt_M → Prop)  (a0 : Nat) (v1 : Int32) (v2 : Int32) (v3 : Int32) (M : kt_M) : Prop :=
  ∃ Inv : Nat → Int32 → Int32 → kt_M → Prop, (∃ k, Inv k v2 v3 M) ∧ ∀ k v2 v3 M, kt_le gr.1 gr.2 M → Inv k v2 v3 M → vc_X5_endOf_4 w gr d P X (fun v2' v3' M' => ∃ k', k' < k ∧ Inv k' v2' v3' M') a0 v1 v2 v3 M
theorem cl_X5_endOf_4 {w : kt_W} {x : kt_X} {gr : kt_g × kt_M} {d : Nat} {P : Option Value → kt_M → Prop} {X : String → Nat → kt_M → Prop}  {a0 : Nat} {v1 : Int32} {v2 : Int32} {v3 : Int32} {M : kt_M} (O : kt_O w x gr (d + 1) cX5_endOf "KeyTurnsModel" 4 ("endOf", "(I)I") (Option.some Jvm.ClassFile.FieldType.int) [])  (h : vl_X5_endOf_4 w gr d P X  a0 v1 v2 v3 M) : kt_S w x 4 (kt_E w x P X) M 4 [(0, va_rf (some a0)), (1, .int v1), (2, .int v2), (3, .int v3)] [] := by
  obtain ⟨Inv, ⟨k, hk⟩, hb⟩ := h
  induction k using Nat.strongRecOn generalizing v2 v3 M with
  | ind k ih =>
    exact kr_le O fun hle => cj_X5_endOf_4 O (fun v2' v3' M' hi => let ⟨k', h1, h2⟩ := hi; ih k' h1 h2) (hb k _ _ _ hle hk)
def vc_X5_endOf (w : kt_W) (gr : kt_g × kt_M) (d : Nat) (P : Option Value → kt_M → Prop) (X : String → Nat → kt_M → Prop) (a0 : Nat) (v1 : Int32) (M : kt_M) : Prop :=
  vl_X5_endOf_4 w gr d P X  a0 v1 (-1 : Int32) (0 : Int32) M
theorem ce_X5_endOf {w : kt_W} {g : kt_g} {d : Nat} {P : Option Value → kt_M → Prop} {X : String → Nat → kt_M → Prop} {a0 : Nat} {v1 : Int32} {M : kt_M} (h : vc_X5_endOf w (g, M) d P X a0 v1 M) : kt_Sp w g (d + 1) yX5_endOf kc_X5_endOf [va_rf (some a0), .int v1] M P X := by
  refine kt_of (L0 := [(0, va_rf (some a0)), (1, .int v1)]) (by decide +kernel) (Nat.le_of_ble_eq_true rfl) rfl fun x O => ?_
  replace O : kt_O w x (g, M) (d + 1) cX5_endOf "KeyTurnsModel" 4 ("endOf", "(I)I") (Option.some Jvm.ClassFile.FieldType.int) [] := O
  unfold vc_X5_endOf at h
  refine kr_iconst O dX5_endOf_0 (v := (-1 : Int32)) (by decide) ?_
  refine kr_istore_n O dX5_endOf_1 rfl (Nat.le_of_ble_eq_true rfl) rfl rfl ?_
  refine kr_iconst O dX5_endOf_2 (v := (0 : Int32)) (by decide) ?_
  refine kr_istore_n O dX5_endOf_3 rfl (Nat.le_of_ble_eq_true rfl) rfl rfl ?_
  refine kr_sub [2, 3, 1, 0] rfl ?_
  exact cl_X5_endOf_4 O  h
def vc_X5_readers_4 (w : kt_W) (gr : kt_g × kt_M) (d : Nat) (P : Option Value → kt_M → Prop) (X : String → Nat → kt_M → Prop) (nx4 : Int32 → Int32 → kt_M → Prop) (a0 : Nat) (v1 : Int32) (v2 : Int32) (v3 : Int32) (M : kt_M) : Prop :=
  ∃ p1, kt_gf M a0 73 = some (va_rf p1) ∧ ∃ b2, p1 = some b2 ∧ ∃ u3, kt_el 0 M b2 (3 : Int32) = some (.int u3) ∧ 
    ((u3 ≤ v3 → P (some (.int v2)) M) ∧
    (¬ u3 ≤ v3 → (kt_co M a0 = some 12) ∧ 
    kt_Ca w gr d yX5_usable kc_X5_usable [va_rf (some a0), .int v3] M (kt_pI fun u4 M5 => (kt_co M5 a0 = some 12) ∧ 
    kt_Ca w gr d yX5_ofRecord kc_X5_ofRecord [va_rf (some a0), .int v1, .int (1 : Int32)] M5 (kt_pI fun u6 M7 => 
      (((u4 &&& u6) = 0 → nx4 (v2 ||| (0 : Int32)) (v3 + (1 : Int32)) M7) ∧
      (¬ (u4 &&& u6) = 0 → nx4 (v2 ||| ((1 : Int32) <<< (v3 &&& 31))) (v3 + (1 : Int32)) M7))) X) X))
theorem cj_X5_readers_4 {w : kt_W} {x : kt_X} {gr : kt_g × kt_M} {d : Nat} {P : Option Value → kt_M → Prop} {X : String → Nat → kt_M → Prop} {nx4 : Int32 → Int32 → kt_M → Prop} {a0 : Nat} {v1 : Int32} {v2 : Int32} {v3 : Int32} {M : kt_M} (O : kt_O w x gr (d + 1) cX5_readers "KeyTurnsModel" 4 ("readers", "(I)I") (Option.some Jvm.ClassFile.FieldType.int) []) (hn4 : ∀ v2 v3 M, nx4 v2 v3 M → kt_S w x 4 (kt_E w x P X) M 4 [(0, va_rf (some a0)), (1, .int v1), (2, .int v2), (3, .int v3)] []) (h : vc_X5_readers_4 w gr d P X nx4 a0 v1 v2 v3 M) : kt_S w x 4 (kt_E w x P X) M 4 [(0, va_rf (some a0)), (1, .int v1), (2, .int v2), (3, .int v3)] [] := by
  unfold vc_X5_readers_4 at h
  refine kr_iload_n O dX5_readers_4 rfl 3 rfl ?_
  refine kr_aload_n O dX5_readers_5 rfl 0 rfl ?_
  obtain ⟨p1, ep1, h⟩ := h
  refine kr_getf O dX5_readers_6 fs_X5_25 ep1 ?_
  refine kr_iconst O dX5_readers_9 (v := (3 : Int32)) (by decide) ?_
  obtain ⟨b2, rfl, h⟩ := h
  obtain ⟨u3, eu3, h⟩ := h
  refine kr_iaload O dX5_readers_10 eu3 ?_
  refine kr_icmp_ge (tgt := 45) O dX5_readers_11 rfl (fun hc => ?_) (fun hc => ?_)
  · replace h := h.1 hc
    refine kr_iload_n O dX5_readers_45 rfl 2 rfl ?_
    exact kr_iret O dX5_readers_46 rfl h
  · replace h := h.2 hc
    refine kr_iload_n O dX5_readers_14 rfl 2 rfl ?_
    refine kr_aload_n O dX5_readers_15 rfl 0 rfl ?_
    refine kr_iload_n O dX5_readers_16 rfl 3 rfl ?_
    obtain ⟨hco, h⟩ := h
    refine kr_caI (rest := [.int v2]) O cd_X5_usable h (Nat.le_of_ble_eq_true rfl) (fun ls _ => kt_ivV (ci := 12) O dX5_readers_17 cd_X5_usable in_X5_usable (Or.inl q2642) q2644 qs56 hco (by decide) hy_X5_usable) (fun u4 M5 hq => ?_) (fun E q M9 hx => kr_out O hx)
    replace h := hq
    clear hq
    refine kr_aload_n O dX5_readers_20 rfl 0 rfl ?_
    refine kr_iload_n O dX5_readers_21 rfl 1 rfl ?_
    refine kr_iconst O dX5_readers_22 (v := (1 : Int32)) (by decide) ?_
    obtain ⟨hco, h⟩ := h
    refine kr_caI (rest := [.int u4, .int v2]) O cd_X5_ofRecord h (Nat.le_of_ble_eq_true rfl) (fun ls _ => kt_ivV (ci := 12) O dX5_readers_23 cd_X5_ofRecord in_X5_ofRecord (Or.inl q2563) q2565 qs41 hco (by decide) hy_X5_ofRecord) (fun u6 M7 hq => ?_) (fun E q M9 hx => kr_out O hx)
    replace h := hq
    clear hq
    refine kr_iand O dX5_readers_26 ?_
    refine kr_if_eq (tgt := 36) O dX5_readers_27 rfl (fun hc => ?_) (fun hc => ?_)
    · replace h := h.1 hc
      refine kr_iconst O dX5_readers_36 (v := (0 : Int32)) (by decide) ?_
      refine kr_ior O dX5_readers_37 ?_
      refine kr_istore_n O dX5_readers_38 rfl (Nat.le_of_ble_eq_true rfl) rfl rfl ?_
      refine kr_iinc O dX5_readers_39 3 rfl (v := v3 + (1 : Int32)) rfl (Nat.le_of_ble_eq_true rfl) rfl rfl ?_
      refine kr_goto (tgt := 4) O dX5_readers_42 rfl ?_
      refine kr_sub [2, 3, 1, 0] rfl ?_
      exact hn4 _ _ _ h
    · replace h := h.2 hc
      refine kr_iconst O dX5_readers_30 (v := (1 : Int32)) (by decide) ?_
      refine kr_iload_n O dX5_readers_31 rfl 3 rfl ?_
      refine kr_ishl O dX5_readers_32 ?_
      refine kr_goto (tgt := 37) O dX5_readers_33 rfl ?_
      refine kr_ior O dX5_readers_37 ?_
      refine kr_istore_n O dX5_readers_38 rfl (Nat.le_of_ble_eq_true rfl) rfl rfl ?_
      refine kr_iinc O dX5_readers_39 3 rfl (v := v3 + (1 : Int32)) rfl (Nat.le_of_ble_eq_true rfl) rfl rfl ?_
      refine kr_goto (tgt := 4) O dX5_readers_42 rfl ?_
      refine kr_sub [2, 3, 1, 0] rfl ?_
      exact hn4 _ _ _ h
def vl_X5_readers_4 (w : kt_W) (gr : kt_g × kt_M) (d : Nat) (P : Option Value → kt_M → Prop) (X : String → Nat → kt_M → Prop)  (a0 : Nat) (v1 : Int32) (v2 : Int32) (v3 : Int32) (M : kt_M) : Prop :=
  ∃ Inv : Nat → Int32 → Int32 → kt_M → Prop, (∃ k, Inv k v2 v3 M) ∧ ∀ k v2 v3 M, kt_le gr.1 gr.2 M → Inv k v2 v3 M → vc_X5_readers_4 w gr d P X (fun v2' v3' M' => ∃ k', k' < k ∧ Inv k' v2' v3' M') a0 v1 v2 v3 M
theorem cl_X5_readers_4 {w : kt_W} {x : kt_X} {gr : kt_g × kt_M} {d : Nat} {P : Option Value → kt_M → Prop} {X : String → Nat → kt_M → Prop}  {a0 : Nat} {v1 : Int32} {v2 : Int32} {v3 : Int32} {M : kt_M} (O : kt_O w x gr (d + 1) cX5_readers "KeyTurnsModel" 4 ("readers", "(I)I") (Option.some Jvm.ClassFile.FieldType.int) [])  (h : vl_X5_readers_4 w gr d P X  a0 v1 v2 v3 M) : kt_S w x 4 (kt_E w x P X) M 4 [(0, va_rf (some a0)), (1, .int v1), (2, .int v2), (3, .int v3)] [] := by
  obtain ⟨Inv, ⟨k, hk⟩, hb⟩ := h
  induction k using Nat.strongRecOn generalizing v2 v3 M with
  | ind k ih =>
    exact kr_le O fun hle => cj_X5_readers_4 O (fun v2' v3' M' hi => let ⟨k', h1, h2⟩ := hi; ih k' h1 h2) (hb k _ _ _ hle hk)
def vc_X5_readers (w : kt_W) (gr : kt_g × kt_M) (d : Nat) (P : Option Value → kt_M → Prop) (X : String → Nat → kt_M → Prop) (a0 : Nat) (v1 : Int32) (M : kt_M) : Prop :=
  vl_X5_readers_4 w gr d P X  a0 v1 (0 : Int32) (0 : Int32) M
theorem ce_X5_readers {w : kt_W} {g : kt_g} {d : Nat} {P : Option Value → kt_M → Prop} {X : String → Nat → kt_M → Prop} {a0 : Nat} {v1 : Int32} {M : kt_M} (h : vc_X5_readers w (g, M) d P X a0 v1 M) : kt_Sp w g (d + 1) yX5_readers kc_X5_readers [va_rf (some a0), .int v1] M P X := by
  refine kt_of (L0 := [(0, va_rf (some a0)), (1, .int v1)]) (by decide +kernel) (Nat.le_of_ble_eq_true rfl) rfl fun x O => ?_
  replace O : kt_O w x (g, M) (d + 1) cX5_readers "KeyTurnsModel" 4 ("readers", "(I)I") (Option.some Jvm.ClassFile.FieldType.int) [] := O
  unfold vc_X5_readers at h
  refine kr_iconst O dX5_readers_0 (v := (0 : Int32)) (by decide) ?_
  refine kr_istore_n O dX5_readers_1 rfl (Nat.le_of_ble_eq_true rfl) rfl rfl ?_
  refine kr_iconst O dX5_readers_2 (v := (0 : Int32)) (by decide) ?_
  refine kr_istore_n O dX5_readers_3 rfl (Nat.le_of_ble_eq_true rfl) rfl rfl ?_
  refine kr_sub [2, 3, 1, 0] rfl ?_
  exact cl_X5_readers_4 O  h
def vc_X5_usable_4 (w : kt_W) (gr : kt_g × kt_M) (d : Nat) (P : Option Value → kt_M → Prop) (X : String → Nat → kt_M → Prop) (nx4 : Int32 → Int32 → kt_M → Prop) (a0 : Nat) (v1 : Int32) (v2 : Int32) (v3 : Int32) (M : kt_M) : Prop :=
  ∃ p1, kt_gf M a0 73 = some (va_rf p1) ∧ ∃ b2, p1 = some b2 ∧ ∃ u3, kt_el 0 M b2 (1 : Int32) = some (.int u3) ∧ 
    ((u3 ≤ v3 → P (some (.int v2)) M) ∧
    (¬ u3 ≤ v3 → (kt_co M a0 = some 12) ∧ 
    kt_Ca w gr d yX5_isUsable kc_X5_isUsable [va_rf (some a0), .int v1, .int v3] M (kt_pI fun u4 M5 => 
      ((u4 = 0 → nx4 (v2 ||| (0 : Int32)) (v3 + (1 : Int32)) M5) ∧
      (¬ u4 = 0 → nx4 (v2 ||| ((1 : Int32) <<< (v3 &&& 31))) (v3 + (1 : Int32)) M5))) X))
theorem cj_X5_usable_4 {w : kt_W} {x : kt_X} {gr : kt_g × kt_M} {d : Nat} {P : Option Value → kt_M → Prop} {X : String → Nat → kt_M → Prop} {nx4 : Int32 → Int32 → kt_M → Prop} {a0 : Nat} {v1 : Int32} {v2 : Int32} {v3 : Int32} {M : kt_M} (O : kt_O w x gr (d + 1) cX5_usable "KeyTurnsModel" 4 ("usable", "(I)I") (Option.some Jvm.ClassFile.FieldType.int) []) (hn4 : ∀ v2 v3 M, nx4 v2 v3 M → kt_S w x 4 (kt_E w x P X) M 4 [(0, va_rf (some a0)), (1, .int v1), (2, .int v2), (3, .int v3)] []) (h : vc_X5_usable_4 w gr d P X nx4 a0 v1 v2 v3 M) : kt_S w x 4 (kt_E w x P X) M 4 [(0, va_rf (some a0)), (1, .int v1), (2, .int v2), (3, .int v3)] [] := by
  unfold vc_X5_usable_4 at h
  refine kr_iload_n O dX5_usable_4 rfl 3 rfl ?_
  refine kr_aload_n O dX5_usable_5 rfl 0 rfl ?_
  obtain ⟨p1, ep1, h⟩ := h
  refine kr_getf O dX5_usable_6 fs_X5_25 ep1 ?_
  refine kr_iconst O dX5_usable_9 (v := (1 : Int32)) (by decide) ?_
  obtain ⟨b2, rfl, h⟩ := h
  obtain ⟨u3, eu3, h⟩ := h
  refine kr_iaload O dX5_usable_10 eu3 ?_
  refine kr_icmp_ge (tgt := 39) O dX5_usable_11 rfl (fun hc => ?_) (fun hc => ?_)
  · replace h := h.1 hc
    refine kr_iload_n O dX5_usable_39 rfl 2 rfl ?_
    exact kr_iret O dX5_usable_40 rfl h
  · replace h := h.2 hc
    refine kr_iload_n O dX5_usable_14 rfl 2 rfl ?_
    refine kr_aload_n O dX5_usable_15 rfl 0 rfl ?_
    refine kr_iload_n O dX5_usable_16 rfl 1 rfl ?_
    refine kr_iload_n O dX5_usable_17 rfl 3 rfl ?_
    obtain ⟨hco, h⟩ := h
    refine kr_caI (rest := [.int v2]) O cd_X5_isUsable h (Nat.le_of_ble_eq_true rfl) (fun ls _ => kt_ivV (ci := 12) O dX5_usable_18 cd_X5_isUsable in_X5_isUsable (Or.inl q2646) q2648 qs57 hco (by decide) hy_X5_isUsable) (fun u4 M5 hq => ?_) (fun E q M9 hx => kr_out O hx)
    replace h := hq
    clear hq
    refine kr_if_eq (tgt := 30) O dX5_usable_21 rfl (fun hc => ?_) (fun hc => ?_)
    · replace h := h.1 hc
      refine kr_iconst O dX5_usable_30 (v := (0 : Int32)) (by decide) ?_
      refine kr_ior O dX5_usable_31 ?_
      refine kr_istore_n O dX5_usable_32 rfl (Nat.le_of_ble_eq_true rfl) rfl rfl ?_
      refine kr_iinc O dX5_usable_33 3 rfl (v := v3 + (1 : Int32)) rfl (Nat.le_of_ble_eq_true rfl) rfl rfl ?_
      refine kr_goto (tgt := 4) O dX5_usable_36 rfl ?_
      refine kr_sub [2, 3, 1, 0] rfl ?_
      exact hn4 _ _ _ h
    · replace h := h.2 hc
      refine kr_iconst O dX5_usable_24 (v := (1 : Int32)) (by decide) ?_
      refine kr_iload_n O dX5_usable_25 rfl 3 rfl ?_
      refine kr_ishl O dX5_usable_26 ?_
      refine kr_goto (tgt := 31) O dX5_usable_27 rfl ?_
      refine kr_ior O dX5_usable_31 ?_
      refine kr_istore_n O dX5_usable_32 rfl (Nat.le_of_ble_eq_true rfl) rfl rfl ?_
      refine kr_iinc O dX5_usable_33 3 rfl (v := v3 + (1 : Int32)) rfl (Nat.le_of_ble_eq_true rfl) rfl rfl ?_
      refine kr_goto (tgt := 4) O dX5_usable_36 rfl ?_
      refine kr_sub [2, 3, 1, 0] rfl ?_
      exact hn4 _ _ _ h
def vl_X5_usable_4 (w : kt_W) (gr : kt_g × kt_M) (d : Nat) (P : Option Value → kt_M → Prop) (X : String → Nat → kt_M → Prop)  (a0 : Nat) (v1 : Int32) (v2 : Int32) (v3 : Int32) (M : kt_M) : Prop :=
  ∃ Inv : Nat → Int32 → Int32 → kt_M → Prop, (∃ k, Inv k v2 v3 M) ∧ ∀ k v2 v3 M, kt_le gr.1 gr.2 M → Inv k v2 v3 M → vc_X5_usable_4 w gr d P X (fun v2' v3' M' => ∃ k', k' < k ∧ Inv k' v2' v3' M') a0 v1 v2 v3 M
theorem cl_X5_usable_4 {w : kt_W} {x : kt_X} {gr : kt_g × kt_M} {d : Nat} {P : Option Value → kt_M → Prop} {X : String → Nat → kt_M → Prop}  {a0 : Nat} {v1 : Int32} {v2 : Int32} {v3 : Int32} {M : kt_M} (O : kt_O w x gr (d + 1) cX5_usable "KeyTurnsModel" 4 ("usable", "(I)I") (Option.some Jvm.ClassFile.FieldType.int) [])  (h : vl_X5_usable_4 w gr d P X  a0 v1 v2 v3 M) : kt_S w x 4 (kt_E w x P X) M 4 [(0, va_rf (some a0)), (1, .int v1), (2, .int v2), (3, .int v3)] [] := by
  obtain ⟨Inv, ⟨k, hk⟩, hb⟩ := h
  induction k using Nat.strongRecOn generalizing v2 v3 M with
  | ind k ih =>
    exact kr_le O fun hle => cj_X5_usable_4 O (fun v2' v3' M' hi => let ⟨k', h1, h2⟩ := hi; ih k' h1 h2) (hb k _ _ _ hle hk)
def vc_X5_usable (w : kt_W) (gr : kt_g × kt_M) (d : Nat) (P : Option Value → kt_M → Prop) (X : String → Nat → kt_M → Prop) (a0 : Nat) (v1 : Int32) (M : kt_M) : Prop :=
  vl_X5_usable_4 w gr d P X  a0 v1 (0 : Int32) (0 : Int32) M
theorem ce_X5_usable {w : kt_W} {g : kt_g} {d : Nat} {P : Option Value → kt_M → Prop} {X : String → Nat → kt_M → Prop} {a0 : Nat} {v1 : Int32} {M : kt_M} (h : vc_X5_usable w (g, M) d P X a0 v1 M) : kt_Sp w g (d + 1) yX5_usable kc_X5_usable [va_rf (some a0), .int v1] M P X := by
  refine kt_of (L0 := [(0, va_rf (some a0)), (1, .int v1)]) (by decide +kernel) (Nat.le_of_ble_eq_true rfl) rfl fun x O => ?_
  replace O : kt_O w x (g, M) (d + 1) cX5_usable "KeyTurnsModel" 4 ("usable", "(I)I") (Option.some Jvm.ClassFile.FieldType.int) [] := O
  unfold vc_X5_usable at h
  refine kr_iconst O dX5_usable_0 (v := (0 : Int32)) (by decide) ?_
  refine kr_istore_n O dX5_usable_1 rfl (Nat.le_of_ble_eq_true rfl) rfl rfl ?_
  refine kr_iconst O dX5_usable_2 (v := (0 : Int32)) (by decide) ?_
  refine kr_istore_n O dX5_usable_3 rfl (Nat.le_of_ble_eq_true rfl) rfl rfl ?_
  refine kr_sub [2, 3, 1, 0] rfl ?_
  exact cl_X5_usable_4 O  h
def vc_X5_isUsable_28 (w : kt_W) (gr : kt_g × kt_M) (d : Nat) (P : Option Value → kt_M → Prop) (X : String → Nat → kt_M → Prop)  (a0 : Nat) (v1 : Int32) (v2 : Int32) (s0 : Int32) (M : kt_M) : Prop :=
  
    ((s0 = 0 → P (some (.int (0 : Int32))) M) ∧
    (¬ s0 = 0 → (kt_co M a0 = some 12) ∧ 
    kt_Ca w gr d yX5_hour kc_X5_hour [va_rf (some a0)] M (kt_pI fun u1 M2 => ∃ p3, kt_gf M2 a0 73 = some (va_rf p3) ∧ (kt_co M2 a0 = some 12) ∧ 
    kt_Ca w gr d yX5_knownAt kc_X5_knownAt [va_rf (some a0), .int v1, .int v2] M2 (kt_pI fun u4 M5 => ∃ b6, p3 = some b6 ∧ ∃ u7, kt_el 0 M5 b6 u4 = some (.int u7) ∧ ∃ p8, kt_gf M5 a0 73 = some (va_rf p8) ∧ (kt_co M5 a0 = some 12) ∧ 
    kt_Ca w gr d yX5_knownAt kc_X5_knownAt [va_rf (some a0), .int v1, .int v2] M5 (kt_pI fun u9 M10 => ∃ b11, p8 = some b11 ∧ ∃ u12, kt_el 0 M10 b11 (u9 + (1 : Int32)) = some (.int u12) ∧ 
    kt_Ca w gr d yX5_inRange kc_X5_inRange [.int u1, .int u7, .int u12] M10 (kt_pI fun u13 M14 => 
      ((u13 = 0 → P (some (.int (0 : Int32))) M14) ∧
      (¬ u13 = 0 → P (some (.int (1 : Int32))) M14))) X) X) X) X))
theorem cj_X5_isUsable_28 {w : kt_W} {x : kt_X} {gr : kt_g × kt_M} {d : Nat} {P : Option Value → kt_M → Prop} {X : String → Nat → kt_M → Prop}  {a0 : Nat} {v1 : Int32} {v2 : Int32} {s0 : Int32} {M : kt_M} (O : kt_O w x gr (d + 1) cX5_isUsable "KeyTurnsModel" 4 ("isUsable", "(II)Z") (Option.some Jvm.ClassFile.FieldType.boolean) [])  (h : vc_X5_isUsable_28 w gr d P X  a0 v1 v2 s0 M) : kt_S w x 4 (kt_E w x P X) M 28 [(0, va_rf (some a0)), (1, .int v1), (2, .int v2)] [.int s0] := by
  unfold vc_X5_isUsable_28 at h
  refine kr_istore_n O dX5_isUsable_28 rfl (Nat.le_of_ble_eq_true rfl) rfl rfl ?_
  refine kr_iload_n O dX5_isUsable_29 rfl 0 rfl ?_
  refine kr_if_eq (tgt := 71) O dX5_isUsable_30 rfl (fun hc => ?_) (fun hc => ?_)
  · replace h := h.1 hc
    refine kr_iconst O dX5_isUsable_71 (v := (0 : Int32)) (by decide) ?_
    exact kr_iret O dX5_isUsable_72 (by decide) h
  · replace h := h.2 hc
    refine kr_aload_n O dX5_isUsable_33 rfl 1 rfl ?_
    obtain ⟨hco, h⟩ := h
    refine kr_caI (rest := []) O cd_X5_hour h (Nat.le_of_ble_eq_true rfl) (fun ls _ => kt_ivV (ci := 12) O dX5_isUsable_34 cd_X5_hour in_X5_hour (Or.inl q2582) q2584 qs45 hco (by decide) hy_X5_hour) (fun u1 M2 hq => ?_) (fun E q M9 hx => kr_out O hx)
    replace h := hq
    clear hq
    refine kr_aload_n O dX5_isUsable_37 rfl 1 rfl ?_
    obtain ⟨p3, ep3, h⟩ := h
    refine kr_getf O dX5_isUsable_38 fs_X5_25 ep3 ?_
    refine kr_aload_n O dX5_isUsable_41 rfl 1 rfl ?_
    refine kr_iload_n O dX5_isUsable_42 rfl 2 rfl ?_
    refine kr_iload_n O dX5_isUsable_43 rfl 3 rfl ?_
    obtain ⟨hco, h⟩ := h
    refine kr_caI (rest := [va_rf p3, .int u1]) O cd_X5_knownAt h (Nat.le_of_ble_eq_true rfl) (fun ls _ => kt_ivV (ci := 12) O dX5_isUsable_44 cd_X5_knownAt in_X5_knownAt (Or.inl q2657) q2659 qs59 hco (by decide) hy_X5_knownAt) (fun u4 M5 hq => ?_) (fun E q M9 hx => kr_out O hx)
    replace h := hq
    clear hq
    obtain ⟨b6, rfl, h⟩ := h
    obtain ⟨u7, eu7, h⟩ := h
    refine kr_iaload O dX5_isUsable_47 eu7 ?_
    refine kr_aload_n O dX5_isUsable_48 rfl 1 rfl ?_
    obtain ⟨p8, ep8, h⟩ := h
    refine kr_getf O dX5_isUsable_49 fs_X5_25 ep8 ?_
    refine kr_aload_n O dX5_isUsable_52 rfl 1 rfl ?_
    refine kr_iload_n O dX5_isUsable_53 rfl 2 rfl ?_
    refine kr_iload_n O dX5_isUsable_54 rfl 3 rfl ?_
    obtain ⟨hco, h⟩ := h
    refine kr_caI (rest := [va_rf p8, .int u7, .int u1]) O cd_X5_knownAt h (Nat.le_of_ble_eq_true rfl) (fun ls _ => kt_ivV (ci := 12) O dX5_isUsable_55 cd_X5_knownAt in_X5_knownAt (Or.inl q2657) q2659 qs59 hco (by decide) hy_X5_knownAt) (fun u9 M10 hq => ?_) (fun E q M9 hx => kr_out O hx)
    replace h := hq
    clear hq
    refine kr_iconst O dX5_isUsable_58 (v := (1 : Int32)) (by decide) ?_
    refine kr_iadd O dX5_isUsable_59 ?_
    obtain ⟨b11, rfl, h⟩ := h
    obtain ⟨u12, eu12, h⟩ := h
    refine kr_iaload O dX5_isUsable_60 eu12 ?_
    refine kr_caI (rest := []) O cd_X5_inRange h (Nat.le_of_ble_eq_true rfl) (fun ls _ => kt_ivS O dX5_isUsable_61 cd_X5_inRange in_X5_inRange q2586 q2587 hy_X5_inRange) (fun u13 M14 hq => ?_) (fun E q M9 hx => kr_out O hx)
    replace h := hq
    clear hq
    refine kr_if_eq (tgt := 71) O dX5_isUsable_64 rfl (fun hc => ?_) (fun hc => ?_)
    · replace h := h.1 hc
      refine kr_iconst O dX5_isUsable_71 (v := (0 : Int32)) (by decide) ?_
      exact kr_iret O dX5_isUsable_72 (by decide) h
    · replace h := h.2 hc
      refine kr_iconst O dX5_isUsable_67 (v := (1 : Int32)) (by decide) ?_
      refine kr_goto (tgt := 72) O dX5_isUsable_68 rfl ?_
      exact kr_iret O dX5_isUsable_72 (by decide) h
def vc_X5_isUsable_27 (w : kt_W) (gr : kt_g × kt_M) (d : Nat) (P : Option Value → kt_M → Prop) (X : String → Nat → kt_M → Prop)  (a0 : Nat) (v1 : Int32) (v2 : Int32) (M : kt_M) : Prop :=
  vc_X5_isUsable_28 w gr d P X  a0 v1 v2 (0 : Int32) M
theorem cj_X5_isUsable_27 {w : kt_W} {x : kt_X} {gr : kt_g × kt_M} {d : Nat} {P : Option Value → kt_M → Prop} {X : String → Nat → kt_M → Prop}  {a0 : Nat} {v1 : Int32} {v2 : Int32} {M : kt_M} (O : kt_O w x gr (d + 1) cX5_isUsable "KeyTurnsModel" 4 ("isUsable", "(II)Z") (Option.some Jvm.ClassFile.FieldType.boolean) [])  (h : vc_X5_isUsable_27 w gr d P X  a0 v1 v2 M) : kt_S w x 4 (kt_E w x P X) M 27 [(0, va_rf (some a0)), (1, .int v1), (2, .int v2)] [] := by
  unfold vc_X5_isUsable_27 at h
  refine kr_iconst O dX5_isUsable_27 (v := (0 : Int32)) (by decide) ?_
  exact cj_X5_isUsable_28 O  h
def vc_X5_isUsable (w : kt_W) (gr : kt_g × kt_M) (d : Nat) (P : Option Value → kt_M → Prop) (X : String → Nat → kt_M → Prop) (a0 : Nat) (v1 : Int32) (v2 : Int32) (M : kt_M) : Prop :=
  (kt_co M a0 = some 12) ∧ 
  kt_Ca w gr d yX5_ofClient kc_X5_ofClient [va_rf (some a0), .int v1, .int (3 : Int32)] M (kt_pI fun u1 M2 => 
    ((u1 ≤ v2 → vc_X5_isUsable_27 w gr d P X  a0 v1 v2 M2) ∧
    (¬ u1 ≤ v2 → (kt_co M2 a0 = some 12) ∧ 
    kt_Ca w gr d yX5_ofClient kc_X5_ofClient [va_rf (some a0), .int v1, .int (4 : Int32)] M2 (kt_pI fun u3 M4 => 
    kt_Ca w gr d yX5_has kc_X5_has [.int u3, .int v2] M4 (kt_pI fun u5 M6 => 
      ((¬ u5 = 0 → vc_X5_isUsable_27 w gr d P X  a0 v1 v2 M6) ∧
      (u5 = 0 → vc_X5_isUsable_28 w gr d P X  a0 v1 v2 (1 : Int32) M6))) X) X))) X
theorem ce_X5_isUsable {w : kt_W} {g : kt_g} {d : Nat} {P : Option Value → kt_M → Prop} {X : String → Nat → kt_M → Prop} {a0 : Nat} {v1 : Int32} {v2 : Int32} {M : kt_M} (h : vc_X5_isUsable w (g, M) d P X a0 v1 v2 M) : kt_Sp w g (d + 1) yX5_isUsable kc_X5_isUsable [va_rf (some a0), .int v1, .int v2] M P X := by
  refine kt_of (L0 := [(0, va_rf (some a0)), (1, .int v1), (2, .int v2)]) (by decide +kernel) (Nat.le_of_ble_eq_true rfl) rfl fun x O => ?_
  replace O : kt_O w x (g, M) (d + 1) cX5_isUsable "KeyTurnsModel" 4 ("isUsable", "(II)Z") (Option.some Jvm.ClassFile.FieldType.boolean) [] := O
  unfold vc_X5_isUsable at h
  refine kr_iload_n O dX5_isUsable_0 rfl 2 rfl ?_
  refine kr_aload_n O dX5_isUsable_1 rfl 0 rfl ?_
  refine kr_iload_n O dX5_isUsable_2 rfl 1 rfl ?_
  refine kr_iconst O dX5_isUsable_3 (v := (3 : Int32)) (by decide) ?_
  obtain ⟨hco, h⟩ := h
  refine kr_caI (rest := [.int v2]) O cd_X5_ofClient h (Nat.le_of_ble_eq_true rfl) (fun ls _ => kt_ivV (ci := 12) O dX5_isUsable_4 cd_X5_ofClient in_X5_ofClient (Or.inl q2650) q2652 qs58 hco (by decide) hy_X5_ofClient) (fun u1 M2 hq => ?_) (fun E q M9 hx => kr_out O hx)
  replace h := hq
  clear hq
  refine kr_icmp_ge (tgt := 27) O dX5_isUsable_7 rfl (fun hc => ?_) (fun hc => ?_)
  · replace h := h.1 hc
    exact cj_X5_isUsable_27 O  h
  · replace h := h.2 hc
    refine kr_aload_n O dX5_isUsable_10 rfl 0 rfl ?_
    refine kr_iload_n O dX5_isUsable_11 rfl 1 rfl ?_
    refine kr_iconst O dX5_isUsable_12 (v := (4 : Int32)) (by decide) ?_
    obtain ⟨hco, h⟩ := h
    refine kr_caI (rest := []) O cd_X5_ofClient h (Nat.le_of_ble_eq_true rfl) (fun ls _ => kt_ivV (ci := 12) O dX5_isUsable_13 cd_X5_ofClient in_X5_ofClient (Or.inl q2650) q2652 qs58 hco (by decide) hy_X5_ofClient) (fun u3 M4 hq => ?_) (fun E q M9 hx => kr_out O hx)
    replace h := hq
    clear hq
    refine kr_iload_n O dX5_isUsable_16 rfl 2 rfl ?_
    refine kr_caI (rest := []) O cd_X5_has h (Nat.le_of_ble_eq_true rfl) (fun ls _ => kt_ivS O dX5_isUsable_17 cd_X5_has in_X5_has q2626 q2627 hy_X5_has) (fun u5 M6 hq => ?_) (fun E q M9 hx => kr_out O hx)
    replace h := hq
    clear hq
    refine kr_if_ne (tgt := 27) O dX5_isUsable_20 rfl (fun hc => ?_) (fun hc => ?_)
    · replace h := h.1 hc
      exact cj_X5_isUsable_27 O  h
    · replace h := h.2 hc
      refine kr_iconst O dX5_isUsable_23 (v := (1 : Int32)) (by decide) ?_
      refine kr_goto (tgt := 28) O dX5_isUsable_24 rfl ?_
      exact cj_X5_isUsable_28 O  h
def vc_X5_ofClient (w : kt_W) (gr : kt_g × kt_M) (d : Nat) (P : Option Value → kt_M → Prop) (X : String → Nat → kt_M → Prop) (a0 : Nat) (v1 : Int32) (v2 : Int32) (M : kt_M) : Prop :=
  ∃ p1, kt_gf M a0 73 = some (va_rf p1) ∧ 
  kt_Ca w gr d yX5_clientAt kc_X5_clientAt [.int v1, .int v2] M (kt_pI fun u2 M3 => ∃ b4, p1 = some b4 ∧ ∃ u5, kt_el 0 M3 b4 u2 = some (.int u5) ∧ P (some (.int u5)) M3) X
theorem ce_X5_ofClient {w : kt_W} {g : kt_g} {d : Nat} {P : Option Value → kt_M → Prop} {X : String → Nat → kt_M → Prop} {a0 : Nat} {v1 : Int32} {v2 : Int32} {M : kt_M} (h : vc_X5_ofClient w (g, M) d P X a0 v1 v2 M) : kt_Sp w g (d + 1) yX5_ofClient kc_X5_ofClient [va_rf (some a0), .int v1, .int v2] M P X := by
  refine kt_of (L0 := [(0, va_rf (some a0)), (1, .int v1), (2, .int v2)]) (by decide +kernel) (Nat.le_of_ble_eq_true rfl) rfl fun x O => ?_
  replace O : kt_O w x (g, M) (d + 1) cX5_ofClient "KeyTurnsModel" 3 ("ofClient", "(II)I") (Option.some Jvm.ClassFile.FieldType.int) [] := O
  unfold vc_X5_ofClient at h
  refine kr_aload_n O dX5_ofClient_0 rfl 0 rfl ?_
  obtain ⟨p1, ep1, h⟩ := h
  refine kr_getf O dX5_ofClient_1 fs_X5_25 ep1 ?_
  refine kr_iload_n O dX5_ofClient_4 rfl 1 rfl ?_
  refine kr_iload_n O dX5_ofClient_5 rfl 2 rfl ?_
  refine kr_caI (rest := [va_rf p1]) O cd_X5_clientAt h (Nat.le_of_ble_eq_true rfl) (fun ls _ => kt_ivS O dX5_ofClient_6 cd_X5_clientAt in_X5_clientAt q2654 q2655 hy_X5_clientAt) (fun u2 M3 hq => ?_) (fun E q M9 hx => kr_out O hx)
  replace h := hq
  clear hq
  obtain ⟨b4, rfl, h⟩ := h
  obtain ⟨u5, eu5, h⟩ := h
  refine kr_iaload O dX5_ofClient_9 eu5 ?_
  exact kr_iret O dX5_ofClient_10 rfl h
def vc_X5_clientAt (w : kt_W) (gr : kt_g × kt_M) (d : Nat) (P : Option Value → kt_M → Prop) (X : String → Nat → kt_M → Prop) (v0 : Int32) (v1 : Int32) (M : kt_M) : Prop :=
  P (some (.int (((221 : Int32) + ((71 : Int32) * v0)) + v1))) M
theorem ce_X5_clientAt {w : kt_W} {g : kt_g} {d : Nat} {P : Option Value → kt_M → Prop} {X : String → Nat → kt_M → Prop} {v0 : Int32} {v1 : Int32} {M : kt_M} (h : vc_X5_clientAt w (g, M) d P X v0 v1 M) : kt_Sp w g (d + 1) yX5_clientAt kc_X5_clientAt [.int v0, .int v1] M P X := by
  refine kt_of (L0 := [(0, .int v0), (1, .int v1)]) (by decide +kernel) (Nat.le_of_ble_eq_true rfl) rfl fun x O => ?_
  replace O : kt_O w x (g, M) (d + 1) cX5_clientAt "KeyTurnsModel" 2 ("clientAt", "(II)I") (Option.some Jvm.ClassFile.FieldType.int) [] := O
  unfold vc_X5_clientAt at h
  refine kr_sipush O dX5_clientAt_0 (v := (221 : Int32)) (by decide) ?_
  refine kr_bipush O dX5_clientAt_3 (v := (71 : Int32)) (by decide) ?_
  refine kr_iload_n O dX5_clientAt_5 rfl 0 rfl ?_
  refine kr_imul O dX5_clientAt_6 ?_
  refine kr_iadd O dX5_clientAt_7 ?_
  refine kr_iload_n O dX5_clientAt_8 rfl 1 rfl ?_
  refine kr_iadd O dX5_clientAt_9 ?_
  exact kr_iret O dX5_clientAt_10 rfl h
def vc_X5_knownAt (w : kt_W) (gr : kt_g × kt_M) (d : Nat) (P : Option Value → kt_M → Prop) (X : String → Nat → kt_M → Prop) (a0 : Nat) (v1 : Int32) (v2 : Int32) (M : kt_M) : Prop :=
  
  kt_Ca w gr d yX5_clientAt kc_X5_clientAt [.int v1, .int ((6 : Int32) + ((2 : Int32) * v2))] M (kt_pI fun u1 M2 => P (some (.int u1)) M2) X
theorem ce_X5_knownAt {w : kt_W} {g : kt_g} {d : Nat} {P : Option Value → kt_M → Prop} {X : String → Nat → kt_M → Prop} {a0 : Nat} {v1 : Int32} {v2 : Int32} {M : kt_M} (h : vc_X5_knownAt w (g, M) d P X a0 v1 v2 M) : kt_Sp w g (d + 1) yX5_knownAt kc_X5_knownAt [va_rf (some a0), .int v1, .int v2] M P X := by
  refine kt_of (L0 := [(0, va_rf (some a0)), (1, .int v1), (2, .int v2)]) (by decide +kernel) (Nat.le_of_ble_eq_true rfl) rfl fun x O => ?_
  replace O : kt_O w x (g, M) (d + 1) cX5_knownAt "KeyTurnsModel" 3 ("knownAt", "(II)I") (Option.some Jvm.ClassFile.FieldType.int) [] := O
  unfold vc_X5_knownAt at h
  refine kr_iload_n O dX5_knownAt_0 rfl 1 rfl ?_
  refine kr_bipush O dX5_knownAt_1 (v := (6 : Int32)) (by decide) ?_
  refine kr_iconst O dX5_knownAt_3 (v := (2 : Int32)) (by decide) ?_
  refine kr_iload_n O dX5_knownAt_4 rfl 2 rfl ?_
  refine kr_imul O dX5_knownAt_5 ?_
  refine kr_iadd O dX5_knownAt_6 ?_
  refine kr_caI (rest := []) O cd_X5_clientAt h (Nat.le_of_ble_eq_true rfl) (fun ls _ => kt_ivS O dX5_knownAt_7 cd_X5_clientAt in_X5_clientAt q2654 q2655 hy_X5_clientAt) (fun u1 M2 hq => ?_) (fun E q M9 hx => kr_out O hx)
  replace h := hq
  clear hq
  exact kr_iret O dX5_knownAt_10 rfl h
def vc_X5_client_68 (w : kt_W) (gr : kt_g × kt_M) (d : Nat) (P : Option Value → kt_M → Prop) (X : String → Nat → kt_M → Prop)  (a0 : Nat) (v1 : Int32) (v2 : Int32) (M : kt_M) : Prop :=
  (kt_co M a0 = some 12) ∧ 
  kt_Ca w gr d yX5_ofClient kc_X5_ofClient [va_rf (some a0), .int v1, .int v2] M (kt_pI fun u1 M2 => P (some (.int u1)) M2) X
theorem cj_X5_client_68 {w : kt_W} {x : kt_X} {gr : kt_g × kt_M} {d : Nat} {P : Option Value → kt_M → Prop} {X : String → Nat → kt_M → Prop}  {a0 : Nat} {v1 : Int32} {v2 : Int32} {M : kt_M} (O : kt_O w x gr (d + 1) cX5_client "KeyTurnsModel" 3 ("client", "(II)I") (Option.some Jvm.ClassFile.FieldType.int) [])  (h : vc_X5_client_68 w gr d P X  a0 v1 v2 M) : kt_S w x 3 (kt_E w x P X) M 68 [(0, va_rf (some a0)), (1, .int v1), (2, .int v2)] [] := by
  unfold vc_X5_client_68 at h
  refine kr_aload_n O dX5_client_68 rfl 0 rfl ?_
  refine kr_iload_n O dX5_client_69 rfl 1 rfl ?_
  refine kr_iload_n O dX5_client_70 rfl 2 rfl ?_
  obtain ⟨hco, h⟩ := h
  refine kr_caI (rest := []) O cd_X5_ofClient h (Nat.le_of_ble_eq_true rfl) (fun ls _ => kt_ivV (ci := 12) O dX5_client_71 cd_X5_ofClient in_X5_ofClient (Or.inl q2650) q2652 qs58 hco (by decide) hy_X5_ofClient) (fun u1 M2 hq => ?_) (fun E q M9 hx => kr_out O hx)
  replace h := hq
  clear hq
  exact kr_iret O dX5_client_74 rfl h
def vc_X5_client (w : kt_W) (gr : kt_g × kt_M) (d : Nat) (P : Option Value → kt_M → Prop) (X : String → Nat → kt_M → Prop) (a0 : Nat) (v1 : Int32) (v2 : Int32) (M : kt_M) : Prop :=
  kt_hf gr M a0 71 ∧ ∀ M1, M1 = kt_pf M a0 71 (.int (0 : Int32)) → (kt_co M1 a0 = some 12) ∧ 
  kt_Ca w gr d yX5_isClient kc_X5_isClient [va_rf (some a0), .int v1] M1 (kt_pI fun u2 M3 => 
    ((¬ u2 = 0 → 
      ((v2.toInt < 0 ∨ 7 < v2.toInt → (kt_co M3 a0 = some 12) ∧ 
      kt_Ca w gr d yX5_raise kc_X5_raise [va_rf (some a0), .int (1 : Int32)] M3 (kt_pI fun u4 M5 => P (some (.int u4)) M5) X) ∧
      (v2.toInt = 0 → vc_X5_client_68 w gr d P X  a0 v1 v2 M3) ∧
      (v2.toInt = 1 → vc_X5_client_68 w gr d P X  a0 v1 v2 M3) ∧
      (v2.toInt = 2 → vc_X5_client_68 w gr d P X  a0 v1 v2 M3) ∧
      (v2.toInt = 3 → vc_X5_client_68 w gr d P X  a0 v1 v2 M3) ∧
      (v2.toInt = 4 → (kt_co M3 a0 = some 12) ∧ 
      kt_Ca w gr d yX5_ofClient kc_X5_ofClient [va_rf (some a0), .int v1, .int (4 : Int32)] M3 (kt_pI fun u6 M7 => 
      kt_Ca w gr d yJ19_bitCount kc_J19_bitCount [.int u6] M7 (kt_pI fun u8 M9 => P (some (.int u8)) M9) X) X) ∧
      (v2.toInt = 5 → (kt_co M3 a0 = some 12) ∧ 
      kt_Ca w gr d yX5_readableBy kc_X5_readableBy [va_rf (some a0), .int v1] M3 (kt_pI fun u10 M11 => P (some (.int u10)) M11) X) ∧
      (v2.toInt = 6 → (kt_co M3 a0 = some 12) ∧ 
      kt_Ca w gr d yX5_ofClient kc_X5_ofClient [va_rf (some a0), .int v1, .int (5 : Int32)] M3 (kt_pI fun u12 M13 => P (some (.int u12)) M13) X) ∧
      (v2.toInt = 7 → (kt_co M3 a0 = some 12) ∧ 
      kt_Ca w gr d yX5_usable kc_X5_usable [va_rf (some a0), .int v1] M3 (kt_pI fun u14 M15 => 
      kt_Ca w gr d yX5_greatestOf kc_X5_greatestOf [.int u14] M15 (kt_pI fun u16 M17 => P (some (.int u16)) M17) X) X))) ∧
    (u2 = 0 → (kt_co M3 a0 = some 12) ∧ 
    kt_Ca w gr d yX5_raise kc_X5_raise [va_rf (some a0), .int (1 : Int32)] M3 (kt_pI fun u18 M19 => P (some (.int u18)) M19) X))) X
theorem ce_X5_client {w : kt_W} {g : kt_g} {d : Nat} {P : Option Value → kt_M → Prop} {X : String → Nat → kt_M → Prop} {a0 : Nat} {v1 : Int32} {v2 : Int32} {M : kt_M} (h : vc_X5_client w (g, M) d P X a0 v1 v2 M) : kt_Sp w g (d + 1) yX5_client kc_X5_client [va_rf (some a0), .int v1, .int v2] M P X := by
  refine kt_of (L0 := [(0, va_rf (some a0)), (1, .int v1), (2, .int v2)]) (by decide +kernel) (Nat.le_of_ble_eq_true rfl) rfl fun x O => ?_
  replace O : kt_O w x (g, M) (d + 1) cX5_client "KeyTurnsModel" 3 ("client", "(II)I") (Option.some Jvm.ClassFile.FieldType.int) [] := O
  unfold vc_X5_client at h
  refine kr_aload_n O dX5_client_0 rfl 0 rfl ?_
  refine kr_iconst O dX5_client_1 (v := (0 : Int32)) (by decide) ?_
  obtain ⟨hw, h⟩ := h
  refine kr_putf O dX5_client_2 fs_X5_71 (Or.inl rfl) ⟨rfl, rfl⟩ hw (kr_nmM fun M1 hM1 => ?_)
  replace h := h M1 hM1
  refine kr_aload_n O dX5_client_5 rfl 0 rfl ?_
  refine kr_iload_n O dX5_client_6 rfl 1 rfl ?_
  obtain ⟨hco, h⟩ := h
  refine kr_caI (rest := []) O cd_X5_isClient h (Nat.le_of_ble_eq_true rfl) (fun ls _ => kt_ivV (ci := 12) O dX5_client_7 cd_X5_isClient in_X5_isClient (Or.inl q2665) q2667 qs60 hco (by decide) hy_X5_isClient) (fun u2 M3 hq => ?_) (fun E q M9 hx => kr_out O hx)
  replace h := hq
  clear hq
  refine kr_if_ne (tgt := 19) O dX5_client_10 rfl (fun hc => ?_) (fun hc => ?_)
  · replace h := h.1 hc
    refine kr_iload_n O dX5_client_19 rfl 2 rfl ?_
    by_cases hs : v2.toInt < 0 ∨ 7 < v2.toInt
    · refine kr_tableOut (tgt := 107) O dX5_client_20 hs rfl ?_
      replace h := h.1 hs
      refine kr_aload_n O dX5_client_107 rfl 0 rfl ?_
      refine kr_iconst O dX5_client_108 (v := (1 : Int32)) (by decide) ?_
      obtain ⟨hco, h⟩ := h
      refine kr_caI (rest := []) O cd_X5_raise h (Nat.le_of_ble_eq_true rfl) (fun ls _ => kt_ivV (ci := 12) O dX5_client_109 cd_X5_raise in_X5_raise (Or.inl q2606) q2608 qs50 hco (by decide) hy_X5_raise) (fun u4 M5 hq => ?_) (fun E q M9 hx => kr_out O hx)
      replace h := hq
      clear hq
      exact kr_iret O dX5_client_112 rfl h
    replace h := h.2
    have hs2 : v2.toInt = 0 ∨ v2.toInt = 1 ∨ v2.toInt = 2 ∨ v2.toInt = 3 ∨ v2.toInt = 4 ∨ v2.toInt = 5 ∨ v2.toInt = 6 ∨ v2.toInt = 7 := by omega
    rcases hs2 with hs2 | hs2 | hs2 | hs2 | hs2 | hs2 | hs2 | hs2
    · refine kr_tableIn (tgt := 68) O dX5_client_20 (0) hs2 (by decide) (by decide) rfl rfl ?_
      replace h := h.1 hs2
      exact cj_X5_client_68 O  h
    · refine kr_tableIn (tgt := 68) O dX5_client_20 (1) hs2 (by decide) (by decide) rfl rfl ?_
      replace h := h.2.1 hs2
      exact cj_X5_client_68 O  h
    · refine kr_tableIn (tgt := 68) O dX5_client_20 (2) hs2 (by decide) (by decide) rfl rfl ?_
      replace h := h.2.2.1 hs2
      exact cj_X5_client_68 O  h
    · refine kr_tableIn (tgt := 68) O dX5_client_20 (3) hs2 (by decide) (by decide) rfl rfl ?_
      replace h := h.2.2.2.1 hs2
      exact cj_X5_client_68 O  h
    · refine kr_tableIn (tgt := 75) O dX5_client_20 (4) hs2 (by decide) (by decide) rfl rfl ?_
      replace h := h.2.2.2.2.1 hs2
      refine kr_aload_n O dX5_client_75 rfl 0 rfl ?_
      refine kr_iload_n O dX5_client_76 rfl 1 rfl ?_
      refine kr_iconst O dX5_client_77 (v := (4 : Int32)) (by decide) ?_
      obtain ⟨hco, h⟩ := h
      refine kr_caI (rest := []) O cd_X5_ofClient h (Nat.le_of_ble_eq_true rfl) (fun ls _ => kt_ivV (ci := 12) O dX5_client_78 cd_X5_ofClient in_X5_ofClient (Or.inl q2650) q2652 qs58 hco (by decide) hy_X5_ofClient) (fun u6 M7 hq => ?_) (fun E q M9 hx => kr_out O hx)
      replace h := hq
      clear hq
      refine kr_caI (rest := []) O cd_J19_bitCount h (Nat.le_of_ble_eq_true rfl) (fun ls _ => kt_ivS O dX5_client_81 cd_J19_bitCount in_J19_bitCount q2605 q1921 hy_J19_bitCount) (fun u8 M9 hq => ?_) (fun E q M9 hx => kr_out O hx)
      replace h := hq
      clear hq
      exact kr_iret O dX5_client_84 rfl h
    · refine kr_tableIn (tgt := 85) O dX5_client_20 (5) hs2 (by decide) (by decide) rfl rfl ?_
      replace h := h.2.2.2.2.2.1 hs2
      refine kr_aload_n O dX5_client_85 rfl 0 rfl ?_
      refine kr_iload_n O dX5_client_86 rfl 1 rfl ?_
      obtain ⟨hco, h⟩ := h
      refine kr_caI (rest := []) O cd_X5_readableBy h (Nat.le_of_ble_eq_true rfl) (fun ls _ => kt_ivV (ci := 12) O dX5_client_87 cd_X5_readableBy in_X5_readableBy (Or.inl q2669) q2671 qs61 hco (by decide) hy_X5_readableBy) (fun u10 M11 hq => ?_) (fun E q M9 hx => kr_out O hx)
      replace h := hq
      clear hq
      exact kr_iret O dX5_client_90 rfl h
    · refine kr_tableIn (tgt := 91) O dX5_client_20 (6) hs2 (by decide) (by decide) rfl rfl ?_
      replace h := h.2.2.2.2.2.2.1 hs2
      refine kr_aload_n O dX5_client_91 rfl 0 rfl ?_
      refine kr_iload_n O dX5_client_92 rfl 1 rfl ?_
      refine kr_iconst O dX5_client_93 (v := (5 : Int32)) (by decide) ?_
      obtain ⟨hco, h⟩ := h
      refine kr_caI (rest := []) O cd_X5_ofClient h (Nat.le_of_ble_eq_true rfl) (fun ls _ => kt_ivV (ci := 12) O dX5_client_94 cd_X5_ofClient in_X5_ofClient (Or.inl q2650) q2652 qs58 hco (by decide) hy_X5_ofClient) (fun u12 M13 hq => ?_) (fun E q M9 hx => kr_out O hx)
      replace h := hq
      clear hq
      exact kr_iret O dX5_client_97 rfl h
    · refine kr_tableIn (tgt := 98) O dX5_client_20 (7) hs2 (by decide) (by decide) rfl rfl ?_
      replace h := h.2.2.2.2.2.2.2 hs2
      refine kr_aload_n O dX5_client_98 rfl 0 rfl ?_
      refine kr_iload_n O dX5_client_99 rfl 1 rfl ?_
      obtain ⟨hco, h⟩ := h
      refine kr_caI (rest := []) O cd_X5_usable h (Nat.le_of_ble_eq_true rfl) (fun ls _ => kt_ivV (ci := 12) O dX5_client_100 cd_X5_usable in_X5_usable (Or.inl q2642) q2644 qs56 hco (by decide) hy_X5_usable) (fun u14 M15 hq => ?_) (fun E q M9 hx => kr_out O hx)
      replace h := hq
      clear hq
      refine kr_caI (rest := []) O cd_X5_greatestOf h (Nat.le_of_ble_eq_true rfl) (fun ls _ => kt_ivS O dX5_client_103 cd_X5_greatestOf in_X5_greatestOf q2673 q2674 hy_X5_greatestOf) (fun u16 M17 hq => ?_) (fun E q M9 hx => kr_out O hx)
      replace h := hq
      clear hq
      exact kr_iret O dX5_client_106 rfl h
  · replace h := h.2 hc
    refine kr_aload_n O dX5_client_13 rfl 0 rfl ?_
    refine kr_iconst O dX5_client_14 (v := (1 : Int32)) (by decide) ?_
    obtain ⟨hco, h⟩ := h
    refine kr_caI (rest := []) O cd_X5_raise h (Nat.le_of_ble_eq_true rfl) (fun ls _ => kt_ivV (ci := 12) O dX5_client_15 cd_X5_raise in_X5_raise (Or.inl q2606) q2608 qs50 hco (by decide) hy_X5_raise) (fun u18 M19 hq => ?_) (fun E q M9 hx => kr_out O hx)
    replace h := hq
    clear hq
    exact kr_iret O dX5_client_18 rfl h
def vc_X5_isClient (w : kt_W) (gr : kt_g × kt_M) (d : Nat) (P : Option Value → kt_M → Prop) (X : String → Nat → kt_M → Prop) (a0 : Nat) (v1 : Int32) (M : kt_M) : Prop :=
  ∃ p1, kt_gf M a0 73 = some (va_rf p1) ∧ ∃ b2, p1 = some b2 ∧ ∃ u3, kt_el 0 M b2 (3 : Int32) = some (.int u3) ∧ 
  kt_Ca w gr d yX5_inRange kc_X5_inRange [.int v1, .int (0 : Int32), .int (u3 - (1 : Int32))] M (kt_pI fun u4 M5 => narrow .boolean (.int u4) = .int u4 ∧ P (some (.int u4)) M5) X
theorem ce_X5_isClient {w : kt_W} {g : kt_g} {d : Nat} {P : Option Value → kt_M → Prop} {X : String → Nat → kt_M → Prop} {a0 : Nat} {v1 : Int32} {M : kt_M} (h : vc_X5_isClient w (g, M) d P X a0 v1 M) : kt_Sp w g (d + 1) yX5_isClient kc_X5_isClient [va_rf (some a0), .int v1] M P X := by
  refine kt_of (L0 := [(0, va_rf (some a0)), (1, .int v1)]) (by decide +kernel) (Nat.le_of_ble_eq_true rfl) rfl fun x O => ?_
  replace O : kt_O w x (g, M) (d + 1) cX5_isClient "KeyTurnsModel" 2 ("isClient", "(I)Z") (Option.some Jvm.ClassFile.FieldType.boolean) [] := O
  unfold vc_X5_isClient at h
  refine kr_iload_n O dX5_isClient_0 rfl 1 rfl ?_
  refine kr_iconst O dX5_isClient_1 (v := (0 : Int32)) (by decide) ?_
  refine kr_aload_n O dX5_isClient_2 rfl 0 rfl ?_
  obtain ⟨p1, ep1, h⟩ := h
  refine kr_getf O dX5_isClient_3 fs_X5_25 ep1 ?_
  refine kr_iconst O dX5_isClient_6 (v := (3 : Int32)) (by decide) ?_
  obtain ⟨b2, rfl, h⟩ := h
  obtain ⟨u3, eu3, h⟩ := h
  refine kr_iaload O dX5_isClient_7 eu3 ?_
  refine kr_iconst O dX5_isClient_8 (v := (1 : Int32)) (by decide) ?_
  refine kr_isub O dX5_isClient_9 ?_
  refine kr_caI (rest := []) O cd_X5_inRange h (Nat.le_of_ble_eq_true rfl) (fun ls _ => kt_ivS O dX5_isClient_10 cd_X5_inRange in_X5_inRange q2586 q2587 hy_X5_inRange) (fun u4 M5 hq => ?_) (fun E q M9 hx => kr_out O hx)
  replace h := hq
  clear hq
  exact kr_iret O dX5_isClient_13 h.1 h.2
def vc_X5_readableBy_11 (w : kt_W) (gr : kt_g × kt_M) (d : Nat) (P : Option Value → kt_M → Prop) (X : String → Nat → kt_M → Prop) (nx11 : Int32 → Int32 → kt_M → Prop) (a0 : Nat) (v2 : Int32) (v3 : Int32) (v4 : Int32) (M : kt_M) : Prop :=
  ∃ p1, kt_gf M a0 73 = some (va_rf p1) ∧ ∃ b2, p1 = some b2 ∧ ∃ u3, kt_el 0 M b2 (2 : Int32) = some (.int u3) ∧ 
    ((u3 ≤ v4 → P (some (.int v3)) M) ∧
    (¬ u3 ≤ v4 → (kt_co M a0 = some 12) ∧ 
    kt_Ca w gr d yX5_isRecord kc_X5_isRecord [va_rf (some a0), .int v4] M (kt_pI fun u4 M5 => 
      ((u4 = 0 → nx11 (v3 + (0 : Int32)) (v4 + (1 : Int32)) M5) ∧
      (¬ u4 = 0 → (kt_co M5 a0 = some 12) ∧ 
      kt_Ca w gr d yX5_ofRecord kc_X5_ofRecord [va_rf (some a0), .int v4, .int (1 : Int32)] M5 (kt_pI fun u6 M7 => 
        (((v2 &&& u6) = 0 → nx11 (v3 + (0 : Int32)) (v4 + (1 : Int32)) M7) ∧
        (¬ (v2 &&& u6) = 0 → nx11 (v3 + (1 : Int32)) (v4 + (1 : Int32)) M7))) X))) X))
theorem cj_X5_readableBy_11 {w : kt_W} {x : kt_X} {gr : kt_g × kt_M} {d : Nat} {P : Option Value → kt_M → Prop} {X : String → Nat → kt_M → Prop} {nx11 : Int32 → Int32 → kt_M → Prop} {a0 : Nat} {v2 : Int32} {v3 : Int32} {v4 : Int32} {M : kt_M} (O : kt_O w x gr (d + 1) cX5_readableBy "KeyTurnsModel" 5 ("readableBy", "(I)I") (Option.some Jvm.ClassFile.FieldType.int) []) (hn11 : ∀ v3 v4 M, nx11 v3 v4 M → kt_S w x 5 (kt_E w x P X) M 11 [(0, va_rf (some a0)), (2, .int v2), (3, .int v3), (4, .int v4)] []) (h : vc_X5_readableBy_11 w gr d P X nx11 a0 v2 v3 v4 M) : kt_S w x 5 (kt_E w x P X) M 11 [(0, va_rf (some a0)), (2, .int v2), (3, .int v3), (4, .int v4)] [] := by
  unfold vc_X5_readableBy_11 at h
  refine kr_iload O dX5_readableBy_11 3 rfl ?_
  refine kr_aload_n O dX5_readableBy_13 rfl 0 rfl ?_
  obtain ⟨p1, ep1, h⟩ := h
  refine kr_getf O dX5_readableBy_14 fs_X5_25 ep1 ?_
  refine kr_iconst O dX5_readableBy_17 (v := (2 : Int32)) (by decide) ?_
  obtain ⟨b2, rfl, h⟩ := h
  obtain ⟨u3, eu3, h⟩ := h
  refine kr_iaload O dX5_readableBy_18 eu3 ?_
  refine kr_icmp_ge (tgt := 57) O dX5_readableBy_19 rfl (fun hc => ?_) (fun hc => ?_)
  · replace h := h.1 hc
    refine kr_iload_n O dX5_readableBy_57 rfl 2 rfl ?_
    exact kr_iret O dX5_readableBy_58 rfl h
  · replace h := h.2 hc
    refine kr_iload_n O dX5_readableBy_22 rfl 2 rfl ?_
    refine kr_aload_n O dX5_readableBy_23 rfl 0 rfl ?_
    refine kr_iload O dX5_readableBy_24 3 rfl ?_
    obtain ⟨hco, h⟩ := h
    refine kr_caI (rest := [.int v3]) O cd_X5_isRecord h (Nat.le_of_ble_eq_true rfl) (fun ls _ => kt_ivV (ci := 12) O dX5_readableBy_26 cd_X5_isRecord in_X5_isRecord (Or.inl q2597) q2599 qs48 hco (by decide) hy_X5_isRecord) (fun u4 M5 hq => ?_) (fun E q M9 hx => kr_out O hx)
    replace h := hq
    clear hq
    refine kr_if_eq (tgt := 48) O dX5_readableBy_29 rfl (fun hc => ?_) (fun hc => ?_)
    · replace h := h.1 hc
      refine kr_iconst O dX5_readableBy_48 (v := (0 : Int32)) (by decide) ?_
      refine kr_iadd O dX5_readableBy_49 ?_
      refine kr_istore_n O dX5_readableBy_50 rfl (Nat.le_of_ble_eq_true rfl) rfl rfl ?_
      refine kr_iinc O dX5_readableBy_51 3 rfl (v := v4 + (1 : Int32)) rfl (Nat.le_of_ble_eq_true rfl) rfl rfl ?_
      refine kr_goto (tgt := 11) O dX5_readableBy_54 rfl ?_
      refine kr_sub [2, 3, 1, 0] rfl ?_
      exact hn11 _ _ _ h
    · replace h := h.2 hc
      refine kr_iload_n O dX5_readableBy_32 rfl 1 rfl ?_
      refine kr_aload_n O dX5_readableBy_33 rfl 0 rfl ?_
      refine kr_iload O dX5_readableBy_34 3 rfl ?_
      refine kr_iconst O dX5_readableBy_36 (v := (1 : Int32)) (by decide) ?_
      obtain ⟨hco, h⟩ := h
      refine kr_caI (rest := [.int v2, .int v3]) O cd_X5_ofRecord h (Nat.le_of_ble_eq_true rfl) (fun ls _ => kt_ivV (ci := 12) O dX5_readableBy_37 cd_X5_ofRecord in_X5_ofRecord (Or.inl q2563) q2565 qs41 hco (by decide) hy_X5_ofRecord) (fun u6 M7 hq => ?_) (fun E q M9 hx => kr_out O hx)
      replace h := hq
      clear hq
      refine kr_iand O dX5_readableBy_40 ?_
      refine kr_if_eq (tgt := 48) O dX5_readableBy_41 rfl (fun hc => ?_) (fun hc => ?_)
      · replace h := h.1 hc
        refine kr_iconst O dX5_readableBy_48 (v := (0 : Int32)) (by decide) ?_
        refine kr_iadd O dX5_readableBy_49 ?_
        refine kr_istore_n O dX5_readableBy_50 rfl (Nat.le_of_ble_eq_true rfl) rfl rfl ?_
        refine kr_iinc O dX5_readableBy_51 3 rfl (v := v4 + (1 : Int32)) rfl (Nat.le_of_ble_eq_true rfl) rfl rfl ?_
        refine kr_goto (tgt := 11) O dX5_readableBy_54 rfl ?_
        refine kr_sub [2, 3, 1, 0] rfl ?_
        exact hn11 _ _ _ h
      · replace h := h.2 hc
        refine kr_iconst O dX5_readableBy_44 (v := (1 : Int32)) (by decide) ?_
        refine kr_goto (tgt := 49) O dX5_readableBy_45 rfl ?_
        refine kr_iadd O dX5_readableBy_49 ?_
        refine kr_istore_n O dX5_readableBy_50 rfl (Nat.le_of_ble_eq_true rfl) rfl rfl ?_
        refine kr_iinc O dX5_readableBy_51 3 rfl (v := v4 + (1 : Int32)) rfl (Nat.le_of_ble_eq_true rfl) rfl rfl ?_
        refine kr_goto (tgt := 11) O dX5_readableBy_54 rfl ?_
        refine kr_sub [2, 3, 1, 0] rfl ?_
        exact hn11 _ _ _ h
def vl_X5_readableBy_11 (w : kt_W) (gr : kt_g × kt_M) (d : Nat) (P : Option Value → kt_M → Prop) (X : String → Nat → kt_M → Prop)  (a0 : Nat) (v2 : Int32) (v3 : Int32) (v4 : Int32) (M : kt_M) : Prop :=
  ∃ Inv : Nat → Int32 → Int32 → kt_M → Prop, (∃ k, Inv k v3 v4 M) ∧ ∀ k v3 v4 M, kt_le gr.1 gr.2 M → Inv k v3 v4 M → vc_X5_readableBy_11 w gr d P X (fun v3' v4' M' => ∃ k', k' < k ∧ Inv k' v3' v4' M') a0 v2 v3 v4 M
theorem cl_X5_readableBy_11 {w : kt_W} {x : kt_X} {gr : kt_g × kt_M} {d : Nat} {P : Option Value → kt_M → Prop} {X : String → Nat → kt_M → Prop}  {a0 : Nat} {v2 : Int32} {v3 : Int32} {v4 : Int32} {M : kt_M} (O : kt_O w x gr (d + 1) cX5_readableBy "KeyTurnsModel" 5 ("readableBy", "(I)I") (Option.some Jvm.ClassFile.FieldType.int) [])  (h : vl_X5_readableBy_11 w gr d P X  a0 v2 v3 v4 M) : kt_S w x 5 (kt_E w x P X) M 11 [(0, va_rf (some a0)), (2, .int v2), (3, .int v3), (4, .int v4)] [] := by
  obtain ⟨Inv, ⟨k, hk⟩, hb⟩ := h
  induction k using Nat.strongRecOn generalizing v3 v4 M with
  | ind k ih =>
    exact kr_le O fun hle => cj_X5_readableBy_11 O (fun v3' v4' M' hi => let ⟨k', h1, h2⟩ := hi; ih k' h1 h2) (hb k _ _ _ hle hk)
def vc_X5_readableBy (w : kt_W) (gr : kt_g × kt_M) (d : Nat) (P : Option Value → kt_M → Prop) (X : String → Nat → kt_M → Prop) (a0 : Nat) (v1 : Int32) (M : kt_M) : Prop :=
  (kt_co M a0 = some 12) ∧ 
  kt_Ca w gr d yX5_usable kc_X5_usable [va_rf (some a0), .int v1] M (kt_pI fun u1 M2 => vl_X5_readableBy_11 w gr d P X  a0 u1 (0 : Int32) (0 : Int32) M2) X
theorem ce_X5_readableBy {w : kt_W} {g : kt_g} {d : Nat} {P : Option Value → kt_M → Prop} {X : String → Nat → kt_M → Prop} {a0 : Nat} {v1 : Int32} {M : kt_M} (h : vc_X5_readableBy w (g, M) d P X a0 v1 M) : kt_Sp w g (d + 1) yX5_readableBy kc_X5_readableBy [va_rf (some a0), .int v1] M P X := by
  refine kt_of (L0 := [(0, va_rf (some a0)), (1, .int v1)]) (by decide +kernel) (Nat.le_of_ble_eq_true rfl) rfl fun x O => ?_
  replace O : kt_O w x (g, M) (d + 1) cX5_readableBy "KeyTurnsModel" 5 ("readableBy", "(I)I") (Option.some Jvm.ClassFile.FieldType.int) [] := O
  unfold vc_X5_readableBy at h
  refine kr_aload_n O dX5_readableBy_0 rfl 0 rfl ?_
  refine kr_iload_n O dX5_readableBy_1 rfl 1 rfl ?_
  obtain ⟨hco, h⟩ := h
  refine kr_caI (rest := []) O cd_X5_usable h (Nat.le_of_ble_eq_true rfl) (fun ls _ => kt_ivV (ci := 12) O dX5_readableBy_2 cd_X5_usable in_X5_usable (Or.inl q2642) q2644 qs56 hco (by decide) hy_X5_usable) (fun u1 M2 hq => ?_) (fun E q M9 hx => kr_out O hx)
  replace h := hq
  clear hq
  refine kr_istore_n O dX5_readableBy_5 rfl (Nat.le_of_ble_eq_true rfl) rfl rfl ?_
  refine kr_iconst O dX5_readableBy_6 (v := (0 : Int32)) (by decide) ?_
  refine kr_istore_n O dX5_readableBy_7 rfl (Nat.le_of_ble_eq_true rfl) rfl rfl ?_
  refine kr_iconst O dX5_readableBy_8 (v := (0 : Int32)) (by decide) ?_
  refine kr_istore O dX5_readableBy_9 (Nat.le_of_ble_eq_true rfl) rfl rfl ?_
  refine kr_sub [3, 2, 1, 0] rfl ?_
  exact cl_X5_readableBy_11 O  h
def vc_X5_greatestOf_4 (w : kt_W) (gr : kt_g × kt_M) (d : Nat) (P : Option Value → kt_M → Prop) (X : String → Nat → kt_M → Prop) (nx4 : Int32 → Int32 → kt_M → Prop) (v0 : Int32) (v1 : Int32) (v2 : Int32) (M : kt_M) : Prop :=
  
    (((30 : Int32) ≤ v2 → P (some (.int v1)) M) ∧
    (¬ (30 : Int32) ≤ v2 → 
    kt_Ca w gr d yX5_has kc_X5_has [.int v0, .int v2] M (kt_pI fun u1 M2 => 
      ((u1 = 0 → nx4 v1 (v2 + (1 : Int32)) M2) ∧
      (¬ u1 = 0 → nx4 v2 (v2 + (1 : Int32)) M2))) X))
theorem cj_X5_greatestOf_4 {w : kt_W} {x : kt_X} {gr : kt_g × kt_M} {d : Nat} {P : Option Value → kt_M → Prop} {X : String → Nat → kt_M → Prop} {nx4 : Int32 → Int32 → kt_M → Prop} {v0 : Int32} {v1 : Int32} {v2 : Int32} {M : kt_M} (O : kt_O w x gr (d + 1) cX5_greatestOf "KeyTurnsModel" 3 ("greatestOf", "(I)I") (Option.some Jvm.ClassFile.FieldType.int) []) (hn4 : ∀ v1 v2 M, nx4 v1 v2 M → kt_S w x 3 (kt_E w x P X) M 4 [(0, .int v0), (1, .int v1), (2, .int v2)] []) (h : vc_X5_greatestOf_4 w gr d P X nx4 v0 v1 v2 M) : kt_S w x 3 (kt_E w x P X) M 4 [(0, .int v0), (1, .int v1), (2, .int v2)] [] := by
  unfold vc_X5_greatestOf_4 at h
  refine kr_iload_n O dX5_greatestOf_4 rfl 2 rfl ?_
  refine kr_bipush O dX5_greatestOf_5 (v := (30 : Int32)) (by decide) ?_
  refine kr_icmp_ge (tgt := 30) O dX5_greatestOf_7 rfl (fun hc => ?_) (fun hc => ?_)
  · replace h := h.1 hc
    refine kr_iload_n O dX5_greatestOf_30 rfl 1 rfl ?_
    exact kr_iret O dX5_greatestOf_31 rfl h
  · replace h := h.2 hc
    refine kr_iload_n O dX5_greatestOf_10 rfl 0 rfl ?_
    refine kr_iload_n O dX5_greatestOf_11 rfl 2 rfl ?_
    refine kr_caI (rest := []) O cd_X5_has h (Nat.le_of_ble_eq_true rfl) (fun ls _ => kt_ivS O dX5_greatestOf_12 cd_X5_has in_X5_has q2626 q2627 hy_X5_has) (fun u1 M2 hq => ?_) (fun E q M9 hx => kr_out O hx)
    replace h := hq
    clear hq
    refine kr_if_eq (tgt := 22) O dX5_greatestOf_15 rfl (fun hc => ?_) (fun hc => ?_)
    · replace h := h.1 hc
      refine kr_iload_n O dX5_greatestOf_22 rfl 1 rfl ?_
      refine kr_istore_n O dX5_greatestOf_23 rfl (Nat.le_of_ble_eq_true rfl) rfl rfl ?_
      refine kr_iinc O dX5_greatestOf_24 2 rfl (v := v2 + (1 : Int32)) rfl (Nat.le_of_ble_eq_true rfl) rfl rfl ?_
      refine kr_goto (tgt := 4) O dX5_greatestOf_27 rfl ?_
      refine kr_sub [2, 1, 0] rfl ?_
      exact hn4 _ _ _ h
    · replace h := h.2 hc
      refine kr_iload_n O dX5_greatestOf_18 rfl 2 rfl ?_
      refine kr_goto (tgt := 23) O dX5_greatestOf_19 rfl ?_
      refine kr_istore_n O dX5_greatestOf_23 rfl (Nat.le_of_ble_eq_true rfl) rfl rfl ?_
      refine kr_iinc O dX5_greatestOf_24 2 rfl (v := v2 + (1 : Int32)) rfl (Nat.le_of_ble_eq_true rfl) rfl rfl ?_
      refine kr_goto (tgt := 4) O dX5_greatestOf_27 rfl ?_
      refine kr_sub [2, 1, 0] rfl ?_
      exact hn4 _ _ _ h
def vl_X5_greatestOf_4 (w : kt_W) (gr : kt_g × kt_M) (d : Nat) (P : Option Value → kt_M → Prop) (X : String → Nat → kt_M → Prop)  (v0 : Int32) (v1 : Int32) (v2 : Int32) (M : kt_M) : Prop :=
  ∃ Inv : Nat → Int32 → Int32 → kt_M → Prop, (∃ k, Inv k v1 v2 M) ∧ ∀ k v1 v2 M, kt_le gr.1 gr.2 M → Inv k v1 v2 M → vc_X5_greatestOf_4 w gr d P X (fun v1' v2' M' => ∃ k', k' < k ∧ Inv k' v1' v2' M') v0 v1 v2 M
theorem cl_X5_greatestOf_4 {w : kt_W} {x : kt_X} {gr : kt_g × kt_M} {d : Nat} {P : Option Value → kt_M → Prop} {X : String → Nat → kt_M → Prop}  {v0 : Int32} {v1 : Int32} {v2 : Int32} {M : kt_M} (O : kt_O w x gr (d + 1) cX5_greatestOf "KeyTurnsModel" 3 ("greatestOf", "(I)I") (Option.some Jvm.ClassFile.FieldType.int) [])  (h : vl_X5_greatestOf_4 w gr d P X  v0 v1 v2 M) : kt_S w x 3 (kt_E w x P X) M 4 [(0, .int v0), (1, .int v1), (2, .int v2)] [] := by
  obtain ⟨Inv, ⟨k, hk⟩, hb⟩ := h
  induction k using Nat.strongRecOn generalizing v1 v2 M with
  | ind k ih =>
    exact kr_le O fun hle => cj_X5_greatestOf_4 O (fun v1' v2' M' hi => let ⟨k', h1, h2⟩ := hi; ih k' h1 h2) (hb k _ _ _ hle hk)
def vc_X5_greatestOf (w : kt_W) (gr : kt_g × kt_M) (d : Nat) (P : Option Value → kt_M → Prop) (X : String → Nat → kt_M → Prop) (v0 : Int32) (M : kt_M) : Prop :=
  vl_X5_greatestOf_4 w gr d P X  v0 (-1 : Int32) (0 : Int32) M
theorem ce_X5_greatestOf {w : kt_W} {g : kt_g} {d : Nat} {P : Option Value → kt_M → Prop} {X : String → Nat → kt_M → Prop} {v0 : Int32} {M : kt_M} (h : vc_X5_greatestOf w (g, M) d P X v0 M) : kt_Sp w g (d + 1) yX5_greatestOf kc_X5_greatestOf [.int v0] M P X := by
  refine kt_of (L0 := [(0, .int v0)]) (by decide +kernel) (Nat.le_of_ble_eq_true rfl) rfl fun x O => ?_
  replace O : kt_O w x (g, M) (d + 1) cX5_greatestOf "KeyTurnsModel" 3 ("greatestOf", "(I)I") (Option.some Jvm.ClassFile.FieldType.int) [] := O
  unfold vc_X5_greatestOf at h
  refine kr_iconst O dX5_greatestOf_0 (v := (-1 : Int32)) (by decide) ?_
  refine kr_istore_n O dX5_greatestOf_1 rfl (Nat.le_of_ble_eq_true rfl) rfl rfl ?_
  refine kr_iconst O dX5_greatestOf_2 (v := (0 : Int32)) (by decide) ?_
  refine kr_istore_n O dX5_greatestOf_3 rfl (Nat.le_of_ble_eq_true rfl) rfl rfl ?_
  refine kr_sub [2, 1, 0] rfl ?_
  exact cl_X5_greatestOf_4 O  h
def vc_X5_canUse_22 (w : kt_W) (gr : kt_g × kt_M) (d : Nat) (P : Option Value → kt_M → Prop) (X : String → Nat → kt_M → Prop)  (a0 : Nat) (v1 : Int32) (v2 : Int32) (s0 : Int32) (sa1 : Nat) (M : kt_M) : Prop :=
  kt_hf gr M sa1 71 ∧ ∀ M1, M1 = kt_pf M sa1 71 (.int s0) → ∃ u2, kt_gf M1 a0 71 = some (.int u2) ∧ 
    ((¬ u2 = 0 → P (some (.int (0 : Int32))) M1) ∧
    (u2 = 0 → (kt_co M1 a0 = some 12) ∧ 
    kt_Ca w gr d yX5_isUsable kc_X5_isUsable [va_rf (some a0), .int v1, .int v2] M1 (kt_pI fun u3 M4 => 
      ((u3 = 0 → P (some (.int (0 : Int32))) M4) ∧
      (¬ u3 = 0 → P (some (.int (1 : Int32))) M4))) X))
theorem cj_X5_canUse_22 {w : kt_W} {x : kt_X} {gr : kt_g × kt_M} {d : Nat} {P : Option Value → kt_M → Prop} {X : String → Nat → kt_M → Prop}  {a0 : Nat} {v1 : Int32} {v2 : Int32} {s0 : Int32} {sa1 : Nat} {M : kt_M} (O : kt_O w x gr (d + 1) cX5_canUse "KeyTurnsModel" 3 ("canUse", "(II)Z") (Option.some Jvm.ClassFile.FieldType.boolean) [])  (h : vc_X5_canUse_22 w gr d P X  a0 v1 v2 s0 sa1 M) : kt_S w x 3 (kt_E w x P X) M 22 [(0, va_rf (some a0)), (1, .int v1), (2, .int v2)] [.int s0, va_rf (some sa1)] := by
  unfold vc_X5_canUse_22 at h
  obtain ⟨hw, h⟩ := h
  refine kr_putf O dX5_canUse_22 fs_X5_71 (Or.inl rfl) ⟨rfl, rfl⟩ hw (kr_nmM fun M1 hM1 => ?_)
  replace h := h M1 hM1
  refine kr_aload_n O dX5_canUse_25 rfl 0 rfl ?_
  obtain ⟨u2, eu2, h⟩ := h
  refine kr_getf O dX5_canUse_26 fs_X5_71 eu2 ?_
  refine kr_if_ne (tgt := 45) O dX5_canUse_29 rfl (fun hc => ?_) (fun hc => ?_)
  · replace h := h.1 hc
    refine kr_iconst O dX5_canUse_45 (v := (0 : Int32)) (by decide) ?_
    exact kr_iret O dX5_canUse_46 (by decide) h
  · replace h := h.2 hc
    refine kr_aload_n O dX5_canUse_32 rfl 0 rfl ?_
    refine kr_iload_n O dX5_canUse_33 rfl 1 rfl ?_
    refine kr_iload_n O dX5_canUse_34 rfl 2 rfl ?_
    obtain ⟨hco, h⟩ := h
    refine kr_caI (rest := []) O cd_X5_isUsable h (Nat.le_of_ble_eq_true rfl) (fun ls _ => kt_ivV (ci := 12) O dX5_canUse_35 cd_X5_isUsable in_X5_isUsable (Or.inl q2646) q2648 qs57 hco (by decide) hy_X5_isUsable) (fun u3 M4 hq => ?_) (fun E q M9 hx => kr_out O hx)
    replace h := hq
    clear hq
    refine kr_if_eq (tgt := 45) O dX5_canUse_38 rfl (fun hc => ?_) (fun hc => ?_)
    · replace h := h.1 hc
      refine kr_iconst O dX5_canUse_45 (v := (0 : Int32)) (by decide) ?_
      exact kr_iret O dX5_canUse_46 (by decide) h
    · replace h := h.2 hc
      refine kr_iconst O dX5_canUse_41 (v := (1 : Int32)) (by decide) ?_
      refine kr_goto (tgt := 46) O dX5_canUse_42 rfl ?_
      exact kr_iret O dX5_canUse_46 (by decide) h
def vc_X5_canUse_21 (w : kt_W) (gr : kt_g × kt_M) (d : Nat) (P : Option Value → kt_M → Prop) (X : String → Nat → kt_M → Prop)  (a0 : Nat) (v1 : Int32) (v2 : Int32) (sa0 : Nat) (M : kt_M) : Prop :=
  vc_X5_canUse_22 w gr d P X  a0 v1 v2 (1 : Int32) sa0 M
theorem cj_X5_canUse_21 {w : kt_W} {x : kt_X} {gr : kt_g × kt_M} {d : Nat} {P : Option Value → kt_M → Prop} {X : String → Nat → kt_M → Prop}  {a0 : Nat} {v1 : Int32} {v2 : Int32} {sa0 : Nat} {M : kt_M} (O : kt_O w x gr (d + 1) cX5_canUse "KeyTurnsModel" 3 ("canUse", "(II)Z") (Option.some Jvm.ClassFile.FieldType.boolean) [])  (h : vc_X5_canUse_21 w gr d P X  a0 v1 v2 sa0 M) : kt_S w x 3 (kt_E w x P X) M 21 [(0, va_rf (some a0)), (1, .int v1), (2, .int v2)] [va_rf (some sa0)] := by
  unfold vc_X5_canUse_21 at h
  refine kr_iconst O dX5_canUse_21 (v := (1 : Int32)) (by decide) ?_
  exact cj_X5_canUse_22 O  h
def vc_X5_canUse (w : kt_W) (gr : kt_g × kt_M) (d : Nat) (P : Option Value → kt_M → Prop) (X : String → Nat → kt_M → Prop) (a0 : Nat) (v1 : Int32) (v2 : Int32) (M : kt_M) : Prop :=
  (kt_co M a0 = some 12) ∧ 
  kt_Ca w gr d yX5_isClient kc_X5_isClient [va_rf (some a0), .int v1] M (kt_pI fun u1 M2 => 
    ((u1 = 0 → vc_X5_canUse_21 w gr d P X  a0 v1 v2 a0 M2) ∧
    (¬ u1 = 0 → (kt_co M2 a0 = some 12) ∧ 
    kt_Ca w gr d yX5_isVersion kc_X5_isVersion [va_rf (some a0), .int v2] M2 (kt_pI fun u3 M4 => 
      ((u3 = 0 → vc_X5_canUse_21 w gr d P X  a0 v1 v2 a0 M4) ∧
      (¬ u3 = 0 → vc_X5_canUse_22 w gr d P X  a0 v1 v2 (0 : Int32) a0 M4))) X))) X
theorem ce_X5_canUse {w : kt_W} {g : kt_g} {d : Nat} {P : Option Value → kt_M → Prop} {X : String → Nat → kt_M → Prop} {a0 : Nat} {v1 : Int32} {v2 : Int32} {M : kt_M} (h : vc_X5_canUse w (g, M) d P X a0 v1 v2 M) : kt_Sp w g (d + 1) yX5_canUse kc_X5_canUse [va_rf (some a0), .int v1, .int v2] M P X := by
  refine kt_of (L0 := [(0, va_rf (some a0)), (1, .int v1), (2, .int v2)]) (by decide +kernel) (Nat.le_of_ble_eq_true rfl) rfl fun x O => ?_
  replace O : kt_O w x (g, M) (d + 1) cX5_canUse "KeyTurnsModel" 3 ("canUse", "(II)Z") (Option.some Jvm.ClassFile.FieldType.boolean) [] := O
  unfold vc_X5_canUse at h
  refine kr_aload_n O dX5_canUse_0 rfl 0 rfl ?_
  refine kr_aload_n O dX5_canUse_1 rfl 0 rfl ?_
  refine kr_iload_n O dX5_canUse_2 rfl 1 rfl ?_
  obtain ⟨hco, h⟩ := h
  refine kr_caI (rest := [va_rf (some a0)]) O cd_X5_isClient h (Nat.le_of_ble_eq_true rfl) (fun ls _ => kt_ivV (ci := 12) O dX5_canUse_3 cd_X5_isClient in_X5_isClient (Or.inl q2665) q2667 qs60 hco (by decide) hy_X5_isClient) (fun u1 M2 hq => ?_) (fun E q M9 hx => kr_out O hx)
  replace h := hq
  clear hq
  refine kr_if_eq (tgt := 21) O dX5_canUse_6 rfl (fun hc => ?_) (fun hc => ?_)
  · replace h := h.1 hc
    exact cj_X5_canUse_21 O  h
  · replace h := h.2 hc
    refine kr_aload_n O dX5_canUse_9 rfl 0 rfl ?_
    refine kr_iload_n O dX5_canUse_10 rfl 2 rfl ?_
    obtain ⟨hco, h⟩ := h
    refine kr_caI (rest := [va_rf (some a0)]) O cd_X5_isVersion h (Nat.le_of_ble_eq_true rfl) (fun ls _ => kt_ivV (ci := 12) O dX5_canUse_11 cd_X5_isVersion in_X5_isVersion (Or.inl q2614) q2616 qs51 hco (by decide) hy_X5_isVersion) (fun u3 M4 hq => ?_) (fun E q M9 hx => kr_out O hx)
    replace h := hq
    clear hq
    refine kr_if_eq (tgt := 21) O dX5_canUse_14 rfl (fun hc => ?_) (fun hc => ?_)
    · replace h := h.1 hc
      exact cj_X5_canUse_21 O  h
    · replace h := h.2 hc
      refine kr_iconst O dX5_canUse_17 (v := (0 : Int32)) (by decide) ?_
      refine kr_goto (tgt := 22) O dX5_canUse_18 rfl ?_
      exact cj_X5_canUse_22 O  h
def vc_X5_readsBy_30 (w : kt_W) (gr : kt_g × kt_M) (d : Nat) (P : Option Value → kt_M → Prop) (X : String → Nat → kt_M → Prop)  (a0 : Nat) (M : kt_M) : Prop :=
  (kt_co M a0 = some 12) ∧ 
  kt_Ca w gr d yX5_raise kc_X5_raise [va_rf (some a0), .int (1 : Int32)] M (kt_pI fun u1 M2 => P (some (.int u1)) M2) X
theorem cj_X5_readsBy_30 {w : kt_W} {x : kt_X} {gr : kt_g × kt_M} {d : Nat} {P : Option Value → kt_M → Prop} {X : String → Nat → kt_M → Prop}  {a0 : Nat} {M : kt_M} (O : kt_O w x gr (d + 1) cX5_readsBy "KeyTurnsModel" 3 ("readsBy", "(II)I") (Option.some Jvm.ClassFile.FieldType.int) [])  (h : vc_X5_readsBy_30 w gr d P X  a0 M) : kt_S w x 3 (kt_E w x P X) M 30 [(0, va_rf (some a0))] [] := by
  unfold vc_X5_readsBy_30 at h
  refine kr_aload_n O dX5_readsBy_30 rfl 0 rfl ?_
  refine kr_iconst O dX5_readsBy_31 (v := (1 : Int32)) (by decide) ?_
  obtain ⟨hco, h⟩ := h
  refine kr_caI (rest := []) O cd_X5_raise h (Nat.le_of_ble_eq_true rfl) (fun ls _ => kt_ivV (ci := 12) O dX5_readsBy_32 cd_X5_raise in_X5_raise (Or.inl q2606) q2608 qs50 hco (by decide) hy_X5_raise) (fun u1 M2 hq => ?_) (fun E q M9 hx => kr_out O hx)
  replace h := hq
  clear hq
  exact kr_iret O dX5_readsBy_35 rfl h
def vc_X5_readsBy (w : kt_W) (gr : kt_g × kt_M) (d : Nat) (P : Option Value → kt_M → Prop) (X : String → Nat → kt_M → Prop) (a0 : Nat) (v1 : Int32) (v2 : Int32) (M : kt_M) : Prop :=
  kt_hf gr M a0 71 ∧ ∀ M1, M1 = kt_pf M a0 71 (.int (0 : Int32)) → (kt_co M1 a0 = some 12) ∧ 
  kt_Ca w gr d yX5_isClient kc_X5_isClient [va_rf (some a0), .int v1] M1 (kt_pI fun u2 M3 => 
    ((u2 = 0 → vc_X5_readsBy_30 w gr d P X  a0 M3) ∧
    (¬ u2 = 0 → (kt_co M3 a0 = some 12) ∧ 
    kt_Ca w gr d yX5_isRecord kc_X5_isRecord [va_rf (some a0), .int v2] M3 (kt_pI fun u4 M5 => 
      ((u4 = 0 → vc_X5_readsBy_30 w gr d P X  a0 M5) ∧
      (¬ u4 = 0 → (kt_co M5 a0 = some 12) ∧ 
      kt_Ca w gr d yX5_readWith kc_X5_readWith [va_rf (some a0), .int v1, .int v2] M5 (kt_pI fun u6 M7 => P (some (.int u6)) M7) X))) X))) X
theorem ce_X5_readsBy {w : kt_W} {g : kt_g} {d : Nat} {P : Option Value → kt_M → Prop} {X : String → Nat → kt_M → Prop} {a0 : Nat} {v1 : Int32} {v2 : Int32} {M : kt_M} (h : vc_X5_readsBy w (g, M) d P X a0 v1 v2 M) : kt_Sp w g (d + 1) yX5_readsBy kc_X5_readsBy [va_rf (some a0), .int v1, .int v2] M P X := by
  refine kt_of (L0 := [(0, va_rf (some a0)), (1, .int v1), (2, .int v2)]) (by decide +kernel) (Nat.le_of_ble_eq_true rfl) rfl fun x O => ?_
  replace O : kt_O w x (g, M) (d + 1) cX5_readsBy "KeyTurnsModel" 3 ("readsBy", "(II)I") (Option.some Jvm.ClassFile.FieldType.int) [] := O
  unfold vc_X5_readsBy at h
  refine kr_aload_n O dX5_readsBy_0 rfl 0 rfl ?_
  refine kr_iconst O dX5_readsBy_1 (v := (0 : Int32)) (by decide) ?_
  obtain ⟨hw, h⟩ := h
  refine kr_putf O dX5_readsBy_2 fs_X5_71 (Or.inl rfl) ⟨rfl, rfl⟩ hw (kr_nmM fun M1 hM1 => ?_)
  replace h := h M1 hM1
  refine kr_aload_n O dX5_readsBy_5 rfl 0 rfl ?_
  refine kr_iload_n O dX5_readsBy_6 rfl 1 rfl ?_
  obtain ⟨hco, h⟩ := h
  refine kr_caI (rest := []) O cd_X5_isClient h (Nat.le_of_ble_eq_true rfl) (fun ls _ => kt_ivV (ci := 12) O dX5_readsBy_7 cd_X5_isClient in_X5_isClient (Or.inl q2665) q2667 qs60 hco (by decide) hy_X5_isClient) (fun u2 M3 hq => ?_) (fun E q M9 hx => kr_out O hx)
  replace h := hq
  clear hq
  refine kr_if_eq (tgt := 30) O dX5_readsBy_10 rfl (fun hc => ?_) (fun hc => ?_)
  · replace h := h.1 hc
    refine kr_sub [0] rfl ?_
    exact cj_X5_readsBy_30 O  h
  · replace h := h.2 hc
    refine kr_aload_n O dX5_readsBy_13 rfl 0 rfl ?_
    refine kr_iload_n O dX5_readsBy_14 rfl 2 rfl ?_
    obtain ⟨hco, h⟩ := h
    refine kr_caI (rest := []) O cd_X5_isRecord h (Nat.le_of_ble_eq_true rfl) (fun ls _ => kt_ivV (ci := 12) O dX5_readsBy_15 cd_X5_isRecord in_X5_isRecord (Or.inl q2597) q2599 qs48 hco (by decide) hy_X5_isRecord) (fun u4 M5 hq => ?_) (fun E q M9 hx => kr_out O hx)
    replace h := hq
    clear hq
    refine kr_if_eq (tgt := 30) O dX5_readsBy_18 rfl (fun hc => ?_) (fun hc => ?_)
    · replace h := h.1 hc
      refine kr_sub [0] rfl ?_
      exact cj_X5_readsBy_30 O  h
    · replace h := h.2 hc
      refine kr_aload_n O dX5_readsBy_21 rfl 0 rfl ?_
      refine kr_iload_n O dX5_readsBy_22 rfl 1 rfl ?_
      refine kr_iload_n O dX5_readsBy_23 rfl 2 rfl ?_
      obtain ⟨hco, h⟩ := h
      refine kr_caI (rest := []) O cd_X5_readWith h (Nat.le_of_ble_eq_true rfl) (fun ls _ => kt_ivV (ci := 12) O dX5_readsBy_24 cd_X5_readWith in_X5_readWith (Or.inl q2684) q2686 qs62 hco (by decide) hy_X5_readWith) (fun u6 M7 hq => ?_) (fun E q M9 hx => kr_out O hx)
      replace h := hq
      clear hq
      refine kr_goto (tgt := 35) O dX5_readsBy_27 rfl ?_
      exact kr_iret O dX5_readsBy_35 rfl h
