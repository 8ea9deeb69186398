/-! decode rows: out of claim/names -/
set_option maxRecDepth 100000
def dkwX0_load_0 : List UInt8 := [44, 3, 42, 27, 182, 0, 7, 133, 80, 167, 0, 6, 78, 4, 172, 3, 172]
abbrev dktX0_load_0 : List UInt8 := dkwX0_load_0 ++ []
theorem dksX0_load_0 : cX0_load.data.toList.drop 0 = dktX0_load_0 := by decide +kernel
theorem dX0_load_0 : decode cX0_load 0 = .ok (.aload_n 2, 1) := dk_44 (dk_at dksX0_load_0 0 rfl rfl)
theorem dX0_load_1 : decode cX0_load 1 = .ok (.iconst 0, 1) := dk_3 (dk_at dksX0_load_0 1 rfl rfl)
theorem dX0_load_2 : decode cX0_load 2 = .ok (.aload_n 0, 1) := dk_42 (dk_at dksX0_load_0 2 rfl rfl)
theorem dX0_load_3 : decode cX0_load 3 = .ok (.iload_n 1, 1) := dk_27 (dk_at dksX0_load_0 3 rfl rfl)
theorem dX0_load_4 : decode cX0_load 4 = .ok (.invokevirtual 7, 3) := dk_182 0 7 (dk_at dksX0_load_0 4 rfl rfl)
theorem dX0_load_7 : decode cX0_load 7 = .ok (.i2l, 1) := dk_133 (dk_at dksX0_load_0 7 rfl rfl)
theorem dX0_load_8 : decode cX0_load 8 = .ok (.lastore, 1) := dk_80 (dk_at dksX0_load_0 8 rfl rfl)
theorem dX0_load_9 : decode cX0_load 9 = .ok (.goto 6, 3) := dk_167 0 6 (dk_at dksX0_load_0 9 rfl rfl)
theorem dX0_load_12 : decode cX0_load 12 = .ok (.astore_n 3, 1) := dk_78 (dk_at dksX0_load_0 12 rfl rfl)
theorem dX0_load_13 : decode cX0_load 13 = .ok (.iconst 1, 1) := dk_4 (dk_at dksX0_load_0 13 rfl rfl)
theorem dX0_load_14 : decode cX0_load 14 = .ok (.ireturn, 1) := dk_172 (dk_at dksX0_load_0 14 rfl rfl)
theorem dX0_load_15 : decode cX0_load 15 = .ok (.iconst 0, 1) := dk_3 (dk_at dksX0_load_0 15 rfl rfl)
theorem dX0_load_16 : decode cX0_load 16 = .ok (.ireturn, 1) := dk_172 (dk_at dksX0_load_0 16 rfl rfl)
def dkwX0_size_0 : List UInt8 := [44, 3, 42, 27, 182, 0, 15, 133, 80, 167, 0, 6, 78, 4, 172, 3, 172]
abbrev dktX0_size_0 : List UInt8 := dkwX0_size_0 ++ []
theorem dksX0_size_0 : cX0_size.data.toList.drop 0 = dktX0_size_0 := by decide +kernel
theorem dX0_size_0 : decode cX0_size 0 = .ok (.aload_n 2, 1) := dk_44 (dk_at dksX0_size_0 0 rfl rfl)
theorem dX0_size_1 : decode cX0_size 1 = .ok (.iconst 0, 1) := dk_3 (dk_at dksX0_size_0 1 rfl rfl)
theorem dX0_size_2 : decode cX0_size 2 = .ok (.aload_n 0, 1) := dk_42 (dk_at dksX0_size_0 2 rfl rfl)
theorem dX0_size_3 : decode cX0_size 3 = .ok (.iload_n 1, 1) := dk_27 (dk_at dksX0_size_0 3 rfl rfl)
theorem dX0_size_4 : decode cX0_size 4 = .ok (.invokevirtual 15, 3) := dk_182 0 15 (dk_at dksX0_size_0 4 rfl rfl)
theorem dX0_size_7 : decode cX0_size 7 = .ok (.i2l, 1) := dk_133 (dk_at dksX0_size_0 7 rfl rfl)
theorem dX0_size_8 : decode cX0_size 8 = .ok (.lastore, 1) := dk_80 (dk_at dksX0_size_0 8 rfl rfl)
theorem dX0_size_9 : decode cX0_size 9 = .ok (.goto 6, 3) := dk_167 0 6 (dk_at dksX0_size_0 9 rfl rfl)
theorem dX0_size_12 : decode cX0_size 12 = .ok (.astore_n 3, 1) := dk_78 (dk_at dksX0_size_0 12 rfl rfl)
theorem dX0_size_13 : decode cX0_size 13 = .ok (.iconst 1, 1) := dk_4 (dk_at dksX0_size_0 13 rfl rfl)
theorem dX0_size_14 : decode cX0_size 14 = .ok (.ireturn, 1) := dk_172 (dk_at dksX0_size_0 14 rfl rfl)
theorem dX0_size_15 : decode cX0_size 15 = .ok (.iconst 0, 1) := dk_3 (dk_at dksX0_size_0 15 rfl rfl)
theorem dX0_size_16 : decode cX0_size 16 = .ok (.ireturn, 1) := dk_172 (dk_at dksX0_size_0 16 rfl rfl)
def dkwX0_version_0 : List UInt8 := [45, 3, 42, 27, 28, 182, 0, 20, 133, 80, 167, 0, 7, 58, 4, 4, 172, 3, 172]
abbrev dktX0_version_0 : List UInt8 := dkwX0_version_0 ++ []
theorem dksX0_version_0 : cX0_version.data.toList.drop 0 = dktX0_version_0 := by decide +kernel
theorem dX0_version_0 : decode cX0_version 0 = .ok (.aload_n 3, 1) := dk_45 (dk_at dksX0_version_0 0 rfl rfl)
theorem dX0_version_1 : decode cX0_version 1 = .ok (.iconst 0, 1) := dk_3 (dk_at dksX0_version_0 1 rfl rfl)
theorem dX0_version_2 : decode cX0_version 2 = .ok (.aload_n 0, 1) := dk_42 (dk_at dksX0_version_0 2 rfl rfl)
theorem dX0_version_3 : decode cX0_version 3 = .ok (.iload_n 1, 1) := dk_27 (dk_at dksX0_version_0 3 rfl rfl)
theorem dX0_version_4 : decode cX0_version 4 = .ok (.iload_n 2, 1) := dk_28 (dk_at dksX0_version_0 4 rfl rfl)
theorem dX0_version_5 : decode cX0_version 5 = .ok (.invokevirtual 20, 3) := dk_182 0 20 (dk_at dksX0_version_0 5 rfl rfl)
theorem dX0_version_8 : decode cX0_version 8 = .ok (.i2l, 1) := dk_133 (dk_at dksX0_version_0 8 rfl rfl)
theorem dX0_version_9 : decode cX0_version 9 = .ok (.lastore, 1) := dk_80 (dk_at dksX0_version_0 9 rfl rfl)
theorem dX0_version_10 : decode cX0_version 10 = .ok (.goto 7, 3) := dk_167 0 7 (dk_at dksX0_version_0 10 rfl rfl)
theorem dX0_version_13 : decode cX0_version 13 = .ok (.astore 4, 2) := dk_58 4 (dk_at dksX0_version_0 13 rfl rfl)
theorem dX0_version_15 : decode cX0_version 15 = .ok (.iconst 1, 1) := dk_4 (dk_at dksX0_version_0 15 rfl rfl)
theorem dX0_version_16 : decode cX0_version 16 = .ok (.ireturn, 1) := dk_172 (dk_at dksX0_version_0 16 rfl rfl)
theorem dX0_version_17 : decode cX0_version 17 = .ok (.iconst 0, 1) := dk_3 (dk_at dksX0_version_0 17 rfl rfl)
theorem dX0_version_18 : decode cX0_version 18 = .ok (.ireturn, 1) := dk_172 (dk_at dksX0_version_0 18 rfl rfl)
def dkwX0_record_0 : List UInt8 := [45, 3, 42, 27, 28, 182, 0, 24, 133, 80, 167, 0, 7, 58, 4, 4, 172, 3, 172]
abbrev dktX0_record_0 : List UInt8 := dkwX0_record_0 ++ []
theorem dksX0_record_0 : cX0_record.data.toList.drop 0 = dktX0_record_0 := by decide +kernel
theorem dX0_record_0 : decode cX0_record 0 = .ok (.aload_n 3, 1) := dk_45 (dk_at dksX0_record_0 0 rfl rfl)
theorem dX0_record_1 : decode cX0_record 1 = .ok (.iconst 0, 1) := dk_3 (dk_at dksX0_record_0 1 rfl rfl)
theorem dX0_record_2 : decode cX0_record 2 = .ok (.aload_n 0, 1) := dk_42 (dk_at dksX0_record_0 2 rfl rfl)
theorem dX0_record_3 : decode cX0_record 3 = .ok (.iload_n 1, 1) := dk_27 (dk_at dksX0_record_0 3 rfl rfl)
theorem dX0_record_4 : decode cX0_record 4 = .ok (.iload_n 2, 1) := dk_28 (dk_at dksX0_record_0 4 rfl rfl)
theorem dX0_record_5 : decode cX0_record 5 = .ok (.invokevirtual 24, 3) := dk_182 0 24 (dk_at dksX0_record_0 5 rfl rfl)
theorem dX0_record_8 : decode cX0_record 8 = .ok (.i2l, 1) := dk_133 (dk_at dksX0_record_0 8 rfl rfl)
theorem dX0_record_9 : decode cX0_record 9 = .ok (.lastore, 1) := dk_80 (dk_at dksX0_record_0 9 rfl rfl)
theorem dX0_record_10 : decode cX0_record 10 = .ok (.goto 7, 3) := dk_167 0 7 (dk_at dksX0_record_0 10 rfl rfl)
theorem dX0_record_13 : decode cX0_record 13 = .ok (.astore 4, 2) := dk_58 4 (dk_at dksX0_record_0 13 rfl rfl)
theorem dX0_record_15 : decode cX0_record 15 = .ok (.iconst 1, 1) := dk_4 (dk_at dksX0_record_0 15 rfl rfl)
theorem dX0_record_16 : decode cX0_record 16 = .ok (.ireturn, 1) := dk_172 (dk_at dksX0_record_0 16 rfl rfl)
theorem dX0_record_17 : decode cX0_record 17 = .ok (.iconst 0, 1) := dk_3 (dk_at dksX0_record_0 17 rfl rfl)
theorem dX0_record_18 : decode cX0_record 18 = .ok (.ireturn, 1) := dk_172 (dk_at dksX0_record_0 18 rfl rfl)
def dkwX0_client_0 : List UInt8 := [45, 3, 42, 27, 28, 182, 0, 27, 133, 80, 167, 0, 7, 58, 4, 4, 172, 3, 172]
abbrev dktX0_client_0 : List UInt8 := dkwX0_client_0 ++ []
theorem dksX0_client_0 : cX0_client.data.toList.drop 0 = dktX0_client_0 := by decide +kernel
theorem dX0_client_0 : decode cX0_client 0 = .ok (.aload_n 3, 1) := dk_45 (dk_at dksX0_client_0 0 rfl rfl)
theorem dX0_client_1 : decode cX0_client 1 = .ok (.iconst 0, 1) := dk_3 (dk_at dksX0_client_0 1 rfl rfl)
theorem dX0_client_2 : decode cX0_client 2 = .ok (.aload_n 0, 1) := dk_42 (dk_at dksX0_client_0 2 rfl rfl)
theorem dX0_client_3 : decode cX0_client 3 = .ok (.iload_n 1, 1) := dk_27 (dk_at dksX0_client_0 3 rfl rfl)
theorem dX0_client_4 : decode cX0_client 4 = .ok (.iload_n 2, 1) := dk_28 (dk_at dksX0_client_0 4 rfl rfl)
theorem dX0_client_5 : decode cX0_client 5 = .ok (.invokevirtual 27, 3) := dk_182 0 27 (dk_at dksX0_client_0 5 rfl rfl)
theorem dX0_client_8 : decode cX0_client 8 = .ok (.i2l, 1) := dk_133 (dk_at dksX0_client_0 8 rfl rfl)
theorem dX0_client_9 : decode cX0_client 9 = .ok (.lastore, 1) := dk_80 (dk_at dksX0_client_0 9 rfl rfl)
theorem dX0_client_10 : decode cX0_client 10 = .ok (.goto 7, 3) := dk_167 0 7 (dk_at dksX0_client_0 10 rfl rfl)
theorem dX0_client_13 : decode cX0_client 13 = .ok (.astore 4, 2) := dk_58 4 (dk_at dksX0_client_0 13 rfl rfl)
theorem dX0_client_15 : decode cX0_client 15 = .ok (.iconst 1, 1) := dk_4 (dk_at dksX0_client_0 15 rfl rfl)
theorem dX0_client_16 : decode cX0_client 16 = .ok (.ireturn, 1) := dk_172 (dk_at dksX0_client_0 16 rfl rfl)
theorem dX0_client_17 : decode cX0_client 17 = .ok (.iconst 0, 1) := dk_3 (dk_at dksX0_client_0 17 rfl rfl)
theorem dX0_client_18 : decode cX0_client 18 = .ok (.ireturn, 1) := dk_172 (dk_at dksX0_client_0 18 rfl rfl)
def dkwX0_canUse_1 : List UInt8 := [3, 172]
abbrev dktX0_canUse_1 : List UInt8 := dkwX0_canUse_1 ++ []
def dkwX0_canUse_0 : List UInt8 := [45, 3, 42, 27, 28, 182, 0, 30, 153, 0, 7, 10, 167, 0, 4, 9, 80, 167, 0, 7, 58, 4, 4, 172]
abbrev dktX0_canUse_0 : List UInt8 := dkwX0_canUse_0 ++ dktX0_canUse_1
theorem dksX0_canUse_0 : cX0_canUse.data.toList.drop 0 = dktX0_canUse_0 := by decide +kernel
theorem dksX0_canUse_1 : cX0_canUse.data.toList.drop 24 = dktX0_canUse_1 := dk_seg dksX0_canUse_0 24 rfl rfl
theorem dX0_canUse_0 : decode cX0_canUse 0 = .ok (.aload_n 3, 1) := dk_45 (dk_at dksX0_canUse_0 0 rfl rfl)
theorem dX0_canUse_1 : decode cX0_canUse 1 = .ok (.iconst 0, 1) := dk_3 (dk_at dksX0_canUse_0 1 rfl rfl)
theorem dX0_canUse_2 : decode cX0_canUse 2 = .ok (.aload_n 0, 1) := dk_42 (dk_at dksX0_canUse_0 2 rfl rfl)
theorem dX0_canUse_3 : decode cX0_canUse 3 = .ok (.iload_n 1, 1) := dk_27 (dk_at dksX0_canUse_0 3 rfl rfl)
theorem dX0_canUse_4 : decode cX0_canUse 4 = .ok (.iload_n 2, 1) := dk_28 (dk_at dksX0_canUse_0 4 rfl rfl)
theorem dX0_canUse_5 : decode cX0_canUse 5 = .ok (.invokevirtual 30, 3) := dk_182 0 30 (dk_at dksX0_canUse_0 5 rfl rfl)
theorem dX0_canUse_8 : decode cX0_canUse 8 = .ok (.ifCond .eq 7, 3) := dk_153 0 7 (dk_at dksX0_canUse_0 8 rfl rfl)
theorem dX0_canUse_11 : decode cX0_canUse 11 = .ok (.lconst 1, 1) := dk_10 (dk_at dksX0_canUse_0 11 rfl rfl)
theorem dX0_canUse_12 : decode cX0_canUse 12 = .ok (.goto 4, 3) := dk_167 0 4 (dk_at dksX0_canUse_0 12 rfl rfl)
theorem dX0_canUse_15 : decode cX0_canUse 15 = .ok (.lconst 0, 1) := dk_9 (dk_at dksX0_canUse_0 15 rfl rfl)
theorem dX0_canUse_16 : decode cX0_canUse 16 = .ok (.lastore, 1) := dk_80 (dk_at dksX0_canUse_0 16 rfl rfl)
theorem dX0_canUse_17 : decode cX0_canUse 17 = .ok (.goto 7, 3) := dk_167 0 7 (dk_at dksX0_canUse_0 17 rfl rfl)
theorem dX0_canUse_20 : decode cX0_canUse 20 = .ok (.astore 4, 2) := dk_58 4 (dk_at dksX0_canUse_0 20 rfl rfl)
theorem dX0_canUse_22 : decode cX0_canUse 22 = .ok (.iconst 1, 1) := dk_4 (dk_at dksX0_canUse_0 22 rfl rfl)
theorem dX0_canUse_23 : decode cX0_canUse 23 = .ok (.ireturn, 1) := dk_172 (dk_at dksX0_canUse_0 23 rfl rfl)
theorem dX0_canUse_24 : decode cX0_canUse 24 = .ok (.iconst 0, 1) := dk_3 (dk_at dksX0_canUse_1 0 rfl rfl)
theorem dX0_canUse_25 : decode cX0_canUse 25 = .ok (.ireturn, 1) := dk_172 (dk_at dksX0_canUse_1 1 rfl rfl)
def dkwX0_readsBy_0 : List UInt8 := [45, 3, 42, 27, 28, 182, 0, 34, 133, 80, 167, 0, 7, 58, 4, 4, 172, 3, 172]
abbrev dktX0_readsBy_0 : List UInt8 := dkwX0_readsBy_0 ++ []
theorem dksX0_readsBy_0 : cX0_readsBy.data.toList.drop 0 = dktX0_readsBy_0 := by decide +kernel
theorem dX0_readsBy_0 : decode cX0_readsBy 0 = .ok (.aload_n 3, 1) := dk_45 (dk_at dksX0_readsBy_0 0 rfl rfl)
theorem dX0_readsBy_1 : decode cX0_readsBy 1 = .ok (.iconst 0, 1) := dk_3 (dk_at dksX0_readsBy_0 1 rfl rfl)
theorem dX0_readsBy_2 : decode cX0_readsBy 2 = .ok (.aload_n 0, 1) := dk_42 (dk_at dksX0_readsBy_0 2 rfl rfl)
theorem dX0_readsBy_3 : decode cX0_readsBy 3 = .ok (.iload_n 1, 1) := dk_27 (dk_at dksX0_readsBy_0 3 rfl rfl)
theorem dX0_readsBy_4 : decode cX0_readsBy 4 = .ok (.iload_n 2, 1) := dk_28 (dk_at dksX0_readsBy_0 4 rfl rfl)
theorem dX0_readsBy_5 : decode cX0_readsBy 5 = .ok (.invokevirtual 34, 3) := dk_182 0 34 (dk_at dksX0_readsBy_0 5 rfl rfl)
theorem dX0_readsBy_8 : decode cX0_readsBy 8 = .ok (.i2l, 1) := dk_133 (dk_at dksX0_readsBy_0 8 rfl rfl)
theorem dX0_readsBy_9 : decode cX0_readsBy 9 = .ok (.lastore, 1) := dk_80 (dk_at dksX0_readsBy_0 9 rfl rfl)
theorem dX0_readsBy_10 : decode cX0_readsBy 10 = .ok (.goto 7, 3) := dk_167 0 7 (dk_at dksX0_readsBy_0 10 rfl rfl)
theorem dX0_readsBy_13 : decode cX0_readsBy 13 = .ok (.astore 4, 2) := dk_58 4 (dk_at dksX0_readsBy_0 13 rfl rfl)
theorem dX0_readsBy_15 : decode cX0_readsBy 15 = .ok (.iconst 1, 1) := dk_4 (dk_at dksX0_readsBy_0 15 rfl rfl)
theorem dX0_readsBy_16 : decode cX0_readsBy 16 = .ok (.ireturn, 1) := dk_172 (dk_at dksX0_readsBy_0 16 rfl rfl)
theorem dX0_readsBy_17 : decode cX0_readsBy 17 = .ok (.iconst 0, 1) := dk_3 (dk_at dksX0_readsBy_0 17 rfl rfl)
theorem dX0_readsBy_18 : decode cX0_readsBy 18 = .ok (.ireturn, 1) := dk_172 (dk_at dksX0_readsBy_0 18 rfl rfl)
def dkwX0_couldRead_0 : List UInt8 := [45, 3, 42, 27, 28, 182, 0, 37, 133, 80, 167, 0, 7, 58, 4, 4, 172, 3, 172]
abbrev dktX0_couldRead_0 : List UInt8 := dkwX0_couldRead_0 ++ []
theorem dksX0_couldRead_0 : cX0_couldRead.data.toList.drop 0 = dktX0_couldRead_0 := by decide +kernel
theorem dX0_couldRead_0 : decode cX0_couldRead 0 = .ok (.aload_n 3, 1) := dk_45 (dk_at dksX0_couldRead_0 0 rfl rfl)
theorem dX0_couldRead_1 : decode cX0_couldRead 1 = .ok (.iconst 0, 1) := dk_3 (dk_at dksX0_couldRead_0 1 rfl rfl)
theorem dX0_couldRead_2 : decode cX0_couldRead 2 = .ok (.aload_n 0, 1) := dk_42 (dk_at dksX0_couldRead_0 2 rfl rfl)
theorem dX0_couldRead_3 : decode cX0_couldRead 3 = .ok (.iload_n 1, 1) := dk_27 (dk_at dksX0_couldRead_0 3 rfl rfl)
theorem dX0_couldRead_4 : decode cX0_couldRead 4 = .ok (.iload_n 2, 1) := dk_28 (dk_at dksX0_couldRead_0 4 rfl rfl)
theorem dX0_couldRead_5 : decode cX0_couldRead 5 = .ok (.invokevirtual 37, 3) := dk_182 0 37 (dk_at dksX0_couldRead_0 5 rfl rfl)
theorem dX0_couldRead_8 : decode cX0_couldRead 8 = .ok (.i2l, 1) := dk_133 (dk_at dksX0_couldRead_0 8 rfl rfl)
theorem dX0_couldRead_9 : decode cX0_couldRead 9 = .ok (.lastore, 1) := dk_80 (dk_at dksX0_couldRead_0 9 rfl rfl)
theorem dX0_couldRead_10 : decode cX0_couldRead 10 = .ok (.goto 7, 3) := dk_167 0 7 (dk_at dksX0_couldRead_0 10 rfl rfl)
theorem dX0_couldRead_13 : decode cX0_couldRead 13 = .ok (.astore 4, 2) := dk_58 4 (dk_at dksX0_couldRead_0 13 rfl rfl)
theorem dX0_couldRead_15 : decode cX0_couldRead 15 = .ok (.iconst 1, 1) := dk_4 (dk_at dksX0_couldRead_0 15 rfl rfl)
theorem dX0_couldRead_16 : decode cX0_couldRead 16 = .ok (.ireturn, 1) := dk_172 (dk_at dksX0_couldRead_0 16 rfl rfl)
theorem dX0_couldRead_17 : decode cX0_couldRead 17 = .ok (.iconst 0, 1) := dk_3 (dk_at dksX0_couldRead_0 17 rfl rfl)
theorem dX0_couldRead_18 : decode cX0_couldRead 18 = .ok (.ireturn, 1) := dk_172 (dk_at dksX0_couldRead_0 18 rfl rfl)
def dkwX0_nextAsk_0 : List UInt8 := [44, 3, 42, 27, 182, 0, 40, 133, 80, 167, 0, 6, 78, 4, 172, 3, 172]
abbrev dktX0_nextAsk_0 : List UInt8 := dkwX0_nextAsk_0 ++ []
theorem dksX0_nextAsk_0 : cX0_nextAsk.data.toList.drop 0 = dktX0_nextAsk_0 := by decide +kernel
theorem dX0_nextAsk_0 : decode cX0_nextAsk 0 = .ok (.aload_n 2, 1) := dk_44 (dk_at dksX0_nextAsk_0 0 rfl rfl)
theorem dX0_nextAsk_1 : decode cX0_nextAsk 1 = .ok (.iconst 0, 1) := dk_3 (dk_at dksX0_nextAsk_0 1 rfl rfl)
theorem dX0_nextAsk_2 : decode cX0_nextAsk 2 = .ok (.aload_n 0, 1) := dk_42 (dk_at dksX0_nextAsk_0 2 rfl rfl)
theorem dX0_nextAsk_3 : decode cX0_nextAsk 3 = .ok (.iload_n 1, 1) := dk_27 (dk_at dksX0_nextAsk_0 3 rfl rfl)
theorem dX0_nextAsk_4 : decode cX0_nextAsk 4 = .ok (.invokevirtual 40, 3) := dk_182 0 40 (dk_at dksX0_nextAsk_0 4 rfl rfl)
theorem dX0_nextAsk_7 : decode cX0_nextAsk 7 = .ok (.i2l, 1) := dk_133 (dk_at dksX0_nextAsk_0 7 rfl rfl)
theorem dX0_nextAsk_8 : decode cX0_nextAsk 8 = .ok (.lastore, 1) := dk_80 (dk_at dksX0_nextAsk_0 8 rfl rfl)
theorem dX0_nextAsk_9 : decode cX0_nextAsk 9 = .ok (.goto 6, 3) := dk_167 0 6 (dk_at dksX0_nextAsk_0 9 rfl rfl)
theorem dX0_nextAsk_12 : decode cX0_nextAsk 12 = .ok (.astore_n 3, 1) := dk_78 (dk_at dksX0_nextAsk_0 12 rfl rfl)
theorem dX0_nextAsk_13 : decode cX0_nextAsk 13 = .ok (.iconst 1, 1) := dk_4 (dk_at dksX0_nextAsk_0 13 rfl rfl)
theorem dX0_nextAsk_14 : decode cX0_nextAsk 14 = .ok (.ireturn, 1) := dk_172 (dk_at dksX0_nextAsk_0 14 rfl rfl)
theorem dX0_nextAsk_15 : decode cX0_nextAsk 15 = .ok (.iconst 0, 1) := dk_3 (dk_at dksX0_nextAsk_0 15 rfl rfl)
theorem dX0_nextAsk_16 : decode cX0_nextAsk 16 = .ok (.ireturn, 1) := dk_172 (dk_at dksX0_nextAsk_0 16 rfl rfl)
def dkwX0_readersBehind_0 : List UInt8 := [45, 3, 42, 27, 28, 182, 0, 43, 133, 80, 167, 0, 11, 58, 4, 4, 172, 58, 4, 5, 172, 3, 172]
abbrev dktX0_readersBehind_0 : List UInt8 := dkwX0_readersBehind_0 ++ []
theorem dksX0_readersBehind_0 : cX0_readersBehind.data.toList.drop 0 = dktX0_readersBehind_0 := by decide +kernel
theorem dX0_readersBehind_0 : decode cX0_readersBehind 0 = .ok (.aload_n 3, 1) := dk_45 (dk_at dksX0_readersBehind_0 0 rfl rfl)
theorem dX0_readersBehind_1 : decode cX0_readersBehind 1 = .ok (.iconst 0, 1) := dk_3 (dk_at dksX0_readersBehind_0 1 rfl rfl)
theorem dX0_readersBehind_2 : decode cX0_readersBehind 2 = .ok (.aload_n 0, 1) := dk_42 (dk_at dksX0_readersBehind_0 2 rfl rfl)
theorem dX0_readersBehind_3 : decode cX0_readersBehind 3 = .ok (.iload_n 1, 1) := dk_27 (dk_at dksX0_readersBehind_0 3 rfl rfl)
theorem dX0_readersBehind_4 : decode cX0_readersBehind 4 = .ok (.iload_n 2, 1) := dk_28 (dk_at dksX0_readersBehind_0 4 rfl rfl)
theorem dX0_readersBehind_5 : decode cX0_readersBehind 5 = .ok (.invokevirtual 43, 3) := dk_182 0 43 (dk_at dksX0_readersBehind_0 5 rfl rfl)
theorem dX0_readersBehind_8 : decode cX0_readersBehind 8 = .ok (.i2l, 1) := dk_133 (dk_at dksX0_readersBehind_0 8 rfl rfl)
theorem dX0_readersBehind_9 : decode cX0_readersBehind 9 = .ok (.lastore, 1) := dk_80 (dk_at dksX0_readersBehind_0 9 rfl rfl)
theorem dX0_readersBehind_10 : decode cX0_readersBehind 10 = .ok (.goto 11, 3) := dk_167 0 11 (dk_at dksX0_readersBehind_0 10 rfl rfl)
theorem dX0_readersBehind_13 : decode cX0_readersBehind 13 = .ok (.astore 4, 2) := dk_58 4 (dk_at dksX0_readersBehind_0 13 rfl rfl)
theorem dX0_readersBehind_15 : decode cX0_readersBehind 15 = .ok (.iconst 1, 1) := dk_4 (dk_at dksX0_readersBehind_0 15 rfl rfl)
theorem dX0_readersBehind_16 : decode cX0_readersBehind 16 = .ok (.ireturn, 1) := dk_172 (dk_at dksX0_readersBehind_0 16 rfl rfl)
theorem dX0_readersBehind_17 : decode cX0_readersBehind 17 = .ok (.astore 4, 2) := dk_58 4 (dk_at dksX0_readersBehind_0 17 rfl rfl)
theorem dX0_readersBehind_19 : decode cX0_readersBehind 19 = .ok (.iconst 2, 1) := dk_5 (dk_at dksX0_readersBehind_0 19 rfl rfl)
theorem dX0_readersBehind_20 : decode cX0_readersBehind 20 = .ok (.ireturn, 1) := dk_172 (dk_at dksX0_readersBehind_0 20 rfl rfl)
theorem dX0_readersBehind_21 : decode cX0_readersBehind 21 = .ok (.iconst 0, 1) := dk_3 (dk_at dksX0_readersBehind_0 21 rfl rfl)
theorem dX0_readersBehind_22 : decode cX0_readersBehind 22 = .ok (.ireturn, 1) := dk_172 (dk_at dksX0_readersBehind_0 22 rfl rfl)
def dkwX0_dark_0 : List UInt8 := [45, 3, 42, 27, 28, 182, 0, 46, 133, 80, 167, 0, 11, 58, 4, 4, 172, 58, 4, 5, 172, 3, 172]
abbrev dktX0_dark_0 : List UInt8 := dkwX0_dark_0 ++ []
theorem dksX0_dark_0 : cX0_dark.data.toList.drop 0 = dktX0_dark_0 := by decide +kernel
theorem dX0_dark_0 : decode cX0_dark 0 = .ok (.aload_n 3, 1) := dk_45 (dk_at dksX0_dark_0 0 rfl rfl)
theorem dX0_dark_1 : decode cX0_dark 1 = .ok (.iconst 0, 1) := dk_3 (dk_at dksX0_dark_0 1 rfl rfl)
theorem dX0_dark_2 : decode cX0_dark 2 = .ok (.aload_n 0, 1) := dk_42 (dk_at dksX0_dark_0 2 rfl rfl)
theorem dX0_dark_3 : decode cX0_dark 3 = .ok (.iload_n 1, 1) := dk_27 (dk_at dksX0_dark_0 3 rfl rfl)
theorem dX0_dark_4 : decode cX0_dark 4 = .ok (.iload_n 2, 1) := dk_28 (dk_at dksX0_dark_0 4 rfl rfl)
theorem dX0_dark_5 : decode cX0_dark 5 = .ok (.invokevirtual 46, 3) := dk_182 0 46 (dk_at dksX0_dark_0 5 rfl rfl)
theorem dX0_dark_8 : decode cX0_dark 8 = .ok (.i2l, 1) := dk_133 (dk_at dksX0_dark_0 8 rfl rfl)
theorem dX0_dark_9 : decode cX0_dark 9 = .ok (.lastore, 1) := dk_80 (dk_at dksX0_dark_0 9 rfl rfl)
theorem dX0_dark_10 : decode cX0_dark 10 = .ok (.goto 11, 3) := dk_167 0 11 (dk_at dksX0_dark_0 10 rfl rfl)
theorem dX0_dark_13 : decode cX0_dark 13 = .ok (.astore 4, 2) := dk_58 4 (dk_at dksX0_dark_0 13 rfl rfl)
theorem dX0_dark_15 : decode cX0_dark 15 = .ok (.iconst 1, 1) := dk_4 (dk_at dksX0_dark_0 15 rfl rfl)
theorem dX0_dark_16 : decode cX0_dark 16 = .ok (.ireturn, 1) := dk_172 (dk_at dksX0_dark_0 16 rfl rfl)
theorem dX0_dark_17 : decode cX0_dark 17 = .ok (.astore 4, 2) := dk_58 4 (dk_at dksX0_dark_0 17 rfl rfl)
theorem dX0_dark_19 : decode cX0_dark 19 = .ok (.iconst 2, 1) := dk_5 (dk_at dksX0_dark_0 19 rfl rfl)
theorem dX0_dark_20 : decode cX0_dark 20 = .ok (.ireturn, 1) := dk_172 (dk_at dksX0_dark_0 20 rfl rfl)
theorem dX0_dark_21 : decode cX0_dark 21 = .ok (.iconst 0, 1) := dk_3 (dk_at dksX0_dark_0 21 rfl rfl)
theorem dX0_dark_22 : decode cX0_dark 22 = .ok (.ireturn, 1) := dk_172 (dk_at dksX0_dark_0 22 rfl rfl)
def dkwX0_leastBatch_0 : List UInt8 := [44, 3, 42, 27, 182, 0, 49, 133, 80, 167, 0, 6, 78, 4, 172, 3, 172]
abbrev dktX0_leastBatch_0 : List UInt8 := dkwX0_leastBatch_0 ++ []
theorem dksX0_leastBatch_0 : cX0_leastBatch.data.toList.drop 0 = dktX0_leastBatch_0 := by decide +kernel
theorem dX0_leastBatch_0 : decode cX0_leastBatch 0 = .ok (.aload_n 2, 1) := dk_44 (dk_at dksX0_leastBatch_0 0 rfl rfl)
theorem dX0_leastBatch_1 : decode cX0_leastBatch 1 = .ok (.iconst 0, 1) := dk_3 (dk_at dksX0_leastBatch_0 1 rfl rfl)
theorem dX0_leastBatch_2 : decode cX0_leastBatch 2 = .ok (.aload_n 0, 1) := dk_42 (dk_at dksX0_leastBatch_0 2 rfl rfl)
theorem dX0_leastBatch_3 : decode cX0_leastBatch 3 = .ok (.iload_n 1, 1) := dk_27 (dk_at dksX0_leastBatch_0 3 rfl rfl)
theorem dX0_leastBatch_4 : decode cX0_leastBatch 4 = .ok (.invokevirtual 49, 3) := dk_182 0 49 (dk_at dksX0_leastBatch_0 4 rfl rfl)
theorem dX0_leastBatch_7 : decode cX0_leastBatch 7 = .ok (.i2l, 1) := dk_133 (dk_at dksX0_leastBatch_0 7 rfl rfl)
theorem dX0_leastBatch_8 : decode cX0_leastBatch 8 = .ok (.lastore, 1) := dk_80 (dk_at dksX0_leastBatch_0 8 rfl rfl)
theorem dX0_leastBatch_9 : decode cX0_leastBatch 9 = .ok (.goto 6, 3) := dk_167 0 6 (dk_at dksX0_leastBatch_0 9 rfl rfl)
theorem dX0_leastBatch_12 : decode cX0_leastBatch 12 = .ok (.astore_n 3, 1) := dk_78 (dk_at dksX0_leastBatch_0 12 rfl rfl)
theorem dX0_leastBatch_13 : decode cX0_leastBatch 13 = .ok (.iconst 1, 1) := dk_4 (dk_at dksX0_leastBatch_0 13 rfl rfl)
theorem dX0_leastBatch_14 : decode cX0_leastBatch 14 = .ok (.ireturn, 1) := dk_172 (dk_at dksX0_leastBatch_0 14 rfl rfl)
theorem dX0_leastBatch_15 : decode cX0_leastBatch 15 = .ok (.iconst 0, 1) := dk_3 (dk_at dksX0_leastBatch_0 15 rfl rfl)
theorem dX0_leastBatch_16 : decode cX0_leastBatch 16 = .ok (.ireturn, 1) := dk_172 (dk_at dksX0_leastBatch_0 16 rfl rfl)
def dkwX0_damage_0 : List UInt8 := [44, 3, 42, 27, 182, 0, 52, 133, 80, 167, 0, 6, 78, 4, 172, 3, 172]
abbrev dktX0_damage_0 : List UInt8 := dkwX0_damage_0 ++ []
theorem dksX0_damage_0 : cX0_damage.data.toList.drop 0 = dktX0_damage_0 := by decide +kernel
theorem dX0_damage_0 : decode cX0_damage 0 = .ok (.aload_n 2, 1) := dk_44 (dk_at dksX0_damage_0 0 rfl rfl)
theorem dX0_damage_1 : decode cX0_damage 1 = .ok (.iconst 0, 1) := dk_3 (dk_at dksX0_damage_0 1 rfl rfl)
theorem dX0_damage_2 : decode cX0_damage 2 = .ok (.aload_n 0, 1) := dk_42 (dk_at dksX0_damage_0 2 rfl rfl)
theorem dX0_damage_3 : decode cX0_damage 3 = .ok (.iload_n 1, 1) := dk_27 (dk_at dksX0_damage_0 3 rfl rfl)
theorem dX0_damage_4 : decode cX0_damage 4 = .ok (.invokevirtual 52, 3) := dk_182 0 52 (dk_at dksX0_damage_0 4 rfl rfl)
theorem dX0_damage_7 : decode cX0_damage 7 = .ok (.i2l, 1) := dk_133 (dk_at dksX0_damage_0 7 rfl rfl)
theorem dX0_damage_8 : decode cX0_damage 8 = .ok (.lastore, 1) := dk_80 (dk_at dksX0_damage_0 8 rfl rfl)
theorem dX0_damage_9 : decode cX0_damage 9 = .ok (.goto 6, 3) := dk_167 0 6 (dk_at dksX0_damage_0 9 rfl rfl)
theorem dX0_damage_12 : decode cX0_damage 12 = .ok (.astore_n 3, 1) := dk_78 (dk_at dksX0_damage_0 12 rfl rfl)
theorem dX0_damage_13 : decode cX0_damage 13 = .ok (.iconst 1, 1) := dk_4 (dk_at dksX0_damage_0 13 rfl rfl)
theorem dX0_damage_14 : decode cX0_damage 14 = .ok (.ireturn, 1) := dk_172 (dk_at dksX0_damage_0 14 rfl rfl)
theorem dX0_damage_15 : decode cX0_damage 15 = .ok (.iconst 0, 1) := dk_3 (dk_at dksX0_damage_0 15 rfl rfl)
theorem dX0_damage_16 : decode cX0_damage 16 = .ok (.ireturn, 1) := dk_172 (dk_at dksX0_damage_0 16 rfl rfl)
def dkwX0_pass_0 : List UInt8 := [44, 3, 42, 27, 182, 0, 55, 133, 80, 167, 0, 6, 78, 4, 172, 3, 172]
abbrev dktX0_pass_0 : List UInt8 := dkwX0_pass_0 ++ []
theorem dksX0_pass_0 : cX0_pass.data.toList.drop 0 = dktX0_pass_0 := by decide +kernel
theorem dX0_pass_0 : decode cX0_pass 0 = .ok (.aload_n 2, 1) := dk_44 (dk_at dksX0_pass_0 0 rfl rfl)
theorem dX0_pass_1 : decode cX0_pass 1 = .ok (.iconst 0, 1) := dk_3 (dk_at dksX0_pass_0 1 rfl rfl)
theorem dX0_pass_2 : decode cX0_pass 2 = .ok (.aload_n 0, 1) := dk_42 (dk_at dksX0_pass_0 2 rfl rfl)
theorem dX0_pass_3 : decode cX0_pass 3 = .ok (.iload_n 1, 1) := dk_27 (dk_at dksX0_pass_0 3 rfl rfl)
theorem dX0_pass_4 : decode cX0_pass 4 = .ok (.invokevirtual 55, 3) := dk_182 0 55 (dk_at dksX0_pass_0 4 rfl rfl)
theorem dX0_pass_7 : decode cX0_pass 7 = .ok (.i2l, 1) := dk_133 (dk_at dksX0_pass_0 7 rfl rfl)
theorem dX0_pass_8 : decode cX0_pass 8 = .ok (.lastore, 1) := dk_80 (dk_at dksX0_pass_0 8 rfl rfl)
theorem dX0_pass_9 : decode cX0_pass 9 = .ok (.goto 6, 3) := dk_167 0 6 (dk_at dksX0_pass_0 9 rfl rfl)
theorem dX0_pass_12 : decode cX0_pass 12 = .ok (.astore_n 3, 1) := dk_78 (dk_at dksX0_pass_0 12 rfl rfl)
theorem dX0_pass_13 : decode cX0_pass 13 = .ok (.iconst 1, 1) := dk_4 (dk_at dksX0_pass_0 13 rfl rfl)
theorem dX0_pass_14 : decode cX0_pass 14 = .ok (.ireturn, 1) := dk_172 (dk_at dksX0_pass_0 14 rfl rfl)
theorem dX0_pass_15 : decode cX0_pass 15 = .ok (.iconst 0, 1) := dk_3 (dk_at dksX0_pass_0 15 rfl rfl)
theorem dX0_pass_16 : decode cX0_pass 16 = .ok (.ireturn, 1) := dk_172 (dk_at dksX0_pass_0 16 rfl rfl)
def dkwX0_withdraw_0 : List UInt8 := [44, 3, 42, 27, 182, 0, 58, 133, 80, 167, 0, 6, 78, 4, 172, 3, 172]
abbrev dktX0_withdraw_0 : List UInt8 := dkwX0_withdraw_0 ++ []
theorem dksX0_withdraw_0 : cX0_withdraw.data.toList.drop 0 = dktX0_withdraw_0 := by decide +kernel
theorem dX0_withdraw_0 : decode cX0_withdraw 0 = .ok (.aload_n 2, 1) := dk_44 (dk_at dksX0_withdraw_0 0 rfl rfl)
theorem dX0_withdraw_1 : decode cX0_withdraw 1 = .ok (.iconst 0, 1) := dk_3 (dk_at dksX0_withdraw_0 1 rfl rfl)
theorem dX0_withdraw_2 : decode cX0_withdraw 2 = .ok (.aload_n 0, 1) := dk_42 (dk_at dksX0_withdraw_0 2 rfl rfl)
theorem dX0_withdraw_3 : decode cX0_withdraw 3 = .ok (.iload_n 1, 1) := dk_27 (dk_at dksX0_withdraw_0 3 rfl rfl)
theorem dX0_withdraw_4 : decode cX0_withdraw 4 = .ok (.invokevirtual 58, 3) := dk_182 0 58 (dk_at dksX0_withdraw_0 4 rfl rfl)
theorem dX0_withdraw_7 : decode cX0_withdraw 7 = .ok (.i2l, 1) := dk_133 (dk_at dksX0_withdraw_0 7 rfl rfl)
theorem dX0_withdraw_8 : decode cX0_withdraw 8 = .ok (.lastore, 1) := dk_80 (dk_at dksX0_withdraw_0 8 rfl rfl)
theorem dX0_withdraw_9 : decode cX0_withdraw 9 = .ok (.goto 6, 3) := dk_167 0 6 (dk_at dksX0_withdraw_0 9 rfl rfl)
theorem dX0_withdraw_12 : decode cX0_withdraw 12 = .ok (.astore_n 3, 1) := dk_78 (dk_at dksX0_withdraw_0 12 rfl rfl)
theorem dX0_withdraw_13 : decode cX0_withdraw 13 = .ok (.iconst 1, 1) := dk_4 (dk_at dksX0_withdraw_0 13 rfl rfl)
theorem dX0_withdraw_14 : decode cX0_withdraw 14 = .ok (.ireturn, 1) := dk_172 (dk_at dksX0_withdraw_0 14 rfl rfl)
theorem dX0_withdraw_15 : decode cX0_withdraw 15 = .ok (.iconst 0, 1) := dk_3 (dk_at dksX0_withdraw_0 15 rfl rfl)
theorem dX0_withdraw_16 : decode cX0_withdraw 16 = .ok (.ireturn, 1) := dk_172 (dk_at dksX0_withdraw_0 16 rfl rfl)
def dkwX0_drop_0 : List UInt8 := [44, 3, 42, 27, 182, 0, 61, 133, 80, 167, 0, 6, 78, 4, 172, 3, 172]
abbrev dktX0_drop_0 : List UInt8 := dkwX0_drop_0 ++ []
theorem dksX0_drop_0 : cX0_drop.data.toList.drop 0 = dktX0_drop_0 := by decide +kernel
theorem dX0_drop_0 : decode cX0_drop 0 = .ok (.aload_n 2, 1) := dk_44 (dk_at dksX0_drop_0 0 rfl rfl)
theorem dX0_drop_1 : decode cX0_drop 1 = .ok (.iconst 0, 1) := dk_3 (dk_at dksX0_drop_0 1 rfl rfl)
theorem dX0_drop_2 : decode cX0_drop 2 = .ok (.aload_n 0, 1) := dk_42 (dk_at dksX0_drop_0 2 rfl rfl)
theorem dX0_drop_3 : decode cX0_drop 3 = .ok (.iload_n 1, 1) := dk_27 (dk_at dksX0_drop_0 3 rfl rfl)
theorem dX0_drop_4 : decode cX0_drop 4 = .ok (.invokevirtual 61, 3) := dk_182 0 61 (dk_at dksX0_drop_0 4 rfl rfl)
theorem dX0_drop_7 : decode cX0_drop 7 = .ok (.i2l, 1) := dk_133 (dk_at dksX0_drop_0 7 rfl rfl)
theorem dX0_drop_8 : decode cX0_drop 8 = .ok (.lastore, 1) := dk_80 (dk_at dksX0_drop_0 8 rfl rfl)
theorem dX0_drop_9 : decode cX0_drop 9 = .ok (.goto 6, 3) := dk_167 0 6 (dk_at dksX0_drop_0 9 rfl rfl)
theorem dX0_drop_12 : decode cX0_drop 12 = .ok (.astore_n 3, 1) := dk_78 (dk_at dksX0_drop_0 12 rfl rfl)
theorem dX0_drop_13 : decode cX0_drop 13 = .ok (.iconst 1, 1) := dk_4 (dk_at dksX0_drop_0 13 rfl rfl)
theorem dX0_drop_14 : decode cX0_drop 14 = .ok (.ireturn, 1) := dk_172 (dk_at dksX0_drop_0 14 rfl rfl)
theorem dX0_drop_15 : decode cX0_drop 15 = .ok (.iconst 0, 1) := dk_3 (dk_at dksX0_drop_0 15 rfl rfl)
theorem dX0_drop_16 : decode cX0_drop 16 = .ok (.ireturn, 1) := dk_172 (dk_at dksX0_drop_0 16 rfl rfl)
def dkwX0_ask_0 : List UInt8 := [44, 3, 42, 27, 182, 0, 64, 133, 80, 167, 0, 6, 78, 4, 172, 3, 172]
abbrev dktX0_ask_0 : List UInt8 := dkwX0_ask_0 ++ []
theorem dksX0_ask_0 : cX0_ask.data.toList.drop 0 = dktX0_ask_0 := by decide +kernel
theorem dX0_ask_0 : decode cX0_ask 0 = .ok (.aload_n 2, 1) := dk_44 (dk_at dksX0_ask_0 0 rfl rfl)
theorem dX0_ask_1 : decode cX0_ask 1 = .ok (.iconst 0, 1) := dk_3 (dk_at dksX0_ask_0 1 rfl rfl)
theorem dX0_ask_2 : decode cX0_ask 2 = .ok (.aload_n 0, 1) := dk_42 (dk_at dksX0_ask_0 2 rfl rfl)
theorem dX0_ask_3 : decode cX0_ask 3 = .ok (.iload_n 1, 1) := dk_27 (dk_at dksX0_ask_0 3 rfl rfl)
theorem dX0_ask_4 : decode cX0_ask 4 = .ok (.invokevirtual 64, 3) := dk_182 0 64 (dk_at dksX0_ask_0 4 rfl rfl)
theorem dX0_ask_7 : decode cX0_ask 7 = .ok (.i2l, 1) := dk_133 (dk_at dksX0_ask_0 7 rfl rfl)
theorem dX0_ask_8 : decode cX0_ask 8 = .ok (.lastore, 1) := dk_80 (dk_at dksX0_ask_0 8 rfl rfl)
theorem dX0_ask_9 : decode cX0_ask 9 = .ok (.goto 6, 3) := dk_167 0 6 (dk_at dksX0_ask_0 9 rfl rfl)
theorem dX0_ask_12 : decode cX0_ask 12 = .ok (.astore_n 3, 1) := dk_78 (dk_at dksX0_ask_0 12 rfl rfl)
theorem dX0_ask_13 : decode cX0_ask 13 = .ok (.iconst 1, 1) := dk_4 (dk_at dksX0_ask_0 13 rfl rfl)
theorem dX0_ask_14 : decode cX0_ask 14 = .ok (.ireturn, 1) := dk_172 (dk_at dksX0_ask_0 14 rfl rfl)
theorem dX0_ask_15 : decode cX0_ask 15 = .ok (.iconst 0, 1) := dk_3 (dk_at dksX0_ask_0 15 rfl rfl)
theorem dX0_ask_16 : decode cX0_ask 16 = .ok (.ireturn, 1) := dk_172 (dk_at dksX0_ask_0 16 rfl rfl)
def dkwX0_read_0 : List UInt8 := [45, 3, 42, 27, 28, 182, 0, 67, 133, 80, 167, 0, 7, 58, 4, 4, 172, 3, 172]
abbrev dktX0_read_0 : List UInt8 := dkwX0_read_0 ++ []
theorem dksX0_read_0 : cX0_read.data.toList.drop 0 = dktX0_read_0 := by decide +kernel
theorem dX0_read_0 : decode cX0_read 0 = .ok (.aload_n 3, 1) := dk_45 (dk_at dksX0_read_0 0 rfl rfl)
theorem dX0_read_1 : decode cX0_read 1 = .ok (.iconst 0, 1) := dk_3 (dk_at dksX0_read_0 1 rfl rfl)
theorem dX0_read_2 : decode cX0_read 2 = .ok (.aload_n 0, 1) := dk_42 (dk_at dksX0_read_0 2 rfl rfl)
theorem dX0_read_3 : decode cX0_read 3 = .ok (.iload_n 1, 1) := dk_27 (dk_at dksX0_read_0 3 rfl rfl)
theorem dX0_read_4 : decode cX0_read 4 = .ok (.iload_n 2, 1) := dk_28 (dk_at dksX0_read_0 4 rfl rfl)
theorem dX0_read_5 : decode cX0_read 5 = .ok (.invokevirtual 67, 3) := dk_182 0 67 (dk_at dksX0_read_0 5 rfl rfl)
theorem dX0_read_8 : decode cX0_read 8 = .ok (.i2l, 1) := dk_133 (dk_at dksX0_read_0 8 rfl rfl)
theorem dX0_read_9 : decode cX0_read 9 = .ok (.lastore, 1) := dk_80 (dk_at dksX0_read_0 9 rfl rfl)
theorem dX0_read_10 : decode cX0_read 10 = .ok (.goto 7, 3) := dk_167 0 7 (dk_at dksX0_read_0 10 rfl rfl)
theorem dX0_read_13 : decode cX0_read 13 = .ok (.astore 4, 2) := dk_58 4 (dk_at dksX0_read_0 13 rfl rfl)
theorem dX0_read_15 : decode cX0_read 15 = .ok (.iconst 1, 1) := dk_4 (dk_at dksX0_read_0 15 rfl rfl)
theorem dX0_read_16 : decode cX0_read 16 = .ok (.ireturn, 1) := dk_172 (dk_at dksX0_read_0 16 rfl rfl)
theorem dX0_read_17 : decode cX0_read 17 = .ok (.iconst 0, 1) := dk_3 (dk_at dksX0_read_0 17 rfl rfl)
theorem dX0_read_18 : decode cX0_read 18 = .ok (.ireturn, 1) := dk_172 (dk_at dksX0_read_0 18 rfl rfl)
def dkwX0_setBatch_0 : List UInt8 := [44, 3, 42, 27, 182, 0, 70, 133, 80, 167, 0, 6, 78, 4, 172, 3, 172]
abbrev dktX0_setBatch_0 : List UInt8 := dkwX0_setBatch_0 ++ []
theorem dksX0_setBatch_0 : cX0_setBatch.data.toList.drop 0 = dktX0_setBatch_0 := by decide +kernel
theorem dX0_setBatch_0 : decode cX0_setBatch 0 = .ok (.aload_n 2, 1) := dk_44 (dk_at dksX0_setBatch_0 0 rfl rfl)
theorem dX0_setBatch_1 : decode cX0_setBatch 1 = .ok (.iconst 0, 1) := dk_3 (dk_at dksX0_setBatch_0 1 rfl rfl)
theorem dX0_setBatch_2 : decode cX0_setBatch 2 = .ok (.aload_n 0, 1) := dk_42 (dk_at dksX0_setBatch_0 2 rfl rfl)
theorem dX0_setBatch_3 : decode cX0_setBatch 3 = .ok (.iload_n 1, 1) := dk_27 (dk_at dksX0_setBatch_0 3 rfl rfl)
theorem dX0_setBatch_4 : decode cX0_setBatch 4 = .ok (.invokevirtual 70, 3) := dk_182 0 70 (dk_at dksX0_setBatch_0 4 rfl rfl)
theorem dX0_setBatch_7 : decode cX0_setBatch 7 = .ok (.i2l, 1) := dk_133 (dk_at dksX0_setBatch_0 7 rfl rfl)
theorem dX0_setBatch_8 : decode cX0_setBatch 8 = .ok (.lastore, 1) := dk_80 (dk_at dksX0_setBatch_0 8 rfl rfl)
theorem dX0_setBatch_9 : decode cX0_setBatch 9 = .ok (.goto 6, 3) := dk_167 0 6 (dk_at dksX0_setBatch_0 9 rfl rfl)
theorem dX0_setBatch_12 : decode cX0_setBatch 12 = .ok (.astore_n 3, 1) := dk_78 (dk_at dksX0_setBatch_0 12 rfl rfl)
theorem dX0_setBatch_13 : decode cX0_setBatch 13 = .ok (.iconst 1, 1) := dk_4 (dk_at dksX0_setBatch_0 13 rfl rfl)
theorem dX0_setBatch_14 : decode cX0_setBatch 14 = .ok (.ireturn, 1) := dk_172 (dk_at dksX0_setBatch_0 14 rfl rfl)
theorem dX0_setBatch_15 : decode cX0_setBatch 15 = .ok (.iconst 0, 1) := dk_3 (dk_at dksX0_setBatch_0 15 rfl rfl)
theorem dX0_setBatch_16 : decode cX0_setBatch 16 = .ok (.ireturn, 1) := dk_172 (dk_at dksX0_setBatch_0 16 rfl rfl)
def dkwX0_format_0 : List UInt8 := [44, 3, 42, 27, 182, 0, 73, 133, 80, 167, 0, 6, 78, 4, 172, 3, 172]
abbrev dktX0_format_0 : List UInt8 := dkwX0_format_0 ++ []
theorem dksX0_format_0 : cX0_format.data.toList.drop 0 = dktX0_format_0 := by decide +kernel
theorem dX0_format_0 : decode cX0_format 0 = .ok (.aload_n 2, 1) := dk_44 (dk_at dksX0_format_0 0 rfl rfl)
theorem dX0_format_1 : decode cX0_format 1 = .ok (.iconst 0, 1) := dk_3 (dk_at dksX0_format_0 1 rfl rfl)
theorem dX0_format_2 : decode cX0_format 2 = .ok (.aload_n 0, 1) := dk_42 (dk_at dksX0_format_0 2 rfl rfl)
theorem dX0_format_3 : decode cX0_format 3 = .ok (.iload_n 1, 1) := dk_27 (dk_at dksX0_format_0 3 rfl rfl)
theorem dX0_format_4 : decode cX0_format 4 = .ok (.invokevirtual 73, 3) := dk_182 0 73 (dk_at dksX0_format_0 4 rfl rfl)
theorem dX0_format_7 : decode cX0_format 7 = .ok (.i2l, 1) := dk_133 (dk_at dksX0_format_0 7 rfl rfl)
theorem dX0_format_8 : decode cX0_format 8 = .ok (.lastore, 1) := dk_80 (dk_at dksX0_format_0 8 rfl rfl)
theorem dX0_format_9 : decode cX0_format 9 = .ok (.goto 6, 3) := dk_167 0 6 (dk_at dksX0_format_0 9 rfl rfl)
theorem dX0_format_12 : decode cX0_format 12 = .ok (.astore_n 3, 1) := dk_78 (dk_at dksX0_format_0 12 rfl rfl)
theorem dX0_format_13 : decode cX0_format 13 = .ok (.iconst 1, 1) := dk_4 (dk_at dksX0_format_0 13 rfl rfl)
theorem dX0_format_14 : decode cX0_format 14 = .ok (.ireturn, 1) := dk_172 (dk_at dksX0_format_0 14 rfl rfl)
theorem dX0_format_15 : decode cX0_format 15 = .ok (.iconst 0, 1) := dk_3 (dk_at dksX0_format_0 15 rfl rfl)
theorem dX0_format_16 : decode cX0_format 16 = .ok (.ireturn, 1) := dk_172 (dk_at dksX0_format_0 16 rfl rfl)
def dkwX0_query_0 : List UInt8 := [44, 3, 42, 27, 182, 0, 76, 133, 80, 167, 0, 6, 78, 4, 172, 3, 172]
abbrev dktX0_query_0 : List UInt8 := dkwX0_query_0 ++ []
theorem dksX0_query_0 : cX0_query.data.toList.drop 0 = dktX0_query_0 := by decide +kernel
theorem dX0_query_0 : decode cX0_query 0 = .ok (.aload_n 2, 1) := dk_44 (dk_at dksX0_query_0 0 rfl rfl)
theorem dX0_query_1 : decode cX0_query 1 = .ok (.iconst 0, 1) := dk_3 (dk_at dksX0_query_0 1 rfl rfl)
theorem dX0_query_2 : decode cX0_query 2 = .ok (.aload_n 0, 1) := dk_42 (dk_at dksX0_query_0 2 rfl rfl)
theorem dX0_query_3 : decode cX0_query 3 = .ok (.iload_n 1, 1) := dk_27 (dk_at dksX0_query_0 3 rfl rfl)
theorem dX0_query_4 : decode cX0_query 4 = .ok (.invokevirtual 76, 3) := dk_182 0 76 (dk_at dksX0_query_0 4 rfl rfl)
theorem dX0_query_7 : decode cX0_query 7 = .ok (.i2l, 1) := dk_133 (dk_at dksX0_query_0 7 rfl rfl)
theorem dX0_query_8 : decode cX0_query 8 = .ok (.lastore, 1) := dk_80 (dk_at dksX0_query_0 8 rfl rfl)
theorem dX0_query_9 : decode cX0_query 9 = .ok (.goto 6, 3) := dk_167 0 6 (dk_at dksX0_query_0 9 rfl rfl)
theorem dX0_query_12 : decode cX0_query 12 = .ok (.astore_n 3, 1) := dk_78 (dk_at dksX0_query_0 12 rfl rfl)
theorem dX0_query_13 : decode cX0_query 13 = .ok (.iconst 1, 1) := dk_4 (dk_at dksX0_query_0 13 rfl rfl)
theorem dX0_query_14 : decode cX0_query 14 = .ok (.ireturn, 1) := dk_172 (dk_at dksX0_query_0 14 rfl rfl)
theorem dX0_query_15 : decode cX0_query 15 = .ok (.iconst 0, 1) := dk_3 (dk_at dksX0_query_0 15 rfl rfl)
theorem dX0_query_16 : decode cX0_query 16 = .ok (.ireturn, 1) := dk_172 (dk_at dksX0_query_0 16 rfl rfl)
def dkwX1_init_2 : List UInt8 := [177]
abbrev dktX1_init_2 : List UInt8 := dkwX1_init_2 ++ []
def dkwX1_init_1 : List UInt8 := [42, 2, 181, 0, 120, 42, 18, 123, 181, 0, 125, 42, 16, 100, 16, 10, 8, 4, 184, 0, 129, 181, 0, 133]
abbrev dktX1_init_1 : List UInt8 := dkwX1_init_1 ++ dktX1_init_2
def dkwX1_init_0 : List UInt8 := [42, 183, 0, 106, 42, 187, 0, 109, 89, 183, 0, 111, 181, 0, 112, 42, 17, 1, 144, 188, 8, 181, 0, 116]
abbrev dktX1_init_0 : List UInt8 := dkwX1_init_0 ++ dktX1_init_1
theorem dksX1_init_0 : cX1_init.data.toList.drop 0 = dktX1_init_0 := by decide +kernel
theorem dksX1_init_1 : cX1_init.data.toList.drop 24 = dktX1_init_1 := dk_seg dksX1_init_0 24 rfl rfl
theorem dksX1_init_2 : cX1_init.data.toList.drop 48 = dktX1_init_2 := dk_seg dksX1_init_1 24 rfl rfl
theorem dX1_init_0 : decode cX1_init 0 = .ok (.aload_n 0, 1) := dk_42 (dk_at dksX1_init_0 0 rfl rfl)
theorem dX1_init_1 : decode cX1_init 1 = .ok (.invokespecial 106, 3) := dk_183 0 106 (dk_at dksX1_init_0 1 rfl rfl)
theorem dX1_init_4 : decode cX1_init 4 = .ok (.aload_n 0, 1) := dk_42 (dk_at dksX1_init_0 4 rfl rfl)
theorem dX1_init_5 : decode cX1_init 5 = .ok (.new 109, 3) := dk_187 0 109 (dk_at dksX1_init_0 5 rfl rfl)
theorem dX1_init_8 : decode cX1_init 8 = .ok (.dup, 1) := dk_89 (dk_at dksX1_init_0 8 rfl rfl)
theorem dX1_init_9 : decode cX1_init 9 = .ok (.invokespecial 111, 3) := dk_183 0 111 (dk_at dksX1_init_0 9 rfl rfl)
theorem dX1_init_12 : decode cX1_init 12 = .ok (.putfield 112, 3) := dk_181 0 112 (dk_at dksX1_init_0 12 rfl rfl)
theorem dX1_init_15 : decode cX1_init 15 = .ok (.aload_n 0, 1) := dk_42 (dk_at dksX1_init_0 15 rfl rfl)
theorem dX1_init_16 : decode cX1_init 16 = .ok (.sipush 400, 3) := dk_17 1 144 (dk_at dksX1_init_0 16 rfl rfl)
theorem dX1_init_19 : decode cX1_init 19 = .ok (.newarray .byte, 2) := dk_188_8 (dk_at dksX1_init_0 19 rfl rfl)
theorem dX1_init_21 : decode cX1_init 21 = .ok (.putfield 116, 3) := dk_181 0 116 (dk_at dksX1_init_0 21 rfl rfl)
theorem dX1_init_24 : decode cX1_init 24 = .ok (.aload_n 0, 1) := dk_42 (dk_at dksX1_init_1 0 rfl rfl)
theorem dX1_init_25 : decode cX1_init 25 = .ok (.iconst (-1), 1) := dk_2 (dk_at dksX1_init_1 1 rfl rfl)
theorem dX1_init_26 : decode cX1_init 26 = .ok (.putfield 120, 3) := dk_181 0 120 (dk_at dksX1_init_1 2 rfl rfl)
theorem dX1_init_29 : decode cX1_init 29 = .ok (.aload_n 0, 1) := dk_42 (dk_at dksX1_init_1 5 rfl rfl)
theorem dX1_init_30 : decode cX1_init 30 = .ok (.ldc 123, 2) := dk_18 123 (dk_at dksX1_init_1 6 rfl rfl)
theorem dX1_init_32 : decode cX1_init 32 = .ok (.putfield 125, 3) := dk_181 0 125 (dk_at dksX1_init_1 8 rfl rfl)
theorem dX1_init_35 : decode cX1_init 35 = .ok (.aload_n 0, 1) := dk_42 (dk_at dksX1_init_1 11 rfl rfl)
theorem dX1_init_36 : decode cX1_init 36 = .ok (.bipush 100, 2) := dk_16 100 (dk_at dksX1_init_1 12 rfl rfl)
theorem dX1_init_38 : decode cX1_init 38 = .ok (.bipush 10, 2) := dk_16 10 (dk_at dksX1_init_1 14 rfl rfl)
theorem dX1_init_40 : decode cX1_init 40 = .ok (.iconst 5, 1) := dk_8 (dk_at dksX1_init_1 16 rfl rfl)
theorem dX1_init_41 : decode cX1_init 41 = .ok (.iconst 1, 1) := dk_4 (dk_at dksX1_init_1 17 rfl rfl)
theorem dX1_init_42 : decode cX1_init 42 = .ok (.invokestatic 129, 3) := dk_184 0 129 (dk_at dksX1_init_1 18 rfl rfl)
theorem dX1_init_45 : decode cX1_init 45 = .ok (.putfield 133, 3) := dk_181 0 133 (dk_at dksX1_init_1 21 rfl rfl)
theorem dX1_init_48 : decode cX1_init 48 = .ok (.return_, 1) := dk_177 (dk_at dksX1_init_2 0 rfl rfl)
def dkwX1_begun_1 : List UInt8 := [17, 39, 15, 183, 0, 23, 182, 0, 26, 87, 25, 4, 176]
abbrev dktX1_begun_1 : List UInt8 := dkwX1_begun_1 ++ []
def dkwX1_begun_0 : List UInt8 := [187, 0, 10, 89, 26, 27, 28, 29, 183, 0, 12, 58, 4, 25, 4, 180, 0, 15, 187, 0, 19, 89, 3, 3]
abbrev dktX1_begun_0 : List UInt8 := dkwX1_begun_0 ++ dktX1_begun_1
theorem dksX1_begun_0 : cX1_begun.data.toList.drop 0 = dktX1_begun_0 := by decide +kernel
theorem dksX1_begun_1 : cX1_begun.data.toList.drop 24 = dktX1_begun_1 := dk_seg dksX1_begun_0 24 rfl rfl
theorem dX1_begun_0 : decode cX1_begun 0 = .ok (.new 10, 3) := dk_187 0 10 (dk_at dksX1_begun_0 0 rfl rfl)
theorem dX1_begun_3 : decode cX1_begun 3 = .ok (.dup, 1) := dk_89 (dk_at dksX1_begun_0 3 rfl rfl)
theorem dX1_begun_4 : decode cX1_begun 4 = .ok (.iload_n 0, 1) := dk_26 (dk_at dksX1_begun_0 4 rfl rfl)
theorem dX1_begun_5 : decode cX1_begun 5 = .ok (.iload_n 1, 1) := dk_27 (dk_at dksX1_begun_0 5 rfl rfl)
theorem dX1_begun_6 : decode cX1_begun 6 = .ok (.iload_n 2, 1) := dk_28 (dk_at dksX1_begun_0 6 rfl rfl)
theorem dX1_begun_7 : decode cX1_begun 7 = .ok (.iload_n 3, 1) := dk_29 (dk_at dksX1_begun_0 7 rfl rfl)
theorem dX1_begun_8 : decode cX1_begun 8 = .ok (.invokespecial 12, 3) := dk_183 0 12 (dk_at dksX1_begun_0 8 rfl rfl)
theorem dX1_begun_11 : decode cX1_begun 11 = .ok (.astore 4, 2) := dk_58 4 (dk_at dksX1_begun_0 11 rfl rfl)
theorem dX1_begun_13 : decode cX1_begun 13 = .ok (.aload 4, 2) := dk_25 4 (dk_at dksX1_begun_0 13 rfl rfl)
theorem dX1_begun_15 : decode cX1_begun 15 = .ok (.getfield 15, 3) := dk_180 0 15 (dk_at dksX1_begun_0 15 rfl rfl)
theorem dX1_begun_18 : decode cX1_begun 18 = .ok (.new 19, 3) := dk_187 0 19 (dk_at dksX1_begun_0 18 rfl rfl)
theorem dX1_begun_21 : decode cX1_begun 21 = .ok (.dup, 1) := dk_89 (dk_at dksX1_begun_0 21 rfl rfl)
theorem dX1_begun_22 : decode cX1_begun 22 = .ok (.iconst 0, 1) := dk_3 (dk_at dksX1_begun_0 22 rfl rfl)
theorem dX1_begun_23 : decode cX1_begun 23 = .ok (.iconst 0, 1) := dk_3 (dk_at dksX1_begun_0 23 rfl rfl)
theorem dX1_begun_24 : decode cX1_begun 24 = .ok (.sipush 9999, 3) := dk_17 39 15 (dk_at dksX1_begun_1 0 rfl rfl)
theorem dX1_begun_27 : decode cX1_begun 27 = .ok (.invokespecial 23, 3) := dk_183 0 23 (dk_at dksX1_begun_1 3 rfl rfl)
theorem dX1_begun_30 : decode cX1_begun 30 = .ok (.invokevirtual 26, 3) := dk_182 0 26 (dk_at dksX1_begun_1 6 rfl rfl)
theorem dX1_begun_33 : decode cX1_begun 33 = .ok (.pop, 1) := dk_87 (dk_at dksX1_begun_1 9 rfl rfl)
theorem dX1_begun_34 : decode cX1_begun 34 = .ok (.aload 4, 2) := dk_25 4 (dk_at dksX1_begun_1 10 rfl rfl)
theorem dX1_begun_36 : decode cX1_begun 36 = .ok (.areturn, 1) := dk_176 (dk_at dksX1_begun_1 12 rfl rfl)
def dkwX1_feed_2 : List UInt8 := [172]
abbrev dktX1_feed_2 : List UInt8 := dkwX1_feed_2 ++ []
def dkwX1_feed_1 : List UInt8 := [182, 0, 140, 42, 29, 182, 0, 140, 42, 21, 4, 182, 0, 140, 42, 21, 5, 182, 0, 140, 42, 180, 0, 137]
abbrev dktX1_feed_1 : List UInt8 := dkwX1_feed_1 ++ dktX1_feed_2
def dkwX1_feed_0 : List UInt8 := [42, 180, 0, 137, 16, 20, 96, 17, 1, 144, 164, 0, 5, 2, 172, 42, 27, 182, 0, 140, 42, 28]
abbrev dktX1_feed_0 : List UInt8 := dkwX1_feed_0 ++ dktX1_feed_1
theorem dksX1_feed_0 : cX1_feed.data.toList.drop 0 = dktX1_feed_0 := by decide +kernel
theorem dksX1_feed_1 : cX1_feed.data.toList.drop 22 = dktX1_feed_1 := dk_seg dksX1_feed_0 22 rfl rfl
theorem dksX1_feed_2 : cX1_feed.data.toList.drop 46 = dktX1_feed_2 := dk_seg dksX1_feed_1 24 rfl rfl
theorem dX1_feed_0 : decode cX1_feed 0 = .ok (.aload_n 0, 1) := dk_42 (dk_at dksX1_feed_0 0 rfl rfl)
theorem dX1_feed_1 : decode cX1_feed 1 = .ok (.getfield 137, 3) := dk_180 0 137 (dk_at dksX1_feed_0 1 rfl rfl)
theorem dX1_feed_4 : decode cX1_feed 4 = .ok (.bipush 20, 2) := dk_16 20 (dk_at dksX1_feed_0 4 rfl rfl)
theorem dX1_feed_6 : decode cX1_feed 6 = .ok (.iadd, 1) := dk_96 (dk_at dksX1_feed_0 6 rfl rfl)
theorem dX1_feed_7 : decode cX1_feed 7 = .ok (.sipush 400, 3) := dk_17 1 144 (dk_at dksX1_feed_0 7 rfl rfl)
theorem dX1_feed_10 : decode cX1_feed 10 = .ok (.if_icmp .le 5, 3) := dk_164 0 5 (dk_at dksX1_feed_0 10 rfl rfl)
theorem dX1_feed_13 : decode cX1_feed 13 = .ok (.iconst (-1), 1) := dk_2 (dk_at dksX1_feed_0 13 rfl rfl)
theorem dX1_feed_14 : decode cX1_feed 14 = .ok (.ireturn, 1) := dk_172 (dk_at dksX1_feed_0 14 rfl rfl)
theorem dX1_feed_15 : decode cX1_feed 15 = .ok (.aload_n 0, 1) := dk_42 (dk_at dksX1_feed_0 15 rfl rfl)
theorem dX1_feed_16 : decode cX1_feed 16 = .ok (.iload_n 1, 1) := dk_27 (dk_at dksX1_feed_0 16 rfl rfl)
theorem dX1_feed_17 : decode cX1_feed 17 = .ok (.invokevirtual 140, 3) := dk_182 0 140 (dk_at dksX1_feed_0 17 rfl rfl)
theorem dX1_feed_20 : decode cX1_feed 20 = .ok (.aload_n 0, 1) := dk_42 (dk_at dksX1_feed_0 20 rfl rfl)
theorem dX1_feed_21 : decode cX1_feed 21 = .ok (.iload_n 2, 1) := dk_28 (dk_at dksX1_feed_0 21 rfl rfl)
theorem dX1_feed_22 : decode cX1_feed 22 = .ok (.invokevirtual 140, 3) := dk_182 0 140 (dk_at dksX1_feed_1 0 rfl rfl)
theorem dX1_feed_25 : decode cX1_feed 25 = .ok (.aload_n 0, 1) := dk_42 (dk_at dksX1_feed_1 3 rfl rfl)
theorem dX1_feed_26 : decode cX1_feed 26 = .ok (.iload_n 3, 1) := dk_29 (dk_at dksX1_feed_1 4 rfl rfl)
theorem dX1_feed_27 : decode cX1_feed 27 = .ok (.invokevirtual 140, 3) := dk_182 0 140 (dk_at dksX1_feed_1 5 rfl rfl)
theorem dX1_feed_30 : decode cX1_feed 30 = .ok (.aload_n 0, 1) := dk_42 (dk_at dksX1_feed_1 8 rfl rfl)
theorem dX1_feed_31 : decode cX1_feed 31 = .ok (.iload 4, 2) := dk_21 4 (dk_at dksX1_feed_1 9 rfl rfl)
theorem dX1_feed_33 : decode cX1_feed 33 = .ok (.invokevirtual 140, 3) := dk_182 0 140 (dk_at dksX1_feed_1 11 rfl rfl)
theorem dX1_feed_36 : decode cX1_feed 36 = .ok (.aload_n 0, 1) := dk_42 (dk_at dksX1_feed_1 14 rfl rfl)
theorem dX1_feed_37 : decode cX1_feed 37 = .ok (.iload 5, 2) := dk_21 5 (dk_at dksX1_feed_1 15 rfl rfl)
theorem dX1_feed_39 : decode cX1_feed 39 = .ok (.invokevirtual 140, 3) := dk_182 0 140 (dk_at dksX1_feed_1 17 rfl rfl)
theorem dX1_feed_42 : decode cX1_feed 42 = .ok (.aload_n 0, 1) := dk_42 (dk_at dksX1_feed_1 20 rfl rfl)
theorem dX1_feed_43 : decode cX1_feed 43 = .ok (.getfield 137, 3) := dk_180 0 137 (dk_at dksX1_feed_1 21 rfl rfl)
theorem dX1_feed_46 : decode cX1_feed 46 = .ok (.ireturn, 1) := dk_172 (dk_at dksX1_feed_2 0 rfl rfl)
def dkwX1_append_1 : List UInt8 := [180, 0, 137, 4, 96, 181, 0, 137, 132, 2, 248, 167, 255, 226, 177]
abbrev dktX1_append_1 : List UInt8 := dkwX1_append_1 ++ []
def dkwX1_append_0 : List UInt8 := [16, 24, 61, 28, 155, 0, 32, 42, 180, 0, 116, 42, 180, 0, 137, 27, 28, 122, 145, 84, 42, 89]
abbrev dktX1_append_0 : List UInt8 := dkwX1_append_0 ++ dktX1_append_1
theorem dksX1_append_0 : cX1_append.data.toList.drop 0 = dktX1_append_0 := by decide +kernel
theorem dksX1_append_1 : cX1_append.data.toList.drop 22 = dktX1_append_1 := dk_seg dksX1_append_0 22 rfl rfl
theorem dX1_append_0 : decode cX1_append 0 = .ok (.bipush 24, 2) := dk_16 24 (dk_at dksX1_append_0 0 rfl rfl)
theorem dX1_append_2 : decode cX1_append 2 = .ok (.istore_n 2, 1) := dk_61 (dk_at dksX1_append_0 2 rfl rfl)
theorem dX1_append_3 : decode cX1_append 3 = .ok (.iload_n 2, 1) := dk_28 (dk_at dksX1_append_0 3 rfl rfl)
theorem dX1_append_4 : decode cX1_append 4 = .ok (.ifCond .lt 32, 3) := dk_155 0 32 (dk_at dksX1_append_0 4 rfl rfl)
theorem dX1_append_7 : decode cX1_append 7 = .ok (.aload_n 0, 1) := dk_42 (dk_at dksX1_append_0 7 rfl rfl)
theorem dX1_append_8 : decode cX1_append 8 = .ok (.getfield 116, 3) := dk_180 0 116 (dk_at dksX1_append_0 8 rfl rfl)
theorem dX1_append_11 : decode cX1_append 11 = .ok (.aload_n 0, 1) := dk_42 (dk_at dksX1_append_0 11 rfl rfl)
theorem dX1_append_12 : decode cX1_append 12 = .ok (.getfield 137, 3) := dk_180 0 137 (dk_at dksX1_append_0 12 rfl rfl)
theorem dX1_append_15 : decode cX1_append 15 = .ok (.iload_n 1, 1) := dk_27 (dk_at dksX1_append_0 15 rfl rfl)
theorem dX1_append_16 : decode cX1_append 16 = .ok (.iload_n 2, 1) := dk_28 (dk_at dksX1_append_0 16 rfl rfl)
theorem dX1_append_17 : decode cX1_append 17 = .ok (.ishr, 1) := dk_122 (dk_at dksX1_append_0 17 rfl rfl)
theorem dX1_append_18 : decode cX1_append 18 = .ok (.i2b, 1) := dk_145 (dk_at dksX1_append_0 18 rfl rfl)
theorem dX1_append_19 : decode cX1_append 19 = .ok (.bastore, 1) := dk_84 (dk_at dksX1_append_0 19 rfl rfl)
theorem dX1_append_20 : decode cX1_append 20 = .ok (.aload_n 0, 1) := dk_42 (dk_at dksX1_append_0 20 rfl rfl)
theorem dX1_append_21 : decode cX1_append 21 = .ok (.dup, 1) := dk_89 (dk_at dksX1_append_0 21 rfl rfl)
theorem dX1_append_22 : decode cX1_append 22 = .ok (.getfield 137, 3) := dk_180 0 137 (dk_at dksX1_append_1 0 rfl rfl)
theorem dX1_append_25 : decode cX1_append 25 = .ok (.iconst 1, 1) := dk_4 (dk_at dksX1_append_1 3 rfl rfl)
theorem dX1_append_26 : decode cX1_append 26 = .ok (.iadd, 1) := dk_96 (dk_at dksX1_append_1 4 rfl rfl)
theorem dX1_append_27 : decode cX1_append 27 = .ok (.putfield 137, 3) := dk_181 0 137 (dk_at dksX1_append_1 5 rfl rfl)
theorem dX1_append_30 : decode cX1_append 30 = .ok (.iinc 2 (-8), 3) := dk_132 2 248 (dk_at dksX1_append_1 8 rfl rfl)
theorem dX1_append_33 : decode cX1_append 33 = .ok (.goto (-30), 3) := dk_167 255 226 (dk_at dksX1_append_1 11 rfl rfl)
theorem dX1_append_36 : decode cX1_append 36 = .ok (.return_, 1) := dk_177 (dk_at dksX1_append_1 14 rfl rfl)
theorem dX1_errorPosition_0 : decode cX1_errorPosition 0 = .ok (.aload_n 0, 1) := by decide +kernel
theorem dX1_errorPosition_1 : decode cX1_errorPosition 1 = .ok (.getfield 120, 3) := by decide +kernel
theorem dX1_errorPosition_4 : decode cX1_errorPosition 4 = .ok (.ireturn, 1) := by decide +kernel
def dkwX1_sweepAt_0 : List UInt8 := [42, 180, 0, 133, 27, 182, 1, 57, 172]
abbrev dktX1_sweepAt_0 : List UInt8 := dkwX1_sweepAt_0 ++ []
theorem dksX1_sweepAt_0 : cX1_sweepAt.data.toList.drop 0 = dktX1_sweepAt_0 := by decide +kernel
theorem dX1_sweepAt_0 : decode cX1_sweepAt 0 = .ok (.aload_n 0, 1) := dk_42 (dk_at dksX1_sweepAt_0 0 rfl rfl)
theorem dX1_sweepAt_1 : decode cX1_sweepAt 1 = .ok (.getfield 133, 3) := dk_180 0 133 (dk_at dksX1_sweepAt_0 1 rfl rfl)
theorem dX1_sweepAt_4 : decode cX1_sweepAt 4 = .ok (.iload_n 1, 1) := dk_27 (dk_at dksX1_sweepAt_0 4 rfl rfl)
theorem dX1_sweepAt_5 : decode cX1_sweepAt 5 = .ok (.invokevirtual 313, 3) := dk_182 1 57 (dk_at dksX1_sweepAt_0 5 rfl rfl)
theorem dX1_sweepAt_8 : decode cX1_sweepAt 8 = .ok (.ireturn, 1) := dk_172 (dk_at dksX1_sweepAt_0 8 rfl rfl)
def dkwX1_isIn_0 : List UInt8 := [30, 32, 148, 155, 0, 14, 30, 22, 4, 148, 157, 0, 7, 4, 167, 0, 4, 3, 172]
abbrev dktX1_isIn_0 : List UInt8 := dkwX1_isIn_0 ++ []
theorem dksX1_isIn_0 : cX1_isIn.data.toList.drop 0 = dktX1_isIn_0 := by decide +kernel
theorem dX1_isIn_0 : decode cX1_isIn 0 = .ok (.lload_n 0, 1) := dk_30 (dk_at dksX1_isIn_0 0 rfl rfl)
theorem dX1_isIn_1 : decode cX1_isIn 1 = .ok (.lload_n 2, 1) := dk_32 (dk_at dksX1_isIn_0 1 rfl rfl)
theorem dX1_isIn_2 : decode cX1_isIn 2 = .ok (.lcmp, 1) := dk_148 (dk_at dksX1_isIn_0 2 rfl rfl)
theorem dX1_isIn_3 : decode cX1_isIn 3 = .ok (.ifCond .lt 14, 3) := dk_155 0 14 (dk_at dksX1_isIn_0 3 rfl rfl)
theorem dX1_isIn_6 : decode cX1_isIn 6 = .ok (.lload_n 0, 1) := dk_30 (dk_at dksX1_isIn_0 6 rfl rfl)
theorem dX1_isIn_7 : decode cX1_isIn 7 = .ok (.lload 4, 2) := dk_22 4 (dk_at dksX1_isIn_0 7 rfl rfl)
theorem dX1_isIn_9 : decode cX1_isIn 9 = .ok (.lcmp, 1) := dk_148 (dk_at dksX1_isIn_0 9 rfl rfl)
theorem dX1_isIn_10 : decode cX1_isIn 10 = .ok (.ifCond .gt 7, 3) := dk_157 0 7 (dk_at dksX1_isIn_0 10 rfl rfl)
theorem dX1_isIn_13 : decode cX1_isIn 13 = .ok (.iconst 1, 1) := dk_4 (dk_at dksX1_isIn_0 13 rfl rfl)
theorem dX1_isIn_14 : decode cX1_isIn 14 = .ok (.goto 4, 3) := dk_167 0 4 (dk_at dksX1_isIn_0 14 rfl rfl)
theorem dX1_isIn_17 : decode cX1_isIn 17 = .ok (.iconst 0, 1) := dk_3 (dk_at dksX1_isIn_0 17 rfl rfl)
theorem dX1_isIn_18 : decode cX1_isIn 18 = .ok (.ireturn, 1) := dk_172 (dk_at dksX1_isIn_0 18 rfl rfl)
def dkwX1_nextIssue_1 : List UInt8 := [182, 1, 60, 153, 0, 5, 27, 172, 132, 1, 1, 167, 255, 233, 2, 172]
abbrev dktX1_nextIssue_1 : List UInt8 := dkwX1_nextIssue_1 ++ []
def dkwX1_nextIssue_0 : List UInt8 := [42, 180, 0, 133, 180, 0, 197, 4, 96, 60, 27, 17, 39, 15, 163, 0, 22, 42, 180, 0, 133, 27]
abbrev dktX1_nextIssue_0 : List UInt8 := dkwX1_nextIssue_0 ++ dktX1_nextIssue_1
theorem dksX1_nextIssue_0 : cX1_nextIssue.data.toList.drop 0 = dktX1_nextIssue_0 := by decide +kernel
theorem dksX1_nextIssue_1 : cX1_nextIssue.data.toList.drop 22 = dktX1_nextIssue_1 := dk_seg dksX1_nextIssue_0 22 rfl rfl
theorem dX1_nextIssue_0 : decode cX1_nextIssue 0 = .ok (.aload_n 0, 1) := dk_42 (dk_at dksX1_nextIssue_0 0 rfl rfl)
theorem dX1_nextIssue_1 : decode cX1_nextIssue 1 = .ok (.getfield 133, 3) := dk_180 0 133 (dk_at dksX1_nextIssue_0 1 rfl rfl)
theorem dX1_nextIssue_4 : decode cX1_nextIssue 4 = .ok (.getfield 197, 3) := dk_180 0 197 (dk_at dksX1_nextIssue_0 4 rfl rfl)
theorem dX1_nextIssue_7 : decode cX1_nextIssue 7 = .ok (.iconst 1, 1) := dk_4 (dk_at dksX1_nextIssue_0 7 rfl rfl)
theorem dX1_nextIssue_8 : decode cX1_nextIssue 8 = .ok (.iadd, 1) := dk_96 (dk_at dksX1_nextIssue_0 8 rfl rfl)
theorem dX1_nextIssue_9 : decode cX1_nextIssue 9 = .ok (.istore_n 1, 1) := dk_60 (dk_at dksX1_nextIssue_0 9 rfl rfl)
theorem dX1_nextIssue_10 : decode cX1_nextIssue 10 = .ok (.iload_n 1, 1) := dk_27 (dk_at dksX1_nextIssue_0 10 rfl rfl)
theorem dX1_nextIssue_11 : decode cX1_nextIssue 11 = .ok (.sipush 9999, 3) := dk_17 39 15 (dk_at dksX1_nextIssue_0 11 rfl rfl)
theorem dX1_nextIssue_14 : decode cX1_nextIssue 14 = .ok (.if_icmp .gt 22, 3) := dk_163 0 22 (dk_at dksX1_nextIssue_0 14 rfl rfl)
theorem dX1_nextIssue_17 : decode cX1_nextIssue 17 = .ok (.aload_n 0, 1) := dk_42 (dk_at dksX1_nextIssue_0 17 rfl rfl)
theorem dX1_nextIssue_18 : decode cX1_nextIssue 18 = .ok (.getfield 133, 3) := dk_180 0 133 (dk_at dksX1_nextIssue_0 18 rfl rfl)
theorem dX1_nextIssue_21 : decode cX1_nextIssue 21 = .ok (.iload_n 1, 1) := dk_27 (dk_at dksX1_nextIssue_0 21 rfl rfl)
theorem dX1_nextIssue_22 : decode cX1_nextIssue 22 = .ok (.invokevirtual 316, 3) := dk_182 1 60 (dk_at dksX1_nextIssue_1 0 rfl rfl)
theorem dX1_nextIssue_25 : decode cX1_nextIssue 25 = .ok (.ifCond .eq 5, 3) := dk_153 0 5 (dk_at dksX1_nextIssue_1 3 rfl rfl)
theorem dX1_nextIssue_28 : decode cX1_nextIssue 28 = .ok (.iload_n 1, 1) := dk_27 (dk_at dksX1_nextIssue_1 6 rfl rfl)
theorem dX1_nextIssue_29 : decode cX1_nextIssue 29 = .ok (.ireturn, 1) := dk_172 (dk_at dksX1_nextIssue_1 7 rfl rfl)
theorem dX1_nextIssue_30 : decode cX1_nextIssue 30 = .ok (.iinc 1 1, 3) := dk_132 1 1 (dk_at dksX1_nextIssue_1 8 rfl rfl)
theorem dX1_nextIssue_33 : decode cX1_nextIssue 33 = .ok (.goto (-23), 3) := dk_167 255 233 (dk_at dksX1_nextIssue_1 11 rfl rfl)
theorem dX1_nextIssue_36 : decode cX1_nextIssue 36 = .ok (.iconst (-1), 1) := dk_2 (dk_at dksX1_nextIssue_1 14 rfl rfl)
theorem dX1_nextIssue_37 : decode cX1_nextIssue 37 = .ok (.ireturn, 1) := dk_172 (dk_at dksX1_nextIssue_1 15 rfl rfl)
def dkwX1_meanWraps_1 : List UInt8 := [27, 135, 111, 175]
abbrev dktX1_meanWraps_1 : List UInt8 := dkwX1_meanWraps_1 ++ []
def dkwX1_meanWraps_0 : List UInt8 := [42, 180, 0, 133, 182, 0, 200, 60, 27, 154, 0, 7, 14, 167, 0, 14, 42, 180, 0, 133, 182, 0, 221, 135]
abbrev dktX1_meanWraps_0 : List UInt8 := dkwX1_meanWraps_0 ++ dktX1_meanWraps_1
theorem dksX1_meanWraps_0 : cX1_meanWraps.data.toList.drop 0 = dktX1_meanWraps_0 := by decide +kernel
theorem dksX1_meanWraps_1 : cX1_meanWraps.data.toList.drop 24 = dktX1_meanWraps_1 := dk_seg dksX1_meanWraps_0 24 rfl rfl
theorem dX1_meanWraps_0 : decode cX1_meanWraps 0 = .ok (.aload_n 0, 1) := dk_42 (dk_at dksX1_meanWraps_0 0 rfl rfl)
theorem dX1_meanWraps_1 : decode cX1_meanWraps 1 = .ok (.getfield 133, 3) := dk_180 0 133 (dk_at dksX1_meanWraps_0 1 rfl rfl)
theorem dX1_meanWraps_4 : decode cX1_meanWraps 4 = .ok (.invokevirtual 200, 3) := dk_182 0 200 (dk_at dksX1_meanWraps_0 4 rfl rfl)
theorem dX1_meanWraps_7 : decode cX1_meanWraps 7 = .ok (.istore_n 1, 1) := dk_60 (dk_at dksX1_meanWraps_0 7 rfl rfl)
theorem dX1_meanWraps_8 : decode cX1_meanWraps 8 = .ok (.iload_n 1, 1) := dk_27 (dk_at dksX1_meanWraps_0 8 rfl rfl)
theorem dX1_meanWraps_9 : decode cX1_meanWraps 9 = .ok (.ifCond .ne 7, 3) := dk_154 0 7 (dk_at dksX1_meanWraps_0 9 rfl rfl)
theorem dX1_meanWraps_12 : decode cX1_meanWraps 12 = .ok (.dconst 0, 1) := dk_14 (dk_at dksX1_meanWraps_0 12 rfl rfl)
theorem dX1_meanWraps_13 : decode cX1_meanWraps 13 = .ok (.goto 14, 3) := dk_167 0 14 (dk_at dksX1_meanWraps_0 13 rfl rfl)
theorem dX1_meanWraps_16 : decode cX1_meanWraps 16 = .ok (.aload_n 0, 1) := dk_42 (dk_at dksX1_meanWraps_0 16 rfl rfl)
theorem dX1_meanWraps_17 : decode cX1_meanWraps 17 = .ok (.getfield 133, 3) := dk_180 0 133 (dk_at dksX1_meanWraps_0 17 rfl rfl)
theorem dX1_meanWraps_20 : decode cX1_meanWraps 20 = .ok (.invokevirtual 221, 3) := dk_182 0 221 (dk_at dksX1_meanWraps_0 20 rfl rfl)
theorem dX1_meanWraps_23 : decode cX1_meanWraps 23 = .ok (.i2d, 1) := dk_135 (dk_at dksX1_meanWraps_0 23 rfl rfl)
theorem dX1_meanWraps_24 : decode cX1_meanWraps 24 = .ok (.iload_n 1, 1) := dk_27 (dk_at dksX1_meanWraps_1 0 rfl rfl)
theorem dX1_meanWraps_25 : decode cX1_meanWraps 25 = .ok (.i2d, 1) := dk_135 (dk_at dksX1_meanWraps_1 1 rfl rfl)
theorem dX1_meanWraps_26 : decode cX1_meanWraps 26 = .ok (.ddiv, 1) := dk_111 (dk_at dksX1_meanWraps_1 2 rfl rfl)
theorem dX1_meanWraps_27 : decode cX1_meanWraps 27 = .ok (.dreturn, 1) := dk_175 (dk_at dksX1_meanWraps_1 3 rfl rfl)
def dkwX1_asInt_0 : List UInt8 := [26, 153, 0, 7, 4, 167, 0, 4, 3, 172]
abbrev dktX1_asInt_0 : List UInt8 := dkwX1_asInt_0 ++ []
theorem dksX1_asInt_0 : cX1_asInt.data.toList.drop 0 = dktX1_asInt_0 := by decide +kernel
theorem dX1_asInt_0 : decode cX1_asInt 0 = .ok (.iload_n 0, 1) := dk_26 (dk_at dksX1_asInt_0 0 rfl rfl)
theorem dX1_asInt_1 : decode cX1_asInt 1 = .ok (.ifCond .eq 7, 3) := dk_153 0 7 (dk_at dksX1_asInt_0 1 rfl rfl)
theorem dX1_asInt_4 : decode cX1_asInt 4 = .ok (.iconst 1, 1) := dk_4 (dk_at dksX1_asInt_0 4 rfl rfl)
theorem dX1_asInt_5 : decode cX1_asInt 5 = .ok (.goto 4, 3) := dk_167 0 4 (dk_at dksX1_asInt_0 5 rfl rfl)
theorem dX1_asInt_8 : decode cX1_asInt 8 = .ok (.iconst 0, 1) := dk_3 (dk_at dksX1_asInt_0 8 rfl rfl)
theorem dX1_asInt_9 : decode cX1_asInt 9 = .ok (.ireturn, 1) := dk_172 (dk_at dksX1_asInt_0 9 rfl rfl)
def dkwX1_readable_2 : List UInt8 := [132, 3, 1, 167, 255, 228, 27, 154, 0, 7, 12, 167, 0, 8, 28, 134, 27, 134, 110, 174]
abbrev dktX1_readable_2 : List UInt8 := dkwX1_readable_2 ++ []
def dkwX1_readable_1 : List UInt8 := [42, 180, 0, 133, 180, 0, 203, 182, 0, 189, 162, 0, 20, 28, 42, 180, 0, 133, 29, 182, 1, 38, 96, 61]
abbrev dktX1_readable_1 : List UInt8 := dkwX1_readable_1 ++ dktX1_readable_2
def dkwX1_readable_0 : List UInt8 := [42, 180, 0, 133, 182, 0, 200, 42, 180, 0, 133, 180, 0, 203, 182, 0, 189, 104, 60, 3, 61, 3, 62, 29]
abbrev dktX1_readable_0 : List UInt8 := dkwX1_readable_0 ++ dktX1_readable_1
theorem dksX1_readable_0 : cX1_readable.data.toList.drop 0 = dktX1_readable_0 := by decide +kernel
theorem dksX1_readable_1 : cX1_readable.data.toList.drop 24 = dktX1_readable_1 := dk_seg dksX1_readable_0 24 rfl rfl
theorem dksX1_readable_2 : cX1_readable.data.toList.drop 48 = dktX1_readable_2 := dk_seg dksX1_readable_1 24 rfl rfl
theorem dX1_readable_0 : decode cX1_readable 0 = .ok (.aload_n 0, 1) := dk_42 (dk_at dksX1_readable_0 0 rfl rfl)
theorem dX1_readable_1 : decode cX1_readable 1 = .ok (.getfield 133, 3) := dk_180 0 133 (dk_at dksX1_readable_0 1 rfl rfl)
theorem dX1_readable_4 : decode cX1_readable 4 = .ok (.invokevirtual 200, 3) := dk_182 0 200 (dk_at dksX1_readable_0 4 rfl rfl)
theorem dX1_readable_7 : decode cX1_readable 7 = .ok (.aload_n 0, 1) := dk_42 (dk_at dksX1_readable_0 7 rfl rfl)
theorem dX1_readable_8 : decode cX1_readable 8 = .ok (.getfield 133, 3) := dk_180 0 133 (dk_at dksX1_readable_0 8 rfl rfl)
theorem dX1_readable_11 : decode cX1_readable 11 = .ok (.getfield 203, 3) := dk_180 0 203 (dk_at dksX1_readable_0 11 rfl rfl)
theorem dX1_readable_14 : decode cX1_readable 14 = .ok (.invokevirtual 189, 3) := dk_182 0 189 (dk_at dksX1_readable_0 14 rfl rfl)
theorem dX1_readable_17 : decode cX1_readable 17 = .ok (.imul, 1) := dk_104 (dk_at dksX1_readable_0 17 rfl rfl)
theorem dX1_readable_18 : decode cX1_readable 18 = .ok (.istore_n 1, 1) := dk_60 (dk_at dksX1_readable_0 18 rfl rfl)
theorem dX1_readable_19 : decode cX1_readable 19 = .ok (.iconst 0, 1) := dk_3 (dk_at dksX1_readable_0 19 rfl rfl)
theorem dX1_readable_20 : decode cX1_readable 20 = .ok (.istore_n 2, 1) := dk_61 (dk_at dksX1_readable_0 20 rfl rfl)
theorem dX1_readable_21 : decode cX1_readable 21 = .ok (.iconst 0, 1) := dk_3 (dk_at dksX1_readable_0 21 rfl rfl)
theorem dX1_readable_22 : decode cX1_readable 22 = .ok (.istore_n 3, 1) := dk_62 (dk_at dksX1_readable_0 22 rfl rfl)
theorem dX1_readable_23 : decode cX1_readable 23 = .ok (.iload_n 3, 1) := dk_29 (dk_at dksX1_readable_0 23 rfl rfl)
theorem dX1_readable_24 : decode cX1_readable 24 = .ok (.aload_n 0, 1) := dk_42 (dk_at dksX1_readable_1 0 rfl rfl)
theorem dX1_readable_25 : decode cX1_readable 25 = .ok (.getfield 133, 3) := dk_180 0 133 (dk_at dksX1_readable_1 1 rfl rfl)
theorem dX1_readable_28 : decode cX1_readable 28 = .ok (.getfield 203, 3) := dk_180 0 203 (dk_at dksX1_readable_1 4 rfl rfl)
theorem dX1_readable_31 : decode cX1_readable 31 = .ok (.invokevirtual 189, 3) := dk_182 0 189 (dk_at dksX1_readable_1 7 rfl rfl)
theorem dX1_readable_34 : decode cX1_readable 34 = .ok (.if_icmp .ge 20, 3) := dk_162 0 20 (dk_at dksX1_readable_1 10 rfl rfl)
theorem dX1_readable_37 : decode cX1_readable 37 = .ok (.iload_n 2, 1) := dk_28 (dk_at dksX1_readable_1 13 rfl rfl)
theorem dX1_readable_38 : decode cX1_readable 38 = .ok (.aload_n 0, 1) := dk_42 (dk_at dksX1_readable_1 14 rfl rfl)
theorem dX1_readable_39 : decode cX1_readable 39 = .ok (.getfield 133, 3) := dk_180 0 133 (dk_at dksX1_readable_1 15 rfl rfl)
theorem dX1_readable_42 : decode cX1_readable 42 = .ok (.iload_n 3, 1) := dk_29 (dk_at dksX1_readable_1 18 rfl rfl)
theorem dX1_readable_43 : decode cX1_readable 43 = .ok (.invokevirtual 294, 3) := dk_182 1 38 (dk_at dksX1_readable_1 19 rfl rfl)
theorem dX1_readable_46 : decode cX1_readable 46 = .ok (.iadd, 1) := dk_96 (dk_at dksX1_readable_1 22 rfl rfl)
theorem dX1_readable_47 : decode cX1_readable 47 = .ok (.istore_n 2, 1) := dk_61 (dk_at dksX1_readable_1 23 rfl rfl)
theorem dX1_readable_48 : decode cX1_readable 48 = .ok (.iinc 3 1, 3) := dk_132 3 1 (dk_at dksX1_readable_2 0 rfl rfl)
theorem dX1_readable_51 : decode cX1_readable 51 = .ok (.goto (-28), 3) := dk_167 255 228 (dk_at dksX1_readable_2 3 rfl rfl)
theorem dX1_readable_54 : decode cX1_readable 54 = .ok (.iload_n 1, 1) := dk_27 (dk_at dksX1_readable_2 6 rfl rfl)
theorem dX1_readable_55 : decode cX1_readable 55 = .ok (.ifCond .ne 7, 3) := dk_154 0 7 (dk_at dksX1_readable_2 7 rfl rfl)
theorem dX1_readable_58 : decode cX1_readable 58 = .ok (.fconst 1, 1) := dk_12 (dk_at dksX1_readable_2 10 rfl rfl)
theorem dX1_readable_59 : decode cX1_readable 59 = .ok (.goto 8, 3) := dk_167 0 8 (dk_at dksX1_readable_2 11 rfl rfl)
theorem dX1_readable_62 : decode cX1_readable 62 = .ok (.iload_n 2, 1) := dk_28 (dk_at dksX1_readable_2 14 rfl rfl)
theorem dX1_readable_63 : decode cX1_readable 63 = .ok (.i2f, 1) := dk_134 (dk_at dksX1_readable_2 15 rfl rfl)
theorem dX1_readable_64 : decode cX1_readable 64 = .ok (.iload_n 1, 1) := dk_27 (dk_at dksX1_readable_2 16 rfl rfl)
theorem dX1_readable_65 : decode cX1_readable 65 = .ok (.i2f, 1) := dk_134 (dk_at dksX1_readable_2 17 rfl rfl)
theorem dX1_readable_66 : decode cX1_readable 66 = .ok (.fdiv, 1) := dk_110 (dk_at dksX1_readable_2 18 rfl rfl)
theorem dX1_readable_67 : decode cX1_readable 67 = .ok (.freturn, 1) := dk_174 (dk_at dksX1_readable_2 19 rfl rfl)
def dkwX1_has_0 : List UInt8 := [26, 27, 122, 4, 126, 4, 160, 0, 7, 4, 167, 0, 4, 3, 172]
abbrev dktX1_has_0 : List UInt8 := dkwX1_has_0 ++ []
theorem dksX1_has_0 : cX1_has.data.toList.drop 0 = dktX1_has_0 := by decide +kernel
theorem dX1_has_0 : decode cX1_has 0 = .ok (.iload_n 0, 1) := dk_26 (dk_at dksX1_has_0 0 rfl rfl)
theorem dX1_has_1 : decode cX1_has 1 = .ok (.iload_n 1, 1) := dk_27 (dk_at dksX1_has_0 1 rfl rfl)
theorem dX1_has_2 : decode cX1_has 2 = .ok (.ishr, 1) := dk_122 (dk_at dksX1_has_0 2 rfl rfl)
theorem dX1_has_3 : decode cX1_has 3 = .ok (.iconst 1, 1) := dk_4 (dk_at dksX1_has_0 3 rfl rfl)
theorem dX1_has_4 : decode cX1_has 4 = .ok (.iand, 1) := dk_126 (dk_at dksX1_has_0 4 rfl rfl)
theorem dX1_has_5 : decode cX1_has 5 = .ok (.iconst 1, 1) := dk_4 (dk_at dksX1_has_0 5 rfl rfl)
theorem dX1_has_6 : decode cX1_has 6 = .ok (.if_icmp .ne 7, 3) := dk_160 0 7 (dk_at dksX1_has_0 6 rfl rfl)
theorem dX1_has_9 : decode cX1_has 9 = .ok (.iconst 1, 1) := dk_4 (dk_at dksX1_has_0 9 rfl rfl)
theorem dX1_has_10 : decode cX1_has 10 = .ok (.goto 4, 3) := dk_167 0 4 (dk_at dksX1_has_0 10 rfl rfl)
theorem dX1_has_13 : decode cX1_has 13 = .ok (.iconst 0, 1) := dk_3 (dk_at dksX1_has_0 13 rfl rfl)
theorem dX1_has_14 : decode cX1_has 14 = .ok (.ireturn, 1) := dk_172 (dk_at dksX1_has_0 14 rfl rfl)
def dkwX1_rotate_4 : List UInt8 := [4, 100, 172]
abbrev dktX1_rotate_4 : List UInt8 := dkwX1_rotate_4 ++ []
def dkwX1_rotate_3 : List UInt8 := [180, 0, 197, 43, 180, 0, 212, 96, 182, 1, 122, 87, 43, 182, 1, 125, 87, 43, 180, 0, 15, 182, 0, 189]
abbrev dktX1_rotate_3 : List UInt8 := dkwX1_rotate_3 ++ dktX1_rotate_4
def dkwX1_rotate_2 : List UInt8 := [42, 180, 0, 133, 180, 0, 212, 96, 17, 39, 15, 164, 0, 6, 16, 252, 172, 42, 182, 1, 112, 76, 43, 43]
abbrev dktX1_rotate_2 : List UInt8 := dkwX1_rotate_2 ++ dktX1_rotate_3
def dkwX1_rotate_1 : List UInt8 := [180, 0, 133, 180, 0, 15, 182, 0, 189, 16, 30, 160, 0, 6, 16, 253, 172, 42, 180, 0, 133, 180, 0, 197]
abbrev dktX1_rotate_1 : List UInt8 := dkwX1_rotate_1 ++ dktX1_rotate_2
def dkwX1_rotate_0 : List UInt8 := [42, 180, 0, 133, 182, 1, 118, 180, 0, 246, 42, 180, 0, 133, 180, 0, 197, 164, 0, 6, 16, 254, 172, 42]
abbrev dktX1_rotate_0 : List UInt8 := dkwX1_rotate_0 ++ dktX1_rotate_1
theorem dksX1_rotate_0 : cX1_rotate.data.toList.drop 0 = dktX1_rotate_0 := by decide +kernel
theorem dksX1_rotate_1 : cX1_rotate.data.toList.drop 24 = dktX1_rotate_1 := dk_seg dksX1_rotate_0 24 rfl rfl
theorem dksX1_rotate_2 : cX1_rotate.data.toList.drop 48 = dktX1_rotate_2 := dk_seg dksX1_rotate_1 24 rfl rfl
theorem dksX1_rotate_3 : cX1_rotate.data.toList.drop 72 = dktX1_rotate_3 := dk_seg dksX1_rotate_2 24 rfl rfl
theorem dksX1_rotate_4 : cX1_rotate.data.toList.drop 96 = dktX1_rotate_4 := dk_seg dksX1_rotate_3 24 rfl rfl
theorem dX1_rotate_0 : decode cX1_rotate 0 = .ok (.aload_n 0, 1) := dk_42 (dk_at dksX1_rotate_0 0 rfl rfl)
theorem dX1_rotate_1 : decode cX1_rotate 1 = .ok (.getfield 133, 3) := dk_180 0 133 (dk_at dksX1_rotate_0 1 rfl rfl)
theorem dX1_rotate_4 : decode cX1_rotate 4 = .ok (.invokevirtual 374, 3) := dk_182 1 118 (dk_at dksX1_rotate_0 4 rfl rfl)
theorem dX1_rotate_7 : decode cX1_rotate 7 = .ok (.getfield 246, 3) := dk_180 0 246 (dk_at dksX1_rotate_0 7 rfl rfl)
theorem dX1_rotate_10 : decode cX1_rotate 10 = .ok (.aload_n 0, 1) := dk_42 (dk_at dksX1_rotate_0 10 rfl rfl)
theorem dX1_rotate_11 : decode cX1_rotate 11 = .ok (.getfield 133, 3) := dk_180 0 133 (dk_at dksX1_rotate_0 11 rfl rfl)
theorem dX1_rotate_14 : decode cX1_rotate 14 = .ok (.getfield 197, 3) := dk_180 0 197 (dk_at dksX1_rotate_0 14 rfl rfl)
theorem dX1_rotate_17 : decode cX1_rotate 17 = .ok (.if_icmp .le 6, 3) := dk_164 0 6 (dk_at dksX1_rotate_0 17 rfl rfl)
theorem dX1_rotate_20 : decode cX1_rotate 20 = .ok (.bipush (-2), 2) := dk_16 254 (dk_at dksX1_rotate_0 20 rfl rfl)
theorem dX1_rotate_22 : decode cX1_rotate 22 = .ok (.ireturn, 1) := dk_172 (dk_at dksX1_rotate_0 22 rfl rfl)
theorem dX1_rotate_23 : decode cX1_rotate 23 = .ok (.aload_n 0, 1) := dk_42 (dk_at dksX1_rotate_0 23 rfl rfl)
theorem dX1_rotate_24 : decode cX1_rotate 24 = .ok (.getfield 133, 3) := dk_180 0 133 (dk_at dksX1_rotate_1 0 rfl rfl)
theorem dX1_rotate_27 : decode cX1_rotate 27 = .ok (.getfield 15, 3) := dk_180 0 15 (dk_at dksX1_rotate_1 3 rfl rfl)
theorem dX1_rotate_30 : decode cX1_rotate 30 = .ok (.invokevirtual 189, 3) := dk_182 0 189 (dk_at dksX1_rotate_1 6 rfl rfl)
theorem dX1_rotate_33 : decode cX1_rotate 33 = .ok (.bipush 30, 2) := dk_16 30 (dk_at dksX1_rotate_1 9 rfl rfl)
theorem dX1_rotate_35 : decode cX1_rotate 35 = .ok (.if_icmp .ne 6, 3) := dk_160 0 6 (dk_at dksX1_rotate_1 11 rfl rfl)
theorem dX1_rotate_38 : decode cX1_rotate 38 = .ok (.bipush (-3), 2) := dk_16 253 (dk_at dksX1_rotate_1 14 rfl rfl)
theorem dX1_rotate_40 : decode cX1_rotate 40 = .ok (.ireturn, 1) := dk_172 (dk_at dksX1_rotate_1 16 rfl rfl)
theorem dX1_rotate_41 : decode cX1_rotate 41 = .ok (.aload_n 0, 1) := dk_42 (dk_at dksX1_rotate_1 17 rfl rfl)
theorem dX1_rotate_42 : decode cX1_rotate 42 = .ok (.getfield 133, 3) := dk_180 0 133 (dk_at dksX1_rotate_1 18 rfl rfl)
theorem dX1_rotate_45 : decode cX1_rotate 45 = .ok (.getfield 197, 3) := dk_180 0 197 (dk_at dksX1_rotate_1 21 rfl rfl)
theorem dX1_rotate_48 : decode cX1_rotate 48 = .ok (.aload_n 0, 1) := dk_42 (dk_at dksX1_rotate_2 0 rfl rfl)
theorem dX1_rotate_49 : decode cX1_rotate 49 = .ok (.getfield 133, 3) := dk_180 0 133 (dk_at dksX1_rotate_2 1 rfl rfl)
theorem dX1_rotate_52 : decode cX1_rotate 52 = .ok (.getfield 212, 3) := dk_180 0 212 (dk_at dksX1_rotate_2 4 rfl rfl)
theorem dX1_rotate_55 : decode cX1_rotate 55 = .ok (.iadd, 1) := dk_96 (dk_at dksX1_rotate_2 7 rfl rfl)
theorem dX1_rotate_56 : decode cX1_rotate 56 = .ok (.sipush 9999, 3) := dk_17 39 15 (dk_at dksX1_rotate_2 8 rfl rfl)
theorem dX1_rotate_59 : decode cX1_rotate 59 = .ok (.if_icmp .le 6, 3) := dk_164 0 6 (dk_at dksX1_rotate_2 11 rfl rfl)
theorem dX1_rotate_62 : decode cX1_rotate 62 = .ok (.bipush (-4), 2) := dk_16 252 (dk_at dksX1_rotate_2 14 rfl rfl)
theorem dX1_rotate_64 : decode cX1_rotate 64 = .ok (.ireturn, 1) := dk_172 (dk_at dksX1_rotate_2 16 rfl rfl)
theorem dX1_rotate_65 : decode cX1_rotate 65 = .ok (.aload_n 0, 1) := dk_42 (dk_at dksX1_rotate_2 17 rfl rfl)
theorem dX1_rotate_66 : decode cX1_rotate 66 = .ok (.invokevirtual 368, 3) := dk_182 1 112 (dk_at dksX1_rotate_2 18 rfl rfl)
theorem dX1_rotate_69 : decode cX1_rotate 69 = .ok (.astore_n 1, 1) := dk_76 (dk_at dksX1_rotate_2 21 rfl rfl)
theorem dX1_rotate_70 : decode cX1_rotate 70 = .ok (.aload_n 1, 1) := dk_43 (dk_at dksX1_rotate_2 22 rfl rfl)
theorem dX1_rotate_71 : decode cX1_rotate 71 = .ok (.aload_n 1, 1) := dk_43 (dk_at dksX1_rotate_2 23 rfl rfl)
theorem dX1_rotate_72 : decode cX1_rotate 72 = .ok (.getfield 197, 3) := dk_180 0 197 (dk_at dksX1_rotate_3 0 rfl rfl)
theorem dX1_rotate_75 : decode cX1_rotate 75 = .ok (.aload_n 1, 1) := dk_43 (dk_at dksX1_rotate_3 3 rfl rfl)
theorem dX1_rotate_76 : decode cX1_rotate 76 = .ok (.getfield 212, 3) := dk_180 0 212 (dk_at dksX1_rotate_3 4 rfl rfl)
theorem dX1_rotate_79 : decode cX1_rotate 79 = .ok (.iadd, 1) := dk_96 (dk_at dksX1_rotate_3 7 rfl rfl)
theorem dX1_rotate_80 : decode cX1_rotate 80 = .ok (.invokevirtual 378, 3) := dk_182 1 122 (dk_at dksX1_rotate_3 8 rfl rfl)
theorem dX1_rotate_83 : decode cX1_rotate 83 = .ok (.pop, 1) := dk_87 (dk_at dksX1_rotate_3 11 rfl rfl)
theorem dX1_rotate_84 : decode cX1_rotate 84 = .ok (.aload_n 1, 1) := dk_43 (dk_at dksX1_rotate_3 12 rfl rfl)
theorem dX1_rotate_85 : decode cX1_rotate 85 = .ok (.invokevirtual 381, 3) := dk_182 1 125 (dk_at dksX1_rotate_3 13 rfl rfl)
theorem dX1_rotate_88 : decode cX1_rotate 88 = .ok (.pop, 1) := dk_87 (dk_at dksX1_rotate_3 16 rfl rfl)
theorem dX1_rotate_89 : decode cX1_rotate 89 = .ok (.aload_n 1, 1) := dk_43 (dk_at dksX1_rotate_3 17 rfl rfl)
theorem dX1_rotate_90 : decode cX1_rotate 90 = .ok (.getfield 15, 3) := dk_180 0 15 (dk_at dksX1_rotate_3 18 rfl rfl)
theorem dX1_rotate_93 : decode cX1_rotate 93 = .ok (.invokevirtual 189, 3) := dk_182 0 189 (dk_at dksX1_rotate_3 21 rfl rfl)
theorem dX1_rotate_96 : decode cX1_rotate 96 = .ok (.iconst 1, 1) := dk_4 (dk_at dksX1_rotate_4 0 rfl rfl)
theorem dX1_rotate_97 : decode cX1_rotate 97 = .ok (.isub, 1) := dk_100 (dk_at dksX1_rotate_4 1 rfl rfl)
theorem dX1_rotate_98 : decode cX1_rotate 98 = .ok (.ireturn, 1) := dk_172 (dk_at dksX1_rotate_4 2 rfl rfl)
def dkwX1_keeping_2 : List UInt8 := [176]
abbrev dktX1_keeping_2 : List UInt8 := dkwX1_keeping_2 ++ []
def dkwX1_keeping_1 : List UInt8 := [42, 180, 0, 133, 182, 1, 106, 42, 42, 180, 0, 133, 4, 4, 182, 1, 66, 181, 0, 133, 42, 180, 0, 133]
abbrev dktX1_keeping_1 : List UInt8 := dkwX1_keeping_1 ++ dktX1_keeping_2
def dkwX1_keeping_0 : List UInt8 := [42, 180, 0, 112, 182, 1, 101, 16, 10, 160, 0, 11, 42, 180, 0, 112, 182, 1, 102, 87, 42, 180, 0, 112]
abbrev dktX1_keeping_0 : List UInt8 := dkwX1_keeping_0 ++ dktX1_keeping_1
theorem dksX1_keeping_0 : cX1_keeping.data.toList.drop 0 = dktX1_keeping_0 := by decide +kernel
theorem dksX1_keeping_1 : cX1_keeping.data.toList.drop 24 = dktX1_keeping_1 := dk_seg dksX1_keeping_0 24 rfl rfl
theorem dksX1_keeping_2 : cX1_keeping.data.toList.drop 48 = dktX1_keeping_2 := dk_seg dksX1_keeping_1 24 rfl rfl
theorem dX1_keeping_0 : decode cX1_keeping 0 = .ok (.aload_n 0, 1) := dk_42 (dk_at dksX1_keeping_0 0 rfl rfl)
theorem dX1_keeping_1 : decode cX1_keeping 1 = .ok (.getfield 112, 3) := dk_180 0 112 (dk_at dksX1_keeping_0 1 rfl rfl)
theorem dX1_keeping_4 : decode cX1_keeping 4 = .ok (.invokevirtual 357, 3) := dk_182 1 101 (dk_at dksX1_keeping_0 4 rfl rfl)
theorem dX1_keeping_7 : decode cX1_keeping 7 = .ok (.bipush 10, 2) := dk_16 10 (dk_at dksX1_keeping_0 7 rfl rfl)
theorem dX1_keeping_9 : decode cX1_keeping 9 = .ok (.if_icmp .ne 11, 3) := dk_160 0 11 (dk_at dksX1_keeping_0 9 rfl rfl)
theorem dX1_keeping_12 : decode cX1_keeping 12 = .ok (.aload_n 0, 1) := dk_42 (dk_at dksX1_keeping_0 12 rfl rfl)
theorem dX1_keeping_13 : decode cX1_keeping 13 = .ok (.getfield 112, 3) := dk_180 0 112 (dk_at dksX1_keeping_0 13 rfl rfl)
theorem dX1_keeping_16 : decode cX1_keeping 16 = .ok (.invokevirtual 358, 3) := dk_182 1 102 (dk_at dksX1_keeping_0 16 rfl rfl)
theorem dX1_keeping_19 : decode cX1_keeping 19 = .ok (.pop, 1) := dk_87 (dk_at dksX1_keeping_0 19 rfl rfl)
theorem dX1_keeping_20 : decode cX1_keeping 20 = .ok (.aload_n 0, 1) := dk_42 (dk_at dksX1_keeping_0 20 rfl rfl)
theorem dX1_keeping_21 : decode cX1_keeping 21 = .ok (.getfield 112, 3) := dk_180 0 112 (dk_at dksX1_keeping_0 21 rfl rfl)
theorem dX1_keeping_24 : decode cX1_keeping 24 = .ok (.aload_n 0, 1) := dk_42 (dk_at dksX1_keeping_1 0 rfl rfl)
theorem dX1_keeping_25 : decode cX1_keeping 25 = .ok (.getfield 133, 3) := dk_180 0 133 (dk_at dksX1_keeping_1 1 rfl rfl)
theorem dX1_keeping_28 : decode cX1_keeping 28 = .ok (.invokevirtual 362, 3) := dk_182 1 106 (dk_at dksX1_keeping_1 4 rfl rfl)
theorem dX1_keeping_31 : decode cX1_keeping 31 = .ok (.aload_n 0, 1) := dk_42 (dk_at dksX1_keeping_1 7 rfl rfl)
theorem dX1_keeping_32 : decode cX1_keeping 32 = .ok (.aload_n 0, 1) := dk_42 (dk_at dksX1_keeping_1 8 rfl rfl)
theorem dX1_keeping_33 : decode cX1_keeping 33 = .ok (.getfield 133, 3) := dk_180 0 133 (dk_at dksX1_keeping_1 9 rfl rfl)
theorem dX1_keeping_36 : decode cX1_keeping 36 = .ok (.iconst 1, 1) := dk_4 (dk_at dksX1_keeping_1 12 rfl rfl)
theorem dX1_keeping_37 : decode cX1_keeping 37 = .ok (.iconst 1, 1) := dk_4 (dk_at dksX1_keeping_1 13 rfl rfl)
theorem dX1_keeping_38 : decode cX1_keeping 38 = .ok (.invokevirtual 322, 3) := dk_182 1 66 (dk_at dksX1_keeping_1 14 rfl rfl)
theorem dX1_keeping_41 : decode cX1_keeping 41 = .ok (.putfield 133, 3) := dk_181 0 133 (dk_at dksX1_keeping_1 17 rfl rfl)
theorem dX1_keeping_44 : decode cX1_keeping 44 = .ok (.aload_n 0, 1) := dk_42 (dk_at dksX1_keeping_1 20 rfl rfl)
theorem dX1_keeping_45 : decode cX1_keeping 45 = .ok (.getfield 133, 3) := dk_180 0 133 (dk_at dksX1_keeping_1 21 rfl rfl)
theorem dX1_keeping_48 : decode cX1_keeping 48 = .ok (.areturn, 1) := dk_176 (dk_at dksX1_keeping_2 0 rfl rfl)
def dkwX1_make_1 : List UInt8 := [182, 1, 128, 76, 42, 180, 0, 133, 180, 0, 58, 182, 0, 189, 4, 100, 172]
abbrev dktX1_make_1 : List UInt8 := dkwX1_make_1 ++ []
def dkwX1_make_0 : List UInt8 := [42, 180, 0, 133, 180, 0, 58, 182, 0, 189, 16, 30, 160, 0, 6, 16, 253, 172, 42, 182, 1, 112]
abbrev dktX1_make_0 : List UInt8 := dkwX1_make_0 ++ dktX1_make_1
theorem dksX1_make_0 : cX1_make.data.toList.drop 0 = dktX1_make_0 := by decide +kernel
theorem dksX1_make_1 : cX1_make.data.toList.drop 22 = dktX1_make_1 := dk_seg dksX1_make_0 22 rfl rfl
theorem dX1_make_0 : decode cX1_make 0 = .ok (.aload_n 0, 1) := dk_42 (dk_at dksX1_make_0 0 rfl rfl)
theorem dX1_make_1 : decode cX1_make 1 = .ok (.getfield 133, 3) := dk_180 0 133 (dk_at dksX1_make_0 1 rfl rfl)
theorem dX1_make_4 : decode cX1_make 4 = .ok (.getfield 58, 3) := dk_180 0 58 (dk_at dksX1_make_0 4 rfl rfl)
theorem dX1_make_7 : decode cX1_make 7 = .ok (.invokevirtual 189, 3) := dk_182 0 189 (dk_at dksX1_make_0 7 rfl rfl)
theorem dX1_make_10 : decode cX1_make 10 = .ok (.bipush 30, 2) := dk_16 30 (dk_at dksX1_make_0 10 rfl rfl)
theorem dX1_make_12 : decode cX1_make 12 = .ok (.if_icmp .ne 6, 3) := dk_160 0 6 (dk_at dksX1_make_0 12 rfl rfl)
theorem dX1_make_15 : decode cX1_make 15 = .ok (.bipush (-3), 2) := dk_16 253 (dk_at dksX1_make_0 15 rfl rfl)
theorem dX1_make_17 : decode cX1_make 17 = .ok (.ireturn, 1) := dk_172 (dk_at dksX1_make_0 17 rfl rfl)
theorem dX1_make_18 : decode cX1_make 18 = .ok (.aload_n 0, 1) := dk_42 (dk_at dksX1_make_0 18 rfl rfl)
theorem dX1_make_19 : decode cX1_make 19 = .ok (.invokevirtual 368, 3) := dk_182 1 112 (dk_at dksX1_make_0 19 rfl rfl)
theorem dX1_make_22 : decode cX1_make 22 = .ok (.invokevirtual 384, 3) := dk_182 1 128 (dk_at dksX1_make_1 0 rfl rfl)
theorem dX1_make_25 : decode cX1_make 25 = .ok (.astore_n 1, 1) := dk_76 (dk_at dksX1_make_1 3 rfl rfl)
theorem dX1_make_26 : decode cX1_make 26 = .ok (.aload_n 0, 1) := dk_42 (dk_at dksX1_make_1 4 rfl rfl)
theorem dX1_make_27 : decode cX1_make 27 = .ok (.getfield 133, 3) := dk_180 0 133 (dk_at dksX1_make_1 5 rfl rfl)
theorem dX1_make_30 : decode cX1_make 30 = .ok (.getfield 58, 3) := dk_180 0 58 (dk_at dksX1_make_1 8 rfl rfl)
theorem dX1_make_33 : decode cX1_make 33 = .ok (.invokevirtual 189, 3) := dk_182 0 189 (dk_at dksX1_make_1 11 rfl rfl)
theorem dX1_make_36 : decode cX1_make 36 = .ok (.iconst 1, 1) := dk_4 (dk_at dksX1_make_1 14 rfl rfl)
theorem dX1_make_37 : decode cX1_make 37 = .ok (.isub, 1) := dk_100 (dk_at dksX1_make_1 15 rfl rfl)
theorem dX1_make_38 : decode cX1_make 38 = .ok (.ireturn, 1) := dk_172 (dk_at dksX1_make_1 16 rfl rfl)
def dkwX1_undoCount_0 : List UInt8 := [42, 180, 0, 112, 182, 1, 101, 172]
abbrev dktX1_undoCount_0 : List UInt8 := dkwX1_undoCount_0 ++ []
theorem dksX1_undoCount_0 : cX1_undoCount.data.toList.drop 0 = dktX1_undoCount_0 := by decide +kernel
theorem dX1_undoCount_0 : decode cX1_undoCount 0 = .ok (.aload_n 0, 1) := dk_42 (dk_at dksX1_undoCount_0 0 rfl rfl)
theorem dX1_undoCount_1 : decode cX1_undoCount 1 = .ok (.getfield 112, 3) := dk_180 0 112 (dk_at dksX1_undoCount_0 1 rfl rfl)
theorem dX1_undoCount_4 : decode cX1_undoCount 4 = .ok (.invokevirtual 357, 3) := dk_182 1 101 (dk_at dksX1_undoCount_0 4 rfl rfl)
theorem dX1_undoCount_7 : decode cX1_undoCount 7 = .ok (.ireturn, 1) := dk_172 (dk_at dksX1_undoCount_0 7 rfl rfl)
def dkwX1_undo_1 : List UInt8 := [181, 0, 133, 42, 180, 0, 112, 182, 1, 101, 172]
abbrev dktX1_undo_1 : List UInt8 := dkwX1_undo_1 ++ []
def dkwX1_undo_0 : List UInt8 := [42, 180, 0, 112, 182, 1, 142, 153, 0, 5, 2, 172, 42, 42, 180, 0, 112, 182, 1, 146, 192, 0, 10]
abbrev dktX1_undo_0 : List UInt8 := dkwX1_undo_0 ++ dktX1_undo_1
theorem dksX1_undo_0 : cX1_undo.data.toList.drop 0 = dktX1_undo_0 := by decide +kernel
theorem dksX1_undo_1 : cX1_undo.data.toList.drop 23 = dktX1_undo_1 := dk_seg dksX1_undo_0 23 rfl rfl
theorem dX1_undo_0 : decode cX1_undo 0 = .ok (.aload_n 0, 1) := dk_42 (dk_at dksX1_undo_0 0 rfl rfl)
theorem dX1_undo_1 : decode cX1_undo 1 = .ok (.getfield 112, 3) := dk_180 0 112 (dk_at dksX1_undo_0 1 rfl rfl)
theorem dX1_undo_4 : decode cX1_undo 4 = .ok (.invokevirtual 398, 3) := dk_182 1 142 (dk_at dksX1_undo_0 4 rfl rfl)
theorem dX1_undo_7 : decode cX1_undo 7 = .ok (.ifCond .eq 5, 3) := dk_153 0 5 (dk_at dksX1_undo_0 7 rfl rfl)
theorem dX1_undo_10 : decode cX1_undo 10 = .ok (.iconst (-1), 1) := dk_2 (dk_at dksX1_undo_0 10 rfl rfl)
theorem dX1_undo_11 : decode cX1_undo 11 = .ok (.ireturn, 1) := dk_172 (dk_at dksX1_undo_0 11 rfl rfl)
theorem dX1_undo_12 : decode cX1_undo 12 = .ok (.aload_n 0, 1) := dk_42 (dk_at dksX1_undo_0 12 rfl rfl)
theorem dX1_undo_13 : decode cX1_undo 13 = .ok (.aload_n 0, 1) := dk_42 (dk_at dksX1_undo_0 13 rfl rfl)
theorem dX1_undo_14 : decode cX1_undo 14 = .ok (.getfield 112, 3) := dk_180 0 112 (dk_at dksX1_undo_0 14 rfl rfl)
theorem dX1_undo_17 : decode cX1_undo 17 = .ok (.invokevirtual 402, 3) := dk_182 1 146 (dk_at dksX1_undo_0 17 rfl rfl)
theorem dX1_undo_20 : decode cX1_undo 20 = .ok (.checkcast 10, 3) := dk_192 0 10 (dk_at dksX1_undo_0 20 rfl rfl)
theorem dX1_undo_23 : decode cX1_undo 23 = .ok (.putfield 133, 3) := dk_181 0 133 (dk_at dksX1_undo_1 0 rfl rfl)
theorem dX1_undo_26 : decode cX1_undo 26 = .ok (.aload_n 0, 1) := dk_42 (dk_at dksX1_undo_1 3 rfl rfl)
theorem dX1_undo_27 : decode cX1_undo 27 = .ok (.getfield 112, 3) := dk_180 0 112 (dk_at dksX1_undo_1 4 rfl rfl)
theorem dX1_undo_30 : decode cX1_undo 30 = .ok (.invokevirtual 357, 3) := dk_182 1 101 (dk_at dksX1_undo_1 7 rfl rfl)
theorem dX1_undo_33 : decode cX1_undo 33 = .ok (.ireturn, 1) := dk_172 (dk_at dksX1_undo_1 10 rfl rfl)
def dkwX1_saveSnapshot_0 : List UInt8 := [42, 42, 180, 0, 133, 181, 0, 186, 177]
abbrev dktX1_saveSnapshot_0 : List UInt8 := dkwX1_saveSnapshot_0 ++ []
theorem dksX1_saveSnapshot_0 : cX1_saveSnapshot.data.toList.drop 0 = dktX1_saveSnapshot_0 := by decide +kernel
theorem dX1_saveSnapshot_0 : decode cX1_saveSnapshot 0 = .ok (.aload_n 0, 1) := dk_42 (dk_at dksX1_saveSnapshot_0 0 rfl rfl)
theorem dX1_saveSnapshot_1 : decode cX1_saveSnapshot 1 = .ok (.aload_n 0, 1) := dk_42 (dk_at dksX1_saveSnapshot_0 1 rfl rfl)
theorem dX1_saveSnapshot_2 : decode cX1_saveSnapshot 2 = .ok (.getfield 133, 3) := dk_180 0 133 (dk_at dksX1_saveSnapshot_0 2 rfl rfl)
theorem dX1_saveSnapshot_5 : decode cX1_saveSnapshot 5 = .ok (.putfield 186, 3) := dk_181 0 186 (dk_at dksX1_saveSnapshot_0 5 rfl rfl)
theorem dX1_saveSnapshot_8 : decode cX1_saveSnapshot 8 = .ok (.return_, 1) := dk_177 (dk_at dksX1_saveSnapshot_0 8 rfl rfl)
def dkwX1_restoreSnapshot_1 : List UInt8 := [4, 172]
abbrev dktX1_restoreSnapshot_1 : List UInt8 := dkwX1_restoreSnapshot_1 ++ []
def dkwX1_restoreSnapshot_0 : List UInt8 := [42, 180, 0, 186, 199, 0, 5, 3, 172, 42, 42, 180, 0, 186, 181, 0, 133, 42, 180, 0, 112, 182, 0, 183]
abbrev dktX1_restoreSnapshot_0 : List UInt8 := dkwX1_restoreSnapshot_0 ++ dktX1_restoreSnapshot_1
theorem dksX1_restoreSnapshot_0 : cX1_restoreSnapshot.data.toList.drop 0 = dktX1_restoreSnapshot_0 := by decide +kernel
theorem dksX1_restoreSnapshot_1 : cX1_restoreSnapshot.data.toList.drop 24 = dktX1_restoreSnapshot_1 := dk_seg dksX1_restoreSnapshot_0 24 rfl rfl
theorem dX1_restoreSnapshot_0 : decode cX1_restoreSnapshot 0 = .ok (.aload_n 0, 1) := dk_42 (dk_at dksX1_restoreSnapshot_0 0 rfl rfl)
theorem dX1_restoreSnapshot_1 : decode cX1_restoreSnapshot 1 = .ok (.getfield 186, 3) := dk_180 0 186 (dk_at dksX1_restoreSnapshot_0 1 rfl rfl)
theorem dX1_restoreSnapshot_4 : decode cX1_restoreSnapshot 4 = .ok (.ifnonnull 5, 3) := dk_199 0 5 (dk_at dksX1_restoreSnapshot_0 4 rfl rfl)
theorem dX1_restoreSnapshot_7 : decode cX1_restoreSnapshot 7 = .ok (.iconst 0, 1) := dk_3 (dk_at dksX1_restoreSnapshot_0 7 rfl rfl)
theorem dX1_restoreSnapshot_8 : decode cX1_restoreSnapshot 8 = .ok (.ireturn, 1) := dk_172 (dk_at dksX1_restoreSnapshot_0 8 rfl rfl)
theorem dX1_restoreSnapshot_9 : decode cX1_restoreSnapshot 9 = .ok (.aload_n 0, 1) := dk_42 (dk_at dksX1_restoreSnapshot_0 9 rfl rfl)
theorem dX1_restoreSnapshot_10 : decode cX1_restoreSnapshot 10 = .ok (.aload_n 0, 1) := dk_42 (dk_at dksX1_restoreSnapshot_0 10 rfl rfl)
theorem dX1_restoreSnapshot_11 : decode cX1_restoreSnapshot 11 = .ok (.getfield 186, 3) := dk_180 0 186 (dk_at dksX1_restoreSnapshot_0 11 rfl rfl)
theorem dX1_restoreSnapshot_14 : decode cX1_restoreSnapshot 14 = .ok (.putfield 133, 3) := dk_181 0 133 (dk_at dksX1_restoreSnapshot_0 14 rfl rfl)
theorem dX1_restoreSnapshot_17 : decode cX1_restoreSnapshot 17 = .ok (.aload_n 0, 1) := dk_42 (dk_at dksX1_restoreSnapshot_0 17 rfl rfl)
theorem dX1_restoreSnapshot_18 : decode cX1_restoreSnapshot 18 = .ok (.getfield 112, 3) := dk_180 0 112 (dk_at dksX1_restoreSnapshot_0 18 rfl rfl)
theorem dX1_restoreSnapshot_21 : decode cX1_restoreSnapshot 21 = .ok (.invokevirtual 183, 3) := dk_182 0 183 (dk_at dksX1_restoreSnapshot_0 21 rfl rfl)
theorem dX1_restoreSnapshot_24 : decode cX1_restoreSnapshot 24 = .ok (.iconst 1, 1) := dk_4 (dk_at dksX1_restoreSnapshot_1 0 rfl rfl)
theorem dX1_restoreSnapshot_25 : decode cX1_restoreSnapshot 25 = .ok (.ireturn, 1) := dk_172 (dk_at dksX1_restoreSnapshot_1 1 rfl rfl)
def dkwX1_formattedByte_1 : List UInt8 := [182, 1, 172, 167, 0, 4, 2, 172]
abbrev dktX1_formattedByte_1 : List UInt8 := dkwX1_formattedByte_1 ++ []
def dkwX1_formattedByte_0 : List UInt8 := [27, 133, 9, 42, 180, 0, 125, 182, 1, 169, 4, 100, 133, 184, 0, 150, 153, 0, 14, 42, 180, 0, 125, 27]
abbrev dktX1_formattedByte_0 : List UInt8 := dkwX1_formattedByte_0 ++ dktX1_formattedByte_1
theorem dksX1_formattedByte_0 : cX1_formattedByte.data.toList.drop 0 = dktX1_formattedByte_0 := by decide +kernel
theorem dksX1_formattedByte_1 : cX1_formattedByte.data.toList.drop 24 = dktX1_formattedByte_1 := dk_seg dksX1_formattedByte_0 24 rfl rfl
theorem dX1_formattedByte_0 : decode cX1_formattedByte 0 = .ok (.iload_n 1, 1) := dk_27 (dk_at dksX1_formattedByte_0 0 rfl rfl)
theorem dX1_formattedByte_1 : decode cX1_formattedByte 1 = .ok (.i2l, 1) := dk_133 (dk_at dksX1_formattedByte_0 1 rfl rfl)
theorem dX1_formattedByte_2 : decode cX1_formattedByte 2 = .ok (.lconst 0, 1) := dk_9 (dk_at dksX1_formattedByte_0 2 rfl rfl)
theorem dX1_formattedByte_3 : decode cX1_formattedByte 3 = .ok (.aload_n 0, 1) := dk_42 (dk_at dksX1_formattedByte_0 3 rfl rfl)
theorem dX1_formattedByte_4 : decode cX1_formattedByte 4 = .ok (.getfield 125, 3) := dk_180 0 125 (dk_at dksX1_formattedByte_0 4 rfl rfl)
theorem dX1_formattedByte_7 : decode cX1_formattedByte 7 = .ok (.invokevirtual 425, 3) := dk_182 1 169 (dk_at dksX1_formattedByte_0 7 rfl rfl)
theorem dX1_formattedByte_10 : decode cX1_formattedByte 10 = .ok (.iconst 1, 1) := dk_4 (dk_at dksX1_formattedByte_0 10 rfl rfl)
theorem dX1_formattedByte_11 : decode cX1_formattedByte 11 = .ok (.isub, 1) := dk_100 (dk_at dksX1_formattedByte_0 11 rfl rfl)
theorem dX1_formattedByte_12 : decode cX1_formattedByte 12 = .ok (.i2l, 1) := dk_133 (dk_at dksX1_formattedByte_0 12 rfl rfl)
theorem dX1_formattedByte_13 : decode cX1_formattedByte 13 = .ok (.invokestatic 150, 3) := dk_184 0 150 (dk_at dksX1_formattedByte_0 13 rfl rfl)
theorem dX1_formattedByte_16 : decode cX1_formattedByte 16 = .ok (.ifCond .eq 14, 3) := dk_153 0 14 (dk_at dksX1_formattedByte_0 16 rfl rfl)
theorem dX1_formattedByte_19 : decode cX1_formattedByte 19 = .ok (.aload_n 0, 1) := dk_42 (dk_at dksX1_formattedByte_0 19 rfl rfl)
theorem dX1_formattedByte_20 : decode cX1_formattedByte 20 = .ok (.getfield 125, 3) := dk_180 0 125 (dk_at dksX1_formattedByte_0 20 rfl rfl)
theorem dX1_formattedByte_23 : decode cX1_formattedByte 23 = .ok (.iload_n 1, 1) := dk_27 (dk_at dksX1_formattedByte_0 23 rfl rfl)
theorem dX1_formattedByte_24 : decode cX1_formattedByte 24 = .ok (.invokevirtual 428, 3) := dk_182 1 172 (dk_at dksX1_formattedByte_1 0 rfl rfl)
theorem dX1_formattedByte_27 : decode cX1_formattedByte 27 = .ok (.goto 4, 3) := dk_167 0 4 (dk_at dksX1_formattedByte_1 3 rfl rfl)
theorem dX1_formattedByte_30 : decode cX1_formattedByte 30 = .ok (.iconst (-1), 1) := dk_2 (dk_at dksX1_formattedByte_1 6 rfl rfl)
theorem dX1_formattedByte_31 : decode cX1_formattedByte 31 = .ok (.ireturn, 1) := dk_172 (dk_at dksX1_formattedByte_1 7 rfl rfl)
def dkwX1_load_2 : List UInt8 := [42, 180, 0, 133, 180, 0, 58, 182, 0, 189, 172]
abbrev dktX1_load_2 : List UInt8 := dkwX1_load_2 ++ []
def dkwX1_load_1 : List UInt8 := [167, 0, 12, 77, 42, 44, 16, 246, 182, 0, 179, 172, 42, 180, 0, 112, 182, 0, 183, 42, 1, 181, 0, 186]
abbrev dktX1_load_1 : List UInt8 := dkwX1_load_1 ++ dktX1_load_2
def dkwX1_load_0 : List UInt8 := [42, 27, 17, 1, 144, 182, 0, 166, 42, 187, 0, 170, 89, 42, 27, 183, 0, 172, 182, 0, 175, 181, 0, 133]
abbrev dktX1_load_0 : List UInt8 := dkwX1_load_0 ++ dktX1_load_1
theorem dksX1_load_0 : cX1_load.data.toList.drop 0 = dktX1_load_0 := by decide +kernel
theorem dksX1_load_1 : cX1_load.data.toList.drop 24 = dktX1_load_1 := dk_seg dksX1_load_0 24 rfl rfl
theorem dksX1_load_2 : cX1_load.data.toList.drop 48 = dktX1_load_2 := dk_seg dksX1_load_1 24 rfl rfl
theorem dX1_load_0 : decode cX1_load 0 = .ok (.aload_n 0, 1) := dk_42 (dk_at dksX1_load_0 0 rfl rfl)
theorem dX1_load_1 : decode cX1_load 1 = .ok (.iload_n 1, 1) := dk_27 (dk_at dksX1_load_0 1 rfl rfl)
theorem dX1_load_2 : decode cX1_load 2 = .ok (.sipush 400, 3) := dk_17 1 144 (dk_at dksX1_load_0 2 rfl rfl)
theorem dX1_load_5 : decode cX1_load 5 = .ok (.invokevirtual 166, 3) := dk_182 0 166 (dk_at dksX1_load_0 5 rfl rfl)
theorem dX1_load_8 : decode cX1_load 8 = .ok (.aload_n 0, 1) := dk_42 (dk_at dksX1_load_0 8 rfl rfl)
theorem dX1_load_9 : decode cX1_load 9 = .ok (.new 170, 3) := dk_187 0 170 (dk_at dksX1_load_0 9 rfl rfl)
theorem dX1_load_12 : decode cX1_load 12 = .ok (.dup, 1) := dk_89 (dk_at dksX1_load_0 12 rfl rfl)
theorem dX1_load_13 : decode cX1_load 13 = .ok (.aload_n 0, 1) := dk_42 (dk_at dksX1_load_0 13 rfl rfl)
theorem dX1_load_14 : decode cX1_load 14 = .ok (.iload_n 1, 1) := dk_27 (dk_at dksX1_load_0 14 rfl rfl)
theorem dX1_load_15 : decode cX1_load 15 = .ok (.invokespecial 172, 3) := dk_183 0 172 (dk_at dksX1_load_0 15 rfl rfl)
theorem dX1_load_18 : decode cX1_load 18 = .ok (.invokevirtual 175, 3) := dk_182 0 175 (dk_at dksX1_load_0 18 rfl rfl)
theorem dX1_load_21 : decode cX1_load 21 = .ok (.putfield 133, 3) := dk_181 0 133 (dk_at dksX1_load_0 21 rfl rfl)
theorem dX1_load_24 : decode cX1_load 24 = .ok (.goto 12, 3) := dk_167 0 12 (dk_at dksX1_load_1 0 rfl rfl)
theorem dX1_load_27 : decode cX1_load 27 = .ok (.astore_n 2, 1) := dk_77 (dk_at dksX1_load_1 3 rfl rfl)
theorem dX1_load_28 : decode cX1_load 28 = .ok (.aload_n 0, 1) := dk_42 (dk_at dksX1_load_1 4 rfl rfl)
theorem dX1_load_29 : decode cX1_load 29 = .ok (.aload_n 2, 1) := dk_44 (dk_at dksX1_load_1 5 rfl rfl)
theorem dX1_load_30 : decode cX1_load 30 = .ok (.bipush (-10), 2) := dk_16 246 (dk_at dksX1_load_1 6 rfl rfl)
theorem dX1_load_32 : decode cX1_load 32 = .ok (.invokevirtual 179, 3) := dk_182 0 179 (dk_at dksX1_load_1 8 rfl rfl)
theorem dX1_load_35 : decode cX1_load 35 = .ok (.ireturn, 1) := dk_172 (dk_at dksX1_load_1 11 rfl rfl)
theorem dX1_load_36 : decode cX1_load 36 = .ok (.aload_n 0, 1) := dk_42 (dk_at dksX1_load_1 12 rfl rfl)
theorem dX1_load_37 : decode cX1_load 37 = .ok (.getfield 112, 3) := dk_180 0 112 (dk_at dksX1_load_1 13 rfl rfl)
theorem dX1_load_40 : decode cX1_load 40 = .ok (.invokevirtual 183, 3) := dk_182 0 183 (dk_at dksX1_load_1 16 rfl rfl)
theorem dX1_load_43 : decode cX1_load 43 = .ok (.aload_n 0, 1) := dk_42 (dk_at dksX1_load_1 19 rfl rfl)
theorem dX1_load_44 : decode cX1_load 44 = .ok (.aconst_null, 1) := dk_1 (dk_at dksX1_load_1 20 rfl rfl)
theorem dX1_load_45 : decode cX1_load 45 = .ok (.putfield 186, 3) := dk_181 0 186 (dk_at dksX1_load_1 21 rfl rfl)
theorem dX1_load_48 : decode cX1_load 48 = .ok (.aload_n 0, 1) := dk_42 (dk_at dksX1_load_2 0 rfl rfl)
theorem dX1_load_49 : decode cX1_load 49 = .ok (.getfield 133, 3) := dk_180 0 133 (dk_at dksX1_load_2 1 rfl rfl)
theorem dX1_load_52 : decode cX1_load 52 = .ok (.getfield 58, 3) := dk_180 0 58 (dk_at dksX1_load_2 4 rfl rfl)
theorem dX1_load_55 : decode cX1_load 55 = .ok (.invokevirtual 189, 3) := dk_182 0 189 (dk_at dksX1_load_2 7 rfl rfl)
theorem dX1_load_58 : decode cX1_load 58 = .ok (.ireturn, 1) := dk_172 (dk_at dksX1_load_2 10 rfl rfl)
def dkwX1_startReading_1 : List UInt8 := [2, 181, 0, 120, 177]
abbrev dktX1_startReading_1 : List UInt8 := dkwX1_startReading_1 ++ []
def dkwX1_startReading_0 : List UInt8 := [27, 133, 9, 42, 180, 0, 137, 28, 184, 0, 144, 133, 184, 0, 150, 184, 0, 154, 42, 3, 181, 0, 137, 42]
abbrev dktX1_startReading_0 : List UInt8 := dkwX1_startReading_0 ++ dktX1_startReading_1
theorem dksX1_startReading_0 : cX1_startReading.data.toList.drop 0 = dktX1_startReading_0 := by decide +kernel
theorem dksX1_startReading_1 : cX1_startReading.data.toList.drop 24 = dktX1_startReading_1 := dk_seg dksX1_startReading_0 24 rfl rfl
theorem dX1_startReading_0 : decode cX1_startReading 0 = .ok (.iload_n 1, 1) := dk_27 (dk_at dksX1_startReading_0 0 rfl rfl)
theorem dX1_startReading_1 : decode cX1_startReading 1 = .ok (.i2l, 1) := dk_133 (dk_at dksX1_startReading_0 1 rfl rfl)
theorem dX1_startReading_2 : decode cX1_startReading 2 = .ok (.lconst 0, 1) := dk_9 (dk_at dksX1_startReading_0 2 rfl rfl)
theorem dX1_startReading_3 : decode cX1_startReading 3 = .ok (.aload_n 0, 1) := dk_42 (dk_at dksX1_startReading_0 3 rfl rfl)
theorem dX1_startReading_4 : decode cX1_startReading 4 = .ok (.getfield 137, 3) := dk_180 0 137 (dk_at dksX1_startReading_0 4 rfl rfl)
theorem dX1_startReading_7 : decode cX1_startReading 7 = .ok (.iload_n 2, 1) := dk_28 (dk_at dksX1_startReading_0 7 rfl rfl)
theorem dX1_startReading_8 : decode cX1_startReading 8 = .ok (.invokestatic 144, 3) := dk_184 0 144 (dk_at dksX1_startReading_0 8 rfl rfl)
theorem dX1_startReading_11 : decode cX1_startReading 11 = .ok (.i2l, 1) := dk_133 (dk_at dksX1_startReading_0 11 rfl rfl)
theorem dX1_startReading_12 : decode cX1_startReading 12 = .ok (.invokestatic 150, 3) := dk_184 0 150 (dk_at dksX1_startReading_0 12 rfl rfl)
theorem dX1_startReading_15 : decode cX1_startReading 15 = .ok (.invokestatic 154, 3) := dk_184 0 154 (dk_at dksX1_startReading_0 15 rfl rfl)
theorem dX1_startReading_18 : decode cX1_startReading 18 = .ok (.aload_n 0, 1) := dk_42 (dk_at dksX1_startReading_0 18 rfl rfl)
theorem dX1_startReading_19 : decode cX1_startReading 19 = .ok (.iconst 0, 1) := dk_3 (dk_at dksX1_startReading_0 19 rfl rfl)
theorem dX1_startReading_20 : decode cX1_startReading 20 = .ok (.putfield 137, 3) := dk_181 0 137 (dk_at dksX1_startReading_0 20 rfl rfl)
theorem dX1_startReading_23 : decode cX1_startReading 23 = .ok (.aload_n 0, 1) := dk_42 (dk_at dksX1_startReading_0 23 rfl rfl)
theorem dX1_startReading_24 : decode cX1_startReading 24 = .ok (.iconst (-1), 1) := dk_2 (dk_at dksX1_startReading_1 0 rfl rfl)
theorem dX1_startReading_25 : decode cX1_startReading 25 = .ok (.putfield 120, 3) := dk_181 0 120 (dk_at dksX1_startReading_1 1 rfl rfl)
theorem dX1_startReading_28 : decode cX1_startReading 28 = .ok (.return_, 1) := dk_177 (dk_at dksX1_startReading_1 4 rfl rfl)
def dkwX1_requireArgument_0 : List UInt8 := [26, 154, 0, 11, 187, 0, 1, 89, 183, 0, 3, 191, 177]
abbrev dktX1_requireArgument_0 : List UInt8 := dkwX1_requireArgument_0 ++ []
theorem dksX1_requireArgument_0 : cX1_requireArgument.data.toList.drop 0 = dktX1_requireArgument_0 := by decide +kernel
theorem dX1_requireArgument_0 : decode cX1_requireArgument 0 = .ok (.iload_n 0, 1) := dk_26 (dk_at dksX1_requireArgument_0 0 rfl rfl)
theorem dX1_requireArgument_1 : decode cX1_requireArgument 1 = .ok (.ifCond .ne 11, 3) := dk_154 0 11 (dk_at dksX1_requireArgument_0 1 rfl rfl)
theorem dX1_requireArgument_4 : decode cX1_requireArgument 4 = .ok (.new 1, 3) := dk_187 0 1 (dk_at dksX1_requireArgument_0 4 rfl rfl)
theorem dX1_requireArgument_7 : decode cX1_requireArgument 7 = .ok (.dup, 1) := dk_89 (dk_at dksX1_requireArgument_0 7 rfl rfl)
theorem dX1_requireArgument_8 : decode cX1_requireArgument 8 = .ok (.invokespecial 3, 3) := dk_183 0 3 (dk_at dksX1_requireArgument_0 8 rfl rfl)
theorem dX1_requireArgument_11 : decode cX1_requireArgument 11 = .ok (.athrow, 1) := dk_191 (dk_at dksX1_requireArgument_0 11 rfl rfl)
theorem dX1_requireArgument_12 : decode cX1_requireArgument 12 = .ok (.return_, 1) := dk_177 (dk_at dksX1_requireArgument_0 12 rfl rfl)
def dkwX1_failed_0 : List UInt8 := [42, 43, 180, 0, 158, 181, 0, 120, 28, 43, 180, 0, 163, 100, 172]
abbrev dktX1_failed_0 : List UInt8 := dkwX1_failed_0 ++ []
theorem dksX1_failed_0 : cX1_failed.data.toList.drop 0 = dktX1_failed_0 := by decide +kernel
theorem dX1_failed_0 : decode cX1_failed 0 = .ok (.aload_n 0, 1) := dk_42 (dk_at dksX1_failed_0 0 rfl rfl)
theorem dX1_failed_1 : decode cX1_failed 1 = .ok (.aload_n 1, 1) := dk_43 (dk_at dksX1_failed_0 1 rfl rfl)
theorem dX1_failed_2 : decode cX1_failed 2 = .ok (.getfield 158, 3) := dk_180 0 158 (dk_at dksX1_failed_0 2 rfl rfl)
theorem dX1_failed_5 : decode cX1_failed 5 = .ok (.putfield 120, 3) := dk_181 0 120 (dk_at dksX1_failed_0 5 rfl rfl)
theorem dX1_failed_8 : decode cX1_failed 8 = .ok (.iload_n 2, 1) := dk_28 (dk_at dksX1_failed_0 8 rfl rfl)
theorem dX1_failed_9 : decode cX1_failed 9 = .ok (.aload_n 1, 1) := dk_43 (dk_at dksX1_failed_0 9 rfl rfl)
theorem dX1_failed_10 : decode cX1_failed 10 = .ok (.getfield 163, 3) := dk_180 0 163 (dk_at dksX1_failed_0 10 rfl rfl)
theorem dX1_failed_13 : decode cX1_failed 13 = .ok (.isub, 1) := dk_100 (dk_at dksX1_failed_0 13 rfl rfl)
theorem dX1_failed_14 : decode cX1_failed 14 = .ok (.ireturn, 1) := dk_172 (dk_at dksX1_failed_0 14 rfl rfl)
def dkwX1_size_8 : List UInt8 := [180, 0, 58, 182, 0, 189, 172]
abbrev dktX1_size_8 : List UInt8 := dkwX1_size_8 ++ []
def dkwX1_size_7 : List UInt8 := [180, 0, 133, 180, 0, 224, 167, 0, 23, 42, 180, 0, 133, 180, 0, 225, 167, 0, 13, 42, 180, 0, 133]
abbrev dktX1_size_7 : List UInt8 := dkwX1_size_7 ++ dktX1_size_8
def dkwX1_size_6 : List UInt8 := [167, 0, 53, 42, 180, 0, 133, 182, 0, 218, 167, 0, 43, 42, 180, 0, 133, 182, 0, 221, 167, 0, 33, 42]
abbrev dktX1_size_6 : List UInt8 := dkwX1_size_6 ++ dktX1_size_7
def dkwX1_size_5 : List UInt8 := [180, 0, 212, 167, 0, 73, 42, 180, 0, 133, 180, 0, 215, 167, 0, 63, 42, 180, 0, 133, 182, 0, 86]
abbrev dktX1_size_5 : List UInt8 := dkwX1_size_5 ++ dktX1_size_6
def dkwX1_size_4 : List UInt8 := [180, 0, 133, 180, 0, 206, 167, 0, 93, 42, 180, 0, 133, 180, 0, 209, 167, 0, 83, 42, 180, 0, 133]
abbrev dktX1_size_4 : List UInt8 := dkwX1_size_4 ++ dktX1_size_5
def dkwX1_size_3 : List UInt8 := [180, 0, 133, 182, 0, 200, 167, 0, 116, 42, 180, 0, 133, 180, 0, 203, 182, 0, 189, 167, 0, 103, 42]
abbrev dktX1_size_3 : List UInt8 := dkwX1_size_3 ++ dktX1_size_4
def dkwX1_size_2 : List UInt8 := [42, 180, 0, 133, 180, 0, 197, 167, 0, 139, 42, 180, 0, 133, 180, 0, 15, 182, 0, 189, 167, 0, 126, 42]
abbrev dktX1_size_2 : List UInt8 := dkwX1_size_2 ++ dktX1_size_3
def dkwX1_size_1 : List UInt8 := [170, 0, 0, 0, 0, 0, 203, 0, 0, 0, 0, 0, 0, 0, 12, 0, 0, 0, 67, 0, 0, 0, 77, 0, 0, 0, 90, 0, 0, 0, 100, 0, 0, 0, 113, 0, 0, 0, 123, 0, 0, 0, 133, 0, 0, 0, 143, 0, 0, 0, 153, 0, 0, 0, 163, 0, 0, 0, 173, 0, 0, 0, 183, 0, 0, 0, 193]
abbrev dktX1_size_1 : List UInt8 := dkwX1_size_1 ++ dktX1_size_2
def dkwX1_size_0 : List UInt8 := [27, 133, 9, 20, 0, 192, 184, 0, 150, 184, 0, 194, 27]
abbrev dktX1_size_0 : List UInt8 := dkwX1_size_0 ++ dktX1_size_1
theorem dksX1_size_0 : cX1_size.data.toList.drop 0 = dktX1_size_0 := by decide +kernel
theorem dksX1_size_1 : cX1_size.data.toList.drop 13 = dktX1_size_1 := dk_seg dksX1_size_0 13 rfl rfl
theorem dksX1_size_2 : cX1_size.data.toList.drop 80 = dktX1_size_2 := dk_seg dksX1_size_1 67 rfl rfl
theorem dksX1_size_3 : cX1_size.data.toList.drop 104 = dktX1_size_3 := dk_seg dksX1_size_2 24 rfl rfl
theorem dksX1_size_4 : cX1_size.data.toList.drop 127 = dktX1_size_4 := dk_seg dksX1_size_3 23 rfl rfl
theorem dksX1_size_5 : cX1_size.data.toList.drop 150 = dktX1_size_5 := dk_seg dksX1_size_4 23 rfl rfl
theorem dksX1_size_6 : cX1_size.data.toList.drop 173 = dktX1_size_6 := dk_seg dksX1_size_5 23 rfl rfl
theorem dksX1_size_7 : cX1_size.data.toList.drop 197 = dktX1_size_7 := dk_seg dksX1_size_6 24 rfl rfl
theorem dksX1_size_8 : cX1_size.data.toList.drop 220 = dktX1_size_8 := dk_seg dksX1_size_7 23 rfl rfl
theorem dX1_size_0 : decode cX1_size 0 = .ok (.iload_n 1, 1) := dk_27 (dk_at dksX1_size_0 0 rfl rfl)
theorem dX1_size_1 : decode cX1_size 1 = .ok (.i2l, 1) := dk_133 (dk_at dksX1_size_0 1 rfl rfl)
theorem dX1_size_2 : decode cX1_size 2 = .ok (.lconst 0, 1) := dk_9 (dk_at dksX1_size_0 2 rfl rfl)
theorem dX1_size_3 : decode cX1_size 3 = .ok (.ldc2_w 192, 3) := dk_20 0 192 (dk_at dksX1_size_0 3 rfl rfl)
theorem dX1_size_6 : decode cX1_size 6 = .ok (.invokestatic 150, 3) := dk_184 0 150 (dk_at dksX1_size_0 6 rfl rfl)
theorem dX1_size_9 : decode cX1_size 9 = .ok (.invokestatic 194, 3) := dk_184 0 194 (dk_at dksX1_size_0 9 rfl rfl)
theorem dX1_size_12 : decode cX1_size 12 = .ok (.iload_n 1, 1) := dk_27 (dk_at dksX1_size_0 12 rfl rfl)
theorem dX1_size_13 : decode cX1_size 13 = .ok (.tableswitch 203 0 12 #[67, 77, 90, 100, 113, 123, 133, 143, 153, 163, 173, 183, 193], 67) := by decide +kernel
theorem dX1_size_80 : decode cX1_size 80 = .ok (.aload_n 0, 1) := dk_42 (dk_at dksX1_size_2 0 rfl rfl)
theorem dX1_size_81 : decode cX1_size 81 = .ok (.getfield 133, 3) := dk_180 0 133 (dk_at dksX1_size_2 1 rfl rfl)
theorem dX1_size_84 : decode cX1_size 84 = .ok (.getfield 197, 3) := dk_180 0 197 (dk_at dksX1_size_2 4 rfl rfl)
theorem dX1_size_87 : decode cX1_size 87 = .ok (.goto 139, 3) := dk_167 0 139 (dk_at dksX1_size_2 7 rfl rfl)
theorem dX1_size_90 : decode cX1_size 90 = .ok (.aload_n 0, 1) := dk_42 (dk_at dksX1_size_2 10 rfl rfl)
theorem dX1_size_91 : decode cX1_size 91 = .ok (.getfield 133, 3) := dk_180 0 133 (dk_at dksX1_size_2 11 rfl rfl)
theorem dX1_size_94 : decode cX1_size 94 = .ok (.getfield 15, 3) := dk_180 0 15 (dk_at dksX1_size_2 14 rfl rfl)
theorem dX1_size_97 : decode cX1_size 97 = .ok (.invokevirtual 189, 3) := dk_182 0 189 (dk_at dksX1_size_2 17 rfl rfl)
theorem dX1_size_100 : decode cX1_size 100 = .ok (.goto 126, 3) := dk_167 0 126 (dk_at dksX1_size_2 20 rfl rfl)
theorem dX1_size_103 : decode cX1_size 103 = .ok (.aload_n 0, 1) := dk_42 (dk_at dksX1_size_2 23 rfl rfl)
theorem dX1_size_104 : decode cX1_size 104 = .ok (.getfield 133, 3) := dk_180 0 133 (dk_at dksX1_size_3 0 rfl rfl)
theorem dX1_size_107 : decode cX1_size 107 = .ok (.invokevirtual 200, 3) := dk_182 0 200 (dk_at dksX1_size_3 3 rfl rfl)
theorem dX1_size_110 : decode cX1_size 110 = .ok (.goto 116, 3) := dk_167 0 116 (dk_at dksX1_size_3 6 rfl rfl)
theorem dX1_size_113 : decode cX1_size 113 = .ok (.aload_n 0, 1) := dk_42 (dk_at dksX1_size_3 9 rfl rfl)
theorem dX1_size_114 : decode cX1_size 114 = .ok (.getfield 133, 3) := dk_180 0 133 (dk_at dksX1_size_3 10 rfl rfl)
theorem dX1_size_117 : decode cX1_size 117 = .ok (.getfield 203, 3) := dk_180 0 203 (dk_at dksX1_size_3 13 rfl rfl)
theorem dX1_size_120 : decode cX1_size 120 = .ok (.invokevirtual 189, 3) := dk_182 0 189 (dk_at dksX1_size_3 16 rfl rfl)
theorem dX1_size_123 : decode cX1_size 123 = .ok (.goto 103, 3) := dk_167 0 103 (dk_at dksX1_size_3 19 rfl rfl)
theorem dX1_size_126 : decode cX1_size 126 = .ok (.aload_n 0, 1) := dk_42 (dk_at dksX1_size_3 22 rfl rfl)
theorem dX1_size_127 : decode cX1_size 127 = .ok (.getfield 133, 3) := dk_180 0 133 (dk_at dksX1_size_4 0 rfl rfl)
theorem dX1_size_130 : decode cX1_size 130 = .ok (.getfield 206, 3) := dk_180 0 206 (dk_at dksX1_size_4 3 rfl rfl)
theorem dX1_size_133 : decode cX1_size 133 = .ok (.goto 93, 3) := dk_167 0 93 (dk_at dksX1_size_4 6 rfl rfl)
theorem dX1_size_136 : decode cX1_size 136 = .ok (.aload_n 0, 1) := dk_42 (dk_at dksX1_size_4 9 rfl rfl)
theorem dX1_size_137 : decode cX1_size 137 = .ok (.getfield 133, 3) := dk_180 0 133 (dk_at dksX1_size_4 10 rfl rfl)
theorem dX1_size_140 : decode cX1_size 140 = .ok (.getfield 209, 3) := dk_180 0 209 (dk_at dksX1_size_4 13 rfl rfl)
theorem dX1_size_143 : decode cX1_size 143 = .ok (.goto 83, 3) := dk_167 0 83 (dk_at dksX1_size_4 16 rfl rfl)
theorem dX1_size_146 : decode cX1_size 146 = .ok (.aload_n 0, 1) := dk_42 (dk_at dksX1_size_4 19 rfl rfl)
theorem dX1_size_147 : decode cX1_size 147 = .ok (.getfield 133, 3) := dk_180 0 133 (dk_at dksX1_size_4 20 rfl rfl)
theorem dX1_size_150 : decode cX1_size 150 = .ok (.getfield 212, 3) := dk_180 0 212 (dk_at dksX1_size_5 0 rfl rfl)
theorem dX1_size_153 : decode cX1_size 153 = .ok (.goto 73, 3) := dk_167 0 73 (dk_at dksX1_size_5 3 rfl rfl)
theorem dX1_size_156 : decode cX1_size 156 = .ok (.aload_n 0, 1) := dk_42 (dk_at dksX1_size_5 6 rfl rfl)
theorem dX1_size_157 : decode cX1_size 157 = .ok (.getfield 133, 3) := dk_180 0 133 (dk_at dksX1_size_5 7 rfl rfl)
theorem dX1_size_160 : decode cX1_size 160 = .ok (.getfield 215, 3) := dk_180 0 215 (dk_at dksX1_size_5 10 rfl rfl)
theorem dX1_size_163 : decode cX1_size 163 = .ok (.goto 63, 3) := dk_167 0 63 (dk_at dksX1_size_5 13 rfl rfl)
theorem dX1_size_166 : decode cX1_size 166 = .ok (.aload_n 0, 1) := dk_42 (dk_at dksX1_size_5 16 rfl rfl)
theorem dX1_size_167 : decode cX1_size 167 = .ok (.getfield 133, 3) := dk_180 0 133 (dk_at dksX1_size_5 17 rfl rfl)
theorem dX1_size_170 : decode cX1_size 170 = .ok (.invokevirtual 86, 3) := dk_182 0 86 (dk_at dksX1_size_5 20 rfl rfl)
theorem dX1_size_173 : decode cX1_size 173 = .ok (.goto 53, 3) := dk_167 0 53 (dk_at dksX1_size_6 0 rfl rfl)
theorem dX1_size_176 : decode cX1_size 176 = .ok (.aload_n 0, 1) := dk_42 (dk_at dksX1_size_6 3 rfl rfl)
theorem dX1_size_177 : decode cX1_size 177 = .ok (.getfield 133, 3) := dk_180 0 133 (dk_at dksX1_size_6 4 rfl rfl)
theorem dX1_size_180 : decode cX1_size 180 = .ok (.invokevirtual 218, 3) := dk_182 0 218 (dk_at dksX1_size_6 7 rfl rfl)
theorem dX1_size_183 : decode cX1_size 183 = .ok (.goto 43, 3) := dk_167 0 43 (dk_at dksX1_size_6 10 rfl rfl)
theorem dX1_size_186 : decode cX1_size 186 = .ok (.aload_n 0, 1) := dk_42 (dk_at dksX1_size_6 13 rfl rfl)
theorem dX1_size_187 : decode cX1_size 187 = .ok (.getfield 133, 3) := dk_180 0 133 (dk_at dksX1_size_6 14 rfl rfl)
theorem dX1_size_190 : decode cX1_size 190 = .ok (.invokevirtual 221, 3) := dk_182 0 221 (dk_at dksX1_size_6 17 rfl rfl)
theorem dX1_size_193 : decode cX1_size 193 = .ok (.goto 33, 3) := dk_167 0 33 (dk_at dksX1_size_6 20 rfl rfl)
theorem dX1_size_196 : decode cX1_size 196 = .ok (.aload_n 0, 1) := dk_42 (dk_at dksX1_size_6 23 rfl rfl)
theorem dX1_size_197 : decode cX1_size 197 = .ok (.getfield 133, 3) := dk_180 0 133 (dk_at dksX1_size_7 0 rfl rfl)
theorem dX1_size_200 : decode cX1_size 200 = .ok (.getfield 224, 3) := dk_180 0 224 (dk_at dksX1_size_7 3 rfl rfl)
theorem dX1_size_203 : decode cX1_size 203 = .ok (.goto 23, 3) := dk_167 0 23 (dk_at dksX1_size_7 6 rfl rfl)
theorem dX1_size_206 : decode cX1_size 206 = .ok (.aload_n 0, 1) := dk_42 (dk_at dksX1_size_7 9 rfl rfl)
theorem dX1_size_207 : decode cX1_size 207 = .ok (.getfield 133, 3) := dk_180 0 133 (dk_at dksX1_size_7 10 rfl rfl)
theorem dX1_size_210 : decode cX1_size 210 = .ok (.getfield 225, 3) := dk_180 0 225 (dk_at dksX1_size_7 13 rfl rfl)
theorem dX1_size_213 : decode cX1_size 213 = .ok (.goto 13, 3) := dk_167 0 13 (dk_at dksX1_size_7 16 rfl rfl)
theorem dX1_size_216 : decode cX1_size 216 = .ok (.aload_n 0, 1) := dk_42 (dk_at dksX1_size_7 19 rfl rfl)
theorem dX1_size_217 : decode cX1_size 217 = .ok (.getfield 133, 3) := dk_180 0 133 (dk_at dksX1_size_7 20 rfl rfl)
theorem dX1_size_220 : decode cX1_size 220 = .ok (.getfield 58, 3) := dk_180 0 58 (dk_at dksX1_size_8 0 rfl rfl)
theorem dX1_size_223 : decode cX1_size 223 = .ok (.invokevirtual 189, 3) := dk_182 0 189 (dk_at dksX1_size_8 3 rfl rfl)
theorem dX1_size_226 : decode cX1_size 226 = .ok (.ireturn, 1) := dk_172 (dk_at dksX1_size_8 6 rfl rfl)
def dkwX1_requireElement_0 : List UInt8 := [26, 154, 0, 11, 187, 0, 7, 89, 183, 0, 9, 191, 177]
abbrev dktX1_requireElement_0 : List UInt8 := dkwX1_requireElement_0 ++ []
theorem dksX1_requireElement_0 : cX1_requireElement.data.toList.drop 0 = dktX1_requireElement_0 := by decide +kernel
theorem dX1_requireElement_0 : decode cX1_requireElement 0 = .ok (.iload_n 0, 1) := dk_26 (dk_at dksX1_requireElement_0 0 rfl rfl)
theorem dX1_requireElement_1 : decode cX1_requireElement 1 = .ok (.ifCond .ne 11, 3) := dk_154 0 11 (dk_at dksX1_requireElement_0 1 rfl rfl)
theorem dX1_requireElement_4 : decode cX1_requireElement 4 = .ok (.new 7, 3) := dk_187 0 7 (dk_at dksX1_requireElement_0 4 rfl rfl)
theorem dX1_requireElement_7 : decode cX1_requireElement 7 = .ok (.dup, 1) := dk_89 (dk_at dksX1_requireElement_0 7 rfl rfl)
theorem dX1_requireElement_8 : decode cX1_requireElement 8 = .ok (.invokespecial 9, 3) := dk_183 0 9 (dk_at dksX1_requireElement_0 8 rfl rfl)
theorem dX1_requireElement_11 : decode cX1_requireElement 11 = .ok (.athrow, 1) := dk_191 (dk_at dksX1_requireElement_0 11 rfl rfl)
theorem dX1_requireElement_12 : decode cX1_requireElement 12 = .ok (.return_, 1) := dk_177 (dk_at dksX1_requireElement_0 12 rfl rfl)
def dkwX1_version_3 : List UInt8 := [180, 0, 133, 180, 0, 197, 184, 1, 0, 167, 0, 11, 42, 180, 0, 133, 27, 182, 1, 5, 172]
abbrev dktX1_version_3 : List UInt8 := dkwX1_version_3 ++ []
def dkwX1_version_2 : List UInt8 := [45, 180, 0, 246, 167, 0, 39, 45, 180, 0, 249, 167, 0, 32, 45, 184, 0, 252, 167, 0, 25, 45, 42]
abbrev dktX1_version_2 : List UInt8 := dkwX1_version_2 ++ dktX1_version_3
def dkwX1_version_1 : List UInt8 := [170, 0, 0, 0, 64, 0, 0, 0, 0, 0, 0, 0, 3, 0, 0, 0, 29, 0, 0, 0, 36, 0, 0, 0, 43, 0, 0, 0, 50]
abbrev dktX1_version_1 : List UInt8 := dkwX1_version_1 ++ dktX1_version_2
def dkwX1_version_0 : List UInt8 := [42, 27, 182, 0, 240, 78, 28, 133, 9, 20, 0, 244, 184, 0, 150, 184, 0, 194, 28]
abbrev dktX1_version_0 : List UInt8 := dkwX1_version_0 ++ dktX1_version_1
theorem dksX1_version_0 : cX1_version.data.toList.drop 0 = dktX1_version_0 := by decide +kernel
theorem dksX1_version_1 : cX1_version.data.toList.drop 19 = dktX1_version_1 := dk_seg dksX1_version_0 19 rfl rfl
theorem dksX1_version_2 : cX1_version.data.toList.drop 48 = dktX1_version_2 := dk_seg dksX1_version_1 29 rfl rfl
theorem dksX1_version_3 : cX1_version.data.toList.drop 71 = dktX1_version_3 := dk_seg dksX1_version_2 23 rfl rfl
theorem dX1_version_0 : decode cX1_version 0 = .ok (.aload_n 0, 1) := dk_42 (dk_at dksX1_version_0 0 rfl rfl)
theorem dX1_version_1 : decode cX1_version 1 = .ok (.iload_n 1, 1) := dk_27 (dk_at dksX1_version_0 1 rfl rfl)
theorem dX1_version_2 : decode cX1_version 2 = .ok (.invokevirtual 240, 3) := dk_182 0 240 (dk_at dksX1_version_0 2 rfl rfl)
theorem dX1_version_5 : decode cX1_version 5 = .ok (.astore_n 3, 1) := dk_78 (dk_at dksX1_version_0 5 rfl rfl)
theorem dX1_version_6 : decode cX1_version 6 = .ok (.iload_n 2, 1) := dk_28 (dk_at dksX1_version_0 6 rfl rfl)
theorem dX1_version_7 : decode cX1_version 7 = .ok (.i2l, 1) := dk_133 (dk_at dksX1_version_0 7 rfl rfl)
theorem dX1_version_8 : decode cX1_version 8 = .ok (.lconst 0, 1) := dk_9 (dk_at dksX1_version_0 8 rfl rfl)
theorem dX1_version_9 : decode cX1_version 9 = .ok (.ldc2_w 244, 3) := dk_20 0 244 (dk_at dksX1_version_0 9 rfl rfl)
theorem dX1_version_12 : decode cX1_version 12 = .ok (.invokestatic 150, 3) := dk_184 0 150 (dk_at dksX1_version_0 12 rfl rfl)
theorem dX1_version_15 : decode cX1_version 15 = .ok (.invokestatic 194, 3) := dk_184 0 194 (dk_at dksX1_version_0 15 rfl rfl)
theorem dX1_version_18 : decode cX1_version 18 = .ok (.iload_n 2, 1) := dk_28 (dk_at dksX1_version_0 18 rfl rfl)
theorem dX1_version_19 : decode cX1_version 19 = .ok (.tableswitch 64 0 3 #[29, 36, 43, 50], 29) := by decide +kernel
theorem dX1_version_48 : decode cX1_version 48 = .ok (.aload_n 3, 1) := dk_45 (dk_at dksX1_version_2 0 rfl rfl)
theorem dX1_version_49 : decode cX1_version 49 = .ok (.getfield 246, 3) := dk_180 0 246 (dk_at dksX1_version_2 1 rfl rfl)
theorem dX1_version_52 : decode cX1_version 52 = .ok (.goto 39, 3) := dk_167 0 39 (dk_at dksX1_version_2 4 rfl rfl)
theorem dX1_version_55 : decode cX1_version 55 = .ok (.aload_n 3, 1) := dk_45 (dk_at dksX1_version_2 7 rfl rfl)
theorem dX1_version_56 : decode cX1_version 56 = .ok (.getfield 249, 3) := dk_180 0 249 (dk_at dksX1_version_2 8 rfl rfl)
theorem dX1_version_59 : decode cX1_version 59 = .ok (.goto 32, 3) := dk_167 0 32 (dk_at dksX1_version_2 11 rfl rfl)
theorem dX1_version_62 : decode cX1_version 62 = .ok (.aload_n 3, 1) := dk_45 (dk_at dksX1_version_2 14 rfl rfl)
theorem dX1_version_63 : decode cX1_version 63 = .ok (.invokestatic 252, 3) := dk_184 0 252 (dk_at dksX1_version_2 15 rfl rfl)
theorem dX1_version_66 : decode cX1_version 66 = .ok (.goto 25, 3) := dk_167 0 25 (dk_at dksX1_version_2 18 rfl rfl)
theorem dX1_version_69 : decode cX1_version 69 = .ok (.aload_n 3, 1) := dk_45 (dk_at dksX1_version_2 21 rfl rfl)
theorem dX1_version_70 : decode cX1_version 70 = .ok (.aload_n 0, 1) := dk_42 (dk_at dksX1_version_2 22 rfl rfl)
theorem dX1_version_71 : decode cX1_version 71 = .ok (.getfield 133, 3) := dk_180 0 133 (dk_at dksX1_version_3 0 rfl rfl)
theorem dX1_version_74 : decode cX1_version 74 = .ok (.getfield 197, 3) := dk_180 0 197 (dk_at dksX1_version_3 3 rfl rfl)
theorem dX1_version_77 : decode cX1_version 77 = .ok (.invokestatic 256, 3) := dk_184 1 0 (dk_at dksX1_version_3 6 rfl rfl)
theorem dX1_version_80 : decode cX1_version 80 = .ok (.goto 11, 3) := dk_167 0 11 (dk_at dksX1_version_3 9 rfl rfl)
theorem dX1_version_83 : decode cX1_version 83 = .ok (.aload_n 0, 1) := dk_42 (dk_at dksX1_version_3 12 rfl rfl)
theorem dX1_version_84 : decode cX1_version 84 = .ok (.getfield 133, 3) := dk_180 0 133 (dk_at dksX1_version_3 13 rfl rfl)
theorem dX1_version_87 : decode cX1_version 87 = .ok (.iload_n 1, 1) := dk_27 (dk_at dksX1_version_3 16 rfl rfl)
theorem dX1_version_88 : decode cX1_version 88 = .ok (.invokevirtual 261, 3) := dk_182 1 5 (dk_at dksX1_version_3 17 rfl rfl)
theorem dX1_version_91 : decode cX1_version 91 = .ok (.ireturn, 1) := dk_172 (dk_at dksX1_version_3 20 rfl rfl)
def dkwX1_versionOf_1 : List UInt8 := [180, 0, 133, 180, 0, 15, 27, 182, 0, 61, 192, 0, 228, 176]
abbrev dktX1_versionOf_1 : List UInt8 := dkwX1_versionOf_1 ++ []
def dkwX1_versionOf_0 : List UInt8 := [27, 133, 9, 42, 180, 0, 133, 180, 0, 15, 182, 0, 189, 4, 100, 133, 184, 0, 150, 184, 0, 194, 42]
abbrev dktX1_versionOf_0 : List UInt8 := dkwX1_versionOf_0 ++ dktX1_versionOf_1
theorem dksX1_versionOf_0 : cX1_versionOf.data.toList.drop 0 = dktX1_versionOf_0 := by decide +kernel
theorem dksX1_versionOf_1 : cX1_versionOf.data.toList.drop 23 = dktX1_versionOf_1 := dk_seg dksX1_versionOf_0 23 rfl rfl
theorem dX1_versionOf_0 : decode cX1_versionOf 0 = .ok (.iload_n 1, 1) := dk_27 (dk_at dksX1_versionOf_0 0 rfl rfl)
theorem dX1_versionOf_1 : decode cX1_versionOf 1 = .ok (.i2l, 1) := dk_133 (dk_at dksX1_versionOf_0 1 rfl rfl)
theorem dX1_versionOf_2 : decode cX1_versionOf 2 = .ok (.lconst 0, 1) := dk_9 (dk_at dksX1_versionOf_0 2 rfl rfl)
theorem dX1_versionOf_3 : decode cX1_versionOf 3 = .ok (.aload_n 0, 1) := dk_42 (dk_at dksX1_versionOf_0 3 rfl rfl)
theorem dX1_versionOf_4 : decode cX1_versionOf 4 = .ok (.getfield 133, 3) := dk_180 0 133 (dk_at dksX1_versionOf_0 4 rfl rfl)
theorem dX1_versionOf_7 : decode cX1_versionOf 7 = .ok (.getfield 15, 3) := dk_180 0 15 (dk_at dksX1_versionOf_0 7 rfl rfl)
theorem dX1_versionOf_10 : decode cX1_versionOf 10 = .ok (.invokevirtual 189, 3) := dk_182 0 189 (dk_at dksX1_versionOf_0 10 rfl rfl)
theorem dX1_versionOf_13 : decode cX1_versionOf 13 = .ok (.iconst 1, 1) := dk_4 (dk_at dksX1_versionOf_0 13 rfl rfl)
theorem dX1_versionOf_14 : decode cX1_versionOf 14 = .ok (.isub, 1) := dk_100 (dk_at dksX1_versionOf_0 14 rfl rfl)
theorem dX1_versionOf_15 : decode cX1_versionOf 15 = .ok (.i2l, 1) := dk_133 (dk_at dksX1_versionOf_0 15 rfl rfl)
theorem dX1_versionOf_16 : decode cX1_versionOf 16 = .ok (.invokestatic 150, 3) := dk_184 0 150 (dk_at dksX1_versionOf_0 16 rfl rfl)
theorem dX1_versionOf_19 : decode cX1_versionOf 19 = .ok (.invokestatic 194, 3) := dk_184 0 194 (dk_at dksX1_versionOf_0 19 rfl rfl)
theorem dX1_versionOf_22 : decode cX1_versionOf 22 = .ok (.aload_n 0, 1) := dk_42 (dk_at dksX1_versionOf_0 22 rfl rfl)
theorem dX1_versionOf_23 : decode cX1_versionOf 23 = .ok (.getfield 133, 3) := dk_180 0 133 (dk_at dksX1_versionOf_1 0 rfl rfl)
theorem dX1_versionOf_26 : decode cX1_versionOf 26 = .ok (.getfield 15, 3) := dk_180 0 15 (dk_at dksX1_versionOf_1 3 rfl rfl)
theorem dX1_versionOf_29 : decode cX1_versionOf 29 = .ok (.iload_n 1, 1) := dk_27 (dk_at dksX1_versionOf_1 6 rfl rfl)
theorem dX1_versionOf_30 : decode cX1_versionOf 30 = .ok (.invokevirtual 61, 3) := dk_182 0 61 (dk_at dksX1_versionOf_1 7 rfl rfl)
theorem dX1_versionOf_33 : decode cX1_versionOf 33 = .ok (.checkcast 228, 3) := dk_192 0 228 (dk_at dksX1_versionOf_1 10 rfl rfl)
theorem dX1_versionOf_36 : decode cX1_versionOf 36 = .ok (.areturn, 1) := dk_176 (dk_at dksX1_versionOf_1 13 rfl rfl)
def dkwX1_withdrawnAt_0 : List UInt8 := [42, 193, 0, 235, 153, 0, 15, 42, 192, 0, 235, 76, 43, 180, 0, 237, 167, 0, 4, 2, 172]
abbrev dktX1_withdrawnAt_0 : List UInt8 := dkwX1_withdrawnAt_0 ++ []
theorem dksX1_withdrawnAt_0 : cX1_withdrawnAt.data.toList.drop 0 = dktX1_withdrawnAt_0 := by decide +kernel
theorem dX1_withdrawnAt_0 : decode cX1_withdrawnAt 0 = .ok (.aload_n 0, 1) := dk_42 (dk_at dksX1_withdrawnAt_0 0 rfl rfl)
theorem dX1_withdrawnAt_1 : decode cX1_withdrawnAt 1 = .ok (.instanceof 235, 3) := dk_193 0 235 (dk_at dksX1_withdrawnAt_0 1 rfl rfl)
theorem dX1_withdrawnAt_4 : decode cX1_withdrawnAt 4 = .ok (.ifCond .eq 15, 3) := dk_153 0 15 (dk_at dksX1_withdrawnAt_0 4 rfl rfl)
theorem dX1_withdrawnAt_7 : decode cX1_withdrawnAt 7 = .ok (.aload_n 0, 1) := dk_42 (dk_at dksX1_withdrawnAt_0 7 rfl rfl)
theorem dX1_withdrawnAt_8 : decode cX1_withdrawnAt 8 = .ok (.checkcast 235, 3) := dk_192 0 235 (dk_at dksX1_withdrawnAt_0 8 rfl rfl)
theorem dX1_withdrawnAt_11 : decode cX1_withdrawnAt 11 = .ok (.astore_n 1, 1) := dk_76 (dk_at dksX1_withdrawnAt_0 11 rfl rfl)
theorem dX1_withdrawnAt_12 : decode cX1_withdrawnAt 12 = .ok (.aload_n 1, 1) := dk_43 (dk_at dksX1_withdrawnAt_0 12 rfl rfl)
theorem dX1_withdrawnAt_13 : decode cX1_withdrawnAt 13 = .ok (.getfield 237, 3) := dk_180 0 237 (dk_at dksX1_withdrawnAt_0 13 rfl rfl)
theorem dX1_withdrawnAt_16 : decode cX1_withdrawnAt 16 = .ok (.goto 4, 3) := dk_167 0 4 (dk_at dksX1_withdrawnAt_0 16 rfl rfl)
theorem dX1_withdrawnAt_19 : decode cX1_withdrawnAt 19 = .ok (.iconst (-1), 1) := dk_2 (dk_at dksX1_withdrawnAt_0 19 rfl rfl)
theorem dX1_withdrawnAt_20 : decode cX1_withdrawnAt 20 = .ok (.ireturn, 1) := dk_172 (dk_at dksX1_withdrawnAt_0 20 rfl rfl)
def dkwX1_record_4 : List UInt8 := [182, 0, 96, 172]
abbrev dktX1_record_4 : List UInt8 := dkwX1_record_4 ++ []
def dkwX1_record_3 : List UInt8 := [42, 180, 0, 133, 45, 182, 0, 82, 167, 0, 18, 45, 180, 0, 104, 167, 0, 11, 42, 180, 0, 133, 27]
abbrev dktX1_record_3 : List UInt8 := dkwX1_record_3 ++ dktX1_record_4
def dkwX1_record_2 : List UInt8 := [45, 180, 0, 67, 167, 0, 46, 45, 180, 0, 70, 182, 0, 73, 167, 0, 36, 45, 182, 1, 14, 167, 0, 29]
abbrev dktX1_record_2 : List UInt8 := dkwX1_record_2 ++ dktX1_record_3
def dkwX1_record_1 : List UInt8 := [170, 0, 0, 0, 75, 0, 0, 0, 0, 0, 0, 0, 4, 0, 0, 0, 33, 0, 0, 0, 40, 0, 0, 0, 50, 0, 0, 0, 57, 0, 0, 0, 68]
abbrev dktX1_record_1 : List UInt8 := dkwX1_record_1 ++ dktX1_record_2
def dkwX1_record_0 : List UInt8 := [42, 27, 182, 1, 8, 78, 28, 133, 9, 20, 1, 12, 184, 0, 150, 184, 0, 194, 28]
abbrev dktX1_record_0 : List UInt8 := dkwX1_record_0 ++ dktX1_record_1
theorem dksX1_record_0 : cX1_record.data.toList.drop 0 = dktX1_record_0 := by decide +kernel
theorem dksX1_record_1 : cX1_record.data.toList.drop 19 = dktX1_record_1 := dk_seg dksX1_record_0 19 rfl rfl
theorem dksX1_record_2 : cX1_record.data.toList.drop 52 = dktX1_record_2 := dk_seg dksX1_record_1 33 rfl rfl
theorem dksX1_record_3 : cX1_record.data.toList.drop 76 = dktX1_record_3 := dk_seg dksX1_record_2 24 rfl rfl
theorem dksX1_record_4 : cX1_record.data.toList.drop 99 = dktX1_record_4 := dk_seg dksX1_record_3 23 rfl rfl
theorem dX1_record_0 : decode cX1_record 0 = .ok (.aload_n 0, 1) := dk_42 (dk_at dksX1_record_0 0 rfl rfl)
theorem dX1_record_1 : decode cX1_record 1 = .ok (.iload_n 1, 1) := dk_27 (dk_at dksX1_record_0 1 rfl rfl)
theorem dX1_record_2 : decode cX1_record 2 = .ok (.invokevirtual 264, 3) := dk_182 1 8 (dk_at dksX1_record_0 2 rfl rfl)
theorem dX1_record_5 : decode cX1_record 5 = .ok (.astore_n 3, 1) := dk_78 (dk_at dksX1_record_0 5 rfl rfl)
theorem dX1_record_6 : decode cX1_record 6 = .ok (.iload_n 2, 1) := dk_28 (dk_at dksX1_record_0 6 rfl rfl)
theorem dX1_record_7 : decode cX1_record 7 = .ok (.i2l, 1) := dk_133 (dk_at dksX1_record_0 7 rfl rfl)
theorem dX1_record_8 : decode cX1_record 8 = .ok (.lconst 0, 1) := dk_9 (dk_at dksX1_record_0 8 rfl rfl)
theorem dX1_record_9 : decode cX1_record 9 = .ok (.ldc2_w 268, 3) := dk_20 1 12 (dk_at dksX1_record_0 9 rfl rfl)
theorem dX1_record_12 : decode cX1_record 12 = .ok (.invokestatic 150, 3) := dk_184 0 150 (dk_at dksX1_record_0 12 rfl rfl)
theorem dX1_record_15 : decode cX1_record 15 = .ok (.invokestatic 194, 3) := dk_184 0 194 (dk_at dksX1_record_0 15 rfl rfl)
theorem dX1_record_18 : decode cX1_record 18 = .ok (.iload_n 2, 1) := dk_28 (dk_at dksX1_record_0 18 rfl rfl)
theorem dX1_record_19 : decode cX1_record 19 = .ok (.tableswitch 75 0 4 #[33, 40, 50, 57, 68], 33) := by decide +kernel
theorem dX1_record_52 : decode cX1_record 52 = .ok (.aload_n 3, 1) := dk_45 (dk_at dksX1_record_2 0 rfl rfl)
theorem dX1_record_53 : decode cX1_record 53 = .ok (.getfield 67, 3) := dk_180 0 67 (dk_at dksX1_record_2 1 rfl rfl)
theorem dX1_record_56 : decode cX1_record 56 = .ok (.goto 46, 3) := dk_167 0 46 (dk_at dksX1_record_2 4 rfl rfl)
theorem dX1_record_59 : decode cX1_record 59 = .ok (.aload_n 3, 1) := dk_45 (dk_at dksX1_record_2 7 rfl rfl)
theorem dX1_record_60 : decode cX1_record 60 = .ok (.getfield 70, 3) := dk_180 0 70 (dk_at dksX1_record_2 8 rfl rfl)
theorem dX1_record_63 : decode cX1_record 63 = .ok (.invokevirtual 73, 3) := dk_182 0 73 (dk_at dksX1_record_2 11 rfl rfl)
theorem dX1_record_66 : decode cX1_record 66 = .ok (.goto 36, 3) := dk_167 0 36 (dk_at dksX1_record_2 14 rfl rfl)
theorem dX1_record_69 : decode cX1_record 69 = .ok (.aload_n 3, 1) := dk_45 (dk_at dksX1_record_2 17 rfl rfl)
theorem dX1_record_70 : decode cX1_record 70 = .ok (.invokevirtual 270, 3) := dk_182 1 14 (dk_at dksX1_record_2 18 rfl rfl)
theorem dX1_record_73 : decode cX1_record 73 = .ok (.goto 29, 3) := dk_167 0 29 (dk_at dksX1_record_2 21 rfl rfl)
theorem dX1_record_76 : decode cX1_record 76 = .ok (.aload_n 0, 1) := dk_42 (dk_at dksX1_record_3 0 rfl rfl)
theorem dX1_record_77 : decode cX1_record 77 = .ok (.getfield 133, 3) := dk_180 0 133 (dk_at dksX1_record_3 1 rfl rfl)
theorem dX1_record_80 : decode cX1_record 80 = .ok (.aload_n 3, 1) := dk_45 (dk_at dksX1_record_3 4 rfl rfl)
theorem dX1_record_81 : decode cX1_record 81 = .ok (.invokevirtual 82, 3) := dk_182 0 82 (dk_at dksX1_record_3 5 rfl rfl)
theorem dX1_record_84 : decode cX1_record 84 = .ok (.goto 18, 3) := dk_167 0 18 (dk_at dksX1_record_3 8 rfl rfl)
theorem dX1_record_87 : decode cX1_record 87 = .ok (.aload_n 3, 1) := dk_45 (dk_at dksX1_record_3 11 rfl rfl)
theorem dX1_record_88 : decode cX1_record 88 = .ok (.getfield 104, 3) := dk_180 0 104 (dk_at dksX1_record_3 12 rfl rfl)
theorem dX1_record_91 : decode cX1_record 91 = .ok (.goto 11, 3) := dk_167 0 11 (dk_at dksX1_record_3 15 rfl rfl)
theorem dX1_record_94 : decode cX1_record 94 = .ok (.aload_n 0, 1) := dk_42 (dk_at dksX1_record_3 18 rfl rfl)
theorem dX1_record_95 : decode cX1_record 95 = .ok (.getfield 133, 3) := dk_180 0 133 (dk_at dksX1_record_3 19 rfl rfl)
theorem dX1_record_98 : decode cX1_record 98 = .ok (.iload_n 1, 1) := dk_27 (dk_at dksX1_record_3 22 rfl rfl)
theorem dX1_record_99 : decode cX1_record 99 = .ok (.invokevirtual 96, 3) := dk_182 0 96 (dk_at dksX1_record_4 0 rfl rfl)
theorem dX1_record_102 : decode cX1_record 102 = .ok (.ireturn, 1) := dk_172 (dk_at dksX1_record_4 3 rfl rfl)
def dkwX1_recordOf_1 : List UInt8 := [192, 0, 65, 176]
abbrev dktX1_recordOf_1 : List UInt8 := dkwX1_recordOf_1 ++ []
def dkwX1_recordOf_0 : List UInt8 := [42, 180, 0, 133, 27, 182, 0, 230, 184, 0, 194, 42, 180, 0, 133, 180, 0, 58, 27, 182, 0, 61]
abbrev dktX1_recordOf_0 : List UInt8 := dkwX1_recordOf_0 ++ dktX1_recordOf_1
theorem dksX1_recordOf_0 : cX1_recordOf.data.toList.drop 0 = dktX1_recordOf_0 := by decide +kernel
theorem dksX1_recordOf_1 : cX1_recordOf.data.toList.drop 22 = dktX1_recordOf_1 := dk_seg dksX1_recordOf_0 22 rfl rfl
theorem dX1_recordOf_0 : decode cX1_recordOf 0 = .ok (.aload_n 0, 1) := dk_42 (dk_at dksX1_recordOf_0 0 rfl rfl)
theorem dX1_recordOf_1 : decode cX1_recordOf 1 = .ok (.getfield 133, 3) := dk_180 0 133 (dk_at dksX1_recordOf_0 1 rfl rfl)
theorem dX1_recordOf_4 : decode cX1_recordOf 4 = .ok (.iload_n 1, 1) := dk_27 (dk_at dksX1_recordOf_0 4 rfl rfl)
theorem dX1_recordOf_5 : decode cX1_recordOf 5 = .ok (.invokevirtual 230, 3) := dk_182 0 230 (dk_at dksX1_recordOf_0 5 rfl rfl)
theorem dX1_recordOf_8 : decode cX1_recordOf 8 = .ok (.invokestatic 194, 3) := dk_184 0 194 (dk_at dksX1_recordOf_0 8 rfl rfl)
theorem dX1_recordOf_11 : decode cX1_recordOf 11 = .ok (.aload_n 0, 1) := dk_42 (dk_at dksX1_recordOf_0 11 rfl rfl)
theorem dX1_recordOf_12 : decode cX1_recordOf 12 = .ok (.getfield 133, 3) := dk_180 0 133 (dk_at dksX1_recordOf_0 12 rfl rfl)
theorem dX1_recordOf_15 : decode cX1_recordOf 15 = .ok (.getfield 58, 3) := dk_180 0 58 (dk_at dksX1_recordOf_0 15 rfl rfl)
theorem dX1_recordOf_18 : decode cX1_recordOf 18 = .ok (.iload_n 1, 1) := dk_27 (dk_at dksX1_recordOf_0 18 rfl rfl)
theorem dX1_recordOf_19 : decode cX1_recordOf 19 = .ok (.invokevirtual 61, 3) := dk_182 0 61 (dk_at dksX1_recordOf_0 19 rfl rfl)
theorem dX1_recordOf_22 : decode cX1_recordOf 22 = .ok (.checkcast 65, 3) := dk_192 0 65 (dk_at dksX1_recordOf_1 0 rfl rfl)
theorem dX1_recordOf_25 : decode cX1_recordOf 25 = .ok (.areturn, 1) := dk_176 (dk_at dksX1_recordOf_1 3 rfl rfl)
def dkwX1_client_4 : List UInt8 := [167, 0, 22, 45, 180, 1, 41, 167, 0, 15, 45, 2, 42, 180, 0, 133, 180, 0, 197, 182, 1, 44, 172]
abbrev dktX1_client_4 : List UInt8 := dkwX1_client_4 ++ []
def dkwX1_client_3 : List UInt8 := [180, 1, 32, 167, 0, 43, 45, 180, 1, 35, 184, 0, 99, 167, 0, 33, 42, 180, 0, 133, 27, 182, 1, 38]
abbrev dktX1_client_3 : List UInt8 := dkwX1_client_3 ++ dktX1_client_4
def dkwX1_client_2 : List UInt8 := [45, 180, 1, 23, 167, 0, 64, 45, 180, 1, 26, 167, 0, 57, 45, 180, 1, 29, 167, 0, 50, 45]
abbrev dktX1_client_2 : List UInt8 := dkwX1_client_2 ++ dktX1_client_3
def dkwX1_client_1 : List UInt8 := [170, 0, 0, 0, 97, 0, 0, 0, 0, 0, 0, 0, 6, 0, 0, 0, 41, 0, 0, 0, 48, 0, 0, 0, 55, 0, 0, 0, 62, 0, 0, 0, 69, 0, 0, 0, 79, 0, 0, 0, 90]
abbrev dktX1_client_1 : List UInt8 := dkwX1_client_1 ++ dktX1_client_2
def dkwX1_client_0 : List UInt8 := [42, 27, 182, 1, 17, 78, 28, 133, 9, 20, 1, 21, 184, 0, 150, 184, 0, 194, 28]
abbrev dktX1_client_0 : List UInt8 := dkwX1_client_0 ++ dktX1_client_1
theorem dksX1_client_0 : cX1_client.data.toList.drop 0 = dktX1_client_0 := by decide +kernel
theorem dksX1_client_1 : cX1_client.data.toList.drop 19 = dktX1_client_1 := dk_seg dksX1_client_0 19 rfl rfl
theorem dksX1_client_2 : cX1_client.data.toList.drop 60 = dktX1_client_2 := dk_seg dksX1_client_1 41 rfl rfl
theorem dksX1_client_3 : cX1_client.data.toList.drop 82 = dktX1_client_3 := dk_seg dksX1_client_2 22 rfl rfl
theorem dksX1_client_4 : cX1_client.data.toList.drop 106 = dktX1_client_4 := dk_seg dksX1_client_3 24 rfl rfl
theorem dX1_client_0 : decode cX1_client 0 = .ok (.aload_n 0, 1) := dk_42 (dk_at dksX1_client_0 0 rfl rfl)
theorem dX1_client_1 : decode cX1_client 1 = .ok (.iload_n 1, 1) := dk_27 (dk_at dksX1_client_0 1 rfl rfl)
theorem dX1_client_2 : decode cX1_client 2 = .ok (.invokevirtual 273, 3) := dk_182 1 17 (dk_at dksX1_client_0 2 rfl rfl)
theorem dX1_client_5 : decode cX1_client 5 = .ok (.astore_n 3, 1) := dk_78 (dk_at dksX1_client_0 5 rfl rfl)
theorem dX1_client_6 : decode cX1_client 6 = .ok (.iload_n 2, 1) := dk_28 (dk_at dksX1_client_0 6 rfl rfl)
theorem dX1_client_7 : decode cX1_client 7 = .ok (.i2l, 1) := dk_133 (dk_at dksX1_client_0 7 rfl rfl)
theorem dX1_client_8 : decode cX1_client 8 = .ok (.lconst 0, 1) := dk_9 (dk_at dksX1_client_0 8 rfl rfl)
theorem dX1_client_9 : decode cX1_client 9 = .ok (.ldc2_w 277, 3) := dk_20 1 21 (dk_at dksX1_client_0 9 rfl rfl)
theorem dX1_client_12 : decode cX1_client 12 = .ok (.invokestatic 150, 3) := dk_184 0 150 (dk_at dksX1_client_0 12 rfl rfl)
theorem dX1_client_15 : decode cX1_client 15 = .ok (.invokestatic 194, 3) := dk_184 0 194 (dk_at dksX1_client_0 15 rfl rfl)
theorem dX1_client_18 : decode cX1_client 18 = .ok (.iload_n 2, 1) := dk_28 (dk_at dksX1_client_0 18 rfl rfl)
theorem dX1_client_19 : decode cX1_client 19 = .ok (.tableswitch 97 0 6 #[41, 48, 55, 62, 69, 79, 90], 41) := by decide +kernel
theorem dX1_client_60 : decode cX1_client 60 = .ok (.aload_n 3, 1) := dk_45 (dk_at dksX1_client_2 0 rfl rfl)
theorem dX1_client_61 : decode cX1_client 61 = .ok (.getfield 279, 3) := dk_180 1 23 (dk_at dksX1_client_2 1 rfl rfl)
theorem dX1_client_64 : decode cX1_client 64 = .ok (.goto 64, 3) := dk_167 0 64 (dk_at dksX1_client_2 4 rfl rfl)
theorem dX1_client_67 : decode cX1_client 67 = .ok (.aload_n 3, 1) := dk_45 (dk_at dksX1_client_2 7 rfl rfl)
theorem dX1_client_68 : decode cX1_client 68 = .ok (.getfield 282, 3) := dk_180 1 26 (dk_at dksX1_client_2 8 rfl rfl)
theorem dX1_client_71 : decode cX1_client 71 = .ok (.goto 57, 3) := dk_167 0 57 (dk_at dksX1_client_2 11 rfl rfl)
theorem dX1_client_74 : decode cX1_client 74 = .ok (.aload_n 3, 1) := dk_45 (dk_at dksX1_client_2 14 rfl rfl)
theorem dX1_client_75 : decode cX1_client 75 = .ok (.getfield 285, 3) := dk_180 1 29 (dk_at dksX1_client_2 15 rfl rfl)
theorem dX1_client_78 : decode cX1_client 78 = .ok (.goto 50, 3) := dk_167 0 50 (dk_at dksX1_client_2 18 rfl rfl)
theorem dX1_client_81 : decode cX1_client 81 = .ok (.aload_n 3, 1) := dk_45 (dk_at dksX1_client_2 21 rfl rfl)
theorem dX1_client_82 : decode cX1_client 82 = .ok (.getfield 288, 3) := dk_180 1 32 (dk_at dksX1_client_3 0 rfl rfl)
theorem dX1_client_85 : decode cX1_client 85 = .ok (.goto 43, 3) := dk_167 0 43 (dk_at dksX1_client_3 3 rfl rfl)
theorem dX1_client_88 : decode cX1_client 88 = .ok (.aload_n 3, 1) := dk_45 (dk_at dksX1_client_3 6 rfl rfl)
theorem dX1_client_89 : decode cX1_client 89 = .ok (.getfield 291, 3) := dk_180 1 35 (dk_at dksX1_client_3 7 rfl rfl)
theorem dX1_client_92 : decode cX1_client 92 = .ok (.invokestatic 99, 3) := dk_184 0 99 (dk_at dksX1_client_3 10 rfl rfl)
theorem dX1_client_95 : decode cX1_client 95 = .ok (.goto 33, 3) := dk_167 0 33 (dk_at dksX1_client_3 13 rfl rfl)
theorem dX1_client_98 : decode cX1_client 98 = .ok (.aload_n 0, 1) := dk_42 (dk_at dksX1_client_3 16 rfl rfl)
theorem dX1_client_99 : decode cX1_client 99 = .ok (.getfield 133, 3) := dk_180 0 133 (dk_at dksX1_client_3 17 rfl rfl)
theorem dX1_client_102 : decode cX1_client 102 = .ok (.iload_n 1, 1) := dk_27 (dk_at dksX1_client_3 20 rfl rfl)
theorem dX1_client_103 : decode cX1_client 103 = .ok (.invokevirtual 294, 3) := dk_182 1 38 (dk_at dksX1_client_3 21 rfl rfl)
theorem dX1_client_106 : decode cX1_client 106 = .ok (.goto 22, 3) := dk_167 0 22 (dk_at dksX1_client_4 0 rfl rfl)
theorem dX1_client_109 : decode cX1_client 109 = .ok (.aload_n 3, 1) := dk_45 (dk_at dksX1_client_4 3 rfl rfl)
theorem dX1_client_110 : decode cX1_client 110 = .ok (.getfield 297, 3) := dk_180 1 41 (dk_at dksX1_client_4 4 rfl rfl)
theorem dX1_client_113 : decode cX1_client 113 = .ok (.goto 15, 3) := dk_167 0 15 (dk_at dksX1_client_4 7 rfl rfl)
theorem dX1_client_116 : decode cX1_client 116 = .ok (.aload_n 3, 1) := dk_45 (dk_at dksX1_client_4 10 rfl rfl)
theorem dX1_client_117 : decode cX1_client 117 = .ok (.iconst (-1), 1) := dk_2 (dk_at dksX1_client_4 11 rfl rfl)
theorem dX1_client_118 : decode cX1_client 118 = .ok (.aload_n 0, 1) := dk_42 (dk_at dksX1_client_4 12 rfl rfl)
theorem dX1_client_119 : decode cX1_client 119 = .ok (.getfield 133, 3) := dk_180 0 133 (dk_at dksX1_client_4 13 rfl rfl)
theorem dX1_client_122 : decode cX1_client 122 = .ok (.getfield 197, 3) := dk_180 0 197 (dk_at dksX1_client_4 16 rfl rfl)
theorem dX1_client_125 : decode cX1_client 125 = .ok (.invokevirtual 300, 3) := dk_182 1 44 (dk_at dksX1_client_4 19 rfl rfl)
theorem dX1_client_128 : decode cX1_client 128 = .ok (.ireturn, 1) := dk_172 (dk_at dksX1_client_4 22 rfl rfl)
def dkwX1_clientOf_1 : List UInt8 := [180, 0, 133, 180, 0, 203, 27, 182, 0, 61, 192, 0, 233, 176]
abbrev dktX1_clientOf_1 : List UInt8 := dkwX1_clientOf_1 ++ []
def dkwX1_clientOf_0 : List UInt8 := [27, 133, 9, 42, 180, 0, 133, 180, 0, 203, 182, 0, 189, 4, 100, 133, 184, 0, 150, 184, 0, 194, 42]
abbrev dktX1_clientOf_0 : List UInt8 := dkwX1_clientOf_0 ++ dktX1_clientOf_1
theorem dksX1_clientOf_0 : cX1_clientOf.data.toList.drop 0 = dktX1_clientOf_0 := by decide +kernel
theorem dksX1_clientOf_1 : cX1_clientOf.data.toList.drop 23 = dktX1_clientOf_1 := dk_seg dksX1_clientOf_0 23 rfl rfl
theorem dX1_clientOf_0 : decode cX1_clientOf 0 = .ok (.iload_n 1, 1) := dk_27 (dk_at dksX1_clientOf_0 0 rfl rfl)
theorem dX1_clientOf_1 : decode cX1_clientOf 1 = .ok (.i2l, 1) := dk_133 (dk_at dksX1_clientOf_0 1 rfl rfl)
theorem dX1_clientOf_2 : decode cX1_clientOf 2 = .ok (.lconst 0, 1) := dk_9 (dk_at dksX1_clientOf_0 2 rfl rfl)
theorem dX1_clientOf_3 : decode cX1_clientOf 3 = .ok (.aload_n 0, 1) := dk_42 (dk_at dksX1_clientOf_0 3 rfl rfl)
theorem dX1_clientOf_4 : decode cX1_clientOf 4 = .ok (.getfield 133, 3) := dk_180 0 133 (dk_at dksX1_clientOf_0 4 rfl rfl)
theorem dX1_clientOf_7 : decode cX1_clientOf 7 = .ok (.getfield 203, 3) := dk_180 0 203 (dk_at dksX1_clientOf_0 7 rfl rfl)
theorem dX1_clientOf_10 : decode cX1_clientOf 10 = .ok (.invokevirtual 189, 3) := dk_182 0 189 (dk_at dksX1_clientOf_0 10 rfl rfl)
theorem dX1_clientOf_13 : decode cX1_clientOf 13 = .ok (.iconst 1, 1) := dk_4 (dk_at dksX1_clientOf_0 13 rfl rfl)
theorem dX1_clientOf_14 : decode cX1_clientOf 14 = .ok (.isub, 1) := dk_100 (dk_at dksX1_clientOf_0 14 rfl rfl)
theorem dX1_clientOf_15 : decode cX1_clientOf 15 = .ok (.i2l, 1) := dk_133 (dk_at dksX1_clientOf_0 15 rfl rfl)
theorem dX1_clientOf_16 : decode cX1_clientOf 16 = .ok (.invokestatic 150, 3) := dk_184 0 150 (dk_at dksX1_clientOf_0 16 rfl rfl)
theorem dX1_clientOf_19 : decode cX1_clientOf 19 = .ok (.invokestatic 194, 3) := dk_184 0 194 (dk_at dksX1_clientOf_0 19 rfl rfl)
theorem dX1_clientOf_22 : decode cX1_clientOf 22 = .ok (.aload_n 0, 1) := dk_42 (dk_at dksX1_clientOf_0 22 rfl rfl)
theorem dX1_clientOf_23 : decode cX1_clientOf 23 = .ok (.getfield 133, 3) := dk_180 0 133 (dk_at dksX1_clientOf_1 0 rfl rfl)
theorem dX1_clientOf_26 : decode cX1_clientOf 26 = .ok (.getfield 203, 3) := dk_180 0 203 (dk_at dksX1_clientOf_1 3 rfl rfl)
theorem dX1_clientOf_29 : decode cX1_clientOf 29 = .ok (.iload_n 1, 1) := dk_27 (dk_at dksX1_clientOf_1 6 rfl rfl)
theorem dX1_clientOf_30 : decode cX1_clientOf 30 = .ok (.invokevirtual 61, 3) := dk_182 0 61 (dk_at dksX1_clientOf_1 7 rfl rfl)
theorem dX1_clientOf_33 : decode cX1_clientOf 33 = .ok (.checkcast 233, 3) := dk_192 0 233 (dk_at dksX1_clientOf_1 10 rfl rfl)
theorem dX1_clientOf_36 : decode cX1_clientOf 36 = .ok (.areturn, 1) := dk_176 (dk_at dksX1_clientOf_1 13 rfl rfl)
def dkwX1_canUse_1 : List UInt8 := [182, 1, 47, 172]
abbrev dktX1_canUse_1 : List UInt8 := dkwX1_canUse_1 ++ []
def dkwX1_canUse_0 : List UInt8 := [42, 27, 182, 1, 17, 78, 42, 28, 182, 0, 240, 58, 4, 45, 28, 42, 180, 0, 133, 180, 0, 197]
abbrev dktX1_canUse_0 : List UInt8 := dkwX1_canUse_0 ++ dktX1_canUse_1
theorem dksX1_canUse_0 : cX1_canUse.data.toList.drop 0 = dktX1_canUse_0 := by decide +kernel
theorem dksX1_canUse_1 : cX1_canUse.data.toList.drop 22 = dktX1_canUse_1 := dk_seg dksX1_canUse_0 22 rfl rfl
theorem dX1_canUse_0 : decode cX1_canUse 0 = .ok (.aload_n 0, 1) := dk_42 (dk_at dksX1_canUse_0 0 rfl rfl)
theorem dX1_canUse_1 : decode cX1_canUse 1 = .ok (.iload_n 1, 1) := dk_27 (dk_at dksX1_canUse_0 1 rfl rfl)
theorem dX1_canUse_2 : decode cX1_canUse 2 = .ok (.invokevirtual 273, 3) := dk_182 1 17 (dk_at dksX1_canUse_0 2 rfl rfl)
theorem dX1_canUse_5 : decode cX1_canUse 5 = .ok (.astore_n 3, 1) := dk_78 (dk_at dksX1_canUse_0 5 rfl rfl)
theorem dX1_canUse_6 : decode cX1_canUse 6 = .ok (.aload_n 0, 1) := dk_42 (dk_at dksX1_canUse_0 6 rfl rfl)
theorem dX1_canUse_7 : decode cX1_canUse 7 = .ok (.iload_n 2, 1) := dk_28 (dk_at dksX1_canUse_0 7 rfl rfl)
theorem dX1_canUse_8 : decode cX1_canUse 8 = .ok (.invokevirtual 240, 3) := dk_182 0 240 (dk_at dksX1_canUse_0 8 rfl rfl)
theorem dX1_canUse_11 : decode cX1_canUse 11 = .ok (.astore 4, 2) := dk_58 4 (dk_at dksX1_canUse_0 11 rfl rfl)
theorem dX1_canUse_13 : decode cX1_canUse 13 = .ok (.aload_n 3, 1) := dk_45 (dk_at dksX1_canUse_0 13 rfl rfl)
theorem dX1_canUse_14 : decode cX1_canUse 14 = .ok (.iload_n 2, 1) := dk_28 (dk_at dksX1_canUse_0 14 rfl rfl)
theorem dX1_canUse_15 : decode cX1_canUse 15 = .ok (.aload_n 0, 1) := dk_42 (dk_at dksX1_canUse_0 15 rfl rfl)
theorem dX1_canUse_16 : decode cX1_canUse 16 = .ok (.getfield 133, 3) := dk_180 0 133 (dk_at dksX1_canUse_0 16 rfl rfl)
theorem dX1_canUse_19 : decode cX1_canUse 19 = .ok (.getfield 197, 3) := dk_180 0 197 (dk_at dksX1_canUse_0 19 rfl rfl)
theorem dX1_canUse_22 : decode cX1_canUse 22 = .ok (.invokevirtual 303, 3) := dk_182 1 47 (dk_at dksX1_canUse_1 0 rfl rfl)
theorem dX1_canUse_25 : decode cX1_canUse 25 = .ok (.ireturn, 1) := dk_172 (dk_at dksX1_canUse_1 3 rfl rfl)
def dkwX1_readsBy_0 : List UInt8 := [42, 27, 182, 1, 17, 78, 42, 28, 182, 1, 8, 58, 4, 42, 180, 0, 133, 27, 28, 182, 1, 51, 172]
abbrev dktX1_readsBy_0 : List UInt8 := dkwX1_readsBy_0 ++ []
theorem dksX1_readsBy_0 : cX1_readsBy.data.toList.drop 0 = dktX1_readsBy_0 := by decide +kernel
theorem dX1_readsBy_0 : decode cX1_readsBy 0 = .ok (.aload_n 0, 1) := dk_42 (dk_at dksX1_readsBy_0 0 rfl rfl)
theorem dX1_readsBy_1 : decode cX1_readsBy 1 = .ok (.iload_n 1, 1) := dk_27 (dk_at dksX1_readsBy_0 1 rfl rfl)
theorem dX1_readsBy_2 : decode cX1_readsBy 2 = .ok (.invokevirtual 273, 3) := dk_182 1 17 (dk_at dksX1_readsBy_0 2 rfl rfl)
theorem dX1_readsBy_5 : decode cX1_readsBy 5 = .ok (.astore_n 3, 1) := dk_78 (dk_at dksX1_readsBy_0 5 rfl rfl)
theorem dX1_readsBy_6 : decode cX1_readsBy 6 = .ok (.aload_n 0, 1) := dk_42 (dk_at dksX1_readsBy_0 6 rfl rfl)
theorem dX1_readsBy_7 : decode cX1_readsBy 7 = .ok (.iload_n 2, 1) := dk_28 (dk_at dksX1_readsBy_0 7 rfl rfl)
theorem dX1_readsBy_8 : decode cX1_readsBy 8 = .ok (.invokevirtual 264, 3) := dk_182 1 8 (dk_at dksX1_readsBy_0 8 rfl rfl)
theorem dX1_readsBy_11 : decode cX1_readsBy 11 = .ok (.astore 4, 2) := dk_58 4 (dk_at dksX1_readsBy_0 11 rfl rfl)
theorem dX1_readsBy_13 : decode cX1_readsBy 13 = .ok (.aload_n 0, 1) := dk_42 (dk_at dksX1_readsBy_0 13 rfl rfl)
theorem dX1_readsBy_14 : decode cX1_readsBy 14 = .ok (.getfield 133, 3) := dk_180 0 133 (dk_at dksX1_readsBy_0 14 rfl rfl)
theorem dX1_readsBy_17 : decode cX1_readsBy 17 = .ok (.iload_n 1, 1) := dk_27 (dk_at dksX1_readsBy_0 17 rfl rfl)
theorem dX1_readsBy_18 : decode cX1_readsBy 18 = .ok (.iload_n 2, 1) := dk_28 (dk_at dksX1_readsBy_0 18 rfl rfl)
theorem dX1_readsBy_19 : decode cX1_readsBy 19 = .ok (.invokevirtual 307, 3) := dk_182 1 51 (dk_at dksX1_readsBy_0 19 rfl rfl)
theorem dX1_readsBy_22 : decode cX1_readsBy 22 = .ok (.ireturn, 1) := dk_172 (dk_at dksX1_readsBy_0 22 rfl rfl)
def dkwX1_couldRead_1 : List UInt8 := [180, 0, 133, 27, 28, 182, 1, 54, 172]
abbrev dktX1_couldRead_1 : List UInt8 := dkwX1_couldRead_1 ++ []
def dkwX1_couldRead_0 : List UInt8 := [27, 133, 9, 42, 180, 0, 133, 180, 0, 58, 182, 0, 189, 4, 100, 133, 184, 0, 150, 184, 0, 194, 42]
abbrev dktX1_couldRead_0 : List UInt8 := dkwX1_couldRead_0 ++ dktX1_couldRead_1
theorem dksX1_couldRead_0 : cX1_couldRead.data.toList.drop 0 = dktX1_couldRead_0 := by decide +kernel
theorem dksX1_couldRead_1 : cX1_couldRead.data.toList.drop 23 = dktX1_couldRead_1 := dk_seg dksX1_couldRead_0 23 rfl rfl
theorem dX1_couldRead_0 : decode cX1_couldRead 0 = .ok (.iload_n 1, 1) := dk_27 (dk_at dksX1_couldRead_0 0 rfl rfl)
theorem dX1_couldRead_1 : decode cX1_couldRead 1 = .ok (.i2l, 1) := dk_133 (dk_at dksX1_couldRead_0 1 rfl rfl)
theorem dX1_couldRead_2 : decode cX1_couldRead 2 = .ok (.lconst 0, 1) := dk_9 (dk_at dksX1_couldRead_0 2 rfl rfl)
theorem dX1_couldRead_3 : decode cX1_couldRead 3 = .ok (.aload_n 0, 1) := dk_42 (dk_at dksX1_couldRead_0 3 rfl rfl)
theorem dX1_couldRead_4 : decode cX1_couldRead 4 = .ok (.getfield 133, 3) := dk_180 0 133 (dk_at dksX1_couldRead_0 4 rfl rfl)
theorem dX1_couldRead_7 : decode cX1_couldRead 7 = .ok (.getfield 58, 3) := dk_180 0 58 (dk_at dksX1_couldRead_0 7 rfl rfl)
theorem dX1_couldRead_10 : decode cX1_couldRead 10 = .ok (.invokevirtual 189, 3) := dk_182 0 189 (dk_at dksX1_couldRead_0 10 rfl rfl)
theorem dX1_couldRead_13 : decode cX1_couldRead 13 = .ok (.iconst 1, 1) := dk_4 (dk_at dksX1_couldRead_0 13 rfl rfl)
theorem dX1_couldRead_14 : decode cX1_couldRead 14 = .ok (.isub, 1) := dk_100 (dk_at dksX1_couldRead_0 14 rfl rfl)
theorem dX1_couldRead_15 : decode cX1_couldRead 15 = .ok (.i2l, 1) := dk_133 (dk_at dksX1_couldRead_0 15 rfl rfl)
theorem dX1_couldRead_16 : decode cX1_couldRead 16 = .ok (.invokestatic 150, 3) := dk_184 0 150 (dk_at dksX1_couldRead_0 16 rfl rfl)
theorem dX1_couldRead_19 : decode cX1_couldRead 19 = .ok (.invokestatic 194, 3) := dk_184 0 194 (dk_at dksX1_couldRead_0 19 rfl rfl)
theorem dX1_couldRead_22 : decode cX1_couldRead 22 = .ok (.aload_n 0, 1) := dk_42 (dk_at dksX1_couldRead_0 22 rfl rfl)
theorem dX1_couldRead_23 : decode cX1_couldRead 23 = .ok (.getfield 133, 3) := dk_180 0 133 (dk_at dksX1_couldRead_1 0 rfl rfl)
theorem dX1_couldRead_26 : decode cX1_couldRead 26 = .ok (.iload_n 1, 1) := dk_27 (dk_at dksX1_couldRead_1 3 rfl rfl)
theorem dX1_couldRead_27 : decode cX1_couldRead 27 = .ok (.iload_n 2, 1) := dk_28 (dk_at dksX1_couldRead_1 4 rfl rfl)
theorem dX1_couldRead_28 : decode cX1_couldRead 28 = .ok (.invokevirtual 310, 3) := dk_182 1 54 (dk_at dksX1_couldRead_1 5 rfl rfl)
theorem dX1_couldRead_31 : decode cX1_couldRead 31 = .ok (.ireturn, 1) := dk_172 (dk_at dksX1_couldRead_1 8 rfl rfl)
def dkwX1_nextAsk_1 : List UInt8 := [29, 182, 1, 63, 153, 0, 5, 29, 172, 132, 3, 1, 167, 255, 236, 2, 172]
abbrev dktX1_nextAsk_1 : List UInt8 := dkwX1_nextAsk_1 ++ []
def dkwX1_nextAsk_0 : List UInt8 := [42, 27, 182, 1, 17, 77, 42, 180, 0, 133, 180, 0, 197, 4, 96, 62, 29, 17, 39, 15, 163, 0, 19, 44]
abbrev dktX1_nextAsk_0 : List UInt8 := dkwX1_nextAsk_0 ++ dktX1_nextAsk_1
theorem dksX1_nextAsk_0 : cX1_nextAsk.data.toList.drop 0 = dktX1_nextAsk_0 := by decide +kernel
theorem dksX1_nextAsk_1 : cX1_nextAsk.data.toList.drop 24 = dktX1_nextAsk_1 := dk_seg dksX1_nextAsk_0 24 rfl rfl
theorem dX1_nextAsk_0 : decode cX1_nextAsk 0 = .ok (.aload_n 0, 1) := dk_42 (dk_at dksX1_nextAsk_0 0 rfl rfl)
theorem dX1_nextAsk_1 : decode cX1_nextAsk 1 = .ok (.iload_n 1, 1) := dk_27 (dk_at dksX1_nextAsk_0 1 rfl rfl)
theorem dX1_nextAsk_2 : decode cX1_nextAsk 2 = .ok (.invokevirtual 273, 3) := dk_182 1 17 (dk_at dksX1_nextAsk_0 2 rfl rfl)
theorem dX1_nextAsk_5 : decode cX1_nextAsk 5 = .ok (.astore_n 2, 1) := dk_77 (dk_at dksX1_nextAsk_0 5 rfl rfl)
theorem dX1_nextAsk_6 : decode cX1_nextAsk 6 = .ok (.aload_n 0, 1) := dk_42 (dk_at dksX1_nextAsk_0 6 rfl rfl)
theorem dX1_nextAsk_7 : decode cX1_nextAsk 7 = .ok (.getfield 133, 3) := dk_180 0 133 (dk_at dksX1_nextAsk_0 7 rfl rfl)
theorem dX1_nextAsk_10 : decode cX1_nextAsk 10 = .ok (.getfield 197, 3) := dk_180 0 197 (dk_at dksX1_nextAsk_0 10 rfl rfl)
theorem dX1_nextAsk_13 : decode cX1_nextAsk 13 = .ok (.iconst 1, 1) := dk_4 (dk_at dksX1_nextAsk_0 13 rfl rfl)
theorem dX1_nextAsk_14 : decode cX1_nextAsk 14 = .ok (.iadd, 1) := dk_96 (dk_at dksX1_nextAsk_0 14 rfl rfl)
theorem dX1_nextAsk_15 : decode cX1_nextAsk 15 = .ok (.istore_n 3, 1) := dk_62 (dk_at dksX1_nextAsk_0 15 rfl rfl)
theorem dX1_nextAsk_16 : decode cX1_nextAsk 16 = .ok (.iload_n 3, 1) := dk_29 (dk_at dksX1_nextAsk_0 16 rfl rfl)
theorem dX1_nextAsk_17 : decode cX1_nextAsk 17 = .ok (.sipush 9999, 3) := dk_17 39 15 (dk_at dksX1_nextAsk_0 17 rfl rfl)
theorem dX1_nextAsk_20 : decode cX1_nextAsk 20 = .ok (.if_icmp .gt 19, 3) := dk_163 0 19 (dk_at dksX1_nextAsk_0 20 rfl rfl)
theorem dX1_nextAsk_23 : decode cX1_nextAsk 23 = .ok (.aload_n 2, 1) := dk_44 (dk_at dksX1_nextAsk_0 23 rfl rfl)
theorem dX1_nextAsk_24 : decode cX1_nextAsk 24 = .ok (.iload_n 3, 1) := dk_29 (dk_at dksX1_nextAsk_1 0 rfl rfl)
theorem dX1_nextAsk_25 : decode cX1_nextAsk 25 = .ok (.invokevirtual 319, 3) := dk_182 1 63 (dk_at dksX1_nextAsk_1 1 rfl rfl)
theorem dX1_nextAsk_28 : decode cX1_nextAsk 28 = .ok (.ifCond .eq 5, 3) := dk_153 0 5 (dk_at dksX1_nextAsk_1 4 rfl rfl)
theorem dX1_nextAsk_31 : decode cX1_nextAsk 31 = .ok (.iload_n 3, 1) := dk_29 (dk_at dksX1_nextAsk_1 7 rfl rfl)
theorem dX1_nextAsk_32 : decode cX1_nextAsk 32 = .ok (.ireturn, 1) := dk_172 (dk_at dksX1_nextAsk_1 8 rfl rfl)
theorem dX1_nextAsk_33 : decode cX1_nextAsk 33 = .ok (.iinc 3 1, 3) := dk_132 3 1 (dk_at dksX1_nextAsk_1 9 rfl rfl)
theorem dX1_nextAsk_36 : decode cX1_nextAsk 36 = .ok (.goto (-20), 3) := dk_167 255 236 (dk_at dksX1_nextAsk_1 12 rfl rfl)
theorem dX1_nextAsk_39 : decode cX1_nextAsk 39 = .ok (.iconst (-1), 1) := dk_2 (dk_at dksX1_nextAsk_1 15 rfl rfl)
theorem dX1_nextAsk_40 : decode cX1_nextAsk 40 = .ok (.ireturn, 1) := dk_172 (dk_at dksX1_nextAsk_1 16 rfl rfl)
def dkwX1_readersBehind_1 : List UInt8 := [182, 0, 96, 172]
abbrev dktX1_readersBehind_1 : List UInt8 := dkwX1_readersBehind_1 ++ []
def dkwX1_readersBehind_0 : List UInt8 := [42, 27, 182, 1, 8, 78, 28, 133, 9, 20, 1, 73, 184, 0, 150, 184, 0, 154, 42, 28, 182, 1, 75, 27]
abbrev dktX1_readersBehind_0 : List UInt8 := dkwX1_readersBehind_0 ++ dktX1_readersBehind_1
theorem dksX1_readersBehind_0 : cX1_readersBehind.data.toList.drop 0 = dktX1_readersBehind_0 := by decide +kernel
theorem dksX1_readersBehind_1 : cX1_readersBehind.data.toList.drop 24 = dktX1_readersBehind_1 := dk_seg dksX1_readersBehind_0 24 rfl rfl
theorem dX1_readersBehind_0 : decode cX1_readersBehind 0 = .ok (.aload_n 0, 1) := dk_42 (dk_at dksX1_readersBehind_0 0 rfl rfl)
theorem dX1_readersBehind_1 : decode cX1_readersBehind 1 = .ok (.iload_n 1, 1) := dk_27 (dk_at dksX1_readersBehind_0 1 rfl rfl)
theorem dX1_readersBehind_2 : decode cX1_readersBehind 2 = .ok (.invokevirtual 264, 3) := dk_182 1 8 (dk_at dksX1_readersBehind_0 2 rfl rfl)
theorem dX1_readersBehind_5 : decode cX1_readersBehind 5 = .ok (.astore_n 3, 1) := dk_78 (dk_at dksX1_readersBehind_0 5 rfl rfl)
theorem dX1_readersBehind_6 : decode cX1_readersBehind 6 = .ok (.iload_n 2, 1) := dk_28 (dk_at dksX1_readersBehind_0 6 rfl rfl)
theorem dX1_readersBehind_7 : decode cX1_readersBehind 7 = .ok (.i2l, 1) := dk_133 (dk_at dksX1_readersBehind_0 7 rfl rfl)
theorem dX1_readersBehind_8 : decode cX1_readersBehind 8 = .ok (.lconst 0, 1) := dk_9 (dk_at dksX1_readersBehind_0 8 rfl rfl)
theorem dX1_readersBehind_9 : decode cX1_readersBehind 9 = .ok (.ldc2_w 329, 3) := dk_20 1 73 (dk_at dksX1_readersBehind_0 9 rfl rfl)
theorem dX1_readersBehind_12 : decode cX1_readersBehind 12 = .ok (.invokestatic 150, 3) := dk_184 0 150 (dk_at dksX1_readersBehind_0 12 rfl rfl)
theorem dX1_readersBehind_15 : decode cX1_readersBehind 15 = .ok (.invokestatic 154, 3) := dk_184 0 154 (dk_at dksX1_readersBehind_0 15 rfl rfl)
theorem dX1_readersBehind_18 : decode cX1_readersBehind 18 = .ok (.aload_n 0, 1) := dk_42 (dk_at dksX1_readersBehind_0 18 rfl rfl)
theorem dX1_readersBehind_19 : decode cX1_readersBehind 19 = .ok (.iload_n 2, 1) := dk_28 (dk_at dksX1_readersBehind_0 19 rfl rfl)
theorem dX1_readersBehind_20 : decode cX1_readersBehind 20 = .ok (.invokevirtual 331, 3) := dk_182 1 75 (dk_at dksX1_readersBehind_0 20 rfl rfl)
theorem dX1_readersBehind_23 : decode cX1_readersBehind 23 = .ok (.iload_n 1, 1) := dk_27 (dk_at dksX1_readersBehind_0 23 rfl rfl)
theorem dX1_readersBehind_24 : decode cX1_readersBehind 24 = .ok (.invokevirtual 96, 3) := dk_182 0 96 (dk_at dksX1_readersBehind_1 0 rfl rfl)
theorem dX1_readersBehind_27 : decode cX1_readersBehind 27 = .ok (.ireturn, 1) := dk_172 (dk_at dksX1_readersBehind_1 3 rfl rfl)
def dkwX1_behind_1 : List UInt8 := [162, 0, 13, 44, 182, 1, 70, 132, 3, 1, 167, 255, 234, 44, 176]
abbrev dktX1_behind_1 : List UInt8 := dkwX1_behind_1 ++ []
def dkwX1_behind_0 : List UInt8 := [42, 180, 0, 133, 3, 4, 182, 1, 66, 77, 3, 62, 29, 27, 162, 0, 23, 44, 180, 0, 197, 17, 39, 15]
abbrev dktX1_behind_0 : List UInt8 := dkwX1_behind_0 ++ dktX1_behind_1
theorem dksX1_behind_0 : cX1_behind.data.toList.drop 0 = dktX1_behind_0 := by decide +kernel
theorem dksX1_behind_1 : cX1_behind.data.toList.drop 24 = dktX1_behind_1 := dk_seg dksX1_behind_0 24 rfl rfl
theorem dX1_behind_0 : decode cX1_behind 0 = .ok (.aload_n 0, 1) := dk_42 (dk_at dksX1_behind_0 0 rfl rfl)
theorem dX1_behind_1 : decode cX1_behind 1 = .ok (.getfield 133, 3) := dk_180 0 133 (dk_at dksX1_behind_0 1 rfl rfl)
theorem dX1_behind_4 : decode cX1_behind 4 = .ok (.iconst 0, 1) := dk_3 (dk_at dksX1_behind_0 4 rfl rfl)
theorem dX1_behind_5 : decode cX1_behind 5 = .ok (.iconst 1, 1) := dk_4 (dk_at dksX1_behind_0 5 rfl rfl)
theorem dX1_behind_6 : decode cX1_behind 6 = .ok (.invokevirtual 322, 3) := dk_182 1 66 (dk_at dksX1_behind_0 6 rfl rfl)
theorem dX1_behind_9 : decode cX1_behind 9 = .ok (.astore_n 2, 1) := dk_77 (dk_at dksX1_behind_0 9 rfl rfl)
theorem dX1_behind_10 : decode cX1_behind 10 = .ok (.iconst 0, 1) := dk_3 (dk_at dksX1_behind_0 10 rfl rfl)
theorem dX1_behind_11 : decode cX1_behind 11 = .ok (.istore_n 3, 1) := dk_62 (dk_at dksX1_behind_0 11 rfl rfl)
theorem dX1_behind_12 : decode cX1_behind 12 = .ok (.iload_n 3, 1) := dk_29 (dk_at dksX1_behind_0 12 rfl rfl)
theorem dX1_behind_13 : decode cX1_behind 13 = .ok (.iload_n 1, 1) := dk_27 (dk_at dksX1_behind_0 13 rfl rfl)
theorem dX1_behind_14 : decode cX1_behind 14 = .ok (.if_icmp .ge 23, 3) := dk_162 0 23 (dk_at dksX1_behind_0 14 rfl rfl)
theorem dX1_behind_17 : decode cX1_behind 17 = .ok (.aload_n 2, 1) := dk_44 (dk_at dksX1_behind_0 17 rfl rfl)
theorem dX1_behind_18 : decode cX1_behind 18 = .ok (.getfield 197, 3) := dk_180 0 197 (dk_at dksX1_behind_0 18 rfl rfl)
theorem dX1_behind_21 : decode cX1_behind 21 = .ok (.sipush 9999, 3) := dk_17 39 15 (dk_at dksX1_behind_0 21 rfl rfl)
theorem dX1_behind_24 : decode cX1_behind 24 = .ok (.if_icmp .ge 13, 3) := dk_162 0 13 (dk_at dksX1_behind_1 0 rfl rfl)
theorem dX1_behind_27 : decode cX1_behind 27 = .ok (.aload_n 2, 1) := dk_44 (dk_at dksX1_behind_1 3 rfl rfl)
theorem dX1_behind_28 : decode cX1_behind 28 = .ok (.invokevirtual 326, 3) := dk_182 1 70 (dk_at dksX1_behind_1 4 rfl rfl)
theorem dX1_behind_31 : decode cX1_behind 31 = .ok (.iinc 3 1, 3) := dk_132 3 1 (dk_at dksX1_behind_1 7 rfl rfl)
theorem dX1_behind_34 : decode cX1_behind 34 = .ok (.goto (-22), 3) := dk_167 255 234 (dk_at dksX1_behind_1 10 rfl rfl)
theorem dX1_behind_37 : decode cX1_behind 37 = .ok (.aload_n 2, 1) := dk_44 (dk_at dksX1_behind_1 13 rfl rfl)
theorem dX1_behind_38 : decode cX1_behind 38 = .ok (.areturn, 1) := dk_176 (dk_at dksX1_behind_1 14 rfl rfl)
def dkwX1_dark_4 : List UInt8 := [167, 255, 204, 21, 6, 172]
abbrev dktX1_dark_4 : List UInt8 := dkwX1_dark_4 ++ []
def dkwX1_dark_3 : List UInt8 := [184, 1, 79, 21, 5, 159, 0, 7, 4, 167, 0, 4, 3, 184, 0, 92, 96, 54, 6, 132, 7, 1]
abbrev dktX1_dark_3 : List UInt8 := dkwX1_dark_3 ++ dktX1_dark_4
def dkwX1_dark_2 : List UInt8 := [25, 4, 180, 0, 197, 17, 39, 15, 162, 0, 41, 25, 4, 182, 1, 70, 21, 6, 25, 4, 27, 182, 1, 85]
abbrev dktX1_dark_2 : List UInt8 := dkwX1_dark_2 ++ dktX1_dark_3
def dkwX1_dark_1 : List UInt8 := [182, 1, 66, 58, 4, 12, 184, 1, 79, 54, 5, 3, 54, 6, 3, 54, 7, 21, 7, 28, 162, 0, 52]
abbrev dktX1_dark_1 : List UInt8 := dkwX1_dark_1 ++ dktX1_dark_2
def dkwX1_dark_0 : List UInt8 := [42, 27, 182, 1, 17, 78, 28, 133, 10, 20, 1, 73, 184, 0, 150, 184, 0, 154, 42, 180, 0, 133, 3, 4]
abbrev dktX1_dark_0 : List UInt8 := dkwX1_dark_0 ++ dktX1_dark_1
theorem dksX1_dark_0 : cX1_dark.data.toList.drop 0 = dktX1_dark_0 := by decide +kernel
theorem dksX1_dark_1 : cX1_dark.data.toList.drop 24 = dktX1_dark_1 := dk_seg dksX1_dark_0 24 rfl rfl
theorem dksX1_dark_2 : cX1_dark.data.toList.drop 47 = dktX1_dark_2 := dk_seg dksX1_dark_1 23 rfl rfl
theorem dksX1_dark_3 : cX1_dark.data.toList.drop 71 = dktX1_dark_3 := dk_seg dksX1_dark_2 24 rfl rfl
theorem dksX1_dark_4 : cX1_dark.data.toList.drop 93 = dktX1_dark_4 := dk_seg dksX1_dark_3 22 rfl rfl
theorem dX1_dark_0 : decode cX1_dark 0 = .ok (.aload_n 0, 1) := dk_42 (dk_at dksX1_dark_0 0 rfl rfl)
theorem dX1_dark_1 : decode cX1_dark 1 = .ok (.iload_n 1, 1) := dk_27 (dk_at dksX1_dark_0 1 rfl rfl)
theorem dX1_dark_2 : decode cX1_dark 2 = .ok (.invokevirtual 273, 3) := dk_182 1 17 (dk_at dksX1_dark_0 2 rfl rfl)
theorem dX1_dark_5 : decode cX1_dark 5 = .ok (.astore_n 3, 1) := dk_78 (dk_at dksX1_dark_0 5 rfl rfl)
theorem dX1_dark_6 : decode cX1_dark 6 = .ok (.iload_n 2, 1) := dk_28 (dk_at dksX1_dark_0 6 rfl rfl)
theorem dX1_dark_7 : decode cX1_dark 7 = .ok (.i2l, 1) := dk_133 (dk_at dksX1_dark_0 7 rfl rfl)
theorem dX1_dark_8 : decode cX1_dark 8 = .ok (.lconst 1, 1) := dk_10 (dk_at dksX1_dark_0 8 rfl rfl)
theorem dX1_dark_9 : decode cX1_dark 9 = .ok (.ldc2_w 329, 3) := dk_20 1 73 (dk_at dksX1_dark_0 9 rfl rfl)
theorem dX1_dark_12 : decode cX1_dark 12 = .ok (.invokestatic 150, 3) := dk_184 0 150 (dk_at dksX1_dark_0 12 rfl rfl)
theorem dX1_dark_15 : decode cX1_dark 15 = .ok (.invokestatic 154, 3) := dk_184 0 154 (dk_at dksX1_dark_0 15 rfl rfl)
theorem dX1_dark_18 : decode cX1_dark 18 = .ok (.aload_n 0, 1) := dk_42 (dk_at dksX1_dark_0 18 rfl rfl)
theorem dX1_dark_19 : decode cX1_dark 19 = .ok (.getfield 133, 3) := dk_180 0 133 (dk_at dksX1_dark_0 19 rfl rfl)
theorem dX1_dark_22 : decode cX1_dark 22 = .ok (.iconst 0, 1) := dk_3 (dk_at dksX1_dark_0 22 rfl rfl)
theorem dX1_dark_23 : decode cX1_dark 23 = .ok (.iconst 1, 1) := dk_4 (dk_at dksX1_dark_0 23 rfl rfl)
theorem dX1_dark_24 : decode cX1_dark 24 = .ok (.invokevirtual 322, 3) := dk_182 1 66 (dk_at dksX1_dark_1 0 rfl rfl)
theorem dX1_dark_27 : decode cX1_dark 27 = .ok (.astore 4, 2) := dk_58 4 (dk_at dksX1_dark_1 3 rfl rfl)
theorem dX1_dark_29 : decode cX1_dark 29 = .ok (.fconst 1, 1) := dk_12 (dk_at dksX1_dark_1 5 rfl rfl)
theorem dX1_dark_30 : decode cX1_dark 30 = .ok (.invokestatic 335, 3) := dk_184 1 79 (dk_at dksX1_dark_1 6 rfl rfl)
theorem dX1_dark_33 : decode cX1_dark 33 = .ok (.istore 5, 2) := dk_54 5 (dk_at dksX1_dark_1 9 rfl rfl)
theorem dX1_dark_35 : decode cX1_dark 35 = .ok (.iconst 0, 1) := dk_3 (dk_at dksX1_dark_1 11 rfl rfl)
theorem dX1_dark_36 : decode cX1_dark 36 = .ok (.istore 6, 2) := dk_54 6 (dk_at dksX1_dark_1 12 rfl rfl)
theorem dX1_dark_38 : decode cX1_dark 38 = .ok (.iconst 0, 1) := dk_3 (dk_at dksX1_dark_1 14 rfl rfl)
theorem dX1_dark_39 : decode cX1_dark 39 = .ok (.istore 7, 2) := dk_54 7 (dk_at dksX1_dark_1 15 rfl rfl)
theorem dX1_dark_41 : decode cX1_dark 41 = .ok (.iload 7, 2) := dk_21 7 (dk_at dksX1_dark_1 17 rfl rfl)
theorem dX1_dark_43 : decode cX1_dark 43 = .ok (.iload_n 2, 1) := dk_28 (dk_at dksX1_dark_1 19 rfl rfl)
theorem dX1_dark_44 : decode cX1_dark 44 = .ok (.if_icmp .ge 52, 3) := dk_162 0 52 (dk_at dksX1_dark_1 20 rfl rfl)
theorem dX1_dark_47 : decode cX1_dark 47 = .ok (.aload 4, 2) := dk_25 4 (dk_at dksX1_dark_2 0 rfl rfl)
theorem dX1_dark_49 : decode cX1_dark 49 = .ok (.getfield 197, 3) := dk_180 0 197 (dk_at dksX1_dark_2 2 rfl rfl)
theorem dX1_dark_52 : decode cX1_dark 52 = .ok (.sipush 9999, 3) := dk_17 39 15 (dk_at dksX1_dark_2 5 rfl rfl)
theorem dX1_dark_55 : decode cX1_dark 55 = .ok (.if_icmp .ge 41, 3) := dk_162 0 41 (dk_at dksX1_dark_2 8 rfl rfl)
theorem dX1_dark_58 : decode cX1_dark 58 = .ok (.aload 4, 2) := dk_25 4 (dk_at dksX1_dark_2 11 rfl rfl)
theorem dX1_dark_60 : decode cX1_dark 60 = .ok (.invokevirtual 326, 3) := dk_182 1 70 (dk_at dksX1_dark_2 13 rfl rfl)
theorem dX1_dark_63 : decode cX1_dark 63 = .ok (.iload 6, 2) := dk_21 6 (dk_at dksX1_dark_2 16 rfl rfl)
theorem dX1_dark_65 : decode cX1_dark 65 = .ok (.aload 4, 2) := dk_25 4 (dk_at dksX1_dark_2 18 rfl rfl)
theorem dX1_dark_67 : decode cX1_dark 67 = .ok (.iload_n 1, 1) := dk_27 (dk_at dksX1_dark_2 20 rfl rfl)
theorem dX1_dark_68 : decode cX1_dark 68 = .ok (.invokevirtual 341, 3) := dk_182 1 85 (dk_at dksX1_dark_2 21 rfl rfl)
theorem dX1_dark_71 : decode cX1_dark 71 = .ok (.invokestatic 335, 3) := dk_184 1 79 (dk_at dksX1_dark_3 0 rfl rfl)
theorem dX1_dark_74 : decode cX1_dark 74 = .ok (.iload 5, 2) := dk_21 5 (dk_at dksX1_dark_3 3 rfl rfl)
theorem dX1_dark_76 : decode cX1_dark 76 = .ok (.if_icmp .eq 7, 3) := dk_159 0 7 (dk_at dksX1_dark_3 5 rfl rfl)
theorem dX1_dark_79 : decode cX1_dark 79 = .ok (.iconst 1, 1) := dk_4 (dk_at dksX1_dark_3 8 rfl rfl)
theorem dX1_dark_80 : decode cX1_dark 80 = .ok (.goto 4, 3) := dk_167 0 4 (dk_at dksX1_dark_3 9 rfl rfl)
theorem dX1_dark_83 : decode cX1_dark 83 = .ok (.iconst 0, 1) := dk_3 (dk_at dksX1_dark_3 12 rfl rfl)
theorem dX1_dark_84 : decode cX1_dark 84 = .ok (.invokestatic 92, 3) := dk_184 0 92 (dk_at dksX1_dark_3 13 rfl rfl)
theorem dX1_dark_87 : decode cX1_dark 87 = .ok (.iadd, 1) := dk_96 (dk_at dksX1_dark_3 16 rfl rfl)
theorem dX1_dark_88 : decode cX1_dark 88 = .ok (.istore 6, 2) := dk_54 6 (dk_at dksX1_dark_3 17 rfl rfl)
theorem dX1_dark_90 : decode cX1_dark 90 = .ok (.iinc 7 1, 3) := dk_132 7 1 (dk_at dksX1_dark_3 19 rfl rfl)
theorem dX1_dark_93 : decode cX1_dark 93 = .ok (.goto (-52), 3) := dk_167 255 204 (dk_at dksX1_dark_4 0 rfl rfl)
theorem dX1_dark_96 : decode cX1_dark 96 = .ok (.iload 6, 2) := dk_21 6 (dk_at dksX1_dark_4 3 rfl rfl)
theorem dX1_dark_98 : decode cX1_dark 98 = .ok (.ireturn, 1) := dk_172 (dk_at dksX1_dark_4 5 rfl rfl)
def dkwX1_leastBatch_4 : List UInt8 := [132, 2, 1, 167, 255, 173, 2, 172]
abbrev dktX1_leastBatch_4 : List UInt8 := dkwX1_leastBatch_4 ++ []
def dkwX1_leastBatch_3 : List UInt8 := [132, 4, 1, 167, 255, 219, 45, 180, 0, 224, 42, 180, 0, 133, 180, 0, 224, 160, 0, 5, 28, 172]
abbrev dktX1_leastBatch_3 : List UInt8 := dkwX1_leastBatch_3 ++ dktX1_leastBatch_4
def dkwX1_leastBatch_2 : List UInt8 := [17, 39, 15, 162, 0, 27, 45, 180, 0, 224, 42, 180, 0, 133, 180, 0, 224, 160, 0, 13, 45, 182, 1, 70]
abbrev dktX1_leastBatch_2 : List UInt8 := dkwX1_leastBatch_2 ++ dktX1_leastBatch_3
def dkwX1_leastBatch_1 : List UInt8 := [3, 3, 182, 1, 66, 78, 45, 28, 181, 0, 215, 3, 54, 4, 21, 4, 27, 162, 0, 37, 45, 180, 0, 197]
abbrev dktX1_leastBatch_1 : List UInt8 := dkwX1_leastBatch_1 ++ dktX1_leastBatch_2
def dkwX1_leastBatch_0 : List UInt8 := [27, 133, 10, 20, 1, 73, 184, 0, 150, 184, 0, 154, 4, 61, 28, 16, 30, 163, 0, 83, 42, 180, 0, 133]
abbrev dktX1_leastBatch_0 : List UInt8 := dkwX1_leastBatch_0 ++ dktX1_leastBatch_1
theorem dksX1_leastBatch_0 : cX1_leastBatch.data.toList.drop 0 = dktX1_leastBatch_0 := by decide +kernel
theorem dksX1_leastBatch_1 : cX1_leastBatch.data.toList.drop 24 = dktX1_leastBatch_1 := dk_seg dksX1_leastBatch_0 24 rfl rfl
theorem dksX1_leastBatch_2 : cX1_leastBatch.data.toList.drop 48 = dktX1_leastBatch_2 := dk_seg dksX1_leastBatch_1 24 rfl rfl
theorem dksX1_leastBatch_3 : cX1_leastBatch.data.toList.drop 72 = dktX1_leastBatch_3 := dk_seg dksX1_leastBatch_2 24 rfl rfl
theorem dksX1_leastBatch_4 : cX1_leastBatch.data.toList.drop 94 = dktX1_leastBatch_4 := dk_seg dksX1_leastBatch_3 22 rfl rfl
theorem dX1_leastBatch_0 : decode cX1_leastBatch 0 = .ok (.iload_n 1, 1) := dk_27 (dk_at dksX1_leastBatch_0 0 rfl rfl)
theorem dX1_leastBatch_1 : decode cX1_leastBatch 1 = .ok (.i2l, 1) := dk_133 (dk_at dksX1_leastBatch_0 1 rfl rfl)
theorem dX1_leastBatch_2 : decode cX1_leastBatch 2 = .ok (.lconst 1, 1) := dk_10 (dk_at dksX1_leastBatch_0 2 rfl rfl)
theorem dX1_leastBatch_3 : decode cX1_leastBatch 3 = .ok (.ldc2_w 329, 3) := dk_20 1 73 (dk_at dksX1_leastBatch_0 3 rfl rfl)
theorem dX1_leastBatch_6 : decode cX1_leastBatch 6 = .ok (.invokestatic 150, 3) := dk_184 0 150 (dk_at dksX1_leastBatch_0 6 rfl rfl)
theorem dX1_leastBatch_9 : decode cX1_leastBatch 9 = .ok (.invokestatic 154, 3) := dk_184 0 154 (dk_at dksX1_leastBatch_0 9 rfl rfl)
theorem dX1_leastBatch_12 : decode cX1_leastBatch 12 = .ok (.iconst 1, 1) := dk_4 (dk_at dksX1_leastBatch_0 12 rfl rfl)
theorem dX1_leastBatch_13 : decode cX1_leastBatch 13 = .ok (.istore_n 2, 1) := dk_61 (dk_at dksX1_leastBatch_0 13 rfl rfl)
theorem dX1_leastBatch_14 : decode cX1_leastBatch 14 = .ok (.iload_n 2, 1) := dk_28 (dk_at dksX1_leastBatch_0 14 rfl rfl)
theorem dX1_leastBatch_15 : decode cX1_leastBatch 15 = .ok (.bipush 30, 2) := dk_16 30 (dk_at dksX1_leastBatch_0 15 rfl rfl)
theorem dX1_leastBatch_17 : decode cX1_leastBatch 17 = .ok (.if_icmp .gt 83, 3) := dk_163 0 83 (dk_at dksX1_leastBatch_0 17 rfl rfl)
theorem dX1_leastBatch_20 : decode cX1_leastBatch 20 = .ok (.aload_n 0, 1) := dk_42 (dk_at dksX1_leastBatch_0 20 rfl rfl)
theorem dX1_leastBatch_21 : decode cX1_leastBatch 21 = .ok (.getfield 133, 3) := dk_180 0 133 (dk_at dksX1_leastBatch_0 21 rfl rfl)
theorem dX1_leastBatch_24 : decode cX1_leastBatch 24 = .ok (.iconst 0, 1) := dk_3 (dk_at dksX1_leastBatch_1 0 rfl rfl)
theorem dX1_leastBatch_25 : decode cX1_leastBatch 25 = .ok (.iconst 0, 1) := dk_3 (dk_at dksX1_leastBatch_1 1 rfl rfl)
theorem dX1_leastBatch_26 : decode cX1_leastBatch 26 = .ok (.invokevirtual 322, 3) := dk_182 1 66 (dk_at dksX1_leastBatch_1 2 rfl rfl)
theorem dX1_leastBatch_29 : decode cX1_leastBatch 29 = .ok (.astore_n 3, 1) := dk_78 (dk_at dksX1_leastBatch_1 5 rfl rfl)
theorem dX1_leastBatch_30 : decode cX1_leastBatch 30 = .ok (.aload_n 3, 1) := dk_45 (dk_at dksX1_leastBatch_1 6 rfl rfl)
theorem dX1_leastBatch_31 : decode cX1_leastBatch 31 = .ok (.iload_n 2, 1) := dk_28 (dk_at dksX1_leastBatch_1 7 rfl rfl)
theorem dX1_leastBatch_32 : decode cX1_leastBatch 32 = .ok (.putfield 215, 3) := dk_181 0 215 (dk_at dksX1_leastBatch_1 8 rfl rfl)
theorem dX1_leastBatch_35 : decode cX1_leastBatch 35 = .ok (.iconst 0, 1) := dk_3 (dk_at dksX1_leastBatch_1 11 rfl rfl)
theorem dX1_leastBatch_36 : decode cX1_leastBatch 36 = .ok (.istore 4, 2) := dk_54 4 (dk_at dksX1_leastBatch_1 12 rfl rfl)
theorem dX1_leastBatch_38 : decode cX1_leastBatch 38 = .ok (.iload 4, 2) := dk_21 4 (dk_at dksX1_leastBatch_1 14 rfl rfl)
theorem dX1_leastBatch_40 : decode cX1_leastBatch 40 = .ok (.iload_n 1, 1) := dk_27 (dk_at dksX1_leastBatch_1 16 rfl rfl)
theorem dX1_leastBatch_41 : decode cX1_leastBatch 41 = .ok (.if_icmp .ge 37, 3) := dk_162 0 37 (dk_at dksX1_leastBatch_1 17 rfl rfl)
theorem dX1_leastBatch_44 : decode cX1_leastBatch 44 = .ok (.aload_n 3, 1) := dk_45 (dk_at dksX1_leastBatch_1 20 rfl rfl)
theorem dX1_leastBatch_45 : decode cX1_leastBatch 45 = .ok (.getfield 197, 3) := dk_180 0 197 (dk_at dksX1_leastBatch_1 21 rfl rfl)
theorem dX1_leastBatch_48 : decode cX1_leastBatch 48 = .ok (.sipush 9999, 3) := dk_17 39 15 (dk_at dksX1_leastBatch_2 0 rfl rfl)
theorem dX1_leastBatch_51 : decode cX1_leastBatch 51 = .ok (.if_icmp .ge 27, 3) := dk_162 0 27 (dk_at dksX1_leastBatch_2 3 rfl rfl)
theorem dX1_leastBatch_54 : decode cX1_leastBatch 54 = .ok (.aload_n 3, 1) := dk_45 (dk_at dksX1_leastBatch_2 6 rfl rfl)
theorem dX1_leastBatch_55 : decode cX1_leastBatch 55 = .ok (.getfield 224, 3) := dk_180 0 224 (dk_at dksX1_leastBatch_2 7 rfl rfl)
theorem dX1_leastBatch_58 : decode cX1_leastBatch 58 = .ok (.aload_n 0, 1) := dk_42 (dk_at dksX1_leastBatch_2 10 rfl rfl)
theorem dX1_leastBatch_59 : decode cX1_leastBatch 59 = .ok (.getfield 133, 3) := dk_180 0 133 (dk_at dksX1_leastBatch_2 11 rfl rfl)
theorem dX1_leastBatch_62 : decode cX1_leastBatch 62 = .ok (.getfield 224, 3) := dk_180 0 224 (dk_at dksX1_leastBatch_2 14 rfl rfl)
theorem dX1_leastBatch_65 : decode cX1_leastBatch 65 = .ok (.if_icmp .ne 13, 3) := dk_160 0 13 (dk_at dksX1_leastBatch_2 17 rfl rfl)
theorem dX1_leastBatch_68 : decode cX1_leastBatch 68 = .ok (.aload_n 3, 1) := dk_45 (dk_at dksX1_leastBatch_2 20 rfl rfl)
theorem dX1_leastBatch_69 : decode cX1_leastBatch 69 = .ok (.invokevirtual 326, 3) := dk_182 1 70 (dk_at dksX1_leastBatch_2 21 rfl rfl)
theorem dX1_leastBatch_72 : decode cX1_leastBatch 72 = .ok (.iinc 4 1, 3) := dk_132 4 1 (dk_at dksX1_leastBatch_3 0 rfl rfl)
theorem dX1_leastBatch_75 : decode cX1_leastBatch 75 = .ok (.goto (-37), 3) := dk_167 255 219 (dk_at dksX1_leastBatch_3 3 rfl rfl)
theorem dX1_leastBatch_78 : decode cX1_leastBatch 78 = .ok (.aload_n 3, 1) := dk_45 (dk_at dksX1_leastBatch_3 6 rfl rfl)
theorem dX1_leastBatch_79 : decode cX1_leastBatch 79 = .ok (.getfield 224, 3) := dk_180 0 224 (dk_at dksX1_leastBatch_3 7 rfl rfl)
theorem dX1_leastBatch_82 : decode cX1_leastBatch 82 = .ok (.aload_n 0, 1) := dk_42 (dk_at dksX1_leastBatch_3 10 rfl rfl)
theorem dX1_leastBatch_83 : decode cX1_leastBatch 83 = .ok (.getfield 133, 3) := dk_180 0 133 (dk_at dksX1_leastBatch_3 11 rfl rfl)
theorem dX1_leastBatch_86 : decode cX1_leastBatch 86 = .ok (.getfield 224, 3) := dk_180 0 224 (dk_at dksX1_leastBatch_3 14 rfl rfl)
theorem dX1_leastBatch_89 : decode cX1_leastBatch 89 = .ok (.if_icmp .ne 5, 3) := dk_160 0 5 (dk_at dksX1_leastBatch_3 17 rfl rfl)
theorem dX1_leastBatch_92 : decode cX1_leastBatch 92 = .ok (.iload_n 2, 1) := dk_28 (dk_at dksX1_leastBatch_3 20 rfl rfl)
theorem dX1_leastBatch_93 : decode cX1_leastBatch 93 = .ok (.ireturn, 1) := dk_172 (dk_at dksX1_leastBatch_3 21 rfl rfl)
theorem dX1_leastBatch_94 : decode cX1_leastBatch 94 = .ok (.iinc 2 1, 3) := dk_132 2 1 (dk_at dksX1_leastBatch_4 0 rfl rfl)
theorem dX1_leastBatch_97 : decode cX1_leastBatch 97 = .ok (.goto (-83), 3) := dk_167 255 173 (dk_at dksX1_leastBatch_4 3 rfl rfl)
theorem dX1_leastBatch_100 : decode cX1_leastBatch 100 = .ok (.iconst (-1), 1) := dk_2 (dk_at dksX1_leastBatch_4 6 rfl rfl)
theorem dX1_leastBatch_101 : decode cX1_leastBatch 101 = .ok (.ireturn, 1) := dk_172 (dk_at dksX1_leastBatch_4 7 rfl rfl)
def dkwX1_damage_1 : List UInt8 := [154, 0, 19, 42, 180, 0, 133, 3, 3, 182, 1, 66, 27, 182, 1, 98, 167, 0, 4, 3, 172]
abbrev dktX1_damage_1 : List UInt8 := dkwX1_damage_1 ++ []
def dkwX1_damage_0 : List UInt8 := [42, 27, 182, 0, 240, 77, 42, 180, 0, 133, 27, 182, 1, 92, 153, 0, 27, 42, 27, 182, 1, 95]
abbrev dktX1_damage_0 : List UInt8 := dkwX1_damage_0 ++ dktX1_damage_1
theorem dksX1_damage_0 : cX1_damage.data.toList.drop 0 = dktX1_damage_0 := by decide +kernel
theorem dksX1_damage_1 : cX1_damage.data.toList.drop 22 = dktX1_damage_1 := dk_seg dksX1_damage_0 22 rfl rfl
theorem dX1_damage_0 : decode cX1_damage 0 = .ok (.aload_n 0, 1) := dk_42 (dk_at dksX1_damage_0 0 rfl rfl)
theorem dX1_damage_1 : decode cX1_damage 1 = .ok (.iload_n 1, 1) := dk_27 (dk_at dksX1_damage_0 1 rfl rfl)
theorem dX1_damage_2 : decode cX1_damage 2 = .ok (.invokevirtual 240, 3) := dk_182 0 240 (dk_at dksX1_damage_0 2 rfl rfl)
theorem dX1_damage_5 : decode cX1_damage 5 = .ok (.astore_n 2, 1) := dk_77 (dk_at dksX1_damage_0 5 rfl rfl)
theorem dX1_damage_6 : decode cX1_damage 6 = .ok (.aload_n 0, 1) := dk_42 (dk_at dksX1_damage_0 6 rfl rfl)
theorem dX1_damage_7 : decode cX1_damage 7 = .ok (.getfield 133, 3) := dk_180 0 133 (dk_at dksX1_damage_0 7 rfl rfl)
theorem dX1_damage_10 : decode cX1_damage 10 = .ok (.iload_n 1, 1) := dk_27 (dk_at dksX1_damage_0 10 rfl rfl)
theorem dX1_damage_11 : decode cX1_damage 11 = .ok (.invokevirtual 348, 3) := dk_182 1 92 (dk_at dksX1_damage_0 11 rfl rfl)
theorem dX1_damage_14 : decode cX1_damage 14 = .ok (.ifCond .eq 27, 3) := dk_153 0 27 (dk_at dksX1_damage_0 14 rfl rfl)
theorem dX1_damage_17 : decode cX1_damage 17 = .ok (.aload_n 0, 1) := dk_42 (dk_at dksX1_damage_0 17 rfl rfl)
theorem dX1_damage_18 : decode cX1_damage 18 = .ok (.iload_n 1, 1) := dk_27 (dk_at dksX1_damage_0 18 rfl rfl)
theorem dX1_damage_19 : decode cX1_damage 19 = .ok (.invokevirtual 351, 3) := dk_182 1 95 (dk_at dksX1_damage_0 19 rfl rfl)
theorem dX1_damage_22 : decode cX1_damage 22 = .ok (.ifCond .ne 19, 3) := dk_154 0 19 (dk_at dksX1_damage_1 0 rfl rfl)
theorem dX1_damage_25 : decode cX1_damage 25 = .ok (.aload_n 0, 1) := dk_42 (dk_at dksX1_damage_1 3 rfl rfl)
theorem dX1_damage_26 : decode cX1_damage 26 = .ok (.getfield 133, 3) := dk_180 0 133 (dk_at dksX1_damage_1 4 rfl rfl)
theorem dX1_damage_29 : decode cX1_damage 29 = .ok (.iconst 0, 1) := dk_3 (dk_at dksX1_damage_1 7 rfl rfl)
theorem dX1_damage_30 : decode cX1_damage 30 = .ok (.iconst 0, 1) := dk_3 (dk_at dksX1_damage_1 8 rfl rfl)
theorem dX1_damage_31 : decode cX1_damage 31 = .ok (.invokevirtual 322, 3) := dk_182 1 66 (dk_at dksX1_damage_1 9 rfl rfl)
theorem dX1_damage_34 : decode cX1_damage 34 = .ok (.iload_n 1, 1) := dk_27 (dk_at dksX1_damage_1 12 rfl rfl)
theorem dX1_damage_35 : decode cX1_damage 35 = .ok (.invokevirtual 354, 3) := dk_182 1 98 (dk_at dksX1_damage_1 13 rfl rfl)
theorem dX1_damage_38 : decode cX1_damage 38 = .ok (.goto 4, 3) := dk_167 0 4 (dk_at dksX1_damage_1 16 rfl rfl)
theorem dX1_damage_41 : decode cX1_damage 41 = .ok (.iconst 0, 1) := dk_3 (dk_at dksX1_damage_1 19 rfl rfl)
theorem dX1_damage_42 : decode cX1_damage 42 = .ok (.ireturn, 1) := dk_172 (dk_at dksX1_damage_1 20 rfl rfl)
def dkwX1_isStuck_1 : List UInt8 := [153, 0, 7, 4, 167, 0, 4, 3, 172]
abbrev dktX1_isStuck_1 : List UInt8 := dkwX1_isStuck_1 ++ []
def dkwX1_isStuck_0 : List UInt8 := [42, 180, 0, 133, 180, 0, 15, 182, 0, 189, 16, 30, 160, 0, 18, 42, 180, 0, 133, 27, 182, 1, 89]
abbrev dktX1_isStuck_0 : List UInt8 := dkwX1_isStuck_0 ++ dktX1_isStuck_1
theorem dksX1_isStuck_0 : cX1_isStuck.data.toList.drop 0 = dktX1_isStuck_0 := by decide +kernel
theorem dksX1_isStuck_1 : cX1_isStuck.data.toList.drop 23 = dktX1_isStuck_1 := dk_seg dksX1_isStuck_0 23 rfl rfl
theorem dX1_isStuck_0 : decode cX1_isStuck 0 = .ok (.aload_n 0, 1) := dk_42 (dk_at dksX1_isStuck_0 0 rfl rfl)
theorem dX1_isStuck_1 : decode cX1_isStuck 1 = .ok (.getfield 133, 3) := dk_180 0 133 (dk_at dksX1_isStuck_0 1 rfl rfl)
theorem dX1_isStuck_4 : decode cX1_isStuck 4 = .ok (.getfield 15, 3) := dk_180 0 15 (dk_at dksX1_isStuck_0 4 rfl rfl)
theorem dX1_isStuck_7 : decode cX1_isStuck 7 = .ok (.invokevirtual 189, 3) := dk_182 0 189 (dk_at dksX1_isStuck_0 7 rfl rfl)
theorem dX1_isStuck_10 : decode cX1_isStuck 10 = .ok (.bipush 30, 2) := dk_16 30 (dk_at dksX1_isStuck_0 10 rfl rfl)
theorem dX1_isStuck_12 : decode cX1_isStuck 12 = .ok (.if_icmp .ne 18, 3) := dk_160 0 18 (dk_at dksX1_isStuck_0 12 rfl rfl)
theorem dX1_isStuck_15 : decode cX1_isStuck 15 = .ok (.aload_n 0, 1) := dk_42 (dk_at dksX1_isStuck_0 15 rfl rfl)
theorem dX1_isStuck_16 : decode cX1_isStuck 16 = .ok (.getfield 133, 3) := dk_180 0 133 (dk_at dksX1_isStuck_0 16 rfl rfl)
theorem dX1_isStuck_19 : decode cX1_isStuck 19 = .ok (.iload_n 1, 1) := dk_27 (dk_at dksX1_isStuck_0 19 rfl rfl)
theorem dX1_isStuck_20 : decode cX1_isStuck 20 = .ok (.invokevirtual 345, 3) := dk_182 1 89 (dk_at dksX1_isStuck_0 20 rfl rfl)
theorem dX1_isStuck_23 : decode cX1_isStuck 23 = .ok (.ifCond .eq 7, 3) := dk_153 0 7 (dk_at dksX1_isStuck_1 0 rfl rfl)
theorem dX1_isStuck_26 : decode cX1_isStuck 26 = .ok (.iconst 1, 1) := dk_4 (dk_at dksX1_isStuck_1 3 rfl rfl)
theorem dX1_isStuck_27 : decode cX1_isStuck 27 = .ok (.goto 4, 3) := dk_167 0 4 (dk_at dksX1_isStuck_1 4 rfl rfl)
theorem dX1_isStuck_30 : decode cX1_isStuck 30 = .ok (.iconst 0, 1) := dk_3 (dk_at dksX1_isStuck_1 7 rfl rfl)
theorem dX1_isStuck_31 : decode cX1_isStuck 31 = .ok (.ireturn, 1) := dk_172 (dk_at dksX1_isStuck_1 8 rfl rfl)
def dkwX1_pass_2 : List UInt8 := [162, 0, 17, 44, 182, 1, 70, 44, 182, 1, 115, 132, 4, 1, 167, 255, 239, 44, 180, 0, 224, 29, 100, 172]
abbrev dktX1_pass_2 : List UInt8 := dkwX1_pass_2 ++ []
def dkwX1_pass_1 : List UInt8 := [164, 0, 6, 16, 254, 172, 42, 182, 1, 112, 77, 44, 180, 0, 224, 62, 3, 54, 4, 21, 4, 27]
abbrev dktX1_pass_1 : List UInt8 := dkwX1_pass_1 ++ dktX1_pass_2
def dkwX1_pass_0 : List UInt8 := [27, 133, 10, 20, 1, 110, 184, 0, 150, 184, 0, 154, 42, 180, 0, 133, 180, 0, 197, 27, 96, 17, 39, 15]
abbrev dktX1_pass_0 : List UInt8 := dkwX1_pass_0 ++ dktX1_pass_1
theorem dksX1_pass_0 : cX1_pass.data.toList.drop 0 = dktX1_pass_0 := by decide +kernel
theorem dksX1_pass_1 : cX1_pass.data.toList.drop 24 = dktX1_pass_1 := dk_seg dksX1_pass_0 24 rfl rfl
theorem dksX1_pass_2 : cX1_pass.data.toList.drop 46 = dktX1_pass_2 := dk_seg dksX1_pass_1 22 rfl rfl
theorem dX1_pass_0 : decode cX1_pass 0 = .ok (.iload_n 1, 1) := dk_27 (dk_at dksX1_pass_0 0 rfl rfl)
theorem dX1_pass_1 : decode cX1_pass 1 = .ok (.i2l, 1) := dk_133 (dk_at dksX1_pass_0 1 rfl rfl)
theorem dX1_pass_2 : decode cX1_pass 2 = .ok (.lconst 1, 1) := dk_10 (dk_at dksX1_pass_0 2 rfl rfl)
theorem dX1_pass_3 : decode cX1_pass 3 = .ok (.ldc2_w 366, 3) := dk_20 1 110 (dk_at dksX1_pass_0 3 rfl rfl)
theorem dX1_pass_6 : decode cX1_pass 6 = .ok (.invokestatic 150, 3) := dk_184 0 150 (dk_at dksX1_pass_0 6 rfl rfl)
theorem dX1_pass_9 : decode cX1_pass 9 = .ok (.invokestatic 154, 3) := dk_184 0 154 (dk_at dksX1_pass_0 9 rfl rfl)
theorem dX1_pass_12 : decode cX1_pass 12 = .ok (.aload_n 0, 1) := dk_42 (dk_at dksX1_pass_0 12 rfl rfl)
theorem dX1_pass_13 : decode cX1_pass 13 = .ok (.getfield 133, 3) := dk_180 0 133 (dk_at dksX1_pass_0 13 rfl rfl)
theorem dX1_pass_16 : decode cX1_pass 16 = .ok (.getfield 197, 3) := dk_180 0 197 (dk_at dksX1_pass_0 16 rfl rfl)
theorem dX1_pass_19 : decode cX1_pass 19 = .ok (.iload_n 1, 1) := dk_27 (dk_at dksX1_pass_0 19 rfl rfl)
theorem dX1_pass_20 : decode cX1_pass 20 = .ok (.iadd, 1) := dk_96 (dk_at dksX1_pass_0 20 rfl rfl)
theorem dX1_pass_21 : decode cX1_pass 21 = .ok (.sipush 9999, 3) := dk_17 39 15 (dk_at dksX1_pass_0 21 rfl rfl)
theorem dX1_pass_24 : decode cX1_pass 24 = .ok (.if_icmp .le 6, 3) := dk_164 0 6 (dk_at dksX1_pass_1 0 rfl rfl)
theorem dX1_pass_27 : decode cX1_pass 27 = .ok (.bipush (-2), 2) := dk_16 254 (dk_at dksX1_pass_1 3 rfl rfl)
theorem dX1_pass_29 : decode cX1_pass 29 = .ok (.ireturn, 1) := dk_172 (dk_at dksX1_pass_1 5 rfl rfl)
theorem dX1_pass_30 : decode cX1_pass 30 = .ok (.aload_n 0, 1) := dk_42 (dk_at dksX1_pass_1 6 rfl rfl)
theorem dX1_pass_31 : decode cX1_pass 31 = .ok (.invokevirtual 368, 3) := dk_182 1 112 (dk_at dksX1_pass_1 7 rfl rfl)
theorem dX1_pass_34 : decode cX1_pass 34 = .ok (.astore_n 2, 1) := dk_77 (dk_at dksX1_pass_1 10 rfl rfl)
theorem dX1_pass_35 : decode cX1_pass 35 = .ok (.aload_n 2, 1) := dk_44 (dk_at dksX1_pass_1 11 rfl rfl)
theorem dX1_pass_36 : decode cX1_pass 36 = .ok (.getfield 224, 3) := dk_180 0 224 (dk_at dksX1_pass_1 12 rfl rfl)
theorem dX1_pass_39 : decode cX1_pass 39 = .ok (.istore_n 3, 1) := dk_62 (dk_at dksX1_pass_1 15 rfl rfl)
theorem dX1_pass_40 : decode cX1_pass 40 = .ok (.iconst 0, 1) := dk_3 (dk_at dksX1_pass_1 16 rfl rfl)
theorem dX1_pass_41 : decode cX1_pass 41 = .ok (.istore 4, 2) := dk_54 4 (dk_at dksX1_pass_1 17 rfl rfl)
theorem dX1_pass_43 : decode cX1_pass 43 = .ok (.iload 4, 2) := dk_21 4 (dk_at dksX1_pass_1 19 rfl rfl)
theorem dX1_pass_45 : decode cX1_pass 45 = .ok (.iload_n 1, 1) := dk_27 (dk_at dksX1_pass_1 21 rfl rfl)
theorem dX1_pass_46 : decode cX1_pass 46 = .ok (.if_icmp .ge 17, 3) := dk_162 0 17 (dk_at dksX1_pass_2 0 rfl rfl)
theorem dX1_pass_49 : decode cX1_pass 49 = .ok (.aload_n 2, 1) := dk_44 (dk_at dksX1_pass_2 3 rfl rfl)
theorem dX1_pass_50 : decode cX1_pass 50 = .ok (.invokevirtual 326, 3) := dk_182 1 70 (dk_at dksX1_pass_2 4 rfl rfl)
theorem dX1_pass_53 : decode cX1_pass 53 = .ok (.aload_n 2, 1) := dk_44 (dk_at dksX1_pass_2 7 rfl rfl)
theorem dX1_pass_54 : decode cX1_pass 54 = .ok (.invokevirtual 371, 3) := dk_182 1 115 (dk_at dksX1_pass_2 8 rfl rfl)
theorem dX1_pass_57 : decode cX1_pass 57 = .ok (.iinc 4 1, 3) := dk_132 4 1 (dk_at dksX1_pass_2 11 rfl rfl)
theorem dX1_pass_60 : decode cX1_pass 60 = .ok (.goto (-17), 3) := dk_167 255 239 (dk_at dksX1_pass_2 14 rfl rfl)
theorem dX1_pass_63 : decode cX1_pass 63 = .ok (.aload_n 2, 1) := dk_44 (dk_at dksX1_pass_2 17 rfl rfl)
theorem dX1_pass_64 : decode cX1_pass 64 = .ok (.getfield 224, 3) := dk_180 0 224 (dk_at dksX1_pass_2 18 rfl rfl)
theorem dX1_pass_67 : decode cX1_pass 67 = .ok (.iload_n 3, 1) := dk_29 (dk_at dksX1_pass_2 21 rfl rfl)
theorem dX1_pass_68 : decode cX1_pass 68 = .ok (.isub, 1) := dk_100 (dk_at dksX1_pass_2 22 rfl rfl)
theorem dX1_pass_69 : decode cX1_pass 69 = .ok (.ireturn, 1) := dk_172 (dk_at dksX1_pass_2 23 rfl rfl)
def dkwX1_withdraw_1 : List UInt8 := [182, 1, 95, 153, 0, 8, 16, 253, 167, 0, 11, 42, 182, 1, 112, 27, 182, 1, 98, 172]
abbrev dktX1_withdraw_1 : List UInt8 := dkwX1_withdraw_1 ++ []
def dkwX1_withdraw_0 : List UInt8 := [42, 27, 182, 0, 240, 77, 42, 180, 0, 133, 27, 182, 1, 92, 154, 0, 6, 16, 254, 172, 42, 27]
abbrev dktX1_withdraw_0 : List UInt8 := dkwX1_withdraw_0 ++ dktX1_withdraw_1
theorem dksX1_withdraw_0 : cX1_withdraw.data.toList.drop 0 = dktX1_withdraw_0 := by decide +kernel
theorem dksX1_withdraw_1 : cX1_withdraw.data.toList.drop 22 = dktX1_withdraw_1 := dk_seg dksX1_withdraw_0 22 rfl rfl
theorem dX1_withdraw_0 : decode cX1_withdraw 0 = .ok (.aload_n 0, 1) := dk_42 (dk_at dksX1_withdraw_0 0 rfl rfl)
theorem dX1_withdraw_1 : decode cX1_withdraw 1 = .ok (.iload_n 1, 1) := dk_27 (dk_at dksX1_withdraw_0 1 rfl rfl)
theorem dX1_withdraw_2 : decode cX1_withdraw 2 = .ok (.invokevirtual 240, 3) := dk_182 0 240 (dk_at dksX1_withdraw_0 2 rfl rfl)
theorem dX1_withdraw_5 : decode cX1_withdraw 5 = .ok (.astore_n 2, 1) := dk_77 (dk_at dksX1_withdraw_0 5 rfl rfl)
theorem dX1_withdraw_6 : decode cX1_withdraw 6 = .ok (.aload_n 0, 1) := dk_42 (dk_at dksX1_withdraw_0 6 rfl rfl)
theorem dX1_withdraw_7 : decode cX1_withdraw 7 = .ok (.getfield 133, 3) := dk_180 0 133 (dk_at dksX1_withdraw_0 7 rfl rfl)
theorem dX1_withdraw_10 : decode cX1_withdraw 10 = .ok (.iload_n 1, 1) := dk_27 (dk_at dksX1_withdraw_0 10 rfl rfl)
theorem dX1_withdraw_11 : decode cX1_withdraw 11 = .ok (.invokevirtual 348, 3) := dk_182 1 92 (dk_at dksX1_withdraw_0 11 rfl rfl)
theorem dX1_withdraw_14 : decode cX1_withdraw 14 = .ok (.ifCond .ne 6, 3) := dk_154 0 6 (dk_at dksX1_withdraw_0 14 rfl rfl)
theorem dX1_withdraw_17 : decode cX1_withdraw 17 = .ok (.bipush (-2), 2) := dk_16 254 (dk_at dksX1_withdraw_0 17 rfl rfl)
theorem dX1_withdraw_19 : decode cX1_withdraw 19 = .ok (.ireturn, 1) := dk_172 (dk_at dksX1_withdraw_0 19 rfl rfl)
theorem dX1_withdraw_20 : decode cX1_withdraw 20 = .ok (.aload_n 0, 1) := dk_42 (dk_at dksX1_withdraw_0 20 rfl rfl)
theorem dX1_withdraw_21 : decode cX1_withdraw 21 = .ok (.iload_n 1, 1) := dk_27 (dk_at dksX1_withdraw_0 21 rfl rfl)
theorem dX1_withdraw_22 : decode cX1_withdraw 22 = .ok (.invokevirtual 351, 3) := dk_182 1 95 (dk_at dksX1_withdraw_1 0 rfl rfl)
theorem dX1_withdraw_25 : decode cX1_withdraw 25 = .ok (.ifCond .eq 8, 3) := dk_153 0 8 (dk_at dksX1_withdraw_1 3 rfl rfl)
theorem dX1_withdraw_28 : decode cX1_withdraw 28 = .ok (.bipush (-3), 2) := dk_16 253 (dk_at dksX1_withdraw_1 6 rfl rfl)
theorem dX1_withdraw_30 : decode cX1_withdraw 30 = .ok (.goto 11, 3) := dk_167 0 11 (dk_at dksX1_withdraw_1 8 rfl rfl)
theorem dX1_withdraw_33 : decode cX1_withdraw 33 = .ok (.aload_n 0, 1) := dk_42 (dk_at dksX1_withdraw_1 11 rfl rfl)
theorem dX1_withdraw_34 : decode cX1_withdraw 34 = .ok (.invokevirtual 368, 3) := dk_182 1 112 (dk_at dksX1_withdraw_1 12 rfl rfl)
theorem dX1_withdraw_37 : decode cX1_withdraw 37 = .ok (.iload_n 1, 1) := dk_27 (dk_at dksX1_withdraw_1 15 rfl rfl)
theorem dX1_withdraw_38 : decode cX1_withdraw 38 = .ok (.invokevirtual 354, 3) := dk_182 1 98 (dk_at dksX1_withdraw_1 16 rfl rfl)
theorem dX1_withdraw_41 : decode cX1_withdraw 41 = .ok (.ireturn, 1) := dk_172 (dk_at dksX1_withdraw_1 19 rfl rfl)
def dkwX1_drop_1 : List UInt8 := [42, 180, 0, 133, 182, 0, 200, 172]
abbrev dktX1_drop_1 : List UInt8 := dkwX1_drop_1 ++ []
def dkwX1_drop_0 : List UInt8 := [42, 27, 182, 1, 8, 77, 42, 182, 1, 112, 180, 0, 58, 27, 182, 0, 61, 192, 0, 65, 4, 181, 1, 132]
abbrev dktX1_drop_0 : List UInt8 := dkwX1_drop_0 ++ dktX1_drop_1
theorem dksX1_drop_0 : cX1_drop.data.toList.drop 0 = dktX1_drop_0 := by decide +kernel
theorem dksX1_drop_1 : cX1_drop.data.toList.drop 24 = dktX1_drop_1 := dk_seg dksX1_drop_0 24 rfl rfl
theorem dX1_drop_0 : decode cX1_drop 0 = .ok (.aload_n 0, 1) := dk_42 (dk_at dksX1_drop_0 0 rfl rfl)
theorem dX1_drop_1 : decode cX1_drop 1 = .ok (.iload_n 1, 1) := dk_27 (dk_at dksX1_drop_0 1 rfl rfl)
theorem dX1_drop_2 : decode cX1_drop 2 = .ok (.invokevirtual 264, 3) := dk_182 1 8 (dk_at dksX1_drop_0 2 rfl rfl)
theorem dX1_drop_5 : decode cX1_drop 5 = .ok (.astore_n 2, 1) := dk_77 (dk_at dksX1_drop_0 5 rfl rfl)
theorem dX1_drop_6 : decode cX1_drop 6 = .ok (.aload_n 0, 1) := dk_42 (dk_at dksX1_drop_0 6 rfl rfl)
theorem dX1_drop_7 : decode cX1_drop 7 = .ok (.invokevirtual 368, 3) := dk_182 1 112 (dk_at dksX1_drop_0 7 rfl rfl)
theorem dX1_drop_10 : decode cX1_drop 10 = .ok (.getfield 58, 3) := dk_180 0 58 (dk_at dksX1_drop_0 10 rfl rfl)
theorem dX1_drop_13 : decode cX1_drop 13 = .ok (.iload_n 1, 1) := dk_27 (dk_at dksX1_drop_0 13 rfl rfl)
theorem dX1_drop_14 : decode cX1_drop 14 = .ok (.invokevirtual 61, 3) := dk_182 0 61 (dk_at dksX1_drop_0 14 rfl rfl)
theorem dX1_drop_17 : decode cX1_drop 17 = .ok (.checkcast 65, 3) := dk_192 0 65 (dk_at dksX1_drop_0 17 rfl rfl)
theorem dX1_drop_20 : decode cX1_drop 20 = .ok (.iconst 1, 1) := dk_4 (dk_at dksX1_drop_0 20 rfl rfl)
theorem dX1_drop_21 : decode cX1_drop 21 = .ok (.putfield 388, 3) := dk_181 1 132 (dk_at dksX1_drop_0 21 rfl rfl)
theorem dX1_drop_24 : decode cX1_drop 24 = .ok (.aload_n 0, 1) := dk_42 (dk_at dksX1_drop_1 0 rfl rfl)
theorem dX1_drop_25 : decode cX1_drop 25 = .ok (.getfield 133, 3) := dk_180 0 133 (dk_at dksX1_drop_1 1 rfl rfl)
theorem dX1_drop_28 : decode cX1_drop 28 = .ok (.invokevirtual 200, 3) := dk_182 0 200 (dk_at dksX1_drop_1 4 rfl rfl)
theorem dX1_drop_31 : decode cX1_drop 31 = .ok (.ireturn, 1) := dk_172 (dk_at dksX1_drop_1 7 rfl rfl)
def dkwX1_ask_1 : List UInt8 := [182, 1, 136, 172]
abbrev dktX1_ask_1 : List UInt8 := dkwX1_ask_1 ++ []
def dkwX1_ask_0 : List UInt8 := [42, 27, 182, 1, 17, 77, 42, 182, 1, 112, 78, 45, 45, 180, 0, 203, 27, 182, 0, 61, 192, 0, 233]
abbrev dktX1_ask_0 : List UInt8 := dkwX1_ask_0 ++ dktX1_ask_1
theorem dksX1_ask_0 : cX1_ask.data.toList.drop 0 = dktX1_ask_0 := by decide +kernel
theorem dksX1_ask_1 : cX1_ask.data.toList.drop 23 = dktX1_ask_1 := dk_seg dksX1_ask_0 23 rfl rfl
theorem dX1_ask_0 : decode cX1_ask 0 = .ok (.aload_n 0, 1) := dk_42 (dk_at dksX1_ask_0 0 rfl rfl)
theorem dX1_ask_1 : decode cX1_ask 1 = .ok (.iload_n 1, 1) := dk_27 (dk_at dksX1_ask_0 1 rfl rfl)
theorem dX1_ask_2 : decode cX1_ask 2 = .ok (.invokevirtual 273, 3) := dk_182 1 17 (dk_at dksX1_ask_0 2 rfl rfl)
theorem dX1_ask_5 : decode cX1_ask 5 = .ok (.astore_n 2, 1) := dk_77 (dk_at dksX1_ask_0 5 rfl rfl)
theorem dX1_ask_6 : decode cX1_ask 6 = .ok (.aload_n 0, 1) := dk_42 (dk_at dksX1_ask_0 6 rfl rfl)
theorem dX1_ask_7 : decode cX1_ask 7 = .ok (.invokevirtual 368, 3) := dk_182 1 112 (dk_at dksX1_ask_0 7 rfl rfl)
theorem dX1_ask_10 : decode cX1_ask 10 = .ok (.astore_n 3, 1) := dk_78 (dk_at dksX1_ask_0 10 rfl rfl)
theorem dX1_ask_11 : decode cX1_ask 11 = .ok (.aload_n 3, 1) := dk_45 (dk_at dksX1_ask_0 11 rfl rfl)
theorem dX1_ask_12 : decode cX1_ask 12 = .ok (.aload_n 3, 1) := dk_45 (dk_at dksX1_ask_0 12 rfl rfl)
theorem dX1_ask_13 : decode cX1_ask 13 = .ok (.getfield 203, 3) := dk_180 0 203 (dk_at dksX1_ask_0 13 rfl rfl)
theorem dX1_ask_16 : decode cX1_ask 16 = .ok (.iload_n 1, 1) := dk_27 (dk_at dksX1_ask_0 16 rfl rfl)
theorem dX1_ask_17 : decode cX1_ask 17 = .ok (.invokevirtual 61, 3) := dk_182 0 61 (dk_at dksX1_ask_0 17 rfl rfl)
theorem dX1_ask_20 : decode cX1_ask 20 = .ok (.checkcast 233, 3) := dk_192 0 233 (dk_at dksX1_ask_0 20 rfl rfl)
theorem dX1_ask_23 : decode cX1_ask 23 = .ok (.invokevirtual 392, 3) := dk_182 1 136 (dk_at dksX1_ask_1 0 rfl rfl)
theorem dX1_ask_26 : decode cX1_ask 26 = .ok (.ireturn, 1) := dk_172 (dk_at dksX1_ask_1 3 rfl rfl)
def dkwX1_read_2 : List UInt8 := [180, 1, 41, 4, 96, 181, 1, 41, 21, 5, 172]
abbrev dktX1_read_2 : List UInt8 := dkwX1_read_2 ++ []
def dkwX1_read_1 : List UInt8 := [21, 5, 2, 160, 0, 6, 16, 254, 172, 42, 182, 1, 112, 180, 0, 203, 27, 182, 0, 61, 192, 0, 233, 89]
abbrev dktX1_read_1 : List UInt8 := dkwX1_read_1 ++ dktX1_read_2
def dkwX1_read_0 : List UInt8 := [42, 27, 182, 1, 17, 78, 42, 28, 182, 1, 8, 58, 4, 42, 180, 0, 133, 27, 28, 182, 1, 51, 54, 5]
abbrev dktX1_read_0 : List UInt8 := dkwX1_read_0 ++ dktX1_read_1
theorem dksX1_read_0 : cX1_read.data.toList.drop 0 = dktX1_read_0 := by decide +kernel
theorem dksX1_read_1 : cX1_read.data.toList.drop 24 = dktX1_read_1 := dk_seg dksX1_read_0 24 rfl rfl
theorem dksX1_read_2 : cX1_read.data.toList.drop 48 = dktX1_read_2 := dk_seg dksX1_read_1 24 rfl rfl
theorem dX1_read_0 : decode cX1_read 0 = .ok (.aload_n 0, 1) := dk_42 (dk_at dksX1_read_0 0 rfl rfl)
theorem dX1_read_1 : decode cX1_read 1 = .ok (.iload_n 1, 1) := dk_27 (dk_at dksX1_read_0 1 rfl rfl)
theorem dX1_read_2 : decode cX1_read 2 = .ok (.invokevirtual 273, 3) := dk_182 1 17 (dk_at dksX1_read_0 2 rfl rfl)
theorem dX1_read_5 : decode cX1_read 5 = .ok (.astore_n 3, 1) := dk_78 (dk_at dksX1_read_0 5 rfl rfl)
theorem dX1_read_6 : decode cX1_read 6 = .ok (.aload_n 0, 1) := dk_42 (dk_at dksX1_read_0 6 rfl rfl)
theorem dX1_read_7 : decode cX1_read 7 = .ok (.iload_n 2, 1) := dk_28 (dk_at dksX1_read_0 7 rfl rfl)
theorem dX1_read_8 : decode cX1_read 8 = .ok (.invokevirtual 264, 3) := dk_182 1 8 (dk_at dksX1_read_0 8 rfl rfl)
theorem dX1_read_11 : decode cX1_read 11 = .ok (.astore 4, 2) := dk_58 4 (dk_at dksX1_read_0 11 rfl rfl)
theorem dX1_read_13 : decode cX1_read 13 = .ok (.aload_n 0, 1) := dk_42 (dk_at dksX1_read_0 13 rfl rfl)
theorem dX1_read_14 : decode cX1_read 14 = .ok (.getfield 133, 3) := dk_180 0 133 (dk_at dksX1_read_0 14 rfl rfl)
theorem dX1_read_17 : decode cX1_read 17 = .ok (.iload_n 1, 1) := dk_27 (dk_at dksX1_read_0 17 rfl rfl)
theorem dX1_read_18 : decode cX1_read 18 = .ok (.iload_n 2, 1) := dk_28 (dk_at dksX1_read_0 18 rfl rfl)
theorem dX1_read_19 : decode cX1_read 19 = .ok (.invokevirtual 307, 3) := dk_182 1 51 (dk_at dksX1_read_0 19 rfl rfl)
theorem dX1_read_22 : decode cX1_read 22 = .ok (.istore 5, 2) := dk_54 5 (dk_at dksX1_read_0 22 rfl rfl)
theorem dX1_read_24 : decode cX1_read 24 = .ok (.iload 5, 2) := dk_21 5 (dk_at dksX1_read_1 0 rfl rfl)
theorem dX1_read_26 : decode cX1_read 26 = .ok (.iconst (-1), 1) := dk_2 (dk_at dksX1_read_1 2 rfl rfl)
theorem dX1_read_27 : decode cX1_read 27 = .ok (.if_icmp .ne 6, 3) := dk_160 0 6 (dk_at dksX1_read_1 3 rfl rfl)
theorem dX1_read_30 : decode cX1_read 30 = .ok (.bipush (-2), 2) := dk_16 254 (dk_at dksX1_read_1 6 rfl rfl)
theorem dX1_read_32 : decode cX1_read 32 = .ok (.ireturn, 1) := dk_172 (dk_at dksX1_read_1 8 rfl rfl)
theorem dX1_read_33 : decode cX1_read 33 = .ok (.aload_n 0, 1) := dk_42 (dk_at dksX1_read_1 9 rfl rfl)
theorem dX1_read_34 : decode cX1_read 34 = .ok (.invokevirtual 368, 3) := dk_182 1 112 (dk_at dksX1_read_1 10 rfl rfl)
theorem dX1_read_37 : decode cX1_read 37 = .ok (.getfield 203, 3) := dk_180 0 203 (dk_at dksX1_read_1 13 rfl rfl)
theorem dX1_read_40 : decode cX1_read 40 = .ok (.iload_n 1, 1) := dk_27 (dk_at dksX1_read_1 16 rfl rfl)
theorem dX1_read_41 : decode cX1_read 41 = .ok (.invokevirtual 61, 3) := dk_182 0 61 (dk_at dksX1_read_1 17 rfl rfl)
theorem dX1_read_44 : decode cX1_read 44 = .ok (.checkcast 233, 3) := dk_192 0 233 (dk_at dksX1_read_1 20 rfl rfl)
theorem dX1_read_47 : decode cX1_read 47 = .ok (.dup, 1) := dk_89 (dk_at dksX1_read_1 23 rfl rfl)
theorem dX1_read_48 : decode cX1_read 48 = .ok (.getfield 297, 3) := dk_180 1 41 (dk_at dksX1_read_2 0 rfl rfl)
theorem dX1_read_51 : decode cX1_read 51 = .ok (.iconst 1, 1) := dk_4 (dk_at dksX1_read_2 3 rfl rfl)
theorem dX1_read_52 : decode cX1_read 52 = .ok (.iadd, 1) := dk_96 (dk_at dksX1_read_2 4 rfl rfl)
theorem dX1_read_53 : decode cX1_read 53 = .ok (.putfield 297, 3) := dk_181 1 41 (dk_at dksX1_read_2 5 rfl rfl)
theorem dX1_read_56 : decode cX1_read 56 = .ok (.iload 5, 2) := dk_21 5 (dk_at dksX1_read_2 8 rfl rfl)
theorem dX1_read_58 : decode cX1_read 58 = .ok (.ireturn, 1) := dk_172 (dk_at dksX1_read_2 10 rfl rfl)
def dkwX1_setBatch_1 : List UInt8 := [27, 181, 0, 215, 28, 172]
abbrev dktX1_setBatch_1 : List UInt8 := dkwX1_setBatch_1 ++ []
def dkwX1_setBatch_0 : List UInt8 := [27, 133, 10, 20, 1, 140, 184, 0, 150, 184, 0, 154, 42, 180, 0, 133, 180, 0, 215, 61, 42, 182, 1, 112]
abbrev dktX1_setBatch_0 : List UInt8 := dkwX1_setBatch_0 ++ dktX1_setBatch_1
theorem dksX1_setBatch_0 : cX1_setBatch.data.toList.drop 0 = dktX1_setBatch_0 := by decide +kernel
theorem dksX1_setBatch_1 : cX1_setBatch.data.toList.drop 24 = dktX1_setBatch_1 := dk_seg dksX1_setBatch_0 24 rfl rfl
theorem dX1_setBatch_0 : decode cX1_setBatch 0 = .ok (.iload_n 1, 1) := dk_27 (dk_at dksX1_setBatch_0 0 rfl rfl)
theorem dX1_setBatch_1 : decode cX1_setBatch 1 = .ok (.i2l, 1) := dk_133 (dk_at dksX1_setBatch_0 1 rfl rfl)
theorem dX1_setBatch_2 : decode cX1_setBatch 2 = .ok (.lconst 1, 1) := dk_10 (dk_at dksX1_setBatch_0 2 rfl rfl)
theorem dX1_setBatch_3 : decode cX1_setBatch 3 = .ok (.ldc2_w 396, 3) := dk_20 1 140 (dk_at dksX1_setBatch_0 3 rfl rfl)
theorem dX1_setBatch_6 : decode cX1_setBatch 6 = .ok (.invokestatic 150, 3) := dk_184 0 150 (dk_at dksX1_setBatch_0 6 rfl rfl)
theorem dX1_setBatch_9 : decode cX1_setBatch 9 = .ok (.invokestatic 154, 3) := dk_184 0 154 (dk_at dksX1_setBatch_0 9 rfl rfl)
theorem dX1_setBatch_12 : decode cX1_setBatch 12 = .ok (.aload_n 0, 1) := dk_42 (dk_at dksX1_setBatch_0 12 rfl rfl)
theorem dX1_setBatch_13 : decode cX1_setBatch 13 = .ok (.getfield 133, 3) := dk_180 0 133 (dk_at dksX1_setBatch_0 13 rfl rfl)
theorem dX1_setBatch_16 : decode cX1_setBatch 16 = .ok (.getfield 215, 3) := dk_180 0 215 (dk_at dksX1_setBatch_0 16 rfl rfl)
theorem dX1_setBatch_19 : decode cX1_setBatch 19 = .ok (.istore_n 2, 1) := dk_61 (dk_at dksX1_setBatch_0 19 rfl rfl)
theorem dX1_setBatch_20 : decode cX1_setBatch 20 = .ok (.aload_n 0, 1) := dk_42 (dk_at dksX1_setBatch_0 20 rfl rfl)
theorem dX1_setBatch_21 : decode cX1_setBatch 21 = .ok (.invokevirtual 368, 3) := dk_182 1 112 (dk_at dksX1_setBatch_0 21 rfl rfl)
theorem dX1_setBatch_24 : decode cX1_setBatch 24 = .ok (.iload_n 1, 1) := dk_27 (dk_at dksX1_setBatch_1 0 rfl rfl)
theorem dX1_setBatch_25 : decode cX1_setBatch 25 = .ok (.putfield 215, 3) := dk_181 0 215 (dk_at dksX1_setBatch_1 1 rfl rfl)
theorem dX1_setBatch_28 : decode cX1_setBatch 28 = .ok (.iload_n 2, 1) := dk_28 (dk_at dksX1_setBatch_1 4 rfl rfl)
theorem dX1_setBatch_29 : decode cX1_setBatch 29 = .ok (.ireturn, 1) := dk_172 (dk_at dksX1_setBatch_1 5 rfl rfl)
def dkwX1_format_7 : List UInt8 := [182, 1, 165, 181, 0, 125, 42, 180, 0, 125, 182, 1, 169, 172]
abbrev dktX1_format_7 : List UInt8 := dkwX1_format_7 ++ []
def dkwX1_format_6 : List UInt8 := [182, 1, 159, 87, 167, 0, 10, 45, 16, 45, 182, 1, 156, 87, 132, 5, 1, 167, 255, 211, 42, 45]
abbrev dktX1_format_6 : List UInt8 := dkwX1_format_6 ++ dktX1_format_7
def dkwX1_format_5 : List UInt8 := [180, 0, 203, 182, 0, 189, 162, 0, 36, 21, 4, 21, 5, 184, 1, 162, 153, 0, 13, 45, 21, 5]
abbrev dktX1_format_5 : List UInt8 := dkwX1_format_5 ++ dktX1_format_6
def dkwX1_format_4 : List UInt8 := [182, 1, 156, 87, 42, 180, 0, 133, 27, 182, 0, 96, 54, 4, 3, 54, 5, 21, 5, 42, 180, 0, 133]
abbrev dktX1_format_4 : List UInt8 := dkwX1_format_4 ++ dktX1_format_5
def dkwX1_format_3 : List UInt8 := [182, 1, 156, 87, 44, 180, 0, 70, 21, 4, 4, 96, 182, 1, 152, 54, 4, 167, 255, 193, 45, 16, 32]
abbrev dktX1_format_3 : List UInt8 := dkwX1_format_3 ++ dktX1_format_4
def dkwX1_format_2 : List UInt8 := [182, 1, 156, 21, 4, 182, 1, 159, 87, 21, 4, 42, 180, 0, 133, 182, 0, 86, 160, 0, 10, 45, 16, 42]
abbrev dktX1_format_2 : List UInt8 := dkwX1_format_2 ++ dktX1_format_3
def dkwX1_format_1 : List UInt8 := [21, 4, 155, 0, 64, 45, 182, 1, 155, 158, 0, 10, 45, 16, 32, 182, 1, 156, 87, 45, 16, 118]
abbrev dktX1_format_1 : List UInt8 := dkwX1_format_1 ++ dktX1_format_2
def dkwX1_format_0 : List UInt8 := [42, 27, 182, 1, 8, 77, 187, 1, 149, 89, 183, 1, 151, 78, 44, 180, 0, 70, 3, 182, 1, 152, 54, 4]
abbrev dktX1_format_0 : List UInt8 := dkwX1_format_0 ++ dktX1_format_1
theorem dksX1_format_0 : cX1_format.data.toList.drop 0 = dktX1_format_0 := by decide +kernel
theorem dksX1_format_1 : cX1_format.data.toList.drop 24 = dktX1_format_1 := dk_seg dksX1_format_0 24 rfl rfl
theorem dksX1_format_2 : cX1_format.data.toList.drop 46 = dktX1_format_2 := dk_seg dksX1_format_1 22 rfl rfl
theorem dksX1_format_3 : cX1_format.data.toList.drop 70 = dktX1_format_3 := dk_seg dksX1_format_2 24 rfl rfl
theorem dksX1_format_4 : cX1_format.data.toList.drop 93 = dktX1_format_4 := dk_seg dksX1_format_3 23 rfl rfl
theorem dksX1_format_5 : cX1_format.data.toList.drop 116 = dktX1_format_5 := dk_seg dksX1_format_4 23 rfl rfl
theorem dksX1_format_6 : cX1_format.data.toList.drop 138 = dktX1_format_6 := dk_seg dksX1_format_5 22 rfl rfl
theorem dksX1_format_7 : cX1_format.data.toList.drop 160 = dktX1_format_7 := dk_seg dksX1_format_6 22 rfl rfl
theorem dX1_format_0 : decode cX1_format 0 = .ok (.aload_n 0, 1) := dk_42 (dk_at dksX1_format_0 0 rfl rfl)
theorem dX1_format_1 : decode cX1_format 1 = .ok (.iload_n 1, 1) := dk_27 (dk_at dksX1_format_0 1 rfl rfl)
theorem dX1_format_2 : decode cX1_format 2 = .ok (.invokevirtual 264, 3) := dk_182 1 8 (dk_at dksX1_format_0 2 rfl rfl)
theorem dX1_format_5 : decode cX1_format 5 = .ok (.astore_n 2, 1) := dk_77 (dk_at dksX1_format_0 5 rfl rfl)
theorem dX1_format_6 : decode cX1_format 6 = .ok (.new 405, 3) := dk_187 1 149 (dk_at dksX1_format_0 6 rfl rfl)
theorem dX1_format_9 : decode cX1_format 9 = .ok (.dup, 1) := dk_89 (dk_at dksX1_format_0 9 rfl rfl)
theorem dX1_format_10 : decode cX1_format 10 = .ok (.invokespecial 407, 3) := dk_183 1 151 (dk_at dksX1_format_0 10 rfl rfl)
theorem dX1_format_13 : decode cX1_format 13 = .ok (.astore_n 3, 1) := dk_78 (dk_at dksX1_format_0 13 rfl rfl)
theorem dX1_format_14 : decode cX1_format 14 = .ok (.aload_n 2, 1) := dk_44 (dk_at dksX1_format_0 14 rfl rfl)
theorem dX1_format_15 : decode cX1_format 15 = .ok (.getfield 70, 3) := dk_180 0 70 (dk_at dksX1_format_0 15 rfl rfl)
theorem dX1_format_18 : decode cX1_format 18 = .ok (.iconst 0, 1) := dk_3 (dk_at dksX1_format_0 18 rfl rfl)
theorem dX1_format_19 : decode cX1_format 19 = .ok (.invokevirtual 408, 3) := dk_182 1 152 (dk_at dksX1_format_0 19 rfl rfl)
theorem dX1_format_22 : decode cX1_format 22 = .ok (.istore 4, 2) := dk_54 4 (dk_at dksX1_format_0 22 rfl rfl)
theorem dX1_format_24 : decode cX1_format 24 = .ok (.iload 4, 2) := dk_21 4 (dk_at dksX1_format_1 0 rfl rfl)
theorem dX1_format_26 : decode cX1_format 26 = .ok (.ifCond .lt 64, 3) := dk_155 0 64 (dk_at dksX1_format_1 2 rfl rfl)
theorem dX1_format_29 : decode cX1_format 29 = .ok (.aload_n 3, 1) := dk_45 (dk_at dksX1_format_1 5 rfl rfl)
theorem dX1_format_30 : decode cX1_format 30 = .ok (.invokevirtual 411, 3) := dk_182 1 155 (dk_at dksX1_format_1 6 rfl rfl)
theorem dX1_format_33 : decode cX1_format 33 = .ok (.ifCond .le 10, 3) := dk_158 0 10 (dk_at dksX1_format_1 9 rfl rfl)
theorem dX1_format_36 : decode cX1_format 36 = .ok (.aload_n 3, 1) := dk_45 (dk_at dksX1_format_1 12 rfl rfl)
theorem dX1_format_37 : decode cX1_format 37 = .ok (.bipush 32, 2) := dk_16 32 (dk_at dksX1_format_1 13 rfl rfl)
theorem dX1_format_39 : decode cX1_format 39 = .ok (.invokevirtual 412, 3) := dk_182 1 156 (dk_at dksX1_format_1 15 rfl rfl)
theorem dX1_format_42 : decode cX1_format 42 = .ok (.pop, 1) := dk_87 (dk_at dksX1_format_1 18 rfl rfl)
theorem dX1_format_43 : decode cX1_format 43 = .ok (.aload_n 3, 1) := dk_45 (dk_at dksX1_format_1 19 rfl rfl)
theorem dX1_format_44 : decode cX1_format 44 = .ok (.bipush 118, 2) := dk_16 118 (dk_at dksX1_format_1 20 rfl rfl)
theorem dX1_format_46 : decode cX1_format 46 = .ok (.invokevirtual 412, 3) := dk_182 1 156 (dk_at dksX1_format_2 0 rfl rfl)
theorem dX1_format_49 : decode cX1_format 49 = .ok (.iload 4, 2) := dk_21 4 (dk_at dksX1_format_2 3 rfl rfl)
theorem dX1_format_51 : decode cX1_format 51 = .ok (.invokevirtual 415, 3) := dk_182 1 159 (dk_at dksX1_format_2 5 rfl rfl)
theorem dX1_format_54 : decode cX1_format 54 = .ok (.pop, 1) := dk_87 (dk_at dksX1_format_2 8 rfl rfl)
theorem dX1_format_55 : decode cX1_format 55 = .ok (.iload 4, 2) := dk_21 4 (dk_at dksX1_format_2 9 rfl rfl)
theorem dX1_format_57 : decode cX1_format 57 = .ok (.aload_n 0, 1) := dk_42 (dk_at dksX1_format_2 11 rfl rfl)
theorem dX1_format_58 : decode cX1_format 58 = .ok (.getfield 133, 3) := dk_180 0 133 (dk_at dksX1_format_2 12 rfl rfl)
theorem dX1_format_61 : decode cX1_format 61 = .ok (.invokevirtual 86, 3) := dk_182 0 86 (dk_at dksX1_format_2 15 rfl rfl)
theorem dX1_format_64 : decode cX1_format 64 = .ok (.if_icmp .ne 10, 3) := dk_160 0 10 (dk_at dksX1_format_2 18 rfl rfl)
theorem dX1_format_67 : decode cX1_format 67 = .ok (.aload_n 3, 1) := dk_45 (dk_at dksX1_format_2 21 rfl rfl)
theorem dX1_format_68 : decode cX1_format 68 = .ok (.bipush 42, 2) := dk_16 42 (dk_at dksX1_format_2 22 rfl rfl)
theorem dX1_format_70 : decode cX1_format 70 = .ok (.invokevirtual 412, 3) := dk_182 1 156 (dk_at dksX1_format_3 0 rfl rfl)
theorem dX1_format_73 : decode cX1_format 73 = .ok (.pop, 1) := dk_87 (dk_at dksX1_format_3 3 rfl rfl)
theorem dX1_format_74 : decode cX1_format 74 = .ok (.aload_n 2, 1) := dk_44 (dk_at dksX1_format_3 4 rfl rfl)
theorem dX1_format_75 : decode cX1_format 75 = .ok (.getfield 70, 3) := dk_180 0 70 (dk_at dksX1_format_3 5 rfl rfl)
theorem dX1_format_78 : decode cX1_format 78 = .ok (.iload 4, 2) := dk_21 4 (dk_at dksX1_format_3 8 rfl rfl)
theorem dX1_format_80 : decode cX1_format 80 = .ok (.iconst 1, 1) := dk_4 (dk_at dksX1_format_3 10 rfl rfl)
theorem dX1_format_81 : decode cX1_format 81 = .ok (.iadd, 1) := dk_96 (dk_at dksX1_format_3 11 rfl rfl)
theorem dX1_format_82 : decode cX1_format 82 = .ok (.invokevirtual 408, 3) := dk_182 1 152 (dk_at dksX1_format_3 12 rfl rfl)
theorem dX1_format_85 : decode cX1_format 85 = .ok (.istore 4, 2) := dk_54 4 (dk_at dksX1_format_3 15 rfl rfl)
theorem dX1_format_87 : decode cX1_format 87 = .ok (.goto (-63), 3) := dk_167 255 193 (dk_at dksX1_format_3 17 rfl rfl)
theorem dX1_format_90 : decode cX1_format 90 = .ok (.aload_n 3, 1) := dk_45 (dk_at dksX1_format_3 20 rfl rfl)
theorem dX1_format_91 : decode cX1_format 91 = .ok (.bipush 32, 2) := dk_16 32 (dk_at dksX1_format_3 21 rfl rfl)
theorem dX1_format_93 : decode cX1_format 93 = .ok (.invokevirtual 412, 3) := dk_182 1 156 (dk_at dksX1_format_4 0 rfl rfl)
theorem dX1_format_96 : decode cX1_format 96 = .ok (.pop, 1) := dk_87 (dk_at dksX1_format_4 3 rfl rfl)
theorem dX1_format_97 : decode cX1_format 97 = .ok (.aload_n 0, 1) := dk_42 (dk_at dksX1_format_4 4 rfl rfl)
theorem dX1_format_98 : decode cX1_format 98 = .ok (.getfield 133, 3) := dk_180 0 133 (dk_at dksX1_format_4 5 rfl rfl)
theorem dX1_format_101 : decode cX1_format 101 = .ok (.iload_n 1, 1) := dk_27 (dk_at dksX1_format_4 8 rfl rfl)
theorem dX1_format_102 : decode cX1_format 102 = .ok (.invokevirtual 96, 3) := dk_182 0 96 (dk_at dksX1_format_4 9 rfl rfl)
theorem dX1_format_105 : decode cX1_format 105 = .ok (.istore 4, 2) := dk_54 4 (dk_at dksX1_format_4 12 rfl rfl)
theorem dX1_format_107 : decode cX1_format 107 = .ok (.iconst 0, 1) := dk_3 (dk_at dksX1_format_4 14 rfl rfl)
theorem dX1_format_108 : decode cX1_format 108 = .ok (.istore 5, 2) := dk_54 5 (dk_at dksX1_format_4 15 rfl rfl)
theorem dX1_format_110 : decode cX1_format 110 = .ok (.iload 5, 2) := dk_21 5 (dk_at dksX1_format_4 17 rfl rfl)
theorem dX1_format_112 : decode cX1_format 112 = .ok (.aload_n 0, 1) := dk_42 (dk_at dksX1_format_4 19 rfl rfl)
theorem dX1_format_113 : decode cX1_format 113 = .ok (.getfield 133, 3) := dk_180 0 133 (dk_at dksX1_format_4 20 rfl rfl)
theorem dX1_format_116 : decode cX1_format 116 = .ok (.getfield 203, 3) := dk_180 0 203 (dk_at dksX1_format_5 0 rfl rfl)
theorem dX1_format_119 : decode cX1_format 119 = .ok (.invokevirtual 189, 3) := dk_182 0 189 (dk_at dksX1_format_5 3 rfl rfl)
theorem dX1_format_122 : decode cX1_format 122 = .ok (.if_icmp .ge 36, 3) := dk_162 0 36 (dk_at dksX1_format_5 6 rfl rfl)
theorem dX1_format_125 : decode cX1_format 125 = .ok (.iload 4, 2) := dk_21 4 (dk_at dksX1_format_5 9 rfl rfl)
theorem dX1_format_127 : decode cX1_format 127 = .ok (.iload 5, 2) := dk_21 5 (dk_at dksX1_format_5 11 rfl rfl)
theorem dX1_format_129 : decode cX1_format 129 = .ok (.invokestatic 418, 3) := dk_184 1 162 (dk_at dksX1_format_5 13 rfl rfl)
theorem dX1_format_132 : decode cX1_format 132 = .ok (.ifCond .eq 13, 3) := dk_153 0 13 (dk_at dksX1_format_5 16 rfl rfl)
theorem dX1_format_135 : decode cX1_format 135 = .ok (.aload_n 3, 1) := dk_45 (dk_at dksX1_format_5 19 rfl rfl)
theorem dX1_format_136 : decode cX1_format 136 = .ok (.iload 5, 2) := dk_21 5 (dk_at dksX1_format_5 20 rfl rfl)
theorem dX1_format_138 : decode cX1_format 138 = .ok (.invokevirtual 415, 3) := dk_182 1 159 (dk_at dksX1_format_6 0 rfl rfl)
theorem dX1_format_141 : decode cX1_format 141 = .ok (.pop, 1) := dk_87 (dk_at dksX1_format_6 3 rfl rfl)
theorem dX1_format_142 : decode cX1_format 142 = .ok (.goto 10, 3) := dk_167 0 10 (dk_at dksX1_format_6 4 rfl rfl)
theorem dX1_format_145 : decode cX1_format 145 = .ok (.aload_n 3, 1) := dk_45 (dk_at dksX1_format_6 7 rfl rfl)
theorem dX1_format_146 : decode cX1_format 146 = .ok (.bipush 45, 2) := dk_16 45 (dk_at dksX1_format_6 8 rfl rfl)
theorem dX1_format_148 : decode cX1_format 148 = .ok (.invokevirtual 412, 3) := dk_182 1 156 (dk_at dksX1_format_6 10 rfl rfl)
theorem dX1_format_151 : decode cX1_format 151 = .ok (.pop, 1) := dk_87 (dk_at dksX1_format_6 13 rfl rfl)
theorem dX1_format_152 : decode cX1_format 152 = .ok (.iinc 5 1, 3) := dk_132 5 1 (dk_at dksX1_format_6 14 rfl rfl)
theorem dX1_format_155 : decode cX1_format 155 = .ok (.goto (-45), 3) := dk_167 255 211 (dk_at dksX1_format_6 17 rfl rfl)
theorem dX1_format_158 : decode cX1_format 158 = .ok (.aload_n 0, 1) := dk_42 (dk_at dksX1_format_6 20 rfl rfl)
theorem dX1_format_159 : decode cX1_format 159 = .ok (.aload_n 3, 1) := dk_45 (dk_at dksX1_format_6 21 rfl rfl)
theorem dX1_format_160 : decode cX1_format 160 = .ok (.invokevirtual 421, 3) := dk_182 1 165 (dk_at dksX1_format_7 0 rfl rfl)
theorem dX1_format_163 : decode cX1_format 163 = .ok (.putfield 125, 3) := dk_181 0 125 (dk_at dksX1_format_7 3 rfl rfl)
theorem dX1_format_166 : decode cX1_format 166 = .ok (.aload_n 0, 1) := dk_42 (dk_at dksX1_format_7 6 rfl rfl)
theorem dX1_format_167 : decode cX1_format 167 = .ok (.getfield 125, 3) := dk_180 0 125 (dk_at dksX1_format_7 7 rfl rfl)
theorem dX1_format_170 : decode cX1_format 170 = .ok (.invokevirtual 425, 3) := dk_182 1 169 (dk_at dksX1_format_7 10 rfl rfl)
theorem dX1_format_173 : decode cX1_format 173 = .ok (.ireturn, 1) := dk_172 (dk_at dksX1_format_7 13 rfl rfl)
def dkwX1_query_5 : List UInt8 := [21, 4, 172]
abbrev dktX1_query_5 : List UInt8 := dkwX1_query_5 ++ []
def dkwX1_query_4 : List UInt8 := [21, 5, 172, 132, 4, 1, 132, 5, 1, 167, 255, 197, 44, 180, 1, 189, 153, 0, 7, 2, 167, 0, 5]
abbrev dktX1_query_4 : List UInt8 := dkwX1_query_4 ++ dktX1_query_5
def dkwX1_query_3 : List UInt8 := [45, 42, 180, 0, 133, 21, 5, 182, 1, 183, 154, 0, 6, 167, 0, 16, 44, 180, 1, 189, 153, 0, 6]
abbrev dktX1_query_3 : List UInt8 := dkwX1_query_3 ++ dktX1_query_4
def dkwX1_query_2 : List UInt8 := [180, 0, 133, 180, 0, 58, 182, 0, 189, 162, 0, 50, 42, 180, 0, 133, 21, 5, 182, 0, 230, 153, 0, 32]
abbrev dktX1_query_2 : List UInt8 := dkwX1_query_2 ++ dktX1_query_3
def dkwX1_query_1 : List UInt8 := [167, 0, 15, 58, 4, 42, 25, 4, 19, 1, 182, 182, 0, 179, 172, 3, 54, 4, 3, 54, 5, 21, 5, 42]
abbrev dktX1_query_1 : List UInt8 := dkwX1_query_1 ++ dktX1_query_2
def dkwX1_query_0 : List UInt8 := [42, 27, 17, 0, 200, 182, 0, 166, 187, 1, 176, 89, 42, 27, 183, 1, 178, 77, 44, 182, 1, 179, 78]
abbrev dktX1_query_0 : List UInt8 := dkwX1_query_0 ++ dktX1_query_1
theorem dksX1_query_0 : cX1_query.data.toList.drop 0 = dktX1_query_0 := by decide +kernel
theorem dksX1_query_1 : cX1_query.data.toList.drop 23 = dktX1_query_1 := dk_seg dksX1_query_0 23 rfl rfl
theorem dksX1_query_2 : cX1_query.data.toList.drop 47 = dktX1_query_2 := dk_seg dksX1_query_1 24 rfl rfl
theorem dksX1_query_3 : cX1_query.data.toList.drop 71 = dktX1_query_3 := dk_seg dksX1_query_2 24 rfl rfl
theorem dksX1_query_4 : cX1_query.data.toList.drop 94 = dktX1_query_4 := dk_seg dksX1_query_3 23 rfl rfl
theorem dksX1_query_5 : cX1_query.data.toList.drop 117 = dktX1_query_5 := dk_seg dksX1_query_4 23 rfl rfl
theorem dX1_query_0 : decode cX1_query 0 = .ok (.aload_n 0, 1) := dk_42 (dk_at dksX1_query_0 0 rfl rfl)
theorem dX1_query_1 : decode cX1_query 1 = .ok (.iload_n 1, 1) := dk_27 (dk_at dksX1_query_0 1 rfl rfl)
theorem dX1_query_2 : decode cX1_query 2 = .ok (.sipush 200, 3) := dk_17 0 200 (dk_at dksX1_query_0 2 rfl rfl)
theorem dX1_query_5 : decode cX1_query 5 = .ok (.invokevirtual 166, 3) := dk_182 0 166 (dk_at dksX1_query_0 5 rfl rfl)
theorem dX1_query_8 : decode cX1_query 8 = .ok (.new 432, 3) := dk_187 1 176 (dk_at dksX1_query_0 8 rfl rfl)
theorem dX1_query_11 : decode cX1_query 11 = .ok (.dup, 1) := dk_89 (dk_at dksX1_query_0 11 rfl rfl)
theorem dX1_query_12 : decode cX1_query 12 = .ok (.aload_n 0, 1) := dk_42 (dk_at dksX1_query_0 12 rfl rfl)
theorem dX1_query_13 : decode cX1_query 13 = .ok (.iload_n 1, 1) := dk_27 (dk_at dksX1_query_0 13 rfl rfl)
theorem dX1_query_14 : decode cX1_query 14 = .ok (.invokespecial 434, 3) := dk_183 1 178 (dk_at dksX1_query_0 14 rfl rfl)
theorem dX1_query_17 : decode cX1_query 17 = .ok (.astore_n 2, 1) := dk_77 (dk_at dksX1_query_0 17 rfl rfl)
theorem dX1_query_18 : decode cX1_query 18 = .ok (.aload_n 2, 1) := dk_44 (dk_at dksX1_query_0 18 rfl rfl)
theorem dX1_query_19 : decode cX1_query 19 = .ok (.invokevirtual 435, 3) := dk_182 1 179 (dk_at dksX1_query_0 19 rfl rfl)
theorem dX1_query_22 : decode cX1_query 22 = .ok (.astore_n 3, 1) := dk_78 (dk_at dksX1_query_0 22 rfl rfl)
theorem dX1_query_23 : decode cX1_query 23 = .ok (.goto 15, 3) := dk_167 0 15 (dk_at dksX1_query_1 0 rfl rfl)
theorem dX1_query_26 : decode cX1_query 26 = .ok (.astore 4, 2) := dk_58 4 (dk_at dksX1_query_1 3 rfl rfl)
theorem dX1_query_28 : decode cX1_query 28 = .ok (.aload_n 0, 1) := dk_42 (dk_at dksX1_query_1 5 rfl rfl)
theorem dX1_query_29 : decode cX1_query 29 = .ok (.aload 4, 2) := dk_25 4 (dk_at dksX1_query_1 6 rfl rfl)
theorem dX1_query_31 : decode cX1_query 31 = .ok (.ldc_w 438, 3) := dk_19 1 182 (dk_at dksX1_query_1 8 rfl rfl)
theorem dX1_query_34 : decode cX1_query 34 = .ok (.invokevirtual 179, 3) := dk_182 0 179 (dk_at dksX1_query_1 11 rfl rfl)
theorem dX1_query_37 : decode cX1_query 37 = .ok (.ireturn, 1) := dk_172 (dk_at dksX1_query_1 14 rfl rfl)
theorem dX1_query_38 : decode cX1_query 38 = .ok (.iconst 0, 1) := dk_3 (dk_at dksX1_query_1 15 rfl rfl)
theorem dX1_query_39 : decode cX1_query 39 = .ok (.istore 4, 2) := dk_54 4 (dk_at dksX1_query_1 16 rfl rfl)
theorem dX1_query_41 : decode cX1_query 41 = .ok (.iconst 0, 1) := dk_3 (dk_at dksX1_query_1 18 rfl rfl)
theorem dX1_query_42 : decode cX1_query 42 = .ok (.istore 5, 2) := dk_54 5 (dk_at dksX1_query_1 19 rfl rfl)
theorem dX1_query_44 : decode cX1_query 44 = .ok (.iload 5, 2) := dk_21 5 (dk_at dksX1_query_1 21 rfl rfl)
theorem dX1_query_46 : decode cX1_query 46 = .ok (.aload_n 0, 1) := dk_42 (dk_at dksX1_query_1 23 rfl rfl)
theorem dX1_query_47 : decode cX1_query 47 = .ok (.getfield 133, 3) := dk_180 0 133 (dk_at dksX1_query_2 0 rfl rfl)
theorem dX1_query_50 : decode cX1_query 50 = .ok (.getfield 58, 3) := dk_180 0 58 (dk_at dksX1_query_2 3 rfl rfl)
theorem dX1_query_53 : decode cX1_query 53 = .ok (.invokevirtual 189, 3) := dk_182 0 189 (dk_at dksX1_query_2 6 rfl rfl)
theorem dX1_query_56 : decode cX1_query 56 = .ok (.if_icmp .ge 50, 3) := dk_162 0 50 (dk_at dksX1_query_2 9 rfl rfl)
theorem dX1_query_59 : decode cX1_query 59 = .ok (.aload_n 0, 1) := dk_42 (dk_at dksX1_query_2 12 rfl rfl)
theorem dX1_query_60 : decode cX1_query 60 = .ok (.getfield 133, 3) := dk_180 0 133 (dk_at dksX1_query_2 13 rfl rfl)
theorem dX1_query_63 : decode cX1_query 63 = .ok (.iload 5, 2) := dk_21 5 (dk_at dksX1_query_2 16 rfl rfl)
theorem dX1_query_65 : decode cX1_query 65 = .ok (.invokevirtual 230, 3) := dk_182 0 230 (dk_at dksX1_query_2 18 rfl rfl)
theorem dX1_query_68 : decode cX1_query 68 = .ok (.ifCond .eq 32, 3) := dk_153 0 32 (dk_at dksX1_query_2 21 rfl rfl)
theorem dX1_query_71 : decode cX1_query 71 = .ok (.aload_n 3, 1) := dk_45 (dk_at dksX1_query_3 0 rfl rfl)
theorem dX1_query_72 : decode cX1_query 72 = .ok (.aload_n 0, 1) := dk_42 (dk_at dksX1_query_3 1 rfl rfl)
theorem dX1_query_73 : decode cX1_query 73 = .ok (.getfield 133, 3) := dk_180 0 133 (dk_at dksX1_query_3 2 rfl rfl)
theorem dX1_query_76 : decode cX1_query 76 = .ok (.iload 5, 2) := dk_21 5 (dk_at dksX1_query_3 5 rfl rfl)
theorem dX1_query_78 : decode cX1_query 78 = .ok (.invokevirtual 439, 3) := dk_182 1 183 (dk_at dksX1_query_3 7 rfl rfl)
theorem dX1_query_81 : decode cX1_query 81 = .ok (.ifCond .ne 6, 3) := dk_154 0 6 (dk_at dksX1_query_3 10 rfl rfl)
theorem dX1_query_84 : decode cX1_query 84 = .ok (.goto 16, 3) := dk_167 0 16 (dk_at dksX1_query_3 13 rfl rfl)
theorem dX1_query_87 : decode cX1_query 87 = .ok (.aload_n 2, 1) := dk_44 (dk_at dksX1_query_3 16 rfl rfl)
theorem dX1_query_88 : decode cX1_query 88 = .ok (.getfield 445, 3) := dk_180 1 189 (dk_at dksX1_query_3 17 rfl rfl)
theorem dX1_query_91 : decode cX1_query 91 = .ok (.ifCond .eq 6, 3) := dk_153 0 6 (dk_at dksX1_query_3 20 rfl rfl)
theorem dX1_query_94 : decode cX1_query 94 = .ok (.iload 5, 2) := dk_21 5 (dk_at dksX1_query_4 0 rfl rfl)
theorem dX1_query_96 : decode cX1_query 96 = .ok (.ireturn, 1) := dk_172 (dk_at dksX1_query_4 2 rfl rfl)
theorem dX1_query_97 : decode cX1_query 97 = .ok (.iinc 4 1, 3) := dk_132 4 1 (dk_at dksX1_query_4 3 rfl rfl)
theorem dX1_query_100 : decode cX1_query 100 = .ok (.iinc 5 1, 3) := dk_132 5 1 (dk_at dksX1_query_4 6 rfl rfl)
theorem dX1_query_103 : decode cX1_query 103 = .ok (.goto (-59), 3) := dk_167 255 197 (dk_at dksX1_query_4 9 rfl rfl)
theorem dX1_query_106 : decode cX1_query 106 = .ok (.aload_n 2, 1) := dk_44 (dk_at dksX1_query_4 12 rfl rfl)
theorem dX1_query_107 : decode cX1_query 107 = .ok (.getfield 445, 3) := dk_180 1 189 (dk_at dksX1_query_4 13 rfl rfl)
theorem dX1_query_110 : decode cX1_query 110 = .ok (.ifCond .eq 7, 3) := dk_153 0 7 (dk_at dksX1_query_4 16 rfl rfl)
theorem dX1_query_113 : decode cX1_query 113 = .ok (.iconst (-1), 1) := dk_2 (dk_at dksX1_query_4 19 rfl rfl)
theorem dX1_query_114 : decode cX1_query 114 = .ok (.goto 5, 3) := dk_167 0 5 (dk_at dksX1_query_4 20 rfl rfl)
theorem dX1_query_117 : decode cX1_query 117 = .ok (.iload 4, 2) := dk_21 4 (dk_at dksX1_query_5 0 rfl rfl)
theorem dX1_query_119 : decode cX1_query 119 = .ok (.ireturn, 1) := dk_172 (dk_at dksX1_query_5 2 rfl rfl)
def dkwX1_propertyCode_1 : List UInt8 := [185, 0, 54, 2, 0, 172]
abbrev dktX1_propertyCode_1 : List UInt8 := dkwX1_propertyCode_1 ++ []
def dkwX1_propertyCode_0 : List UInt8 := [18, 32, 18, 34, 18, 36, 18, 38, 18, 40, 18, 42, 18, 44, 18, 46, 184, 0, 48, 76, 43, 42]
abbrev dktX1_propertyCode_0 : List UInt8 := dkwX1_propertyCode_0 ++ dktX1_propertyCode_1
theorem dksX1_propertyCode_0 : cX1_propertyCode.data.toList.drop 0 = dktX1_propertyCode_0 := by decide +kernel
theorem dksX1_propertyCode_1 : cX1_propertyCode.data.toList.drop 22 = dktX1_propertyCode_1 := dk_seg dksX1_propertyCode_0 22 rfl rfl
theorem dX1_propertyCode_0 : decode cX1_propertyCode 0 = .ok (.ldc 32, 2) := dk_18 32 (dk_at dksX1_propertyCode_0 0 rfl rfl)
theorem dX1_propertyCode_2 : decode cX1_propertyCode 2 = .ok (.ldc 34, 2) := dk_18 34 (dk_at dksX1_propertyCode_0 2 rfl rfl)
theorem dX1_propertyCode_4 : decode cX1_propertyCode 4 = .ok (.ldc 36, 2) := dk_18 36 (dk_at dksX1_propertyCode_0 4 rfl rfl)
theorem dX1_propertyCode_6 : decode cX1_propertyCode 6 = .ok (.ldc 38, 2) := dk_18 38 (dk_at dksX1_propertyCode_0 6 rfl rfl)
theorem dX1_propertyCode_8 : decode cX1_propertyCode 8 = .ok (.ldc 40, 2) := dk_18 40 (dk_at dksX1_propertyCode_0 8 rfl rfl)
theorem dX1_propertyCode_10 : decode cX1_propertyCode 10 = .ok (.ldc 42, 2) := dk_18 42 (dk_at dksX1_propertyCode_0 10 rfl rfl)
theorem dX1_propertyCode_12 : decode cX1_propertyCode 12 = .ok (.ldc 44, 2) := dk_18 44 (dk_at dksX1_propertyCode_0 12 rfl rfl)
theorem dX1_propertyCode_14 : decode cX1_propertyCode 14 = .ok (.ldc 46, 2) := dk_18 46 (dk_at dksX1_propertyCode_0 14 rfl rfl)
theorem dX1_propertyCode_16 : decode cX1_propertyCode 16 = .ok (.invokestatic 48, 3) := dk_184 0 48 (dk_at dksX1_propertyCode_0 16 rfl rfl)
theorem dX1_propertyCode_19 : decode cX1_propertyCode 19 = .ok (.astore_n 1, 1) := dk_76 (dk_at dksX1_propertyCode_0 19 rfl rfl)
theorem dX1_propertyCode_20 : decode cX1_propertyCode 20 = .ok (.aload_n 1, 1) := dk_43 (dk_at dksX1_propertyCode_0 20 rfl rfl)
theorem dX1_propertyCode_21 : decode cX1_propertyCode 21 = .ok (.aload_n 0, 1) := dk_42 (dk_at dksX1_propertyCode_0 21 rfl rfl)
theorem dX1_propertyCode_22 : decode cX1_propertyCode 22 = .ok (.invokeinterface 54 2, 5) := by decide +kernel
theorem dX1_propertyCode_27 : decode cX1_propertyCode 27 = .ok (.ireturn, 1) := dk_172 (dk_at dksX1_propertyCode_1 5 rfl rfl)
def dkwX1_of_5 : List UInt8 := [184, 0, 92, 167, 0, 18, 43, 28, 182, 0, 96, 184, 0, 99, 167, 0, 7, 45, 180, 0, 104, 172]
abbrev dktX1_of_5 : List UInt8 := dkwX1_of_5 ++ []
def dkwX1_of_4 : List UInt8 := [159, 0, 21, 45, 180, 0, 70, 43, 182, 0, 86, 182, 0, 89, 153, 0, 7, 4, 167, 0, 4, 3]
abbrev dktX1_of_4 : List UInt8 := dkwX1_of_4 ++ dktX1_of_5
def dkwX1_of_3 : List UInt8 := [180, 0, 70, 182, 0, 79, 4, 100, 167, 0, 59, 43, 45, 182, 0, 82, 167, 0, 51, 43, 182, 0, 86, 2]
abbrev dktX1_of_3 : List UInt8 := dkwX1_of_3 ++ dktX1_of_4
def dkwX1_of_2 : List UInt8 := [28, 167, 0, 88, 45, 180, 0, 67, 167, 0, 81, 45, 180, 0, 70, 182, 0, 73, 167, 0, 71, 45]
abbrev dktX1_of_2 : List UInt8 := dkwX1_of_2 ++ dktX1_of_3
def dkwX1_of_1 : List UInt8 := [170, 0, 0, 0, 0, 0, 128, 0, 0, 0, 0, 0, 0, 0, 6, 0, 0, 0, 43, 0, 0, 0, 47, 0, 0, 0, 54, 0, 0, 0, 64, 0, 0, 0, 76, 0, 0, 0, 84, 0, 0, 0, 117]
abbrev dktX1_of_1 : List UInt8 := dkwX1_of_1 ++ dktX1_of_2
def dkwX1_of_0 : List UInt8 := [43, 180, 0, 58, 28, 182, 0, 61, 192, 0, 65, 78, 26]
abbrev dktX1_of_0 : List UInt8 := dkwX1_of_0 ++ dktX1_of_1
theorem dksX1_of_0 : cX1_of.data.toList.drop 0 = dktX1_of_0 := by decide +kernel
theorem dksX1_of_1 : cX1_of.data.toList.drop 13 = dktX1_of_1 := dk_seg dksX1_of_0 13 rfl rfl
theorem dksX1_of_2 : cX1_of.data.toList.drop 56 = dktX1_of_2 := dk_seg dksX1_of_1 43 rfl rfl
theorem dksX1_of_3 : cX1_of.data.toList.drop 78 = dktX1_of_3 := dk_seg dksX1_of_2 22 rfl rfl
theorem dksX1_of_4 : cX1_of.data.toList.drop 102 = dktX1_of_4 := dk_seg dksX1_of_3 24 rfl rfl
theorem dksX1_of_5 : cX1_of.data.toList.drop 124 = dktX1_of_5 := dk_seg dksX1_of_4 22 rfl rfl
theorem dX1_of_0 : decode cX1_of 0 = .ok (.aload_n 1, 1) := dk_43 (dk_at dksX1_of_0 0 rfl rfl)
theorem dX1_of_1 : decode cX1_of 1 = .ok (.getfield 58, 3) := dk_180 0 58 (dk_at dksX1_of_0 1 rfl rfl)
theorem dX1_of_4 : decode cX1_of 4 = .ok (.iload_n 2, 1) := dk_28 (dk_at dksX1_of_0 4 rfl rfl)
theorem dX1_of_5 : decode cX1_of 5 = .ok (.invokevirtual 61, 3) := dk_182 0 61 (dk_at dksX1_of_0 5 rfl rfl)
theorem dX1_of_8 : decode cX1_of 8 = .ok (.checkcast 65, 3) := dk_192 0 65 (dk_at dksX1_of_0 8 rfl rfl)
theorem dX1_of_11 : decode cX1_of 11 = .ok (.astore_n 3, 1) := dk_78 (dk_at dksX1_of_0 11 rfl rfl)
theorem dX1_of_12 : decode cX1_of 12 = .ok (.iload_n 0, 1) := dk_26 (dk_at dksX1_of_0 12 rfl rfl)
theorem dX1_of_13 : decode cX1_of 13 = .ok (.tableswitch 128 0 6 #[43, 47, 54, 64, 76, 84, 117], 43) := by decide +kernel
theorem dX1_of_56 : decode cX1_of 56 = .ok (.iload_n 2, 1) := dk_28 (dk_at dksX1_of_2 0 rfl rfl)
theorem dX1_of_57 : decode cX1_of 57 = .ok (.goto 88, 3) := dk_167 0 88 (dk_at dksX1_of_2 1 rfl rfl)
theorem dX1_of_60 : decode cX1_of 60 = .ok (.aload_n 3, 1) := dk_45 (dk_at dksX1_of_2 4 rfl rfl)
theorem dX1_of_61 : decode cX1_of 61 = .ok (.getfield 67, 3) := dk_180 0 67 (dk_at dksX1_of_2 5 rfl rfl)
theorem dX1_of_64 : decode cX1_of 64 = .ok (.goto 81, 3) := dk_167 0 81 (dk_at dksX1_of_2 8 rfl rfl)
theorem dX1_of_67 : decode cX1_of 67 = .ok (.aload_n 3, 1) := dk_45 (dk_at dksX1_of_2 11 rfl rfl)
theorem dX1_of_68 : decode cX1_of 68 = .ok (.getfield 70, 3) := dk_180 0 70 (dk_at dksX1_of_2 12 rfl rfl)
theorem dX1_of_71 : decode cX1_of 71 = .ok (.invokevirtual 73, 3) := dk_182 0 73 (dk_at dksX1_of_2 15 rfl rfl)
theorem dX1_of_74 : decode cX1_of 74 = .ok (.goto 71, 3) := dk_167 0 71 (dk_at dksX1_of_2 18 rfl rfl)
theorem dX1_of_77 : decode cX1_of 77 = .ok (.aload_n 3, 1) := dk_45 (dk_at dksX1_of_2 21 rfl rfl)
theorem dX1_of_78 : decode cX1_of 78 = .ok (.getfield 70, 3) := dk_180 0 70 (dk_at dksX1_of_3 0 rfl rfl)
theorem dX1_of_81 : decode cX1_of 81 = .ok (.invokevirtual 79, 3) := dk_182 0 79 (dk_at dksX1_of_3 3 rfl rfl)
theorem dX1_of_84 : decode cX1_of 84 = .ok (.iconst 1, 1) := dk_4 (dk_at dksX1_of_3 6 rfl rfl)
theorem dX1_of_85 : decode cX1_of 85 = .ok (.isub, 1) := dk_100 (dk_at dksX1_of_3 7 rfl rfl)
theorem dX1_of_86 : decode cX1_of 86 = .ok (.goto 59, 3) := dk_167 0 59 (dk_at dksX1_of_3 8 rfl rfl)
theorem dX1_of_89 : decode cX1_of 89 = .ok (.aload_n 1, 1) := dk_43 (dk_at dksX1_of_3 11 rfl rfl)
theorem dX1_of_90 : decode cX1_of 90 = .ok (.aload_n 3, 1) := dk_45 (dk_at dksX1_of_3 12 rfl rfl)
theorem dX1_of_91 : decode cX1_of 91 = .ok (.invokevirtual 82, 3) := dk_182 0 82 (dk_at dksX1_of_3 13 rfl rfl)
theorem dX1_of_94 : decode cX1_of 94 = .ok (.goto 51, 3) := dk_167 0 51 (dk_at dksX1_of_3 16 rfl rfl)
theorem dX1_of_97 : decode cX1_of 97 = .ok (.aload_n 1, 1) := dk_43 (dk_at dksX1_of_3 19 rfl rfl)
theorem dX1_of_98 : decode cX1_of 98 = .ok (.invokevirtual 86, 3) := dk_182 0 86 (dk_at dksX1_of_3 20 rfl rfl)
theorem dX1_of_101 : decode cX1_of 101 = .ok (.iconst (-1), 1) := dk_2 (dk_at dksX1_of_3 23 rfl rfl)
theorem dX1_of_102 : decode cX1_of 102 = .ok (.if_icmp .eq 21, 3) := dk_159 0 21 (dk_at dksX1_of_4 0 rfl rfl)
theorem dX1_of_105 : decode cX1_of 105 = .ok (.aload_n 3, 1) := dk_45 (dk_at dksX1_of_4 3 rfl rfl)
theorem dX1_of_106 : decode cX1_of 106 = .ok (.getfield 70, 3) := dk_180 0 70 (dk_at dksX1_of_4 4 rfl rfl)
theorem dX1_of_109 : decode cX1_of 109 = .ok (.aload_n 1, 1) := dk_43 (dk_at dksX1_of_4 7 rfl rfl)
theorem dX1_of_110 : decode cX1_of 110 = .ok (.invokevirtual 86, 3) := dk_182 0 86 (dk_at dksX1_of_4 8 rfl rfl)
theorem dX1_of_113 : decode cX1_of 113 = .ok (.invokevirtual 89, 3) := dk_182 0 89 (dk_at dksX1_of_4 11 rfl rfl)
theorem dX1_of_116 : decode cX1_of 116 = .ok (.ifCond .eq 7, 3) := dk_153 0 7 (dk_at dksX1_of_4 14 rfl rfl)
theorem dX1_of_119 : decode cX1_of 119 = .ok (.iconst 1, 1) := dk_4 (dk_at dksX1_of_4 17 rfl rfl)
theorem dX1_of_120 : decode cX1_of 120 = .ok (.goto 4, 3) := dk_167 0 4 (dk_at dksX1_of_4 18 rfl rfl)
theorem dX1_of_123 : decode cX1_of 123 = .ok (.iconst 0, 1) := dk_3 (dk_at dksX1_of_4 21 rfl rfl)
theorem dX1_of_124 : decode cX1_of 124 = .ok (.invokestatic 92, 3) := dk_184 0 92 (dk_at dksX1_of_5 0 rfl rfl)
theorem dX1_of_127 : decode cX1_of 127 = .ok (.goto 18, 3) := dk_167 0 18 (dk_at dksX1_of_5 3 rfl rfl)
theorem dX1_of_130 : decode cX1_of 130 = .ok (.aload_n 1, 1) := dk_43 (dk_at dksX1_of_5 6 rfl rfl)
theorem dX1_of_131 : decode cX1_of 131 = .ok (.iload_n 2, 1) := dk_28 (dk_at dksX1_of_5 7 rfl rfl)
theorem dX1_of_132 : decode cX1_of 132 = .ok (.invokevirtual 96, 3) := dk_182 0 96 (dk_at dksX1_of_5 8 rfl rfl)
theorem dX1_of_135 : decode cX1_of 135 = .ok (.invokestatic 99, 3) := dk_184 0 99 (dk_at dksX1_of_5 11 rfl rfl)
theorem dX1_of_138 : decode cX1_of 138 = .ok (.goto 7, 3) := dk_167 0 7 (dk_at dksX1_of_5 14 rfl rfl)
theorem dX1_of_141 : decode cX1_of 141 = .ok (.aload_n 3, 1) := dk_45 (dk_at dksX1_of_5 17 rfl rfl)
theorem dX1_of_142 : decode cX1_of 142 = .ok (.getfield 104, 3) := dk_180 0 104 (dk_at dksX1_of_5 18 rfl rfl)
theorem dX1_of_145 : decode cX1_of 145 = .ok (.ireturn, 1) := dk_172 (dk_at dksX1_of_5 21 rfl rfl)
def dkwX2_init_3 : List UInt8 := [42, 28, 181, 0, 42, 42, 29, 181, 0, 45, 42, 21, 4, 181, 0, 48, 177]
abbrev dktX2_init_3 : List UInt8 := dkwX2_init_3 ++ []
def dkwX2_init_2 : List UInt8 := [181, 0, 27, 42, 16, 30, 188, 10, 181, 0, 31, 42, 16, 30, 188, 10, 181, 0, 35, 42, 27, 181, 0, 38]
abbrev dktX2_init_2 : List UInt8 := dkwX2_init_2 ++ dktX2_init_3
def dkwX2_init_1 : List UInt8 := [181, 0, 18, 42, 187, 0, 9, 89, 183, 0, 11, 181, 0, 21, 42, 187, 0, 24, 89, 183, 0, 26]
abbrev dktX2_init_1 : List UInt8 := dkwX2_init_1 ++ dktX2_init_2
def dkwX2_init_0 : List UInt8 := [42, 183, 0, 3, 42, 187, 0, 9, 89, 183, 0, 11, 181, 0, 12, 42, 187, 0, 9, 89, 183, 0, 11]
abbrev dktX2_init_0 : List UInt8 := dkwX2_init_0 ++ dktX2_init_1
theorem dksX2_init_0 : cX2_init.data.toList.drop 0 = dktX2_init_0 := by decide +kernel
theorem dksX2_init_1 : cX2_init.data.toList.drop 23 = dktX2_init_1 := dk_seg dksX2_init_0 23 rfl rfl
theorem dksX2_init_2 : cX2_init.data.toList.drop 45 = dktX2_init_2 := dk_seg dksX2_init_1 22 rfl rfl
theorem dksX2_init_3 : cX2_init.data.toList.drop 69 = dktX2_init_3 := dk_seg dksX2_init_2 24 rfl rfl
theorem dX2_init_0 : decode cX2_init 0 = .ok (.aload_n 0, 1) := dk_42 (dk_at dksX2_init_0 0 rfl rfl)
theorem dX2_init_1 : decode cX2_init 1 = .ok (.invokespecial 3, 3) := dk_183 0 3 (dk_at dksX2_init_0 1 rfl rfl)
theorem dX2_init_4 : decode cX2_init 4 = .ok (.aload_n 0, 1) := dk_42 (dk_at dksX2_init_0 4 rfl rfl)
theorem dX2_init_5 : decode cX2_init 5 = .ok (.new 9, 3) := dk_187 0 9 (dk_at dksX2_init_0 5 rfl rfl)
theorem dX2_init_8 : decode cX2_init 8 = .ok (.dup, 1) := dk_89 (dk_at dksX2_init_0 8 rfl rfl)
theorem dX2_init_9 : decode cX2_init 9 = .ok (.invokespecial 11, 3) := dk_183 0 11 (dk_at dksX2_init_0 9 rfl rfl)
theorem dX2_init_12 : decode cX2_init 12 = .ok (.putfield 12, 3) := dk_181 0 12 (dk_at dksX2_init_0 12 rfl rfl)
theorem dX2_init_15 : decode cX2_init 15 = .ok (.aload_n 0, 1) := dk_42 (dk_at dksX2_init_0 15 rfl rfl)
theorem dX2_init_16 : decode cX2_init 16 = .ok (.new 9, 3) := dk_187 0 9 (dk_at dksX2_init_0 16 rfl rfl)
theorem dX2_init_19 : decode cX2_init 19 = .ok (.dup, 1) := dk_89 (dk_at dksX2_init_0 19 rfl rfl)
theorem dX2_init_20 : decode cX2_init 20 = .ok (.invokespecial 11, 3) := dk_183 0 11 (dk_at dksX2_init_0 20 rfl rfl)
theorem dX2_init_23 : decode cX2_init 23 = .ok (.putfield 18, 3) := dk_181 0 18 (dk_at dksX2_init_1 0 rfl rfl)
theorem dX2_init_26 : decode cX2_init 26 = .ok (.aload_n 0, 1) := dk_42 (dk_at dksX2_init_1 3 rfl rfl)
theorem dX2_init_27 : decode cX2_init 27 = .ok (.new 9, 3) := dk_187 0 9 (dk_at dksX2_init_1 4 rfl rfl)
theorem dX2_init_30 : decode cX2_init 30 = .ok (.dup, 1) := dk_89 (dk_at dksX2_init_1 7 rfl rfl)
theorem dX2_init_31 : decode cX2_init 31 = .ok (.invokespecial 11, 3) := dk_183 0 11 (dk_at dksX2_init_1 8 rfl rfl)
theorem dX2_init_34 : decode cX2_init 34 = .ok (.putfield 21, 3) := dk_181 0 21 (dk_at dksX2_init_1 11 rfl rfl)
theorem dX2_init_37 : decode cX2_init 37 = .ok (.aload_n 0, 1) := dk_42 (dk_at dksX2_init_1 14 rfl rfl)
theorem dX2_init_38 : decode cX2_init 38 = .ok (.new 24, 3) := dk_187 0 24 (dk_at dksX2_init_1 15 rfl rfl)
theorem dX2_init_41 : decode cX2_init 41 = .ok (.dup, 1) := dk_89 (dk_at dksX2_init_1 18 rfl rfl)
theorem dX2_init_42 : decode cX2_init 42 = .ok (.invokespecial 26, 3) := dk_183 0 26 (dk_at dksX2_init_1 19 rfl rfl)
theorem dX2_init_45 : decode cX2_init 45 = .ok (.putfield 27, 3) := dk_181 0 27 (dk_at dksX2_init_2 0 rfl rfl)
theorem dX2_init_48 : decode cX2_init 48 = .ok (.aload_n 0, 1) := dk_42 (dk_at dksX2_init_2 3 rfl rfl)
theorem dX2_init_49 : decode cX2_init 49 = .ok (.bipush 30, 2) := dk_16 30 (dk_at dksX2_init_2 4 rfl rfl)
theorem dX2_init_51 : decode cX2_init 51 = .ok (.newarray .int, 2) := dk_188_10 (dk_at dksX2_init_2 6 rfl rfl)
theorem dX2_init_53 : decode cX2_init 53 = .ok (.putfield 31, 3) := dk_181 0 31 (dk_at dksX2_init_2 8 rfl rfl)
theorem dX2_init_56 : decode cX2_init 56 = .ok (.aload_n 0, 1) := dk_42 (dk_at dksX2_init_2 11 rfl rfl)
theorem dX2_init_57 : decode cX2_init 57 = .ok (.bipush 30, 2) := dk_16 30 (dk_at dksX2_init_2 12 rfl rfl)
theorem dX2_init_59 : decode cX2_init 59 = .ok (.newarray .int, 2) := dk_188_10 (dk_at dksX2_init_2 14 rfl rfl)
theorem dX2_init_61 : decode cX2_init 61 = .ok (.putfield 35, 3) := dk_181 0 35 (dk_at dksX2_init_2 16 rfl rfl)
theorem dX2_init_64 : decode cX2_init 64 = .ok (.aload_n 0, 1) := dk_42 (dk_at dksX2_init_2 19 rfl rfl)
theorem dX2_init_65 : decode cX2_init 65 = .ok (.iload_n 1, 1) := dk_27 (dk_at dksX2_init_2 20 rfl rfl)
theorem dX2_init_66 : decode cX2_init 66 = .ok (.putfield 38, 3) := dk_181 0 38 (dk_at dksX2_init_2 21 rfl rfl)
theorem dX2_init_69 : decode cX2_init 69 = .ok (.aload_n 0, 1) := dk_42 (dk_at dksX2_init_3 0 rfl rfl)
theorem dX2_init_70 : decode cX2_init 70 = .ok (.iload_n 2, 1) := dk_28 (dk_at dksX2_init_3 1 rfl rfl)
theorem dX2_init_71 : decode cX2_init 71 = .ok (.putfield 42, 3) := dk_181 0 42 (dk_at dksX2_init_3 2 rfl rfl)
theorem dX2_init_74 : decode cX2_init 74 = .ok (.aload_n 0, 1) := dk_42 (dk_at dksX2_init_3 5 rfl rfl)
theorem dX2_init_75 : decode cX2_init 75 = .ok (.iload_n 3, 1) := dk_29 (dk_at dksX2_init_3 6 rfl rfl)
theorem dX2_init_76 : decode cX2_init 76 = .ok (.putfield 45, 3) := dk_181 0 45 (dk_at dksX2_init_3 7 rfl rfl)
theorem dX2_init_79 : decode cX2_init 79 = .ok (.aload_n 0, 1) := dk_42 (dk_at dksX2_init_3 10 rfl rfl)
theorem dX2_init_80 : decode cX2_init 80 = .ok (.iload 4, 2) := dk_21 4 (dk_at dksX2_init_3 11 rfl rfl)
theorem dX2_init_82 : decode cX2_init 82 = .ok (.putfield 48, 3) := dk_181 0 48 (dk_at dksX2_init_3 13 rfl rfl)
theorem dX2_init_85 : decode cX2_init 85 = .ok (.return_, 1) := dk_177 (dk_at dksX2_init_3 16 rfl rfl)
def dkwX2_dueAt_1 : List UInt8 := [27, 46, 167, 0, 4, 2, 172]
abbrev dktX2_dueAt_1 : List UInt8 := dkwX2_dueAt_1 ++ []
def dkwX2_dueAt_0 : List UInt8 := [42, 182, 0, 238, 27, 133, 9, 42, 180, 0, 229, 4, 100, 133, 184, 0, 207, 153, 0, 12, 42, 180, 0, 31]
abbrev dktX2_dueAt_0 : List UInt8 := dkwX2_dueAt_0 ++ dktX2_dueAt_1
theorem dksX2_dueAt_0 : cX2_dueAt.data.toList.drop 0 = dktX2_dueAt_0 := by decide +kernel
theorem dksX2_dueAt_1 : cX2_dueAt.data.toList.drop 24 = dktX2_dueAt_1 := dk_seg dksX2_dueAt_0 24 rfl rfl
theorem dX2_dueAt_0 : decode cX2_dueAt 0 = .ok (.aload_n 0, 1) := dk_42 (dk_at dksX2_dueAt_0 0 rfl rfl)
theorem dX2_dueAt_1 : decode cX2_dueAt 1 = .ok (.invokevirtual 238, 3) := dk_182 0 238 (dk_at dksX2_dueAt_0 1 rfl rfl)
theorem dX2_dueAt_4 : decode cX2_dueAt 4 = .ok (.iload_n 1, 1) := dk_27 (dk_at dksX2_dueAt_0 4 rfl rfl)
theorem dX2_dueAt_5 : decode cX2_dueAt 5 = .ok (.i2l, 1) := dk_133 (dk_at dksX2_dueAt_0 5 rfl rfl)
theorem dX2_dueAt_6 : decode cX2_dueAt 6 = .ok (.lconst 0, 1) := dk_9 (dk_at dksX2_dueAt_0 6 rfl rfl)
theorem dX2_dueAt_7 : decode cX2_dueAt 7 = .ok (.aload_n 0, 1) := dk_42 (dk_at dksX2_dueAt_0 7 rfl rfl)
theorem dX2_dueAt_8 : decode cX2_dueAt 8 = .ok (.getfield 229, 3) := dk_180 0 229 (dk_at dksX2_dueAt_0 8 rfl rfl)
theorem dX2_dueAt_11 : decode cX2_dueAt 11 = .ok (.iconst 1, 1) := dk_4 (dk_at dksX2_dueAt_0 11 rfl rfl)
theorem dX2_dueAt_12 : decode cX2_dueAt 12 = .ok (.isub, 1) := dk_100 (dk_at dksX2_dueAt_0 12 rfl rfl)
theorem dX2_dueAt_13 : decode cX2_dueAt 13 = .ok (.i2l, 1) := dk_133 (dk_at dksX2_dueAt_0 13 rfl rfl)
theorem dX2_dueAt_14 : decode cX2_dueAt 14 = .ok (.invokestatic 207, 3) := dk_184 0 207 (dk_at dksX2_dueAt_0 14 rfl rfl)
theorem dX2_dueAt_17 : decode cX2_dueAt 17 = .ok (.ifCond .eq 12, 3) := dk_153 0 12 (dk_at dksX2_dueAt_0 17 rfl rfl)
theorem dX2_dueAt_20 : decode cX2_dueAt 20 = .ok (.aload_n 0, 1) := dk_42 (dk_at dksX2_dueAt_0 20 rfl rfl)
theorem dX2_dueAt_21 : decode cX2_dueAt 21 = .ok (.getfield 31, 3) := dk_180 0 31 (dk_at dksX2_dueAt_0 21 rfl rfl)
theorem dX2_dueAt_24 : decode cX2_dueAt 24 = .ok (.iload_n 1, 1) := dk_27 (dk_at dksX2_dueAt_1 0 rfl rfl)
theorem dX2_dueAt_25 : decode cX2_dueAt 25 = .ok (.iaload, 1) := dk_46 (dk_at dksX2_dueAt_1 1 rfl rfl)
theorem dX2_dueAt_26 : decode cX2_dueAt 26 = .ok (.goto 4, 3) := dk_167 0 4 (dk_at dksX2_dueAt_1 2 rfl rfl)
theorem dX2_dueAt_29 : decode cX2_dueAt 29 = .ok (.iconst (-1), 1) := dk_2 (dk_at dksX2_dueAt_1 5 rfl rfl)
theorem dX2_dueAt_30 : decode cX2_dueAt 30 = .ok (.ireturn, 1) := dk_172 (dk_at dksX2_dueAt_1 6 rfl rfl)
def dkwX2_layDue_6 : List UInt8 := [180, 0, 229, 4, 96, 181, 0, 229, 132, 2, 1, 167, 255, 116, 177]
abbrev dktX2_layDue_6 : List UInt8 := dkwX2_layDue_6 ++ []
def dkwX2_layDue_5 : List UInt8 := [180, 0, 31, 29, 4, 100, 46, 79, 132, 3, 255, 167, 255, 213, 42, 180, 0, 31, 29, 28, 79, 42, 89]
abbrev dktX2_layDue_5 : List UInt8 := dkwX2_layDue_5 ++ dktX2_layDue_6
def dkwX2_layDue_4 : List UInt8 := [180, 0, 31, 29, 4, 100, 46, 46, 42, 180, 0, 35, 28, 46, 164, 0, 23, 42, 180, 0, 31, 29, 42]
abbrev dktX2_layDue_4 : List UInt8 := dkwX2_layDue_4 ++ dktX2_layDue_5
def dkwX2_layDue_3 : List UInt8 := [182, 0, 58, 192, 0, 68, 182, 0, 234, 79, 42, 180, 0, 229, 62, 29, 158, 0, 45, 42, 180, 0, 35, 42]
abbrev dktX2_layDue_3 : List UInt8 := dkwX2_layDue_3 ++ dktX2_layDue_4
def dkwX2_layDue_2 : List UInt8 := [180, 0, 199, 27, 182, 0, 232, 153, 0, 6, 167, 0, 92, 42, 180, 0, 35, 28, 42, 42, 180, 0, 18, 28]
abbrev dktX2_layDue_2 : List UInt8 := dkwX2_layDue_2 ++ dktX2_layDue_3
def dkwX2_layDue_1 : List UInt8 := [2, 159, 0, 130, 42, 28, 182, 0, 215, 153, 0, 116, 42, 180, 0, 18, 28, 182, 0, 58, 192, 0, 68]
abbrev dktX2_layDue_1 : List UInt8 := dkwX2_layDue_1 ++ dktX2_layDue_2
def dkwX2_layDue_0 : List UInt8 := [42, 182, 0, 187, 60, 42, 3, 181, 0, 229, 3, 61, 28, 42, 180, 0, 18, 182, 0, 54, 162, 0, 135, 27]
abbrev dktX2_layDue_0 : List UInt8 := dkwX2_layDue_0 ++ dktX2_layDue_1
theorem dksX2_layDue_0 : cX2_layDue.data.toList.drop 0 = dktX2_layDue_0 := by decide +kernel
theorem dksX2_layDue_1 : cX2_layDue.data.toList.drop 24 = dktX2_layDue_1 := dk_seg dksX2_layDue_0 24 rfl rfl
theorem dksX2_layDue_2 : cX2_layDue.data.toList.drop 47 = dktX2_layDue_2 := dk_seg dksX2_layDue_1 23 rfl rfl
theorem dksX2_layDue_3 : cX2_layDue.data.toList.drop 71 = dktX2_layDue_3 := dk_seg dksX2_layDue_2 24 rfl rfl
theorem dksX2_layDue_4 : cX2_layDue.data.toList.drop 95 = dktX2_layDue_4 := dk_seg dksX2_layDue_3 24 rfl rfl
theorem dksX2_layDue_5 : cX2_layDue.data.toList.drop 118 = dktX2_layDue_5 := dk_seg dksX2_layDue_4 23 rfl rfl
theorem dksX2_layDue_6 : cX2_layDue.data.toList.drop 141 = dktX2_layDue_6 := dk_seg dksX2_layDue_5 23 rfl rfl
theorem dX2_layDue_0 : decode cX2_layDue 0 = .ok (.aload_n 0, 1) := dk_42 (dk_at dksX2_layDue_0 0 rfl rfl)
theorem dX2_layDue_1 : decode cX2_layDue 1 = .ok (.invokevirtual 187, 3) := dk_182 0 187 (dk_at dksX2_layDue_0 1 rfl rfl)
theorem dX2_layDue_4 : decode cX2_layDue 4 = .ok (.istore_n 1, 1) := dk_60 (dk_at dksX2_layDue_0 4 rfl rfl)
theorem dX2_layDue_5 : decode cX2_layDue 5 = .ok (.aload_n 0, 1) := dk_42 (dk_at dksX2_layDue_0 5 rfl rfl)
theorem dX2_layDue_6 : decode cX2_layDue 6 = .ok (.iconst 0, 1) := dk_3 (dk_at dksX2_layDue_0 6 rfl rfl)
theorem dX2_layDue_7 : decode cX2_layDue 7 = .ok (.putfield 229, 3) := dk_181 0 229 (dk_at dksX2_layDue_0 7 rfl rfl)
theorem dX2_layDue_10 : decode cX2_layDue 10 = .ok (.iconst 0, 1) := dk_3 (dk_at dksX2_layDue_0 10 rfl rfl)
theorem dX2_layDue_11 : decode cX2_layDue 11 = .ok (.istore_n 2, 1) := dk_61 (dk_at dksX2_layDue_0 11 rfl rfl)
theorem dX2_layDue_12 : decode cX2_layDue 12 = .ok (.iload_n 2, 1) := dk_28 (dk_at dksX2_layDue_0 12 rfl rfl)
theorem dX2_layDue_13 : decode cX2_layDue 13 = .ok (.aload_n 0, 1) := dk_42 (dk_at dksX2_layDue_0 13 rfl rfl)
theorem dX2_layDue_14 : decode cX2_layDue 14 = .ok (.getfield 18, 3) := dk_180 0 18 (dk_at dksX2_layDue_0 14 rfl rfl)
theorem dX2_layDue_17 : decode cX2_layDue 17 = .ok (.invokevirtual 54, 3) := dk_182 0 54 (dk_at dksX2_layDue_0 17 rfl rfl)
theorem dX2_layDue_20 : decode cX2_layDue 20 = .ok (.if_icmp .ge 135, 3) := dk_162 0 135 (dk_at dksX2_layDue_0 20 rfl rfl)
theorem dX2_layDue_23 : decode cX2_layDue 23 = .ok (.iload_n 1, 1) := dk_27 (dk_at dksX2_layDue_0 23 rfl rfl)
theorem dX2_layDue_24 : decode cX2_layDue 24 = .ok (.iconst (-1), 1) := dk_2 (dk_at dksX2_layDue_1 0 rfl rfl)
theorem dX2_layDue_25 : decode cX2_layDue 25 = .ok (.if_icmp .eq 130, 3) := dk_159 0 130 (dk_at dksX2_layDue_1 1 rfl rfl)
theorem dX2_layDue_28 : decode cX2_layDue 28 = .ok (.aload_n 0, 1) := dk_42 (dk_at dksX2_layDue_1 4 rfl rfl)
theorem dX2_layDue_29 : decode cX2_layDue 29 = .ok (.iload_n 2, 1) := dk_28 (dk_at dksX2_layDue_1 5 rfl rfl)
theorem dX2_layDue_30 : decode cX2_layDue 30 = .ok (.invokevirtual 215, 3) := dk_182 0 215 (dk_at dksX2_layDue_1 6 rfl rfl)
theorem dX2_layDue_33 : decode cX2_layDue 33 = .ok (.ifCond .eq 116, 3) := dk_153 0 116 (dk_at dksX2_layDue_1 9 rfl rfl)
theorem dX2_layDue_36 : decode cX2_layDue 36 = .ok (.aload_n 0, 1) := dk_42 (dk_at dksX2_layDue_1 12 rfl rfl)
theorem dX2_layDue_37 : decode cX2_layDue 37 = .ok (.getfield 18, 3) := dk_180 0 18 (dk_at dksX2_layDue_1 13 rfl rfl)
theorem dX2_layDue_40 : decode cX2_layDue 40 = .ok (.iload_n 2, 1) := dk_28 (dk_at dksX2_layDue_1 16 rfl rfl)
theorem dX2_layDue_41 : decode cX2_layDue 41 = .ok (.invokevirtual 58, 3) := dk_182 0 58 (dk_at dksX2_layDue_1 17 rfl rfl)
theorem dX2_layDue_44 : decode cX2_layDue 44 = .ok (.checkcast 68, 3) := dk_192 0 68 (dk_at dksX2_layDue_1 20 rfl rfl)
theorem dX2_layDue_47 : decode cX2_layDue 47 = .ok (.getfield 199, 3) := dk_180 0 199 (dk_at dksX2_layDue_2 0 rfl rfl)
theorem dX2_layDue_50 : decode cX2_layDue 50 = .ok (.iload_n 1, 1) := dk_27 (dk_at dksX2_layDue_2 3 rfl rfl)
theorem dX2_layDue_51 : decode cX2_layDue 51 = .ok (.invokevirtual 232, 3) := dk_182 0 232 (dk_at dksX2_layDue_2 4 rfl rfl)
theorem dX2_layDue_54 : decode cX2_layDue 54 = .ok (.ifCond .eq 6, 3) := dk_153 0 6 (dk_at dksX2_layDue_2 7 rfl rfl)
theorem dX2_layDue_57 : decode cX2_layDue 57 = .ok (.goto 92, 3) := dk_167 0 92 (dk_at dksX2_layDue_2 10 rfl rfl)
theorem dX2_layDue_60 : decode cX2_layDue 60 = .ok (.aload_n 0, 1) := dk_42 (dk_at dksX2_layDue_2 13 rfl rfl)
theorem dX2_layDue_61 : decode cX2_layDue 61 = .ok (.getfield 35, 3) := dk_180 0 35 (dk_at dksX2_layDue_2 14 rfl rfl)
theorem dX2_layDue_64 : decode cX2_layDue 64 = .ok (.iload_n 2, 1) := dk_28 (dk_at dksX2_layDue_2 17 rfl rfl)
theorem dX2_layDue_65 : decode cX2_layDue 65 = .ok (.aload_n 0, 1) := dk_42 (dk_at dksX2_layDue_2 18 rfl rfl)
theorem dX2_layDue_66 : decode cX2_layDue 66 = .ok (.aload_n 0, 1) := dk_42 (dk_at dksX2_layDue_2 19 rfl rfl)
theorem dX2_layDue_67 : decode cX2_layDue 67 = .ok (.getfield 18, 3) := dk_180 0 18 (dk_at dksX2_layDue_2 20 rfl rfl)
theorem dX2_layDue_70 : decode cX2_layDue 70 = .ok (.iload_n 2, 1) := dk_28 (dk_at dksX2_layDue_2 23 rfl rfl)
theorem dX2_layDue_71 : decode cX2_layDue 71 = .ok (.invokevirtual 58, 3) := dk_182 0 58 (dk_at dksX2_layDue_3 0 rfl rfl)
theorem dX2_layDue_74 : decode cX2_layDue 74 = .ok (.checkcast 68, 3) := dk_192 0 68 (dk_at dksX2_layDue_3 3 rfl rfl)
theorem dX2_layDue_77 : decode cX2_layDue 77 = .ok (.invokevirtual 234, 3) := dk_182 0 234 (dk_at dksX2_layDue_3 6 rfl rfl)
theorem dX2_layDue_80 : decode cX2_layDue 80 = .ok (.iastore, 1) := dk_79 (dk_at dksX2_layDue_3 9 rfl rfl)
theorem dX2_layDue_81 : decode cX2_layDue 81 = .ok (.aload_n 0, 1) := dk_42 (dk_at dksX2_layDue_3 10 rfl rfl)
theorem dX2_layDue_82 : decode cX2_layDue 82 = .ok (.getfield 229, 3) := dk_180 0 229 (dk_at dksX2_layDue_3 11 rfl rfl)
theorem dX2_layDue_85 : decode cX2_layDue 85 = .ok (.istore_n 3, 1) := dk_62 (dk_at dksX2_layDue_3 14 rfl rfl)
theorem dX2_layDue_86 : decode cX2_layDue 86 = .ok (.iload_n 3, 1) := dk_29 (dk_at dksX2_layDue_3 15 rfl rfl)
theorem dX2_layDue_87 : decode cX2_layDue 87 = .ok (.ifCond .le 45, 3) := dk_158 0 45 (dk_at dksX2_layDue_3 16 rfl rfl)
theorem dX2_layDue_90 : decode cX2_layDue 90 = .ok (.aload_n 0, 1) := dk_42 (dk_at dksX2_layDue_3 19 rfl rfl)
theorem dX2_layDue_91 : decode cX2_layDue 91 = .ok (.getfield 35, 3) := dk_180 0 35 (dk_at dksX2_layDue_3 20 rfl rfl)
theorem dX2_layDue_94 : decode cX2_layDue 94 = .ok (.aload_n 0, 1) := dk_42 (dk_at dksX2_layDue_3 23 rfl rfl)
theorem dX2_layDue_95 : decode cX2_layDue 95 = .ok (.getfield 31, 3) := dk_180 0 31 (dk_at dksX2_layDue_4 0 rfl rfl)
theorem dX2_layDue_98 : decode cX2_layDue 98 = .ok (.iload_n 3, 1) := dk_29 (dk_at dksX2_layDue_4 3 rfl rfl)
theorem dX2_layDue_99 : decode cX2_layDue 99 = .ok (.iconst 1, 1) := dk_4 (dk_at dksX2_layDue_4 4 rfl rfl)
theorem dX2_layDue_100 : decode cX2_layDue 100 = .ok (.isub, 1) := dk_100 (dk_at dksX2_layDue_4 5 rfl rfl)
theorem dX2_layDue_101 : decode cX2_layDue 101 = .ok (.iaload, 1) := dk_46 (dk_at dksX2_layDue_4 6 rfl rfl)
theorem dX2_layDue_102 : decode cX2_layDue 102 = .ok (.iaload, 1) := dk_46 (dk_at dksX2_layDue_4 7 rfl rfl)
theorem dX2_layDue_103 : decode cX2_layDue 103 = .ok (.aload_n 0, 1) := dk_42 (dk_at dksX2_layDue_4 8 rfl rfl)
theorem dX2_layDue_104 : decode cX2_layDue 104 = .ok (.getfield 35, 3) := dk_180 0 35 (dk_at dksX2_layDue_4 9 rfl rfl)
theorem dX2_layDue_107 : decode cX2_layDue 107 = .ok (.iload_n 2, 1) := dk_28 (dk_at dksX2_layDue_4 12 rfl rfl)
theorem dX2_layDue_108 : decode cX2_layDue 108 = .ok (.iaload, 1) := dk_46 (dk_at dksX2_layDue_4 13 rfl rfl)
theorem dX2_layDue_109 : decode cX2_layDue 109 = .ok (.if_icmp .le 23, 3) := dk_164 0 23 (dk_at dksX2_layDue_4 14 rfl rfl)
theorem dX2_layDue_112 : decode cX2_layDue 112 = .ok (.aload_n 0, 1) := dk_42 (dk_at dksX2_layDue_4 17 rfl rfl)
theorem dX2_layDue_113 : decode cX2_layDue 113 = .ok (.getfield 31, 3) := dk_180 0 31 (dk_at dksX2_layDue_4 18 rfl rfl)
theorem dX2_layDue_116 : decode cX2_layDue 116 = .ok (.iload_n 3, 1) := dk_29 (dk_at dksX2_layDue_4 21 rfl rfl)
theorem dX2_layDue_117 : decode cX2_layDue 117 = .ok (.aload_n 0, 1) := dk_42 (dk_at dksX2_layDue_4 22 rfl rfl)
theorem dX2_layDue_118 : decode cX2_layDue 118 = .ok (.getfield 31, 3) := dk_180 0 31 (dk_at dksX2_layDue_5 0 rfl rfl)
theorem dX2_layDue_121 : decode cX2_layDue 121 = .ok (.iload_n 3, 1) := dk_29 (dk_at dksX2_layDue_5 3 rfl rfl)
theorem dX2_layDue_122 : decode cX2_layDue 122 = .ok (.iconst 1, 1) := dk_4 (dk_at dksX2_layDue_5 4 rfl rfl)
theorem dX2_layDue_123 : decode cX2_layDue 123 = .ok (.isub, 1) := dk_100 (dk_at dksX2_layDue_5 5 rfl rfl)
theorem dX2_layDue_124 : decode cX2_layDue 124 = .ok (.iaload, 1) := dk_46 (dk_at dksX2_layDue_5 6 rfl rfl)
theorem dX2_layDue_125 : decode cX2_layDue 125 = .ok (.iastore, 1) := dk_79 (dk_at dksX2_layDue_5 7 rfl rfl)
theorem dX2_layDue_126 : decode cX2_layDue 126 = .ok (.iinc 3 (-1), 3) := dk_132 3 255 (dk_at dksX2_layDue_5 8 rfl rfl)
theorem dX2_layDue_129 : decode cX2_layDue 129 = .ok (.goto (-43), 3) := dk_167 255 213 (dk_at dksX2_layDue_5 11 rfl rfl)
theorem dX2_layDue_132 : decode cX2_layDue 132 = .ok (.aload_n 0, 1) := dk_42 (dk_at dksX2_layDue_5 14 rfl rfl)
theorem dX2_layDue_133 : decode cX2_layDue 133 = .ok (.getfield 31, 3) := dk_180 0 31 (dk_at dksX2_layDue_5 15 rfl rfl)
theorem dX2_layDue_136 : decode cX2_layDue 136 = .ok (.iload_n 3, 1) := dk_29 (dk_at dksX2_layDue_5 18 rfl rfl)
theorem dX2_layDue_137 : decode cX2_layDue 137 = .ok (.iload_n 2, 1) := dk_28 (dk_at dksX2_layDue_5 19 rfl rfl)
theorem dX2_layDue_138 : decode cX2_layDue 138 = .ok (.iastore, 1) := dk_79 (dk_at dksX2_layDue_5 20 rfl rfl)
theorem dX2_layDue_139 : decode cX2_layDue 139 = .ok (.aload_n 0, 1) := dk_42 (dk_at dksX2_layDue_5 21 rfl rfl)
theorem dX2_layDue_140 : decode cX2_layDue 140 = .ok (.dup, 1) := dk_89 (dk_at dksX2_layDue_5 22 rfl rfl)
theorem dX2_layDue_141 : decode cX2_layDue 141 = .ok (.getfield 229, 3) := dk_180 0 229 (dk_at dksX2_layDue_6 0 rfl rfl)
theorem dX2_layDue_144 : decode cX2_layDue 144 = .ok (.iconst 1, 1) := dk_4 (dk_at dksX2_layDue_6 3 rfl rfl)
theorem dX2_layDue_145 : decode cX2_layDue 145 = .ok (.iadd, 1) := dk_96 (dk_at dksX2_layDue_6 4 rfl rfl)
theorem dX2_layDue_146 : decode cX2_layDue 146 = .ok (.putfield 229, 3) := dk_181 0 229 (dk_at dksX2_layDue_6 5 rfl rfl)
theorem dX2_layDue_149 : decode cX2_layDue 149 = .ok (.iinc 2 1, 3) := dk_132 2 1 (dk_at dksX2_layDue_6 8 rfl rfl)
theorem dX2_layDue_152 : decode cX2_layDue 152 = .ok (.goto (-140), 3) := dk_167 255 116 (dk_at dksX2_layDue_6 11 rfl rfl)
theorem dX2_layDue_155 : decode cX2_layDue 155 = .ok (.return_, 1) := dk_177 (dk_at dksX2_layDue_6 14 rfl rfl)
def dkwX2_writing_1 : List UInt8 := [192, 0, 62, 42, 180, 0, 98, 182, 0, 117, 154, 0, 9, 132, 1, 255, 167, 255, 228, 27, 172]
abbrev dktX2_writing_1 : List UInt8 := dkwX2_writing_1 ++ []
def dkwX2_writing_0 : List UInt8 := [42, 180, 0, 12, 182, 0, 54, 4, 100, 60, 27, 155, 0, 30, 42, 180, 0, 12, 27, 182, 0, 58]
abbrev dktX2_writing_0 : List UInt8 := dkwX2_writing_0 ++ dktX2_writing_1
theorem dksX2_writing_0 : cX2_writing.data.toList.drop 0 = dktX2_writing_0 := by decide +kernel
theorem dksX2_writing_1 : cX2_writing.data.toList.drop 22 = dktX2_writing_1 := dk_seg dksX2_writing_0 22 rfl rfl
theorem dX2_writing_0 : decode cX2_writing 0 = .ok (.aload_n 0, 1) := dk_42 (dk_at dksX2_writing_0 0 rfl rfl)
theorem dX2_writing_1 : decode cX2_writing 1 = .ok (.getfield 12, 3) := dk_180 0 12 (dk_at dksX2_writing_0 1 rfl rfl)
theorem dX2_writing_4 : decode cX2_writing 4 = .ok (.invokevirtual 54, 3) := dk_182 0 54 (dk_at dksX2_writing_0 4 rfl rfl)
theorem dX2_writing_7 : decode cX2_writing 7 = .ok (.iconst 1, 1) := dk_4 (dk_at dksX2_writing_0 7 rfl rfl)
theorem dX2_writing_8 : decode cX2_writing 8 = .ok (.isub, 1) := dk_100 (dk_at dksX2_writing_0 8 rfl rfl)
theorem dX2_writing_9 : decode cX2_writing 9 = .ok (.istore_n 1, 1) := dk_60 (dk_at dksX2_writing_0 9 rfl rfl)
theorem dX2_writing_10 : decode cX2_writing 10 = .ok (.iload_n 1, 1) := dk_27 (dk_at dksX2_writing_0 10 rfl rfl)
theorem dX2_writing_11 : decode cX2_writing 11 = .ok (.ifCond .lt 30, 3) := dk_155 0 30 (dk_at dksX2_writing_0 11 rfl rfl)
theorem dX2_writing_14 : decode cX2_writing 14 = .ok (.aload_n 0, 1) := dk_42 (dk_at dksX2_writing_0 14 rfl rfl)
theorem dX2_writing_15 : decode cX2_writing 15 = .ok (.getfield 12, 3) := dk_180 0 12 (dk_at dksX2_writing_0 15 rfl rfl)
theorem dX2_writing_18 : decode cX2_writing 18 = .ok (.iload_n 1, 1) := dk_27 (dk_at dksX2_writing_0 18 rfl rfl)
theorem dX2_writing_19 : decode cX2_writing 19 = .ok (.invokevirtual 58, 3) := dk_182 0 58 (dk_at dksX2_writing_0 19 rfl rfl)
theorem dX2_writing_22 : decode cX2_writing 22 = .ok (.checkcast 62, 3) := dk_192 0 62 (dk_at dksX2_writing_1 0 rfl rfl)
theorem dX2_writing_25 : decode cX2_writing 25 = .ok (.aload_n 0, 1) := dk_42 (dk_at dksX2_writing_1 3 rfl rfl)
theorem dX2_writing_26 : decode cX2_writing 26 = .ok (.getfield 98, 3) := dk_180 0 98 (dk_at dksX2_writing_1 4 rfl rfl)
theorem dX2_writing_29 : decode cX2_writing 29 = .ok (.invokevirtual 117, 3) := dk_182 0 117 (dk_at dksX2_writing_1 7 rfl rfl)
theorem dX2_writing_32 : decode cX2_writing 32 = .ok (.ifCond .ne 9, 3) := dk_154 0 9 (dk_at dksX2_writing_1 10 rfl rfl)
theorem dX2_writing_35 : decode cX2_writing 35 = .ok (.iinc 1 (-1), 3) := dk_132 1 255 (dk_at dksX2_writing_1 13 rfl rfl)
theorem dX2_writing_38 : decode cX2_writing 38 = .ok (.goto (-28), 3) := dk_167 255 228 (dk_at dksX2_writing_1 16 rfl rfl)
theorem dX2_writing_41 : decode cX2_writing 41 = .ok (.iload_n 1, 1) := dk_27 (dk_at dksX2_writing_1 19 rfl rfl)
theorem dX2_writing_42 : decode cX2_writing 42 = .ok (.ireturn, 1) := dk_172 (dk_at dksX2_writing_1 20 rfl rfl)
def dkwX2_isThere_1 : List UInt8 := [182, 0, 58, 192, 0, 68, 180, 0, 211, 154, 0, 7, 4, 167, 0, 4, 3, 172]
abbrev dktX2_isThere_1 : List UInt8 := dkwX2_isThere_1 ++ []
def dkwX2_isThere_0 : List UInt8 := [27, 133, 9, 42, 180, 0, 18, 182, 0, 54, 4, 100, 133, 184, 0, 207, 153, 0, 24, 42, 180, 0, 18, 27]
abbrev dktX2_isThere_0 : List UInt8 := dkwX2_isThere_0 ++ dktX2_isThere_1
theorem dksX2_isThere_0 : cX2_isThere.data.toList.drop 0 = dktX2_isThere_0 := by decide +kernel
theorem dksX2_isThere_1 : cX2_isThere.data.toList.drop 24 = dktX2_isThere_1 := dk_seg dksX2_isThere_0 24 rfl rfl
theorem dX2_isThere_0 : decode cX2_isThere 0 = .ok (.iload_n 1, 1) := dk_27 (dk_at dksX2_isThere_0 0 rfl rfl)
theorem dX2_isThere_1 : decode cX2_isThere 1 = .ok (.i2l, 1) := dk_133 (dk_at dksX2_isThere_0 1 rfl rfl)
theorem dX2_isThere_2 : decode cX2_isThere 2 = .ok (.lconst 0, 1) := dk_9 (dk_at dksX2_isThere_0 2 rfl rfl)
theorem dX2_isThere_3 : decode cX2_isThere 3 = .ok (.aload_n 0, 1) := dk_42 (dk_at dksX2_isThere_0 3 rfl rfl)
theorem dX2_isThere_4 : decode cX2_isThere 4 = .ok (.getfield 18, 3) := dk_180 0 18 (dk_at dksX2_isThere_0 4 rfl rfl)
theorem dX2_isThere_7 : decode cX2_isThere 7 = .ok (.invokevirtual 54, 3) := dk_182 0 54 (dk_at dksX2_isThere_0 7 rfl rfl)
theorem dX2_isThere_10 : decode cX2_isThere 10 = .ok (.iconst 1, 1) := dk_4 (dk_at dksX2_isThere_0 10 rfl rfl)
theorem dX2_isThere_11 : decode cX2_isThere 11 = .ok (.isub, 1) := dk_100 (dk_at dksX2_isThere_0 11 rfl rfl)
theorem dX2_isThere_12 : decode cX2_isThere 12 = .ok (.i2l, 1) := dk_133 (dk_at dksX2_isThere_0 12 rfl rfl)
theorem dX2_isThere_13 : decode cX2_isThere 13 = .ok (.invokestatic 207, 3) := dk_184 0 207 (dk_at dksX2_isThere_0 13 rfl rfl)
theorem dX2_isThere_16 : decode cX2_isThere 16 = .ok (.ifCond .eq 24, 3) := dk_153 0 24 (dk_at dksX2_isThere_0 16 rfl rfl)
theorem dX2_isThere_19 : decode cX2_isThere 19 = .ok (.aload_n 0, 1) := dk_42 (dk_at dksX2_isThere_0 19 rfl rfl)
theorem dX2_isThere_20 : decode cX2_isThere 20 = .ok (.getfield 18, 3) := dk_180 0 18 (dk_at dksX2_isThere_0 20 rfl rfl)
theorem dX2_isThere_23 : decode cX2_isThere 23 = .ok (.iload_n 1, 1) := dk_27 (dk_at dksX2_isThere_0 23 rfl rfl)
theorem dX2_isThere_24 : decode cX2_isThere 24 = .ok (.invokevirtual 58, 3) := dk_182 0 58 (dk_at dksX2_isThere_1 0 rfl rfl)
theorem dX2_isThere_27 : decode cX2_isThere 27 = .ok (.checkcast 68, 3) := dk_192 0 68 (dk_at dksX2_isThere_1 3 rfl rfl)
theorem dX2_isThere_30 : decode cX2_isThere 30 = .ok (.getfield 211, 3) := dk_180 0 211 (dk_at dksX2_isThere_1 6 rfl rfl)
theorem dX2_isThere_33 : decode cX2_isThere 33 = .ok (.ifCond .ne 7, 3) := dk_154 0 7 (dk_at dksX2_isThere_1 9 rfl rfl)
theorem dX2_isThere_36 : decode cX2_isThere 36 = .ok (.iconst 1, 1) := dk_4 (dk_at dksX2_isThere_1 12 rfl rfl)
theorem dX2_isThere_37 : decode cX2_isThere 37 = .ok (.goto 4, 3) := dk_167 0 4 (dk_at dksX2_isThere_1 13 rfl rfl)
theorem dX2_isThere_40 : decode cX2_isThere 40 = .ok (.iconst 0, 1) := dk_3 (dk_at dksX2_isThere_1 16 rfl rfl)
theorem dX2_isThere_41 : decode cX2_isThere 41 = .ok (.ireturn, 1) := dk_172 (dk_at dksX2_isThere_1 17 rfl rfl)
def dkwX2_endOf_2 : List UInt8 := [28, 172]
abbrev dktX2_endOf_2 : List UInt8 := dkwX2_endOf_2 ++ []
def dkwX2_endOf_1 : List UInt8 := [192, 0, 62, 180, 0, 128, 184, 0, 160, 61, 43, 180, 0, 199, 29, 4, 96, 182, 0, 222, 62, 167, 255, 222]
abbrev dktX2_endOf_1 : List UInt8 := dkwX2_endOf_1 ++ dktX2_endOf_2
def dkwX2_endOf_0 : List UInt8 := [2, 61, 43, 180, 0, 199, 3, 182, 0, 222, 62, 29, 155, 0, 36, 28, 42, 180, 0, 12, 29, 182, 0, 58]
abbrev dktX2_endOf_0 : List UInt8 := dkwX2_endOf_0 ++ dktX2_endOf_1
theorem dksX2_endOf_0 : cX2_endOf.data.toList.drop 0 = dktX2_endOf_0 := by decide +kernel
theorem dksX2_endOf_1 : cX2_endOf.data.toList.drop 24 = dktX2_endOf_1 := dk_seg dksX2_endOf_0 24 rfl rfl
theorem dksX2_endOf_2 : cX2_endOf.data.toList.drop 48 = dktX2_endOf_2 := dk_seg dksX2_endOf_1 24 rfl rfl
theorem dX2_endOf_0 : decode cX2_endOf 0 = .ok (.iconst (-1), 1) := dk_2 (dk_at dksX2_endOf_0 0 rfl rfl)
theorem dX2_endOf_1 : decode cX2_endOf 1 = .ok (.istore_n 2, 1) := dk_61 (dk_at dksX2_endOf_0 1 rfl rfl)
theorem dX2_endOf_2 : decode cX2_endOf 2 = .ok (.aload_n 1, 1) := dk_43 (dk_at dksX2_endOf_0 2 rfl rfl)
theorem dX2_endOf_3 : decode cX2_endOf 3 = .ok (.getfield 199, 3) := dk_180 0 199 (dk_at dksX2_endOf_0 3 rfl rfl)
theorem dX2_endOf_6 : decode cX2_endOf 6 = .ok (.iconst 0, 1) := dk_3 (dk_at dksX2_endOf_0 6 rfl rfl)
theorem dX2_endOf_7 : decode cX2_endOf 7 = .ok (.invokevirtual 222, 3) := dk_182 0 222 (dk_at dksX2_endOf_0 7 rfl rfl)
theorem dX2_endOf_10 : decode cX2_endOf 10 = .ok (.istore_n 3, 1) := dk_62 (dk_at dksX2_endOf_0 10 rfl rfl)
theorem dX2_endOf_11 : decode cX2_endOf 11 = .ok (.iload_n 3, 1) := dk_29 (dk_at dksX2_endOf_0 11 rfl rfl)
theorem dX2_endOf_12 : decode cX2_endOf 12 = .ok (.ifCond .lt 36, 3) := dk_155 0 36 (dk_at dksX2_endOf_0 12 rfl rfl)
theorem dX2_endOf_15 : decode cX2_endOf 15 = .ok (.iload_n 2, 1) := dk_28 (dk_at dksX2_endOf_0 15 rfl rfl)
theorem dX2_endOf_16 : decode cX2_endOf 16 = .ok (.aload_n 0, 1) := dk_42 (dk_at dksX2_endOf_0 16 rfl rfl)
theorem dX2_endOf_17 : decode cX2_endOf 17 = .ok (.getfield 12, 3) := dk_180 0 12 (dk_at dksX2_endOf_0 17 rfl rfl)
theorem dX2_endOf_20 : decode cX2_endOf 20 = .ok (.iload_n 3, 1) := dk_29 (dk_at dksX2_endOf_0 20 rfl rfl)
theorem dX2_endOf_21 : decode cX2_endOf 21 = .ok (.invokevirtual 58, 3) := dk_182 0 58 (dk_at dksX2_endOf_0 21 rfl rfl)
theorem dX2_endOf_24 : decode cX2_endOf 24 = .ok (.checkcast 62, 3) := dk_192 0 62 (dk_at dksX2_endOf_1 0 rfl rfl)
theorem dX2_endOf_27 : decode cX2_endOf 27 = .ok (.getfield 128, 3) := dk_180 0 128 (dk_at dksX2_endOf_1 3 rfl rfl)
theorem dX2_endOf_30 : decode cX2_endOf 30 = .ok (.invokestatic 160, 3) := dk_184 0 160 (dk_at dksX2_endOf_1 6 rfl rfl)
theorem dX2_endOf_33 : decode cX2_endOf 33 = .ok (.istore_n 2, 1) := dk_61 (dk_at dksX2_endOf_1 9 rfl rfl)
theorem dX2_endOf_34 : decode cX2_endOf 34 = .ok (.aload_n 1, 1) := dk_43 (dk_at dksX2_endOf_1 10 rfl rfl)
theorem dX2_endOf_35 : decode cX2_endOf 35 = .ok (.getfield 199, 3) := dk_180 0 199 (dk_at dksX2_endOf_1 11 rfl rfl)
theorem dX2_endOf_38 : decode cX2_endOf 38 = .ok (.iload_n 3, 1) := dk_29 (dk_at dksX2_endOf_1 14 rfl rfl)
theorem dX2_endOf_39 : decode cX2_endOf 39 = .ok (.iconst 1, 1) := dk_4 (dk_at dksX2_endOf_1 15 rfl rfl)
theorem dX2_endOf_40 : decode cX2_endOf 40 = .ok (.iadd, 1) := dk_96 (dk_at dksX2_endOf_1 16 rfl rfl)
theorem dX2_endOf_41 : decode cX2_endOf 41 = .ok (.invokevirtual 222, 3) := dk_182 0 222 (dk_at dksX2_endOf_1 17 rfl rfl)
theorem dX2_endOf_44 : decode cX2_endOf 44 = .ok (.istore_n 3, 1) := dk_62 (dk_at dksX2_endOf_1 20 rfl rfl)
theorem dX2_endOf_45 : decode cX2_endOf 45 = .ok (.goto (-34), 3) := dk_167 255 222 (dk_at dksX2_endOf_1 21 rfl rfl)
theorem dX2_endOf_48 : decode cX2_endOf 48 = .ok (.iload_n 2, 1) := dk_28 (dk_at dksX2_endOf_2 0 rfl rfl)
theorem dX2_endOf_49 : decode cX2_endOf 49 = .ok (.ireturn, 1) := dk_172 (dk_at dksX2_endOf_2 1 rfl rfl)
def dkwX2_isDue_2 : List UInt8 := [3, 172]
abbrev dktX2_isDue_2 : List UInt8 := dkwX2_isDue_2 ++ []
def dkwX2_isDue_1 : List UInt8 := [42, 180, 0, 45, 100, 27, 163, 0, 18, 42, 27, 182, 0, 166, 17, 39, 15, 163, 0, 7, 4, 167, 0, 4]
abbrev dktX2_isDue_1 : List UInt8 := dkwX2_isDue_1 ++ dktX2_isDue_2
def dkwX2_isDue_0 : List UInt8 := [42, 180, 0, 12, 182, 0, 54, 16, 30, 162, 0, 39, 42, 182, 0, 155, 180, 0, 159, 42, 180, 0, 38, 96]
abbrev dktX2_isDue_0 : List UInt8 := dkwX2_isDue_0 ++ dktX2_isDue_1
theorem dksX2_isDue_0 : cX2_isDue.data.toList.drop 0 = dktX2_isDue_0 := by decide +kernel
theorem dksX2_isDue_1 : cX2_isDue.data.toList.drop 24 = dktX2_isDue_1 := dk_seg dksX2_isDue_0 24 rfl rfl
theorem dksX2_isDue_2 : cX2_isDue.data.toList.drop 48 = dktX2_isDue_2 := dk_seg dksX2_isDue_1 24 rfl rfl
theorem dX2_isDue_0 : decode cX2_isDue 0 = .ok (.aload_n 0, 1) := dk_42 (dk_at dksX2_isDue_0 0 rfl rfl)
theorem dX2_isDue_1 : decode cX2_isDue 1 = .ok (.getfield 12, 3) := dk_180 0 12 (dk_at dksX2_isDue_0 1 rfl rfl)
theorem dX2_isDue_4 : decode cX2_isDue 4 = .ok (.invokevirtual 54, 3) := dk_182 0 54 (dk_at dksX2_isDue_0 4 rfl rfl)
theorem dX2_isDue_7 : decode cX2_isDue 7 = .ok (.bipush 30, 2) := dk_16 30 (dk_at dksX2_isDue_0 7 rfl rfl)
theorem dX2_isDue_9 : decode cX2_isDue 9 = .ok (.if_icmp .ge 39, 3) := dk_162 0 39 (dk_at dksX2_isDue_0 9 rfl rfl)
theorem dX2_isDue_12 : decode cX2_isDue 12 = .ok (.aload_n 0, 1) := dk_42 (dk_at dksX2_isDue_0 12 rfl rfl)
theorem dX2_isDue_13 : decode cX2_isDue 13 = .ok (.invokevirtual 155, 3) := dk_182 0 155 (dk_at dksX2_isDue_0 13 rfl rfl)
theorem dX2_isDue_16 : decode cX2_isDue 16 = .ok (.getfield 159, 3) := dk_180 0 159 (dk_at dksX2_isDue_0 16 rfl rfl)
theorem dX2_isDue_19 : decode cX2_isDue 19 = .ok (.aload_n 0, 1) := dk_42 (dk_at dksX2_isDue_0 19 rfl rfl)
theorem dX2_isDue_20 : decode cX2_isDue 20 = .ok (.getfield 38, 3) := dk_180 0 38 (dk_at dksX2_isDue_0 20 rfl rfl)
theorem dX2_isDue_23 : decode cX2_isDue 23 = .ok (.iadd, 1) := dk_96 (dk_at dksX2_isDue_0 23 rfl rfl)
theorem dX2_isDue_24 : decode cX2_isDue 24 = .ok (.aload_n 0, 1) := dk_42 (dk_at dksX2_isDue_1 0 rfl rfl)
theorem dX2_isDue_25 : decode cX2_isDue 25 = .ok (.getfield 45, 3) := dk_180 0 45 (dk_at dksX2_isDue_1 1 rfl rfl)
theorem dX2_isDue_28 : decode cX2_isDue 28 = .ok (.isub, 1) := dk_100 (dk_at dksX2_isDue_1 4 rfl rfl)
theorem dX2_isDue_29 : decode cX2_isDue 29 = .ok (.iload_n 1, 1) := dk_27 (dk_at dksX2_isDue_1 5 rfl rfl)
theorem dX2_isDue_30 : decode cX2_isDue 30 = .ok (.if_icmp .gt 18, 3) := dk_163 0 18 (dk_at dksX2_isDue_1 6 rfl rfl)
theorem dX2_isDue_33 : decode cX2_isDue 33 = .ok (.aload_n 0, 1) := dk_42 (dk_at dksX2_isDue_1 9 rfl rfl)
theorem dX2_isDue_34 : decode cX2_isDue 34 = .ok (.iload_n 1, 1) := dk_27 (dk_at dksX2_isDue_1 10 rfl rfl)
theorem dX2_isDue_35 : decode cX2_isDue 35 = .ok (.invokevirtual 166, 3) := dk_182 0 166 (dk_at dksX2_isDue_1 11 rfl rfl)
theorem dX2_isDue_38 : decode cX2_isDue 38 = .ok (.sipush 9999, 3) := dk_17 39 15 (dk_at dksX2_isDue_1 14 rfl rfl)
theorem dX2_isDue_41 : decode cX2_isDue 41 = .ok (.if_icmp .gt 7, 3) := dk_163 0 7 (dk_at dksX2_isDue_1 17 rfl rfl)
theorem dX2_isDue_44 : decode cX2_isDue 44 = .ok (.iconst 1, 1) := dk_4 (dk_at dksX2_isDue_1 20 rfl rfl)
theorem dX2_isDue_45 : decode cX2_isDue 45 = .ok (.goto 4, 3) := dk_167 0 4 (dk_at dksX2_isDue_1 21 rfl rfl)
theorem dX2_isDue_48 : decode cX2_isDue 48 = .ok (.iconst 0, 1) := dk_3 (dk_at dksX2_isDue_2 0 rfl rfl)
theorem dX2_isDue_49 : decode cX2_isDue 49 = .ok (.ireturn, 1) := dk_172 (dk_at dksX2_isDue_2 1 rfl rfl)
def dkwX2_latest_0 : List UInt8 := [42, 180, 0, 12, 42, 180, 0, 12, 182, 0, 54, 4, 100, 182, 0, 58, 192, 0, 62, 176]
abbrev dktX2_latest_0 : List UInt8 := dkwX2_latest_0 ++ []
theorem dksX2_latest_0 : cX2_latest.data.toList.drop 0 = dktX2_latest_0 := by decide +kernel
theorem dX2_latest_0 : decode cX2_latest 0 = .ok (.aload_n 0, 1) := dk_42 (dk_at dksX2_latest_0 0 rfl rfl)
theorem dX2_latest_1 : decode cX2_latest 1 = .ok (.getfield 12, 3) := dk_180 0 12 (dk_at dksX2_latest_0 1 rfl rfl)
theorem dX2_latest_4 : decode cX2_latest 4 = .ok (.aload_n 0, 1) := dk_42 (dk_at dksX2_latest_0 4 rfl rfl)
theorem dX2_latest_5 : decode cX2_latest 5 = .ok (.getfield 12, 3) := dk_180 0 12 (dk_at dksX2_latest_0 5 rfl rfl)
theorem dX2_latest_8 : decode cX2_latest 8 = .ok (.invokevirtual 54, 3) := dk_182 0 54 (dk_at dksX2_latest_0 8 rfl rfl)
theorem dX2_latest_11 : decode cX2_latest 11 = .ok (.iconst 1, 1) := dk_4 (dk_at dksX2_latest_0 11 rfl rfl)
theorem dX2_latest_12 : decode cX2_latest 12 = .ok (.isub, 1) := dk_100 (dk_at dksX2_latest_0 12 rfl rfl)
theorem dX2_latest_13 : decode cX2_latest 13 = .ok (.invokevirtual 58, 3) := dk_182 0 58 (dk_at dksX2_latest_0 13 rfl rfl)
theorem dX2_latest_16 : decode cX2_latest 16 = .ok (.checkcast 62, 3) := dk_192 0 62 (dk_at dksX2_latest_0 16 rfl rfl)
theorem dX2_latest_19 : decode cX2_latest 19 = .ok (.areturn, 1) := dk_176 (dk_at dksX2_latest_0 19 rfl rfl)
def dkwX2_dueFirst_0 : List UInt8 := [27, 42, 182, 0, 155, 180, 0, 159, 42, 180, 0, 38, 96, 184, 0, 160, 172]
abbrev dktX2_dueFirst_0 : List UInt8 := dkwX2_dueFirst_0 ++ []
theorem dksX2_dueFirst_0 : cX2_dueFirst.data.toList.drop 0 = dktX2_dueFirst_0 := by decide +kernel
theorem dX2_dueFirst_0 : decode cX2_dueFirst 0 = .ok (.iload_n 1, 1) := dk_27 (dk_at dksX2_dueFirst_0 0 rfl rfl)
theorem dX2_dueFirst_1 : decode cX2_dueFirst 1 = .ok (.aload_n 0, 1) := dk_42 (dk_at dksX2_dueFirst_0 1 rfl rfl)
theorem dX2_dueFirst_2 : decode cX2_dueFirst 2 = .ok (.invokevirtual 155, 3) := dk_182 0 155 (dk_at dksX2_dueFirst_0 2 rfl rfl)
theorem dX2_dueFirst_5 : decode cX2_dueFirst 5 = .ok (.getfield 159, 3) := dk_180 0 159 (dk_at dksX2_dueFirst_0 5 rfl rfl)
theorem dX2_dueFirst_8 : decode cX2_dueFirst 8 = .ok (.aload_n 0, 1) := dk_42 (dk_at dksX2_dueFirst_0 8 rfl rfl)
theorem dX2_dueFirst_9 : decode cX2_dueFirst 9 = .ok (.getfield 38, 3) := dk_180 0 38 (dk_at dksX2_dueFirst_0 9 rfl rfl)
theorem dX2_dueFirst_12 : decode cX2_dueFirst 12 = .ok (.iadd, 1) := dk_96 (dk_at dksX2_dueFirst_0 12 rfl rfl)
theorem dX2_dueFirst_13 : decode cX2_dueFirst 13 = .ok (.invokestatic 160, 3) := dk_184 0 160 (dk_at dksX2_dueFirst_0 13 rfl rfl)
theorem dX2_dueFirst_16 : decode cX2_dueFirst 16 = .ok (.ireturn, 1) := dk_172 (dk_at dksX2_dueFirst_0 16 rfl rfl)
def dkwX2_recordCount_1 : List UInt8 := [96, 60, 132, 2, 1, 167, 255, 231, 27, 172]
abbrev dktX2_recordCount_1 : List UInt8 := dkwX2_recordCount_1 ++ []
def dkwX2_recordCount_0 : List UInt8 := [3, 60, 3, 61, 28, 42, 180, 0, 18, 182, 0, 54, 162, 0, 20, 27, 42, 28, 182, 0, 215, 184, 0, 113]
abbrev dktX2_recordCount_0 : List UInt8 := dkwX2_recordCount_0 ++ dktX2_recordCount_1
theorem dksX2_recordCount_0 : cX2_recordCount.data.toList.drop 0 = dktX2_recordCount_0 := by decide +kernel
theorem dksX2_recordCount_1 : cX2_recordCount.data.toList.drop 24 = dktX2_recordCount_1 := dk_seg dksX2_recordCount_0 24 rfl rfl
theorem dX2_recordCount_0 : decode cX2_recordCount 0 = .ok (.iconst 0, 1) := dk_3 (dk_at dksX2_recordCount_0 0 rfl rfl)
theorem dX2_recordCount_1 : decode cX2_recordCount 1 = .ok (.istore_n 1, 1) := dk_60 (dk_at dksX2_recordCount_0 1 rfl rfl)
theorem dX2_recordCount_2 : decode cX2_recordCount 2 = .ok (.iconst 0, 1) := dk_3 (dk_at dksX2_recordCount_0 2 rfl rfl)
theorem dX2_recordCount_3 : decode cX2_recordCount 3 = .ok (.istore_n 2, 1) := dk_61 (dk_at dksX2_recordCount_0 3 rfl rfl)
theorem dX2_recordCount_4 : decode cX2_recordCount 4 = .ok (.iload_n 2, 1) := dk_28 (dk_at dksX2_recordCount_0 4 rfl rfl)
theorem dX2_recordCount_5 : decode cX2_recordCount 5 = .ok (.aload_n 0, 1) := dk_42 (dk_at dksX2_recordCount_0 5 rfl rfl)
theorem dX2_recordCount_6 : decode cX2_recordCount 6 = .ok (.getfield 18, 3) := dk_180 0 18 (dk_at dksX2_recordCount_0 6 rfl rfl)
theorem dX2_recordCount_9 : decode cX2_recordCount 9 = .ok (.invokevirtual 54, 3) := dk_182 0 54 (dk_at dksX2_recordCount_0 9 rfl rfl)
theorem dX2_recordCount_12 : decode cX2_recordCount 12 = .ok (.if_icmp .ge 20, 3) := dk_162 0 20 (dk_at dksX2_recordCount_0 12 rfl rfl)
theorem dX2_recordCount_15 : decode cX2_recordCount 15 = .ok (.iload_n 1, 1) := dk_27 (dk_at dksX2_recordCount_0 15 rfl rfl)
theorem dX2_recordCount_16 : decode cX2_recordCount 16 = .ok (.aload_n 0, 1) := dk_42 (dk_at dksX2_recordCount_0 16 rfl rfl)
theorem dX2_recordCount_17 : decode cX2_recordCount 17 = .ok (.iload_n 2, 1) := dk_28 (dk_at dksX2_recordCount_0 17 rfl rfl)
theorem dX2_recordCount_18 : decode cX2_recordCount 18 = .ok (.invokevirtual 215, 3) := dk_182 0 215 (dk_at dksX2_recordCount_0 18 rfl rfl)
theorem dX2_recordCount_21 : decode cX2_recordCount 21 = .ok (.invokestatic 113, 3) := dk_184 0 113 (dk_at dksX2_recordCount_0 21 rfl rfl)
theorem dX2_recordCount_24 : decode cX2_recordCount 24 = .ok (.iadd, 1) := dk_96 (dk_at dksX2_recordCount_1 0 rfl rfl)
theorem dX2_recordCount_25 : decode cX2_recordCount 25 = .ok (.istore_n 1, 1) := dk_60 (dk_at dksX2_recordCount_1 1 rfl rfl)
theorem dX2_recordCount_26 : decode cX2_recordCount 26 = .ok (.iinc 2 1, 3) := dk_132 2 1 (dk_at dksX2_recordCount_1 2 rfl rfl)
theorem dX2_recordCount_29 : decode cX2_recordCount 29 = .ok (.goto (-25), 3) := dk_167 255 231 (dk_at dksX2_recordCount_1 5 rfl rfl)
theorem dX2_recordCount_32 : decode cX2_recordCount 32 = .ok (.iload_n 1, 1) := dk_27 (dk_at dksX2_recordCount_1 8 rfl rfl)
theorem dX2_recordCount_33 : decode cX2_recordCount 33 = .ok (.ireturn, 1) := dk_172 (dk_at dksX2_recordCount_1 9 rfl rfl)
def dkwX2_wrapCount_2 : List UInt8 := [132, 2, 1, 167, 255, 210, 27, 172]
abbrev dktX2_wrapCount_2 : List UInt8 := dkwX2_wrapCount_2 ++ []
def dkwX2_wrapCount_1 : List UInt8 := [42, 180, 0, 18, 28, 182, 0, 58, 192, 0, 68, 180, 0, 199, 182, 0, 241, 167, 0, 4, 3, 96, 60]
abbrev dktX2_wrapCount_1 : List UInt8 := dkwX2_wrapCount_1 ++ dktX2_wrapCount_2
def dkwX2_wrapCount_0 : List UInt8 := [3, 60, 3, 61, 28, 42, 180, 0, 18, 182, 0, 54, 162, 0, 41, 27, 42, 28, 182, 0, 215, 153, 0, 23]
abbrev dktX2_wrapCount_0 : List UInt8 := dkwX2_wrapCount_0 ++ dktX2_wrapCount_1
theorem dksX2_wrapCount_0 : cX2_wrapCount.data.toList.drop 0 = dktX2_wrapCount_0 := by decide +kernel
theorem dksX2_wrapCount_1 : cX2_wrapCount.data.toList.drop 24 = dktX2_wrapCount_1 := dk_seg dksX2_wrapCount_0 24 rfl rfl
theorem dksX2_wrapCount_2 : cX2_wrapCount.data.toList.drop 47 = dktX2_wrapCount_2 := dk_seg dksX2_wrapCount_1 23 rfl rfl
theorem dX2_wrapCount_0 : decode cX2_wrapCount 0 = .ok (.iconst 0, 1) := dk_3 (dk_at dksX2_wrapCount_0 0 rfl rfl)
theorem dX2_wrapCount_1 : decode cX2_wrapCount 1 = .ok (.istore_n 1, 1) := dk_60 (dk_at dksX2_wrapCount_0 1 rfl rfl)
theorem dX2_wrapCount_2 : decode cX2_wrapCount 2 = .ok (.iconst 0, 1) := dk_3 (dk_at dksX2_wrapCount_0 2 rfl rfl)
theorem dX2_wrapCount_3 : decode cX2_wrapCount 3 = .ok (.istore_n 2, 1) := dk_61 (dk_at dksX2_wrapCount_0 3 rfl rfl)
theorem dX2_wrapCount_4 : decode cX2_wrapCount 4 = .ok (.iload_n 2, 1) := dk_28 (dk_at dksX2_wrapCount_0 4 rfl rfl)
theorem dX2_wrapCount_5 : decode cX2_wrapCount 5 = .ok (.aload_n 0, 1) := dk_42 (dk_at dksX2_wrapCount_0 5 rfl rfl)
theorem dX2_wrapCount_6 : decode cX2_wrapCount 6 = .ok (.getfield 18, 3) := dk_180 0 18 (dk_at dksX2_wrapCount_0 6 rfl rfl)
theorem dX2_wrapCount_9 : decode cX2_wrapCount 9 = .ok (.invokevirtual 54, 3) := dk_182 0 54 (dk_at dksX2_wrapCount_0 9 rfl rfl)
theorem dX2_wrapCount_12 : decode cX2_wrapCount 12 = .ok (.if_icmp .ge 41, 3) := dk_162 0 41 (dk_at dksX2_wrapCount_0 12 rfl rfl)
theorem dX2_wrapCount_15 : decode cX2_wrapCount 15 = .ok (.iload_n 1, 1) := dk_27 (dk_at dksX2_wrapCount_0 15 rfl rfl)
theorem dX2_wrapCount_16 : decode cX2_wrapCount 16 = .ok (.aload_n 0, 1) := dk_42 (dk_at dksX2_wrapCount_0 16 rfl rfl)
theorem dX2_wrapCount_17 : decode cX2_wrapCount 17 = .ok (.iload_n 2, 1) := dk_28 (dk_at dksX2_wrapCount_0 17 rfl rfl)
theorem dX2_wrapCount_18 : decode cX2_wrapCount 18 = .ok (.invokevirtual 215, 3) := dk_182 0 215 (dk_at dksX2_wrapCount_0 18 rfl rfl)
theorem dX2_wrapCount_21 : decode cX2_wrapCount 21 = .ok (.ifCond .eq 23, 3) := dk_153 0 23 (dk_at dksX2_wrapCount_0 21 rfl rfl)
theorem dX2_wrapCount_24 : decode cX2_wrapCount 24 = .ok (.aload_n 0, 1) := dk_42 (dk_at dksX2_wrapCount_1 0 rfl rfl)
theorem dX2_wrapCount_25 : decode cX2_wrapCount 25 = .ok (.getfield 18, 3) := dk_180 0 18 (dk_at dksX2_wrapCount_1 1 rfl rfl)
theorem dX2_wrapCount_28 : decode cX2_wrapCount 28 = .ok (.iload_n 2, 1) := dk_28 (dk_at dksX2_wrapCount_1 4 rfl rfl)
theorem dX2_wrapCount_29 : decode cX2_wrapCount 29 = .ok (.invokevirtual 58, 3) := dk_182 0 58 (dk_at dksX2_wrapCount_1 5 rfl rfl)
theorem dX2_wrapCount_32 : decode cX2_wrapCount 32 = .ok (.checkcast 68, 3) := dk_192 0 68 (dk_at dksX2_wrapCount_1 8 rfl rfl)
theorem dX2_wrapCount_35 : decode cX2_wrapCount 35 = .ok (.getfield 199, 3) := dk_180 0 199 (dk_at dksX2_wrapCount_1 11 rfl rfl)
theorem dX2_wrapCount_38 : decode cX2_wrapCount 38 = .ok (.invokevirtual 241, 3) := dk_182 0 241 (dk_at dksX2_wrapCount_1 14 rfl rfl)
theorem dX2_wrapCount_41 : decode cX2_wrapCount 41 = .ok (.goto 4, 3) := dk_167 0 4 (dk_at dksX2_wrapCount_1 17 rfl rfl)
theorem dX2_wrapCount_44 : decode cX2_wrapCount 44 = .ok (.iconst 0, 1) := dk_3 (dk_at dksX2_wrapCount_1 20 rfl rfl)
theorem dX2_wrapCount_45 : decode cX2_wrapCount 45 = .ok (.iadd, 1) := dk_96 (dk_at dksX2_wrapCount_1 21 rfl rfl)
theorem dX2_wrapCount_46 : decode cX2_wrapCount 46 = .ok (.istore_n 1, 1) := dk_60 (dk_at dksX2_wrapCount_1 22 rfl rfl)
theorem dX2_wrapCount_47 : decode cX2_wrapCount 47 = .ok (.iinc 2 1, 3) := dk_132 2 1 (dk_at dksX2_wrapCount_2 0 rfl rfl)
theorem dX2_wrapCount_50 : decode cX2_wrapCount 50 = .ok (.goto (-46), 3) := dk_167 255 210 (dk_at dksX2_wrapCount_2 3 rfl rfl)
theorem dX2_wrapCount_53 : decode cX2_wrapCount 53 = .ok (.iload_n 1, 1) := dk_27 (dk_at dksX2_wrapCount_2 6 rfl rfl)
theorem dX2_wrapCount_54 : decode cX2_wrapCount 54 = .ok (.ireturn, 1) := dk_172 (dk_at dksX2_wrapCount_2 7 rfl rfl)
def dkwX2_readable_2 : List UInt8 := [167, 255, 213, 28, 172]
abbrev dktX2_readable_2 : List UInt8 := dkwX2_readable_2 ++ []
def dkwX2_readable_1 : List UInt8 := [42, 27, 29, 182, 1, 7, 2, 159, 0, 7, 4, 167, 0, 4, 3, 184, 0, 113, 96, 61, 132, 3, 1]
abbrev dktX2_readable_1 : List UInt8 := dkwX2_readable_1 ++ dktX2_readable_2
def dkwX2_readable_0 : List UInt8 := [3, 61, 3, 62, 29, 42, 180, 0, 18, 182, 0, 54, 162, 0, 38, 28, 42, 29, 182, 0, 215, 153, 0, 17]
abbrev dktX2_readable_0 : List UInt8 := dkwX2_readable_0 ++ dktX2_readable_1
theorem dksX2_readable_0 : cX2_readable.data.toList.drop 0 = dktX2_readable_0 := by decide +kernel
theorem dksX2_readable_1 : cX2_readable.data.toList.drop 24 = dktX2_readable_1 := dk_seg dksX2_readable_0 24 rfl rfl
theorem dksX2_readable_2 : cX2_readable.data.toList.drop 47 = dktX2_readable_2 := dk_seg dksX2_readable_1 23 rfl rfl
theorem dX2_readable_0 : decode cX2_readable 0 = .ok (.iconst 0, 1) := dk_3 (dk_at dksX2_readable_0 0 rfl rfl)
theorem dX2_readable_1 : decode cX2_readable 1 = .ok (.istore_n 2, 1) := dk_61 (dk_at dksX2_readable_0 1 rfl rfl)
theorem dX2_readable_2 : decode cX2_readable 2 = .ok (.iconst 0, 1) := dk_3 (dk_at dksX2_readable_0 2 rfl rfl)
theorem dX2_readable_3 : decode cX2_readable 3 = .ok (.istore_n 3, 1) := dk_62 (dk_at dksX2_readable_0 3 rfl rfl)
theorem dX2_readable_4 : decode cX2_readable 4 = .ok (.iload_n 3, 1) := dk_29 (dk_at dksX2_readable_0 4 rfl rfl)
theorem dX2_readable_5 : decode cX2_readable 5 = .ok (.aload_n 0, 1) := dk_42 (dk_at dksX2_readable_0 5 rfl rfl)
theorem dX2_readable_6 : decode cX2_readable 6 = .ok (.getfield 18, 3) := dk_180 0 18 (dk_at dksX2_readable_0 6 rfl rfl)
theorem dX2_readable_9 : decode cX2_readable 9 = .ok (.invokevirtual 54, 3) := dk_182 0 54 (dk_at dksX2_readable_0 9 rfl rfl)
theorem dX2_readable_12 : decode cX2_readable 12 = .ok (.if_icmp .ge 38, 3) := dk_162 0 38 (dk_at dksX2_readable_0 12 rfl rfl)
theorem dX2_readable_15 : decode cX2_readable 15 = .ok (.iload_n 2, 1) := dk_28 (dk_at dksX2_readable_0 15 rfl rfl)
theorem dX2_readable_16 : decode cX2_readable 16 = .ok (.aload_n 0, 1) := dk_42 (dk_at dksX2_readable_0 16 rfl rfl)
theorem dX2_readable_17 : decode cX2_readable 17 = .ok (.iload_n 3, 1) := dk_29 (dk_at dksX2_readable_0 17 rfl rfl)
theorem dX2_readable_18 : decode cX2_readable 18 = .ok (.invokevirtual 215, 3) := dk_182 0 215 (dk_at dksX2_readable_0 18 rfl rfl)
theorem dX2_readable_21 : decode cX2_readable 21 = .ok (.ifCond .eq 17, 3) := dk_153 0 17 (dk_at dksX2_readable_0 21 rfl rfl)
theorem dX2_readable_24 : decode cX2_readable 24 = .ok (.aload_n 0, 1) := dk_42 (dk_at dksX2_readable_1 0 rfl rfl)
theorem dX2_readable_25 : decode cX2_readable 25 = .ok (.iload_n 1, 1) := dk_27 (dk_at dksX2_readable_1 1 rfl rfl)
theorem dX2_readable_26 : decode cX2_readable 26 = .ok (.iload_n 3, 1) := dk_29 (dk_at dksX2_readable_1 2 rfl rfl)
theorem dX2_readable_27 : decode cX2_readable 27 = .ok (.invokevirtual 263, 3) := dk_182 1 7 (dk_at dksX2_readable_1 3 rfl rfl)
theorem dX2_readable_30 : decode cX2_readable 30 = .ok (.iconst (-1), 1) := dk_2 (dk_at dksX2_readable_1 6 rfl rfl)
theorem dX2_readable_31 : decode cX2_readable 31 = .ok (.if_icmp .eq 7, 3) := dk_159 0 7 (dk_at dksX2_readable_1 7 rfl rfl)
theorem dX2_readable_34 : decode cX2_readable 34 = .ok (.iconst 1, 1) := dk_4 (dk_at dksX2_readable_1 10 rfl rfl)
theorem dX2_readable_35 : decode cX2_readable 35 = .ok (.goto 4, 3) := dk_167 0 4 (dk_at dksX2_readable_1 11 rfl rfl)
theorem dX2_readable_38 : decode cX2_readable 38 = .ok (.iconst 0, 1) := dk_3 (dk_at dksX2_readable_1 14 rfl rfl)
theorem dX2_readable_39 : decode cX2_readable 39 = .ok (.invokestatic 113, 3) := dk_184 0 113 (dk_at dksX2_readable_1 15 rfl rfl)
theorem dX2_readable_42 : decode cX2_readable 42 = .ok (.iadd, 1) := dk_96 (dk_at dksX2_readable_1 18 rfl rfl)
theorem dX2_readable_43 : decode cX2_readable 43 = .ok (.istore_n 2, 1) := dk_61 (dk_at dksX2_readable_1 19 rfl rfl)
theorem dX2_readable_44 : decode cX2_readable 44 = .ok (.iinc 3 1, 3) := dk_132 3 1 (dk_at dksX2_readable_1 20 rfl rfl)
theorem dX2_readable_47 : decode cX2_readable 47 = .ok (.goto (-43), 3) := dk_167 255 213 (dk_at dksX2_readable_2 0 rfl rfl)
theorem dX2_readable_50 : decode cX2_readable 50 = .ok (.iload_n 2, 1) := dk_28 (dk_at dksX2_readable_2 3 rfl rfl)
theorem dX2_readable_51 : decode cX2_readable 51 = .ok (.ireturn, 1) := dk_172 (dk_at dksX2_readable_2 4 rfl rfl)
def dkwX2_readsBy_1 : List UInt8 := [182, 1, 3, 42, 180, 0, 98, 182, 1, 5, 172]
abbrev dktX2_readsBy_1 : List UInt8 := dkwX2_readsBy_1 ++ []
def dkwX2_readsBy_0 : List UInt8 := [42, 180, 0, 21, 27, 182, 0, 58, 192, 0, 74, 42, 180, 0, 18, 28, 182, 0, 58, 192, 0, 68]
abbrev dktX2_readsBy_0 : List UInt8 := dkwX2_readsBy_0 ++ dktX2_readsBy_1
theorem dksX2_readsBy_0 : cX2_readsBy.data.toList.drop 0 = dktX2_readsBy_0 := by decide +kernel
theorem dksX2_readsBy_1 : cX2_readsBy.data.toList.drop 22 = dktX2_readsBy_1 := dk_seg dksX2_readsBy_0 22 rfl rfl
theorem dX2_readsBy_0 : decode cX2_readsBy 0 = .ok (.aload_n 0, 1) := dk_42 (dk_at dksX2_readsBy_0 0 rfl rfl)
theorem dX2_readsBy_1 : decode cX2_readsBy 1 = .ok (.getfield 21, 3) := dk_180 0 21 (dk_at dksX2_readsBy_0 1 rfl rfl)
theorem dX2_readsBy_4 : decode cX2_readsBy 4 = .ok (.iload_n 1, 1) := dk_27 (dk_at dksX2_readsBy_0 4 rfl rfl)
theorem dX2_readsBy_5 : decode cX2_readsBy 5 = .ok (.invokevirtual 58, 3) := dk_182 0 58 (dk_at dksX2_readsBy_0 5 rfl rfl)
theorem dX2_readsBy_8 : decode cX2_readsBy 8 = .ok (.checkcast 74, 3) := dk_192 0 74 (dk_at dksX2_readsBy_0 8 rfl rfl)
theorem dX2_readsBy_11 : decode cX2_readsBy 11 = .ok (.aload_n 0, 1) := dk_42 (dk_at dksX2_readsBy_0 11 rfl rfl)
theorem dX2_readsBy_12 : decode cX2_readsBy 12 = .ok (.getfield 18, 3) := dk_180 0 18 (dk_at dksX2_readsBy_0 12 rfl rfl)
theorem dX2_readsBy_15 : decode cX2_readsBy 15 = .ok (.iload_n 2, 1) := dk_28 (dk_at dksX2_readsBy_0 15 rfl rfl)
theorem dX2_readsBy_16 : decode cX2_readsBy 16 = .ok (.invokevirtual 58, 3) := dk_182 0 58 (dk_at dksX2_readsBy_0 16 rfl rfl)
theorem dX2_readsBy_19 : decode cX2_readsBy 19 = .ok (.checkcast 68, 3) := dk_192 0 68 (dk_at dksX2_readsBy_0 19 rfl rfl)
theorem dX2_readsBy_22 : decode cX2_readsBy 22 = .ok (.invokevirtual 259, 3) := dk_182 1 3 (dk_at dksX2_readsBy_1 0 rfl rfl)
theorem dX2_readsBy_25 : decode cX2_readsBy 25 = .ok (.aload_n 0, 1) := dk_42 (dk_at dksX2_readsBy_1 3 rfl rfl)
theorem dX2_readsBy_26 : decode cX2_readsBy 26 = .ok (.getfield 98, 3) := dk_180 0 98 (dk_at dksX2_readsBy_1 4 rfl rfl)
theorem dX2_readsBy_29 : decode cX2_readsBy 29 = .ok (.invokevirtual 261, 3) := dk_182 1 5 (dk_at dksX2_readsBy_1 7 rfl rfl)
theorem dX2_readsBy_32 : decode cX2_readsBy 32 = .ok (.ireturn, 1) := dk_172 (dk_at dksX2_readsBy_1 10 rfl rfl)
def dkwX2_copy_9 : List UInt8 := [180, 0, 98, 181, 0, 98, 45, 42, 180, 0, 101, 181, 0, 101, 45, 42, 180, 0, 104, 181, 0, 104, 45, 176]
abbrev dktX2_copy_9 : List UInt8 := dkwX2_copy_9 ++ []
def dkwX2_copy_8 : List UInt8 := [185, 0, 89, 1, 0, 192, 0, 93, 58, 5, 45, 180, 0, 27, 25, 5, 182, 0, 94, 167, 255, 225, 45, 42]
abbrev dktX2_copy_8 : List UInt8 := dkwX2_copy_8 ++ dktX2_copy_9
def dkwX2_copy_7 : List UInt8 := [180, 0, 27, 182, 0, 79, 58, 4, 25, 4, 185, 0, 83, 1, 0, 153, 0, 27, 25, 4]
abbrev dktX2_copy_7 : List UInt8 := dkwX2_copy_7 ++ dktX2_copy_8
def dkwX2_copy_6 : List UInt8 := [182, 0, 58, 192, 0, 74, 182, 0, 76, 182, 0, 64, 87, 132, 4, 1, 167, 255, 214, 27, 153, 0, 46, 42]
abbrev dktX2_copy_6 : List UInt8 := dkwX2_copy_6 ++ dktX2_copy_7
def dkwX2_copy_5 : List UInt8 := [180, 0, 21, 182, 0, 54, 162, 0, 36, 28, 153, 0, 32, 45, 180, 0, 21, 42, 180, 0, 21, 21, 4]
abbrev dktX2_copy_5 : List UInt8 := dkwX2_copy_5 ++ dktX2_copy_6
def dkwX2_copy_4 : List UInt8 := [192, 0, 68, 182, 0, 70, 182, 0, 64, 87, 132, 4, 1, 167, 255, 218, 3, 54, 4, 21, 4, 42]
abbrev dktX2_copy_4 : List UInt8 := dkwX2_copy_4 ++ dktX2_copy_5
def dkwX2_copy_3 : List UInt8 := [180, 0, 18, 182, 0, 54, 162, 0, 32, 45, 180, 0, 18, 42, 180, 0, 18, 21, 4, 182, 0, 58]
abbrev dktX2_copy_3 : List UInt8 := dkwX2_copy_3 ++ dktX2_copy_4
def dkwX2_copy_2 : List UInt8 := [21, 4, 182, 0, 58, 192, 0, 62, 182, 0, 64, 87, 132, 4, 1, 167, 255, 221, 3, 54, 4, 21, 4, 42]
abbrev dktX2_copy_2 : List UInt8 := dkwX2_copy_2 ++ dktX2_copy_3
def dkwX2_copy_1 : List UInt8 := [3, 54, 4, 21, 4, 42, 180, 0, 12, 182, 0, 54, 162, 0, 29, 45, 180, 0, 12, 42, 180, 0, 12]
abbrev dktX2_copy_1 : List UInt8 := dkwX2_copy_1 ++ dktX2_copy_2
def dkwX2_copy_0 : List UInt8 := [187, 0, 13, 89, 42, 180, 0, 38, 42, 180, 0, 42, 42, 180, 0, 45, 42, 180, 0, 48, 183, 0, 51, 78]
abbrev dktX2_copy_0 : List UInt8 := dkwX2_copy_0 ++ dktX2_copy_1
theorem dksX2_copy_0 : cX2_copy.data.toList.drop 0 = dktX2_copy_0 := by decide +kernel
theorem dksX2_copy_1 : cX2_copy.data.toList.drop 24 = dktX2_copy_1 := dk_seg dksX2_copy_0 24 rfl rfl
theorem dksX2_copy_2 : cX2_copy.data.toList.drop 47 = dktX2_copy_2 := dk_seg dksX2_copy_1 23 rfl rfl
theorem dksX2_copy_3 : cX2_copy.data.toList.drop 71 = dktX2_copy_3 := dk_seg dksX2_copy_2 24 rfl rfl
theorem dksX2_copy_4 : cX2_copy.data.toList.drop 93 = dktX2_copy_4 := dk_seg dksX2_copy_3 22 rfl rfl
theorem dksX2_copy_5 : cX2_copy.data.toList.drop 115 = dktX2_copy_5 := dk_seg dksX2_copy_4 22 rfl rfl
theorem dksX2_copy_6 : cX2_copy.data.toList.drop 138 = dktX2_copy_6 := dk_seg dksX2_copy_5 23 rfl rfl
theorem dksX2_copy_7 : cX2_copy.data.toList.drop 162 = dktX2_copy_7 := dk_seg dksX2_copy_6 24 rfl rfl
theorem dksX2_copy_8 : cX2_copy.data.toList.drop 182 = dktX2_copy_8 := dk_seg dksX2_copy_7 20 rfl rfl
theorem dksX2_copy_9 : cX2_copy.data.toList.drop 206 = dktX2_copy_9 := dk_seg dksX2_copy_8 24 rfl rfl
theorem dX2_copy_0 : decode cX2_copy 0 = .ok (.new 13, 3) := dk_187 0 13 (dk_at dksX2_copy_0 0 rfl rfl)
theorem dX2_copy_3 : decode cX2_copy 3 = .ok (.dup, 1) := dk_89 (dk_at dksX2_copy_0 3 rfl rfl)
theorem dX2_copy_4 : decode cX2_copy 4 = .ok (.aload_n 0, 1) := dk_42 (dk_at dksX2_copy_0 4 rfl rfl)
theorem dX2_copy_5 : decode cX2_copy 5 = .ok (.getfield 38, 3) := dk_180 0 38 (dk_at dksX2_copy_0 5 rfl rfl)
theorem dX2_copy_8 : decode cX2_copy 8 = .ok (.aload_n 0, 1) := dk_42 (dk_at dksX2_copy_0 8 rfl rfl)
theorem dX2_copy_9 : decode cX2_copy 9 = .ok (.getfield 42, 3) := dk_180 0 42 (dk_at dksX2_copy_0 9 rfl rfl)
theorem dX2_copy_12 : decode cX2_copy 12 = .ok (.aload_n 0, 1) := dk_42 (dk_at dksX2_copy_0 12 rfl rfl)
theorem dX2_copy_13 : decode cX2_copy 13 = .ok (.getfield 45, 3) := dk_180 0 45 (dk_at dksX2_copy_0 13 rfl rfl)
theorem dX2_copy_16 : decode cX2_copy 16 = .ok (.aload_n 0, 1) := dk_42 (dk_at dksX2_copy_0 16 rfl rfl)
theorem dX2_copy_17 : decode cX2_copy 17 = .ok (.getfield 48, 3) := dk_180 0 48 (dk_at dksX2_copy_0 17 rfl rfl)
theorem dX2_copy_20 : decode cX2_copy 20 = .ok (.invokespecial 51, 3) := dk_183 0 51 (dk_at dksX2_copy_0 20 rfl rfl)
theorem dX2_copy_23 : decode cX2_copy 23 = .ok (.astore_n 3, 1) := dk_78 (dk_at dksX2_copy_0 23 rfl rfl)
theorem dX2_copy_24 : decode cX2_copy 24 = .ok (.iconst 0, 1) := dk_3 (dk_at dksX2_copy_1 0 rfl rfl)
theorem dX2_copy_25 : decode cX2_copy 25 = .ok (.istore 4, 2) := dk_54 4 (dk_at dksX2_copy_1 1 rfl rfl)
theorem dX2_copy_27 : decode cX2_copy 27 = .ok (.iload 4, 2) := dk_21 4 (dk_at dksX2_copy_1 3 rfl rfl)
theorem dX2_copy_29 : decode cX2_copy 29 = .ok (.aload_n 0, 1) := dk_42 (dk_at dksX2_copy_1 5 rfl rfl)
theorem dX2_copy_30 : decode cX2_copy 30 = .ok (.getfield 12, 3) := dk_180 0 12 (dk_at dksX2_copy_1 6 rfl rfl)
theorem dX2_copy_33 : decode cX2_copy 33 = .ok (.invokevirtual 54, 3) := dk_182 0 54 (dk_at dksX2_copy_1 9 rfl rfl)
theorem dX2_copy_36 : decode cX2_copy 36 = .ok (.if_icmp .ge 29, 3) := dk_162 0 29 (dk_at dksX2_copy_1 12 rfl rfl)
theorem dX2_copy_39 : decode cX2_copy 39 = .ok (.aload_n 3, 1) := dk_45 (dk_at dksX2_copy_1 15 rfl rfl)
theorem dX2_copy_40 : decode cX2_copy 40 = .ok (.getfield 12, 3) := dk_180 0 12 (dk_at dksX2_copy_1 16 rfl rfl)
theorem dX2_copy_43 : decode cX2_copy 43 = .ok (.aload_n 0, 1) := dk_42 (dk_at dksX2_copy_1 19 rfl rfl)
theorem dX2_copy_44 : decode cX2_copy 44 = .ok (.getfield 12, 3) := dk_180 0 12 (dk_at dksX2_copy_1 20 rfl rfl)
theorem dX2_copy_47 : decode cX2_copy 47 = .ok (.iload 4, 2) := dk_21 4 (dk_at dksX2_copy_2 0 rfl rfl)
theorem dX2_copy_49 : decode cX2_copy 49 = .ok (.invokevirtual 58, 3) := dk_182 0 58 (dk_at dksX2_copy_2 2 rfl rfl)
theorem dX2_copy_52 : decode cX2_copy 52 = .ok (.checkcast 62, 3) := dk_192 0 62 (dk_at dksX2_copy_2 5 rfl rfl)
theorem dX2_copy_55 : decode cX2_copy 55 = .ok (.invokevirtual 64, 3) := dk_182 0 64 (dk_at dksX2_copy_2 8 rfl rfl)
theorem dX2_copy_58 : decode cX2_copy 58 = .ok (.pop, 1) := dk_87 (dk_at dksX2_copy_2 11 rfl rfl)
theorem dX2_copy_59 : decode cX2_copy 59 = .ok (.iinc 4 1, 3) := dk_132 4 1 (dk_at dksX2_copy_2 12 rfl rfl)
theorem dX2_copy_62 : decode cX2_copy 62 = .ok (.goto (-35), 3) := dk_167 255 221 (dk_at dksX2_copy_2 15 rfl rfl)
theorem dX2_copy_65 : decode cX2_copy 65 = .ok (.iconst 0, 1) := dk_3 (dk_at dksX2_copy_2 18 rfl rfl)
theorem dX2_copy_66 : decode cX2_copy 66 = .ok (.istore 4, 2) := dk_54 4 (dk_at dksX2_copy_2 19 rfl rfl)
theorem dX2_copy_68 : decode cX2_copy 68 = .ok (.iload 4, 2) := dk_21 4 (dk_at dksX2_copy_2 21 rfl rfl)
theorem dX2_copy_70 : decode cX2_copy 70 = .ok (.aload_n 0, 1) := dk_42 (dk_at dksX2_copy_2 23 rfl rfl)
theorem dX2_copy_71 : decode cX2_copy 71 = .ok (.getfield 18, 3) := dk_180 0 18 (dk_at dksX2_copy_3 0 rfl rfl)
theorem dX2_copy_74 : decode cX2_copy 74 = .ok (.invokevirtual 54, 3) := dk_182 0 54 (dk_at dksX2_copy_3 3 rfl rfl)
theorem dX2_copy_77 : decode cX2_copy 77 = .ok (.if_icmp .ge 32, 3) := dk_162 0 32 (dk_at dksX2_copy_3 6 rfl rfl)
theorem dX2_copy_80 : decode cX2_copy 80 = .ok (.aload_n 3, 1) := dk_45 (dk_at dksX2_copy_3 9 rfl rfl)
theorem dX2_copy_81 : decode cX2_copy 81 = .ok (.getfield 18, 3) := dk_180 0 18 (dk_at dksX2_copy_3 10 rfl rfl)
theorem dX2_copy_84 : decode cX2_copy 84 = .ok (.aload_n 0, 1) := dk_42 (dk_at dksX2_copy_3 13 rfl rfl)
theorem dX2_copy_85 : decode cX2_copy 85 = .ok (.getfield 18, 3) := dk_180 0 18 (dk_at dksX2_copy_3 14 rfl rfl)
theorem dX2_copy_88 : decode cX2_copy 88 = .ok (.iload 4, 2) := dk_21 4 (dk_at dksX2_copy_3 17 rfl rfl)
theorem dX2_copy_90 : decode cX2_copy 90 = .ok (.invokevirtual 58, 3) := dk_182 0 58 (dk_at dksX2_copy_3 19 rfl rfl)
theorem dX2_copy_93 : decode cX2_copy 93 = .ok (.checkcast 68, 3) := dk_192 0 68 (dk_at dksX2_copy_4 0 rfl rfl)
theorem dX2_copy_96 : decode cX2_copy 96 = .ok (.invokevirtual 70, 3) := dk_182 0 70 (dk_at dksX2_copy_4 3 rfl rfl)
theorem dX2_copy_99 : decode cX2_copy 99 = .ok (.invokevirtual 64, 3) := dk_182 0 64 (dk_at dksX2_copy_4 6 rfl rfl)
theorem dX2_copy_102 : decode cX2_copy 102 = .ok (.pop, 1) := dk_87 (dk_at dksX2_copy_4 9 rfl rfl)
theorem dX2_copy_103 : decode cX2_copy 103 = .ok (.iinc 4 1, 3) := dk_132 4 1 (dk_at dksX2_copy_4 10 rfl rfl)
theorem dX2_copy_106 : decode cX2_copy 106 = .ok (.goto (-38), 3) := dk_167 255 218 (dk_at dksX2_copy_4 13 rfl rfl)
theorem dX2_copy_109 : decode cX2_copy 109 = .ok (.iconst 0, 1) := dk_3 (dk_at dksX2_copy_4 16 rfl rfl)
theorem dX2_copy_110 : decode cX2_copy 110 = .ok (.istore 4, 2) := dk_54 4 (dk_at dksX2_copy_4 17 rfl rfl)
theorem dX2_copy_112 : decode cX2_copy 112 = .ok (.iload 4, 2) := dk_21 4 (dk_at dksX2_copy_4 19 rfl rfl)
theorem dX2_copy_114 : decode cX2_copy 114 = .ok (.aload_n 0, 1) := dk_42 (dk_at dksX2_copy_4 21 rfl rfl)
theorem dX2_copy_115 : decode cX2_copy 115 = .ok (.getfield 21, 3) := dk_180 0 21 (dk_at dksX2_copy_5 0 rfl rfl)
theorem dX2_copy_118 : decode cX2_copy 118 = .ok (.invokevirtual 54, 3) := dk_182 0 54 (dk_at dksX2_copy_5 3 rfl rfl)
theorem dX2_copy_121 : decode cX2_copy 121 = .ok (.if_icmp .ge 36, 3) := dk_162 0 36 (dk_at dksX2_copy_5 6 rfl rfl)
theorem dX2_copy_124 : decode cX2_copy 124 = .ok (.iload_n 2, 1) := dk_28 (dk_at dksX2_copy_5 9 rfl rfl)
theorem dX2_copy_125 : decode cX2_copy 125 = .ok (.ifCond .eq 32, 3) := dk_153 0 32 (dk_at dksX2_copy_5 10 rfl rfl)
theorem dX2_copy_128 : decode cX2_copy 128 = .ok (.aload_n 3, 1) := dk_45 (dk_at dksX2_copy_5 13 rfl rfl)
theorem dX2_copy_129 : decode cX2_copy 129 = .ok (.getfield 21, 3) := dk_180 0 21 (dk_at dksX2_copy_5 14 rfl rfl)
theorem dX2_copy_132 : decode cX2_copy 132 = .ok (.aload_n 0, 1) := dk_42 (dk_at dksX2_copy_5 17 rfl rfl)
theorem dX2_copy_133 : decode cX2_copy 133 = .ok (.getfield 21, 3) := dk_180 0 21 (dk_at dksX2_copy_5 18 rfl rfl)
theorem dX2_copy_136 : decode cX2_copy 136 = .ok (.iload 4, 2) := dk_21 4 (dk_at dksX2_copy_5 21 rfl rfl)
theorem dX2_copy_138 : decode cX2_copy 138 = .ok (.invokevirtual 58, 3) := dk_182 0 58 (dk_at dksX2_copy_6 0 rfl rfl)
theorem dX2_copy_141 : decode cX2_copy 141 = .ok (.checkcast 74, 3) := dk_192 0 74 (dk_at dksX2_copy_6 3 rfl rfl)
theorem dX2_copy_144 : decode cX2_copy 144 = .ok (.invokevirtual 76, 3) := dk_182 0 76 (dk_at dksX2_copy_6 6 rfl rfl)
theorem dX2_copy_147 : decode cX2_copy 147 = .ok (.invokevirtual 64, 3) := dk_182 0 64 (dk_at dksX2_copy_6 9 rfl rfl)
theorem dX2_copy_150 : decode cX2_copy 150 = .ok (.pop, 1) := dk_87 (dk_at dksX2_copy_6 12 rfl rfl)
theorem dX2_copy_151 : decode cX2_copy 151 = .ok (.iinc 4 1, 3) := dk_132 4 1 (dk_at dksX2_copy_6 13 rfl rfl)
theorem dX2_copy_154 : decode cX2_copy 154 = .ok (.goto (-42), 3) := dk_167 255 214 (dk_at dksX2_copy_6 16 rfl rfl)
theorem dX2_copy_157 : decode cX2_copy 157 = .ok (.iload_n 1, 1) := dk_27 (dk_at dksX2_copy_6 19 rfl rfl)
theorem dX2_copy_158 : decode cX2_copy 158 = .ok (.ifCond .eq 46, 3) := dk_153 0 46 (dk_at dksX2_copy_6 20 rfl rfl)
theorem dX2_copy_161 : decode cX2_copy 161 = .ok (.aload_n 0, 1) := dk_42 (dk_at dksX2_copy_6 23 rfl rfl)
theorem dX2_copy_162 : decode cX2_copy 162 = .ok (.getfield 27, 3) := dk_180 0 27 (dk_at dksX2_copy_7 0 rfl rfl)
theorem dX2_copy_165 : decode cX2_copy 165 = .ok (.invokevirtual 79, 3) := dk_182 0 79 (dk_at dksX2_copy_7 3 rfl rfl)
theorem dX2_copy_168 : decode cX2_copy 168 = .ok (.astore 4, 2) := dk_58 4 (dk_at dksX2_copy_7 6 rfl rfl)
theorem dX2_copy_170 : decode cX2_copy 170 = .ok (.aload 4, 2) := dk_25 4 (dk_at dksX2_copy_7 8 rfl rfl)
theorem dX2_copy_172 : decode cX2_copy 172 = .ok (.invokeinterface 83 1, 5) := by decide +kernel
theorem dX2_copy_177 : decode cX2_copy 177 = .ok (.ifCond .eq 27, 3) := dk_153 0 27 (dk_at dksX2_copy_7 15 rfl rfl)
theorem dX2_copy_180 : decode cX2_copy 180 = .ok (.aload 4, 2) := dk_25 4 (dk_at dksX2_copy_7 18 rfl rfl)
theorem dX2_copy_182 : decode cX2_copy 182 = .ok (.invokeinterface 89 1, 5) := by decide +kernel
theorem dX2_copy_187 : decode cX2_copy 187 = .ok (.checkcast 93, 3) := dk_192 0 93 (dk_at dksX2_copy_8 5 rfl rfl)
theorem dX2_copy_190 : decode cX2_copy 190 = .ok (.astore 5, 2) := dk_58 5 (dk_at dksX2_copy_8 8 rfl rfl)
theorem dX2_copy_192 : decode cX2_copy 192 = .ok (.aload_n 3, 1) := dk_45 (dk_at dksX2_copy_8 10 rfl rfl)
theorem dX2_copy_193 : decode cX2_copy 193 = .ok (.getfield 27, 3) := dk_180 0 27 (dk_at dksX2_copy_8 11 rfl rfl)
theorem dX2_copy_196 : decode cX2_copy 196 = .ok (.aload 5, 2) := dk_25 5 (dk_at dksX2_copy_8 14 rfl rfl)
theorem dX2_copy_198 : decode cX2_copy 198 = .ok (.invokevirtual 94, 3) := dk_182 0 94 (dk_at dksX2_copy_8 16 rfl rfl)
theorem dX2_copy_201 : decode cX2_copy 201 = .ok (.goto (-31), 3) := dk_167 255 225 (dk_at dksX2_copy_8 19 rfl rfl)
theorem dX2_copy_204 : decode cX2_copy 204 = .ok (.aload_n 3, 1) := dk_45 (dk_at dksX2_copy_8 22 rfl rfl)
theorem dX2_copy_205 : decode cX2_copy 205 = .ok (.aload_n 0, 1) := dk_42 (dk_at dksX2_copy_8 23 rfl rfl)
theorem dX2_copy_206 : decode cX2_copy 206 = .ok (.getfield 98, 3) := dk_180 0 98 (dk_at dksX2_copy_9 0 rfl rfl)
theorem dX2_copy_209 : decode cX2_copy 209 = .ok (.putfield 98, 3) := dk_181 0 98 (dk_at dksX2_copy_9 3 rfl rfl)
theorem dX2_copy_212 : decode cX2_copy 212 = .ok (.aload_n 3, 1) := dk_45 (dk_at dksX2_copy_9 6 rfl rfl)
theorem dX2_copy_213 : decode cX2_copy 213 = .ok (.aload_n 0, 1) := dk_42 (dk_at dksX2_copy_9 7 rfl rfl)
theorem dX2_copy_214 : decode cX2_copy 214 = .ok (.getfield 101, 3) := dk_180 0 101 (dk_at dksX2_copy_9 8 rfl rfl)
theorem dX2_copy_217 : decode cX2_copy 217 = .ok (.putfield 101, 3) := dk_181 0 101 (dk_at dksX2_copy_9 11 rfl rfl)
theorem dX2_copy_220 : decode cX2_copy 220 = .ok (.aload_n 3, 1) := dk_45 (dk_at dksX2_copy_9 14 rfl rfl)
theorem dX2_copy_221 : decode cX2_copy 221 = .ok (.aload_n 0, 1) := dk_42 (dk_at dksX2_copy_9 15 rfl rfl)
theorem dX2_copy_222 : decode cX2_copy 222 = .ok (.getfield 104, 3) := dk_180 0 104 (dk_at dksX2_copy_9 16 rfl rfl)
theorem dX2_copy_225 : decode cX2_copy 225 = .ok (.putfield 104, 3) := dk_181 0 104 (dk_at dksX2_copy_9 19 rfl rfl)
theorem dX2_copy_228 : decode cX2_copy 228 = .ok (.aload_n 3, 1) := dk_45 (dk_at dksX2_copy_9 22 rfl rfl)
theorem dX2_copy_229 : decode cX2_copy 229 = .ok (.areturn, 1) := dk_176 (dk_at dksX2_copy_9 23 rfl rfl)
def dkwX2_issue_7 : List UInt8 := [87, 42, 180, 0, 12, 182, 0, 54, 4, 100, 172]
abbrev dktX2_issue_7 : List UInt8 := dkwX2_issue_7 ++ []
def dkwX2_issue_6 : List UInt8 := [180, 0, 12, 187, 0, 131, 89, 42, 180, 0, 12, 182, 0, 54, 27, 17, 39, 15, 183, 0, 146, 182, 0, 64]
abbrev dktX2_issue_6 : List UInt8 := dkwX2_issue_6 ++ dktX2_issue_7
def dkwX2_issue_5 : List UInt8 := [183, 0, 146, 25, 6, 180, 0, 149, 183, 0, 152, 182, 0, 137, 87, 132, 3, 1, 167, 255, 134, 42]
abbrev dktX2_issue_5 : List UInt8 := dkwX2_issue_5 ++ dktX2_issue_6
def dkwX2_issue_4 : List UInt8 := [58, 6, 42, 180, 0, 12, 29, 187, 0, 141, 89, 187, 0, 131, 89, 29, 25, 6, 180, 0, 143, 28]
abbrev dktX2_issue_4 : List UInt8 := dkwX2_issue_4 ++ dktX2_issue_5
def dkwX2_issue_3 : List UInt8 := [182, 0, 133, 182, 0, 137, 87, 167, 0, 53, 25, 4, 193, 0, 141, 153, 0, 45, 25, 4, 192, 0, 141]
abbrev dktX2_issue_3 : List UInt8 := dkwX2_issue_3 ++ dktX2_issue_4
def dkwX2_issue_2 : List UInt8 := [25, 4, 193, 0, 131, 153, 0, 28, 25, 4, 192, 0, 131, 58, 5, 42, 180, 0, 12, 29, 25, 5, 28]
abbrev dktX2_issue_2 : List UInt8 := dkwX2_issue_2 ++ dktX2_issue_3
def dkwX2_issue_1 : List UInt8 := [180, 0, 12, 29, 182, 0, 58, 192, 0, 62, 58, 4, 25, 4, 180, 0, 128, 28, 163, 0, 6, 167, 0, 86]
abbrev dktX2_issue_1 : List UInt8 := dkwX2_issue_1 ++ dktX2_issue_2
def dkwX2_issue_0 : List UInt8 := [27, 42, 180, 0, 42, 96, 4, 100, 61, 3, 62, 29, 42, 180, 0, 12, 182, 0, 54, 162, 0, 117, 42]
abbrev dktX2_issue_0 : List UInt8 := dkwX2_issue_0 ++ dktX2_issue_1
theorem dksX2_issue_0 : cX2_issue.data.toList.drop 0 = dktX2_issue_0 := by decide +kernel
theorem dksX2_issue_1 : cX2_issue.data.toList.drop 23 = dktX2_issue_1 := dk_seg dksX2_issue_0 23 rfl rfl
theorem dksX2_issue_2 : cX2_issue.data.toList.drop 47 = dktX2_issue_2 := dk_seg dksX2_issue_1 24 rfl rfl
theorem dksX2_issue_3 : cX2_issue.data.toList.drop 70 = dktX2_issue_3 := dk_seg dksX2_issue_2 23 rfl rfl
theorem dksX2_issue_4 : cX2_issue.data.toList.drop 93 = dktX2_issue_4 := dk_seg dksX2_issue_3 23 rfl rfl
theorem dksX2_issue_5 : cX2_issue.data.toList.drop 115 = dktX2_issue_5 := dk_seg dksX2_issue_4 22 rfl rfl
theorem dksX2_issue_6 : cX2_issue.data.toList.drop 137 = dktX2_issue_6 := dk_seg dksX2_issue_5 22 rfl rfl
theorem dksX2_issue_7 : cX2_issue.data.toList.drop 161 = dktX2_issue_7 := dk_seg dksX2_issue_6 24 rfl rfl
theorem dX2_issue_0 : decode cX2_issue 0 = .ok (.iload_n 1, 1) := dk_27 (dk_at dksX2_issue_0 0 rfl rfl)
theorem dX2_issue_1 : decode cX2_issue 1 = .ok (.aload_n 0, 1) := dk_42 (dk_at dksX2_issue_0 1 rfl rfl)
theorem dX2_issue_2 : decode cX2_issue 2 = .ok (.getfield 42, 3) := dk_180 0 42 (dk_at dksX2_issue_0 2 rfl rfl)
theorem dX2_issue_5 : decode cX2_issue 5 = .ok (.iadd, 1) := dk_96 (dk_at dksX2_issue_0 5 rfl rfl)
theorem dX2_issue_6 : decode cX2_issue 6 = .ok (.iconst 1, 1) := dk_4 (dk_at dksX2_issue_0 6 rfl rfl)
theorem dX2_issue_7 : decode cX2_issue 7 = .ok (.isub, 1) := dk_100 (dk_at dksX2_issue_0 7 rfl rfl)
theorem dX2_issue_8 : decode cX2_issue 8 = .ok (.istore_n 2, 1) := dk_61 (dk_at dksX2_issue_0 8 rfl rfl)
theorem dX2_issue_9 : decode cX2_issue 9 = .ok (.iconst 0, 1) := dk_3 (dk_at dksX2_issue_0 9 rfl rfl)
theorem dX2_issue_10 : decode cX2_issue 10 = .ok (.istore_n 3, 1) := dk_62 (dk_at dksX2_issue_0 10 rfl rfl)
theorem dX2_issue_11 : decode cX2_issue 11 = .ok (.iload_n 3, 1) := dk_29 (dk_at dksX2_issue_0 11 rfl rfl)
theorem dX2_issue_12 : decode cX2_issue 12 = .ok (.aload_n 0, 1) := dk_42 (dk_at dksX2_issue_0 12 rfl rfl)
theorem dX2_issue_13 : decode cX2_issue 13 = .ok (.getfield 12, 3) := dk_180 0 12 (dk_at dksX2_issue_0 13 rfl rfl)
theorem dX2_issue_16 : decode cX2_issue 16 = .ok (.invokevirtual 54, 3) := dk_182 0 54 (dk_at dksX2_issue_0 16 rfl rfl)
theorem dX2_issue_19 : decode cX2_issue 19 = .ok (.if_icmp .ge 117, 3) := dk_162 0 117 (dk_at dksX2_issue_0 19 rfl rfl)
theorem dX2_issue_22 : decode cX2_issue 22 = .ok (.aload_n 0, 1) := dk_42 (dk_at dksX2_issue_0 22 rfl rfl)
theorem dX2_issue_23 : decode cX2_issue 23 = .ok (.getfield 12, 3) := dk_180 0 12 (dk_at dksX2_issue_1 0 rfl rfl)
theorem dX2_issue_26 : decode cX2_issue 26 = .ok (.iload_n 3, 1) := dk_29 (dk_at dksX2_issue_1 3 rfl rfl)
theorem dX2_issue_27 : decode cX2_issue 27 = .ok (.invokevirtual 58, 3) := dk_182 0 58 (dk_at dksX2_issue_1 4 rfl rfl)
theorem dX2_issue_30 : decode cX2_issue 30 = .ok (.checkcast 62, 3) := dk_192 0 62 (dk_at dksX2_issue_1 7 rfl rfl)
theorem dX2_issue_33 : decode cX2_issue 33 = .ok (.astore 4, 2) := dk_58 4 (dk_at dksX2_issue_1 10 rfl rfl)
theorem dX2_issue_35 : decode cX2_issue 35 = .ok (.aload 4, 2) := dk_25 4 (dk_at dksX2_issue_1 12 rfl rfl)
theorem dX2_issue_37 : decode cX2_issue 37 = .ok (.getfield 128, 3) := dk_180 0 128 (dk_at dksX2_issue_1 14 rfl rfl)
theorem dX2_issue_40 : decode cX2_issue 40 = .ok (.iload_n 2, 1) := dk_28 (dk_at dksX2_issue_1 17 rfl rfl)
theorem dX2_issue_41 : decode cX2_issue 41 = .ok (.if_icmp .gt 6, 3) := dk_163 0 6 (dk_at dksX2_issue_1 18 rfl rfl)
theorem dX2_issue_44 : decode cX2_issue 44 = .ok (.goto 86, 3) := dk_167 0 86 (dk_at dksX2_issue_1 21 rfl rfl)
theorem dX2_issue_47 : decode cX2_issue 47 = .ok (.aload 4, 2) := dk_25 4 (dk_at dksX2_issue_2 0 rfl rfl)
theorem dX2_issue_49 : decode cX2_issue 49 = .ok (.instanceof 131, 3) := dk_193 0 131 (dk_at dksX2_issue_2 2 rfl rfl)
theorem dX2_issue_52 : decode cX2_issue 52 = .ok (.ifCond .eq 28, 3) := dk_153 0 28 (dk_at dksX2_issue_2 5 rfl rfl)
theorem dX2_issue_55 : decode cX2_issue 55 = .ok (.aload 4, 2) := dk_25 4 (dk_at dksX2_issue_2 8 rfl rfl)
theorem dX2_issue_57 : decode cX2_issue 57 = .ok (.checkcast 131, 3) := dk_192 0 131 (dk_at dksX2_issue_2 10 rfl rfl)
theorem dX2_issue_60 : decode cX2_issue 60 = .ok (.astore 5, 2) := dk_58 5 (dk_at dksX2_issue_2 13 rfl rfl)
theorem dX2_issue_62 : decode cX2_issue 62 = .ok (.aload_n 0, 1) := dk_42 (dk_at dksX2_issue_2 15 rfl rfl)
theorem dX2_issue_63 : decode cX2_issue 63 = .ok (.getfield 12, 3) := dk_180 0 12 (dk_at dksX2_issue_2 16 rfl rfl)
theorem dX2_issue_66 : decode cX2_issue 66 = .ok (.iload_n 3, 1) := dk_29 (dk_at dksX2_issue_2 19 rfl rfl)
theorem dX2_issue_67 : decode cX2_issue 67 = .ok (.aload 5, 2) := dk_25 5 (dk_at dksX2_issue_2 20 rfl rfl)
theorem dX2_issue_69 : decode cX2_issue 69 = .ok (.iload_n 2, 1) := dk_28 (dk_at dksX2_issue_2 22 rfl rfl)
theorem dX2_issue_70 : decode cX2_issue 70 = .ok (.invokevirtual 133, 3) := dk_182 0 133 (dk_at dksX2_issue_3 0 rfl rfl)
theorem dX2_issue_73 : decode cX2_issue 73 = .ok (.invokevirtual 137, 3) := dk_182 0 137 (dk_at dksX2_issue_3 3 rfl rfl)
theorem dX2_issue_76 : decode cX2_issue 76 = .ok (.pop, 1) := dk_87 (dk_at dksX2_issue_3 6 rfl rfl)
theorem dX2_issue_77 : decode cX2_issue 77 = .ok (.goto 53, 3) := dk_167 0 53 (dk_at dksX2_issue_3 7 rfl rfl)
theorem dX2_issue_80 : decode cX2_issue 80 = .ok (.aload 4, 2) := dk_25 4 (dk_at dksX2_issue_3 10 rfl rfl)
theorem dX2_issue_82 : decode cX2_issue 82 = .ok (.instanceof 141, 3) := dk_193 0 141 (dk_at dksX2_issue_3 12 rfl rfl)
theorem dX2_issue_85 : decode cX2_issue 85 = .ok (.ifCond .eq 45, 3) := dk_153 0 45 (dk_at dksX2_issue_3 15 rfl rfl)
theorem dX2_issue_88 : decode cX2_issue 88 = .ok (.aload 4, 2) := dk_25 4 (dk_at dksX2_issue_3 18 rfl rfl)
theorem dX2_issue_90 : decode cX2_issue 90 = .ok (.checkcast 141, 3) := dk_192 0 141 (dk_at dksX2_issue_3 20 rfl rfl)
theorem dX2_issue_93 : decode cX2_issue 93 = .ok (.astore 6, 2) := dk_58 6 (dk_at dksX2_issue_4 0 rfl rfl)
theorem dX2_issue_95 : decode cX2_issue 95 = .ok (.aload_n 0, 1) := dk_42 (dk_at dksX2_issue_4 2 rfl rfl)
theorem dX2_issue_96 : decode cX2_issue 96 = .ok (.getfield 12, 3) := dk_180 0 12 (dk_at dksX2_issue_4 3 rfl rfl)
theorem dX2_issue_99 : decode cX2_issue 99 = .ok (.iload_n 3, 1) := dk_29 (dk_at dksX2_issue_4 6 rfl rfl)
theorem dX2_issue_100 : decode cX2_issue 100 = .ok (.new 141, 3) := dk_187 0 141 (dk_at dksX2_issue_4 7 rfl rfl)
theorem dX2_issue_103 : decode cX2_issue 103 = .ok (.dup, 1) := dk_89 (dk_at dksX2_issue_4 10 rfl rfl)
theorem dX2_issue_104 : decode cX2_issue 104 = .ok (.new 131, 3) := dk_187 0 131 (dk_at dksX2_issue_4 11 rfl rfl)
theorem dX2_issue_107 : decode cX2_issue 107 = .ok (.dup, 1) := dk_89 (dk_at dksX2_issue_4 14 rfl rfl)
theorem dX2_issue_108 : decode cX2_issue 108 = .ok (.iload_n 3, 1) := dk_29 (dk_at dksX2_issue_4 15 rfl rfl)
theorem dX2_issue_109 : decode cX2_issue 109 = .ok (.aload 6, 2) := dk_25 6 (dk_at dksX2_issue_4 16 rfl rfl)
theorem dX2_issue_111 : decode cX2_issue 111 = .ok (.getfield 143, 3) := dk_180 0 143 (dk_at dksX2_issue_4 18 rfl rfl)
theorem dX2_issue_114 : decode cX2_issue 114 = .ok (.iload_n 2, 1) := dk_28 (dk_at dksX2_issue_4 21 rfl rfl)
theorem dX2_issue_115 : decode cX2_issue 115 = .ok (.invokespecial 146, 3) := dk_183 0 146 (dk_at dksX2_issue_5 0 rfl rfl)
theorem dX2_issue_118 : decode cX2_issue 118 = .ok (.aload 6, 2) := dk_25 6 (dk_at dksX2_issue_5 3 rfl rfl)
theorem dX2_issue_120 : decode cX2_issue 120 = .ok (.getfield 149, 3) := dk_180 0 149 (dk_at dksX2_issue_5 5 rfl rfl)
theorem dX2_issue_123 : decode cX2_issue 123 = .ok (.invokespecial 152, 3) := dk_183 0 152 (dk_at dksX2_issue_5 8 rfl rfl)
theorem dX2_issue_126 : decode cX2_issue 126 = .ok (.invokevirtual 137, 3) := dk_182 0 137 (dk_at dksX2_issue_5 11 rfl rfl)
theorem dX2_issue_129 : decode cX2_issue 129 = .ok (.pop, 1) := dk_87 (dk_at dksX2_issue_5 14 rfl rfl)
theorem dX2_issue_130 : decode cX2_issue 130 = .ok (.iinc 3 1, 3) := dk_132 3 1 (dk_at dksX2_issue_5 15 rfl rfl)
theorem dX2_issue_133 : decode cX2_issue 133 = .ok (.goto (-122), 3) := dk_167 255 134 (dk_at dksX2_issue_5 18 rfl rfl)
theorem dX2_issue_136 : decode cX2_issue 136 = .ok (.aload_n 0, 1) := dk_42 (dk_at dksX2_issue_5 21 rfl rfl)
theorem dX2_issue_137 : decode cX2_issue 137 = .ok (.getfield 12, 3) := dk_180 0 12 (dk_at dksX2_issue_6 0 rfl rfl)
theorem dX2_issue_140 : decode cX2_issue 140 = .ok (.new 131, 3) := dk_187 0 131 (dk_at dksX2_issue_6 3 rfl rfl)
theorem dX2_issue_143 : decode cX2_issue 143 = .ok (.dup, 1) := dk_89 (dk_at dksX2_issue_6 6 rfl rfl)
theorem dX2_issue_144 : decode cX2_issue 144 = .ok (.aload_n 0, 1) := dk_42 (dk_at dksX2_issue_6 7 rfl rfl)
theorem dX2_issue_145 : decode cX2_issue 145 = .ok (.getfield 12, 3) := dk_180 0 12 (dk_at dksX2_issue_6 8 rfl rfl)
theorem dX2_issue_148 : decode cX2_issue 148 = .ok (.invokevirtual 54, 3) := dk_182 0 54 (dk_at dksX2_issue_6 11 rfl rfl)
theorem dX2_issue_151 : decode cX2_issue 151 = .ok (.iload_n 1, 1) := dk_27 (dk_at dksX2_issue_6 14 rfl rfl)
theorem dX2_issue_152 : decode cX2_issue 152 = .ok (.sipush 9999, 3) := dk_17 39 15 (dk_at dksX2_issue_6 15 rfl rfl)
theorem dX2_issue_155 : decode cX2_issue 155 = .ok (.invokespecial 146, 3) := dk_183 0 146 (dk_at dksX2_issue_6 18 rfl rfl)
theorem dX2_issue_158 : decode cX2_issue 158 = .ok (.invokevirtual 64, 3) := dk_182 0 64 (dk_at dksX2_issue_6 21 rfl rfl)
theorem dX2_issue_161 : decode cX2_issue 161 = .ok (.pop, 1) := dk_87 (dk_at dksX2_issue_7 0 rfl rfl)
theorem dX2_issue_162 : decode cX2_issue 162 = .ok (.aload_n 0, 1) := dk_42 (dk_at dksX2_issue_7 1 rfl rfl)
theorem dX2_issue_163 : decode cX2_issue 163 = .ok (.getfield 12, 3) := dk_180 0 12 (dk_at dksX2_issue_7 2 rfl rfl)
theorem dX2_issue_166 : decode cX2_issue 166 = .ok (.invokevirtual 54, 3) := dk_182 0 54 (dk_at dksX2_issue_7 5 rfl rfl)
theorem dX2_issue_169 : decode cX2_issue 169 = .ok (.iconst 1, 1) := dk_4 (dk_at dksX2_issue_7 8 rfl rfl)
theorem dX2_issue_170 : decode cX2_issue 170 = .ok (.isub, 1) := dk_100 (dk_at dksX2_issue_7 9 rfl rfl)
theorem dX2_issue_171 : decode cX2_issue 171 = .ok (.ireturn, 1) := dk_172 (dk_at dksX2_issue_7 10 rfl rfl)
def dkwX2_clean_2 : List UInt8 := [167, 255, 213, 42, 89, 180, 0, 101, 27, 96, 181, 0, 101, 27, 172]
abbrev dktX2_clean_2 : List UInt8 := dkwX2_clean_2 ++ []
def dkwX2_clean_1 : List UInt8 := [42, 42, 180, 0, 18, 28, 182, 0, 58, 192, 0, 68, 182, 0, 218, 184, 0, 113, 96, 60, 132, 2, 1]
abbrev dktX2_clean_1 : List UInt8 := dkwX2_clean_1 ++ dktX2_clean_2
def dkwX2_clean_0 : List UInt8 := [3, 60, 3, 61, 28, 42, 180, 0, 18, 182, 0, 54, 162, 0, 38, 42, 28, 182, 0, 215, 153, 0, 24, 27]
abbrev dktX2_clean_0 : List UInt8 := dkwX2_clean_0 ++ dktX2_clean_1
theorem dksX2_clean_0 : cX2_clean.data.toList.drop 0 = dktX2_clean_0 := by decide +kernel
theorem dksX2_clean_1 : cX2_clean.data.toList.drop 24 = dktX2_clean_1 := dk_seg dksX2_clean_0 24 rfl rfl
theorem dksX2_clean_2 : cX2_clean.data.toList.drop 47 = dktX2_clean_2 := dk_seg dksX2_clean_1 23 rfl rfl
theorem dX2_clean_0 : decode cX2_clean 0 = .ok (.iconst 0, 1) := dk_3 (dk_at dksX2_clean_0 0 rfl rfl)
theorem dX2_clean_1 : decode cX2_clean 1 = .ok (.istore_n 1, 1) := dk_60 (dk_at dksX2_clean_0 1 rfl rfl)
theorem dX2_clean_2 : decode cX2_clean 2 = .ok (.iconst 0, 1) := dk_3 (dk_at dksX2_clean_0 2 rfl rfl)
theorem dX2_clean_3 : decode cX2_clean 3 = .ok (.istore_n 2, 1) := dk_61 (dk_at dksX2_clean_0 3 rfl rfl)
theorem dX2_clean_4 : decode cX2_clean 4 = .ok (.iload_n 2, 1) := dk_28 (dk_at dksX2_clean_0 4 rfl rfl)
theorem dX2_clean_5 : decode cX2_clean 5 = .ok (.aload_n 0, 1) := dk_42 (dk_at dksX2_clean_0 5 rfl rfl)
theorem dX2_clean_6 : decode cX2_clean 6 = .ok (.getfield 18, 3) := dk_180 0 18 (dk_at dksX2_clean_0 6 rfl rfl)
theorem dX2_clean_9 : decode cX2_clean 9 = .ok (.invokevirtual 54, 3) := dk_182 0 54 (dk_at dksX2_clean_0 9 rfl rfl)
theorem dX2_clean_12 : decode cX2_clean 12 = .ok (.if_icmp .ge 38, 3) := dk_162 0 38 (dk_at dksX2_clean_0 12 rfl rfl)
theorem dX2_clean_15 : decode cX2_clean 15 = .ok (.aload_n 0, 1) := dk_42 (dk_at dksX2_clean_0 15 rfl rfl)
theorem dX2_clean_16 : decode cX2_clean 16 = .ok (.iload_n 2, 1) := dk_28 (dk_at dksX2_clean_0 16 rfl rfl)
theorem dX2_clean_17 : decode cX2_clean 17 = .ok (.invokevirtual 215, 3) := dk_182 0 215 (dk_at dksX2_clean_0 17 rfl rfl)
theorem dX2_clean_20 : decode cX2_clean 20 = .ok (.ifCond .eq 24, 3) := dk_153 0 24 (dk_at dksX2_clean_0 20 rfl rfl)
theorem dX2_clean_23 : decode cX2_clean 23 = .ok (.iload_n 1, 1) := dk_27 (dk_at dksX2_clean_0 23 rfl rfl)
theorem dX2_clean_24 : decode cX2_clean 24 = .ok (.aload_n 0, 1) := dk_42 (dk_at dksX2_clean_1 0 rfl rfl)
theorem dX2_clean_25 : decode cX2_clean 25 = .ok (.aload_n 0, 1) := dk_42 (dk_at dksX2_clean_1 1 rfl rfl)
theorem dX2_clean_26 : decode cX2_clean 26 = .ok (.getfield 18, 3) := dk_180 0 18 (dk_at dksX2_clean_1 2 rfl rfl)
theorem dX2_clean_29 : decode cX2_clean 29 = .ok (.iload_n 2, 1) := dk_28 (dk_at dksX2_clean_1 5 rfl rfl)
theorem dX2_clean_30 : decode cX2_clean 30 = .ok (.invokevirtual 58, 3) := dk_182 0 58 (dk_at dksX2_clean_1 6 rfl rfl)
theorem dX2_clean_33 : decode cX2_clean 33 = .ok (.checkcast 68, 3) := dk_192 0 68 (dk_at dksX2_clean_1 9 rfl rfl)
theorem dX2_clean_36 : decode cX2_clean 36 = .ok (.invokevirtual 218, 3) := dk_182 0 218 (dk_at dksX2_clean_1 12 rfl rfl)
theorem dX2_clean_39 : decode cX2_clean 39 = .ok (.invokestatic 113, 3) := dk_184 0 113 (dk_at dksX2_clean_1 15 rfl rfl)
theorem dX2_clean_42 : decode cX2_clean 42 = .ok (.iadd, 1) := dk_96 (dk_at dksX2_clean_1 18 rfl rfl)
theorem dX2_clean_43 : decode cX2_clean 43 = .ok (.istore_n 1, 1) := dk_60 (dk_at dksX2_clean_1 19 rfl rfl)
theorem dX2_clean_44 : decode cX2_clean 44 = .ok (.iinc 2 1, 3) := dk_132 2 1 (dk_at dksX2_clean_1 20 rfl rfl)
theorem dX2_clean_47 : decode cX2_clean 47 = .ok (.goto (-43), 3) := dk_167 255 213 (dk_at dksX2_clean_2 0 rfl rfl)
theorem dX2_clean_50 : decode cX2_clean 50 = .ok (.aload_n 0, 1) := dk_42 (dk_at dksX2_clean_2 3 rfl rfl)
theorem dX2_clean_51 : decode cX2_clean 51 = .ok (.dup, 1) := dk_89 (dk_at dksX2_clean_2 4 rfl rfl)
theorem dX2_clean_52 : decode cX2_clean 52 = .ok (.getfield 101, 3) := dk_180 0 101 (dk_at dksX2_clean_2 5 rfl rfl)
theorem dX2_clean_55 : decode cX2_clean 55 = .ok (.iload_n 1, 1) := dk_27 (dk_at dksX2_clean_2 8 rfl rfl)
theorem dX2_clean_56 : decode cX2_clean 56 = .ok (.iadd, 1) := dk_96 (dk_at dksX2_clean_2 9 rfl rfl)
theorem dX2_clean_57 : decode cX2_clean 57 = .ok (.putfield 101, 3) := dk_181 0 101 (dk_at dksX2_clean_2 10 rfl rfl)
theorem dX2_clean_60 : decode cX2_clean 60 = .ok (.iload_n 1, 1) := dk_27 (dk_at dksX2_clean_2 13 rfl rfl)
theorem dX2_clean_61 : decode cX2_clean 61 = .ok (.ireturn, 1) := dk_172 (dk_at dksX2_clean_2 14 rfl rfl)
def dkwX2_cleans_5 : List UInt8 := [181, 0, 228, 4, 172]
abbrev dktX2_cleans_5 : List UInt8 := dkwX2_cleans_5 ++ []
def dkwX2_cleans_4 : List UInt8 := [2, 160, 0, 5, 3, 172, 43, 180, 0, 199, 42, 182, 0, 187, 182, 0, 203, 43, 89, 180, 0, 228, 4, 96]
abbrev dktX2_cleans_4 : List UInt8 := dkwX2_cleans_4 ++ dktX2_cleans_5
def dkwX2_cleans_3 : List UInt8 := [128, 61, 43, 180, 0, 199, 29, 4, 96, 182, 0, 222, 62, 167, 255, 185, 28, 154, 0, 11, 42, 182, 0, 187]
abbrev dktX2_cleans_3 : List UInt8 := dkwX2_cleans_3 ++ dktX2_cleans_4
def dkwX2_cleans_2 : List UInt8 := [153, 0, 14, 43, 180, 0, 199, 29, 182, 0, 225, 167, 0, 15, 28, 25, 4, 42, 180, 0, 98, 182, 0, 117]
abbrev dktX2_cleans_2 : List UInt8 := dkwX2_cleans_2 ++ dktX2_cleans_3
def dkwX2_cleans_1 : List UInt8 := [192, 0, 62, 58, 4, 25, 4, 193, 0, 141, 154, 0, 15, 25, 4, 42, 180, 0, 98, 182, 0, 170]
abbrev dktX2_cleans_1 : List UInt8 := dkwX2_cleans_1 ++ dktX2_cleans_2
def dkwX2_cleans_0 : List UInt8 := [3, 61, 43, 180, 0, 199, 3, 182, 0, 222, 62, 29, 155, 0, 73, 42, 180, 0, 12, 29, 182, 0, 58]
abbrev dktX2_cleans_0 : List UInt8 := dkwX2_cleans_0 ++ dktX2_cleans_1
theorem dksX2_cleans_0 : cX2_cleans.data.toList.drop 0 = dktX2_cleans_0 := by decide +kernel
theorem dksX2_cleans_1 : cX2_cleans.data.toList.drop 23 = dktX2_cleans_1 := dk_seg dksX2_cleans_0 23 rfl rfl
theorem dksX2_cleans_2 : cX2_cleans.data.toList.drop 45 = dktX2_cleans_2 := dk_seg dksX2_cleans_1 22 rfl rfl
theorem dksX2_cleans_3 : cX2_cleans.data.toList.drop 69 = dktX2_cleans_3 := dk_seg dksX2_cleans_2 24 rfl rfl
theorem dksX2_cleans_4 : cX2_cleans.data.toList.drop 93 = dktX2_cleans_4 := dk_seg dksX2_cleans_3 24 rfl rfl
theorem dksX2_cleans_5 : cX2_cleans.data.toList.drop 117 = dktX2_cleans_5 := dk_seg dksX2_cleans_4 24 rfl rfl
theorem dX2_cleans_0 : decode cX2_cleans 0 = .ok (.iconst 0, 1) := dk_3 (dk_at dksX2_cleans_0 0 rfl rfl)
theorem dX2_cleans_1 : decode cX2_cleans 1 = .ok (.istore_n 2, 1) := dk_61 (dk_at dksX2_cleans_0 1 rfl rfl)
theorem dX2_cleans_2 : decode cX2_cleans 2 = .ok (.aload_n 1, 1) := dk_43 (dk_at dksX2_cleans_0 2 rfl rfl)
theorem dX2_cleans_3 : decode cX2_cleans 3 = .ok (.getfield 199, 3) := dk_180 0 199 (dk_at dksX2_cleans_0 3 rfl rfl)
theorem dX2_cleans_6 : decode cX2_cleans 6 = .ok (.iconst 0, 1) := dk_3 (dk_at dksX2_cleans_0 6 rfl rfl)
theorem dX2_cleans_7 : decode cX2_cleans 7 = .ok (.invokevirtual 222, 3) := dk_182 0 222 (dk_at dksX2_cleans_0 7 rfl rfl)
theorem dX2_cleans_10 : decode cX2_cleans 10 = .ok (.istore_n 3, 1) := dk_62 (dk_at dksX2_cleans_0 10 rfl rfl)
theorem dX2_cleans_11 : decode cX2_cleans 11 = .ok (.iload_n 3, 1) := dk_29 (dk_at dksX2_cleans_0 11 rfl rfl)
theorem dX2_cleans_12 : decode cX2_cleans 12 = .ok (.ifCond .lt 73, 3) := dk_155 0 73 (dk_at dksX2_cleans_0 12 rfl rfl)
theorem dX2_cleans_15 : decode cX2_cleans 15 = .ok (.aload_n 0, 1) := dk_42 (dk_at dksX2_cleans_0 15 rfl rfl)
theorem dX2_cleans_16 : decode cX2_cleans 16 = .ok (.getfield 12, 3) := dk_180 0 12 (dk_at dksX2_cleans_0 16 rfl rfl)
theorem dX2_cleans_19 : decode cX2_cleans 19 = .ok (.iload_n 3, 1) := dk_29 (dk_at dksX2_cleans_0 19 rfl rfl)
theorem dX2_cleans_20 : decode cX2_cleans 20 = .ok (.invokevirtual 58, 3) := dk_182 0 58 (dk_at dksX2_cleans_0 20 rfl rfl)
theorem dX2_cleans_23 : decode cX2_cleans 23 = .ok (.checkcast 62, 3) := dk_192 0 62 (dk_at dksX2_cleans_1 0 rfl rfl)
theorem dX2_cleans_26 : decode cX2_cleans 26 = .ok (.astore 4, 2) := dk_58 4 (dk_at dksX2_cleans_1 3 rfl rfl)
theorem dX2_cleans_28 : decode cX2_cleans 28 = .ok (.aload 4, 2) := dk_25 4 (dk_at dksX2_cleans_1 5 rfl rfl)
theorem dX2_cleans_30 : decode cX2_cleans 30 = .ok (.instanceof 141, 3) := dk_193 0 141 (dk_at dksX2_cleans_1 7 rfl rfl)
theorem dX2_cleans_33 : decode cX2_cleans 33 = .ok (.ifCond .ne 15, 3) := dk_154 0 15 (dk_at dksX2_cleans_1 10 rfl rfl)
theorem dX2_cleans_36 : decode cX2_cleans 36 = .ok (.aload 4, 2) := dk_25 4 (dk_at dksX2_cleans_1 13 rfl rfl)
theorem dX2_cleans_38 : decode cX2_cleans 38 = .ok (.aload_n 0, 1) := dk_42 (dk_at dksX2_cleans_1 15 rfl rfl)
theorem dX2_cleans_39 : decode cX2_cleans 39 = .ok (.getfield 98, 3) := dk_180 0 98 (dk_at dksX2_cleans_1 16 rfl rfl)
theorem dX2_cleans_42 : decode cX2_cleans 42 = .ok (.invokevirtual 170, 3) := dk_182 0 170 (dk_at dksX2_cleans_1 19 rfl rfl)
theorem dX2_cleans_45 : decode cX2_cleans 45 = .ok (.ifCond .eq 14, 3) := dk_153 0 14 (dk_at dksX2_cleans_2 0 rfl rfl)
theorem dX2_cleans_48 : decode cX2_cleans 48 = .ok (.aload_n 1, 1) := dk_43 (dk_at dksX2_cleans_2 3 rfl rfl)
theorem dX2_cleans_49 : decode cX2_cleans 49 = .ok (.getfield 199, 3) := dk_180 0 199 (dk_at dksX2_cleans_2 4 rfl rfl)
theorem dX2_cleans_52 : decode cX2_cleans 52 = .ok (.iload_n 3, 1) := dk_29 (dk_at dksX2_cleans_2 7 rfl rfl)
theorem dX2_cleans_53 : decode cX2_cleans 53 = .ok (.invokevirtual 225, 3) := dk_182 0 225 (dk_at dksX2_cleans_2 8 rfl rfl)
theorem dX2_cleans_56 : decode cX2_cleans 56 = .ok (.goto 15, 3) := dk_167 0 15 (dk_at dksX2_cleans_2 11 rfl rfl)
theorem dX2_cleans_59 : decode cX2_cleans 59 = .ok (.iload_n 2, 1) := dk_28 (dk_at dksX2_cleans_2 14 rfl rfl)
theorem dX2_cleans_60 : decode cX2_cleans 60 = .ok (.aload 4, 2) := dk_25 4 (dk_at dksX2_cleans_2 15 rfl rfl)
theorem dX2_cleans_62 : decode cX2_cleans 62 = .ok (.aload_n 0, 1) := dk_42 (dk_at dksX2_cleans_2 17 rfl rfl)
theorem dX2_cleans_63 : decode cX2_cleans 63 = .ok (.getfield 98, 3) := dk_180 0 98 (dk_at dksX2_cleans_2 18 rfl rfl)
theorem dX2_cleans_66 : decode cX2_cleans 66 = .ok (.invokevirtual 117, 3) := dk_182 0 117 (dk_at dksX2_cleans_2 21 rfl rfl)
theorem dX2_cleans_69 : decode cX2_cleans 69 = .ok (.ior, 1) := dk_128 (dk_at dksX2_cleans_3 0 rfl rfl)
theorem dX2_cleans_70 : decode cX2_cleans 70 = .ok (.istore_n 2, 1) := dk_61 (dk_at dksX2_cleans_3 1 rfl rfl)
theorem dX2_cleans_71 : decode cX2_cleans 71 = .ok (.aload_n 1, 1) := dk_43 (dk_at dksX2_cleans_3 2 rfl rfl)
theorem dX2_cleans_72 : decode cX2_cleans 72 = .ok (.getfield 199, 3) := dk_180 0 199 (dk_at dksX2_cleans_3 3 rfl rfl)
theorem dX2_cleans_75 : decode cX2_cleans 75 = .ok (.iload_n 3, 1) := dk_29 (dk_at dksX2_cleans_3 6 rfl rfl)
theorem dX2_cleans_76 : decode cX2_cleans 76 = .ok (.iconst 1, 1) := dk_4 (dk_at dksX2_cleans_3 7 rfl rfl)
theorem dX2_cleans_77 : decode cX2_cleans 77 = .ok (.iadd, 1) := dk_96 (dk_at dksX2_cleans_3 8 rfl rfl)
theorem dX2_cleans_78 : decode cX2_cleans 78 = .ok (.invokevirtual 222, 3) := dk_182 0 222 (dk_at dksX2_cleans_3 9 rfl rfl)
theorem dX2_cleans_81 : decode cX2_cleans 81 = .ok (.istore_n 3, 1) := dk_62 (dk_at dksX2_cleans_3 12 rfl rfl)
theorem dX2_cleans_82 : decode cX2_cleans 82 = .ok (.goto (-71), 3) := dk_167 255 185 (dk_at dksX2_cleans_3 13 rfl rfl)
theorem dX2_cleans_85 : decode cX2_cleans 85 = .ok (.iload_n 2, 1) := dk_28 (dk_at dksX2_cleans_3 16 rfl rfl)
theorem dX2_cleans_86 : decode cX2_cleans 86 = .ok (.ifCond .ne 11, 3) := dk_154 0 11 (dk_at dksX2_cleans_3 17 rfl rfl)
theorem dX2_cleans_89 : decode cX2_cleans 89 = .ok (.aload_n 0, 1) := dk_42 (dk_at dksX2_cleans_3 20 rfl rfl)
theorem dX2_cleans_90 : decode cX2_cleans 90 = .ok (.invokevirtual 187, 3) := dk_182 0 187 (dk_at dksX2_cleans_3 21 rfl rfl)
theorem dX2_cleans_93 : decode cX2_cleans 93 = .ok (.iconst (-1), 1) := dk_2 (dk_at dksX2_cleans_4 0 rfl rfl)
theorem dX2_cleans_94 : decode cX2_cleans 94 = .ok (.if_icmp .ne 5, 3) := dk_160 0 5 (dk_at dksX2_cleans_4 1 rfl rfl)
theorem dX2_cleans_97 : decode cX2_cleans 97 = .ok (.iconst 0, 1) := dk_3 (dk_at dksX2_cleans_4 4 rfl rfl)
theorem dX2_cleans_98 : decode cX2_cleans 98 = .ok (.ireturn, 1) := dk_172 (dk_at dksX2_cleans_4 5 rfl rfl)
theorem dX2_cleans_99 : decode cX2_cleans 99 = .ok (.aload_n 1, 1) := dk_43 (dk_at dksX2_cleans_4 6 rfl rfl)
theorem dX2_cleans_100 : decode cX2_cleans 100 = .ok (.getfield 199, 3) := dk_180 0 199 (dk_at dksX2_cleans_4 7 rfl rfl)
theorem dX2_cleans_103 : decode cX2_cleans 103 = .ok (.aload_n 0, 1) := dk_42 (dk_at dksX2_cleans_4 10 rfl rfl)
theorem dX2_cleans_104 : decode cX2_cleans 104 = .ok (.invokevirtual 187, 3) := dk_182 0 187 (dk_at dksX2_cleans_4 11 rfl rfl)
theorem dX2_cleans_107 : decode cX2_cleans 107 = .ok (.invokevirtual 203, 3) := dk_182 0 203 (dk_at dksX2_cleans_4 14 rfl rfl)
theorem dX2_cleans_110 : decode cX2_cleans 110 = .ok (.aload_n 1, 1) := dk_43 (dk_at dksX2_cleans_4 17 rfl rfl)
theorem dX2_cleans_111 : decode cX2_cleans 111 = .ok (.dup, 1) := dk_89 (dk_at dksX2_cleans_4 18 rfl rfl)
theorem dX2_cleans_112 : decode cX2_cleans 112 = .ok (.getfield 228, 3) := dk_180 0 228 (dk_at dksX2_cleans_4 19 rfl rfl)
theorem dX2_cleans_115 : decode cX2_cleans 115 = .ok (.iconst 1, 1) := dk_4 (dk_at dksX2_cleans_4 22 rfl rfl)
theorem dX2_cleans_116 : decode cX2_cleans 116 = .ok (.iadd, 1) := dk_96 (dk_at dksX2_cleans_4 23 rfl rfl)
theorem dX2_cleans_117 : decode cX2_cleans 117 = .ok (.putfield 228, 3) := dk_181 0 228 (dk_at dksX2_cleans_5 0 rfl rfl)
theorem dX2_cleans_120 : decode cX2_cleans 120 = .ok (.iconst 1, 1) := dk_4 (dk_at dksX2_cleans_5 3 rfl rfl)
theorem dX2_cleans_121 : decode cX2_cleans 121 = .ok (.ireturn, 1) := dk_172 (dk_at dksX2_cleans_5 4 rfl rfl)
def dkwX2_make_1 : List UInt8 := [42, 182, 0, 187, 182, 0, 203, 42, 180, 0, 18, 43, 182, 0, 64, 87, 43, 176]
abbrev dktX2_make_1 : List UInt8 := dkwX2_make_1 ++ []
def dkwX2_make_0 : List UInt8 := [187, 0, 68, 89, 42, 180, 0, 98, 183, 0, 196, 76, 42, 182, 0, 187, 2, 159, 0, 14, 43, 180, 0, 199]
abbrev dktX2_make_0 : List UInt8 := dkwX2_make_0 ++ dktX2_make_1
theorem dksX2_make_0 : cX2_make.data.toList.drop 0 = dktX2_make_0 := by decide +kernel
theorem dksX2_make_1 : cX2_make.data.toList.drop 24 = dktX2_make_1 := dk_seg dksX2_make_0 24 rfl rfl
theorem dX2_make_0 : decode cX2_make 0 = .ok (.new 68, 3) := dk_187 0 68 (dk_at dksX2_make_0 0 rfl rfl)
theorem dX2_make_3 : decode cX2_make 3 = .ok (.dup, 1) := dk_89 (dk_at dksX2_make_0 3 rfl rfl)
theorem dX2_make_4 : decode cX2_make 4 = .ok (.aload_n 0, 1) := dk_42 (dk_at dksX2_make_0 4 rfl rfl)
theorem dX2_make_5 : decode cX2_make 5 = .ok (.getfield 98, 3) := dk_180 0 98 (dk_at dksX2_make_0 5 rfl rfl)
theorem dX2_make_8 : decode cX2_make 8 = .ok (.invokespecial 196, 3) := dk_183 0 196 (dk_at dksX2_make_0 8 rfl rfl)
theorem dX2_make_11 : decode cX2_make 11 = .ok (.astore_n 1, 1) := dk_76 (dk_at dksX2_make_0 11 rfl rfl)
theorem dX2_make_12 : decode cX2_make 12 = .ok (.aload_n 0, 1) := dk_42 (dk_at dksX2_make_0 12 rfl rfl)
theorem dX2_make_13 : decode cX2_make 13 = .ok (.invokevirtual 187, 3) := dk_182 0 187 (dk_at dksX2_make_0 13 rfl rfl)
theorem dX2_make_16 : decode cX2_make 16 = .ok (.iconst (-1), 1) := dk_2 (dk_at dksX2_make_0 16 rfl rfl)
theorem dX2_make_17 : decode cX2_make 17 = .ok (.if_icmp .eq 14, 3) := dk_159 0 14 (dk_at dksX2_make_0 17 rfl rfl)
theorem dX2_make_20 : decode cX2_make 20 = .ok (.aload_n 1, 1) := dk_43 (dk_at dksX2_make_0 20 rfl rfl)
theorem dX2_make_21 : decode cX2_make 21 = .ok (.getfield 199, 3) := dk_180 0 199 (dk_at dksX2_make_0 21 rfl rfl)
theorem dX2_make_24 : decode cX2_make 24 = .ok (.aload_n 0, 1) := dk_42 (dk_at dksX2_make_1 0 rfl rfl)
theorem dX2_make_25 : decode cX2_make 25 = .ok (.invokevirtual 187, 3) := dk_182 0 187 (dk_at dksX2_make_1 1 rfl rfl)
theorem dX2_make_28 : decode cX2_make 28 = .ok (.invokevirtual 203, 3) := dk_182 0 203 (dk_at dksX2_make_1 4 rfl rfl)
theorem dX2_make_31 : decode cX2_make 31 = .ok (.aload_n 0, 1) := dk_42 (dk_at dksX2_make_1 7 rfl rfl)
theorem dX2_make_32 : decode cX2_make 32 = .ok (.getfield 18, 3) := dk_180 0 18 (dk_at dksX2_make_1 8 rfl rfl)
theorem dX2_make_35 : decode cX2_make 35 = .ok (.aload_n 1, 1) := dk_43 (dk_at dksX2_make_1 11 rfl rfl)
theorem dX2_make_36 : decode cX2_make 36 = .ok (.invokevirtual 64, 3) := dk_182 0 64 (dk_at dksX2_make_1 12 rfl rfl)
theorem dX2_make_39 : decode cX2_make 39 = .ok (.pop, 1) := dk_87 (dk_at dksX2_make_1 15 rfl rfl)
theorem dX2_make_40 : decode cX2_make 40 = .ok (.aload_n 1, 1) := dk_43 (dk_at dksX2_make_1 16 rfl rfl)
theorem dX2_make_41 : decode cX2_make 41 = .ok (.areturn, 1) := dk_176 (dk_at dksX2_make_1 17 rfl rfl)
def dkwX2_ask_5 : List UInt8 := [28, 100, 172]
abbrev dktX2_ask_5 : List UInt8 := dkwX2_ask_5 ++ []
def dkwX2_ask_4 : List UInt8 := [153, 0, 9, 4, 29, 120, 167, 0, 4, 3, 128, 181, 0, 250, 132, 3, 1, 167, 255, 175, 43, 180, 0, 244]
abbrev dktX2_ask_4 : List UInt8 := dkwX2_ask_4 ++ dktX2_ask_5
def dkwX2_ask_3 : List UInt8 := [192, 0, 62, 180, 0, 128, 79, 43, 89, 180, 0, 250, 42, 180, 0, 12, 29, 182, 0, 58, 193, 0, 141]
abbrev dktX2_ask_3 : List UInt8 := dkwX2_ask_3 ++ dktX2_ask_4
def dkwX2_ask_2 : List UInt8 := [29, 182, 0, 58, 192, 0, 62, 180, 0, 159, 79, 43, 180, 1, 0, 29, 42, 180, 0, 12, 29, 182, 0, 58]
abbrev dktX2_ask_2 : List UInt8 := dkwX2_ask_2 ++ dktX2_ask_3
def dkwX2_ask_1 : List UInt8 := [43, 3, 181, 0, 250, 3, 62, 29, 43, 180, 0, 244, 162, 0, 79, 43, 180, 0, 253, 29, 42, 180, 0, 12]
abbrev dktX2_ask_1 : List UInt8 := dkwX2_ask_1 ++ dktX2_ask_2
def dkwX2_ask_0 : List UInt8 := [43, 180, 0, 244, 61, 43, 42, 180, 0, 98, 181, 0, 247, 43, 42, 180, 0, 12, 182, 0, 54, 181, 0, 244]
abbrev dktX2_ask_0 : List UInt8 := dkwX2_ask_0 ++ dktX2_ask_1
theorem dksX2_ask_0 : cX2_ask.data.toList.drop 0 = dktX2_ask_0 := by decide +kernel
theorem dksX2_ask_1 : cX2_ask.data.toList.drop 24 = dktX2_ask_1 := dk_seg dksX2_ask_0 24 rfl rfl
theorem dksX2_ask_2 : cX2_ask.data.toList.drop 48 = dktX2_ask_2 := dk_seg dksX2_ask_1 24 rfl rfl
theorem dksX2_ask_3 : cX2_ask.data.toList.drop 72 = dktX2_ask_3 := dk_seg dksX2_ask_2 24 rfl rfl
theorem dksX2_ask_4 : cX2_ask.data.toList.drop 95 = dktX2_ask_4 := dk_seg dksX2_ask_3 23 rfl rfl
theorem dksX2_ask_5 : cX2_ask.data.toList.drop 119 = dktX2_ask_5 := dk_seg dksX2_ask_4 24 rfl rfl
theorem dX2_ask_0 : decode cX2_ask 0 = .ok (.aload_n 1, 1) := dk_43 (dk_at dksX2_ask_0 0 rfl rfl)
theorem dX2_ask_1 : decode cX2_ask 1 = .ok (.getfield 244, 3) := dk_180 0 244 (dk_at dksX2_ask_0 1 rfl rfl)
theorem dX2_ask_4 : decode cX2_ask 4 = .ok (.istore_n 2, 1) := dk_61 (dk_at dksX2_ask_0 4 rfl rfl)
theorem dX2_ask_5 : decode cX2_ask 5 = .ok (.aload_n 1, 1) := dk_43 (dk_at dksX2_ask_0 5 rfl rfl)
theorem dX2_ask_6 : decode cX2_ask 6 = .ok (.aload_n 0, 1) := dk_42 (dk_at dksX2_ask_0 6 rfl rfl)
theorem dX2_ask_7 : decode cX2_ask 7 = .ok (.getfield 98, 3) := dk_180 0 98 (dk_at dksX2_ask_0 7 rfl rfl)
theorem dX2_ask_10 : decode cX2_ask 10 = .ok (.putfield 247, 3) := dk_181 0 247 (dk_at dksX2_ask_0 10 rfl rfl)
theorem dX2_ask_13 : decode cX2_ask 13 = .ok (.aload_n 1, 1) := dk_43 (dk_at dksX2_ask_0 13 rfl rfl)
theorem dX2_ask_14 : decode cX2_ask 14 = .ok (.aload_n 0, 1) := dk_42 (dk_at dksX2_ask_0 14 rfl rfl)
theorem dX2_ask_15 : decode cX2_ask 15 = .ok (.getfield 12, 3) := dk_180 0 12 (dk_at dksX2_ask_0 15 rfl rfl)
theorem dX2_ask_18 : decode cX2_ask 18 = .ok (.invokevirtual 54, 3) := dk_182 0 54 (dk_at dksX2_ask_0 18 rfl rfl)
theorem dX2_ask_21 : decode cX2_ask 21 = .ok (.putfield 244, 3) := dk_181 0 244 (dk_at dksX2_ask_0 21 rfl rfl)
theorem dX2_ask_24 : decode cX2_ask 24 = .ok (.aload_n 1, 1) := dk_43 (dk_at dksX2_ask_1 0 rfl rfl)
theorem dX2_ask_25 : decode cX2_ask 25 = .ok (.iconst 0, 1) := dk_3 (dk_at dksX2_ask_1 1 rfl rfl)
theorem dX2_ask_26 : decode cX2_ask 26 = .ok (.putfield 250, 3) := dk_181 0 250 (dk_at dksX2_ask_1 2 rfl rfl)
theorem dX2_ask_29 : decode cX2_ask 29 = .ok (.iconst 0, 1) := dk_3 (dk_at dksX2_ask_1 5 rfl rfl)
theorem dX2_ask_30 : decode cX2_ask 30 = .ok (.istore_n 3, 1) := dk_62 (dk_at dksX2_ask_1 6 rfl rfl)
theorem dX2_ask_31 : decode cX2_ask 31 = .ok (.iload_n 3, 1) := dk_29 (dk_at dksX2_ask_1 7 rfl rfl)
theorem dX2_ask_32 : decode cX2_ask 32 = .ok (.aload_n 1, 1) := dk_43 (dk_at dksX2_ask_1 8 rfl rfl)
theorem dX2_ask_33 : decode cX2_ask 33 = .ok (.getfield 244, 3) := dk_180 0 244 (dk_at dksX2_ask_1 9 rfl rfl)
theorem dX2_ask_36 : decode cX2_ask 36 = .ok (.if_icmp .ge 79, 3) := dk_162 0 79 (dk_at dksX2_ask_1 12 rfl rfl)
theorem dX2_ask_39 : decode cX2_ask 39 = .ok (.aload_n 1, 1) := dk_43 (dk_at dksX2_ask_1 15 rfl rfl)
theorem dX2_ask_40 : decode cX2_ask 40 = .ok (.getfield 253, 3) := dk_180 0 253 (dk_at dksX2_ask_1 16 rfl rfl)
theorem dX2_ask_43 : decode cX2_ask 43 = .ok (.iload_n 3, 1) := dk_29 (dk_at dksX2_ask_1 19 rfl rfl)
theorem dX2_ask_44 : decode cX2_ask 44 = .ok (.aload_n 0, 1) := dk_42 (dk_at dksX2_ask_1 20 rfl rfl)
theorem dX2_ask_45 : decode cX2_ask 45 = .ok (.getfield 12, 3) := dk_180 0 12 (dk_at dksX2_ask_1 21 rfl rfl)
theorem dX2_ask_48 : decode cX2_ask 48 = .ok (.iload_n 3, 1) := dk_29 (dk_at dksX2_ask_2 0 rfl rfl)
theorem dX2_ask_49 : decode cX2_ask 49 = .ok (.invokevirtual 58, 3) := dk_182 0 58 (dk_at dksX2_ask_2 1 rfl rfl)
theorem dX2_ask_52 : decode cX2_ask 52 = .ok (.checkcast 62, 3) := dk_192 0 62 (dk_at dksX2_ask_2 4 rfl rfl)
theorem dX2_ask_55 : decode cX2_ask 55 = .ok (.getfield 159, 3) := dk_180 0 159 (dk_at dksX2_ask_2 7 rfl rfl)
theorem dX2_ask_58 : decode cX2_ask 58 = .ok (.iastore, 1) := dk_79 (dk_at dksX2_ask_2 10 rfl rfl)
theorem dX2_ask_59 : decode cX2_ask 59 = .ok (.aload_n 1, 1) := dk_43 (dk_at dksX2_ask_2 11 rfl rfl)
theorem dX2_ask_60 : decode cX2_ask 60 = .ok (.getfield 256, 3) := dk_180 1 0 (dk_at dksX2_ask_2 12 rfl rfl)
theorem dX2_ask_63 : decode cX2_ask 63 = .ok (.iload_n 3, 1) := dk_29 (dk_at dksX2_ask_2 15 rfl rfl)
theorem dX2_ask_64 : decode cX2_ask 64 = .ok (.aload_n 0, 1) := dk_42 (dk_at dksX2_ask_2 16 rfl rfl)
theorem dX2_ask_65 : decode cX2_ask 65 = .ok (.getfield 12, 3) := dk_180 0 12 (dk_at dksX2_ask_2 17 rfl rfl)
theorem dX2_ask_68 : decode cX2_ask 68 = .ok (.iload_n 3, 1) := dk_29 (dk_at dksX2_ask_2 20 rfl rfl)
theorem dX2_ask_69 : decode cX2_ask 69 = .ok (.invokevirtual 58, 3) := dk_182 0 58 (dk_at dksX2_ask_2 21 rfl rfl)
theorem dX2_ask_72 : decode cX2_ask 72 = .ok (.checkcast 62, 3) := dk_192 0 62 (dk_at dksX2_ask_3 0 rfl rfl)
theorem dX2_ask_75 : decode cX2_ask 75 = .ok (.getfield 128, 3) := dk_180 0 128 (dk_at dksX2_ask_3 3 rfl rfl)
theorem dX2_ask_78 : decode cX2_ask 78 = .ok (.iastore, 1) := dk_79 (dk_at dksX2_ask_3 6 rfl rfl)
theorem dX2_ask_79 : decode cX2_ask 79 = .ok (.aload_n 1, 1) := dk_43 (dk_at dksX2_ask_3 7 rfl rfl)
theorem dX2_ask_80 : decode cX2_ask 80 = .ok (.dup, 1) := dk_89 (dk_at dksX2_ask_3 8 rfl rfl)
theorem dX2_ask_81 : decode cX2_ask 81 = .ok (.getfield 250, 3) := dk_180 0 250 (dk_at dksX2_ask_3 9 rfl rfl)
theorem dX2_ask_84 : decode cX2_ask 84 = .ok (.aload_n 0, 1) := dk_42 (dk_at dksX2_ask_3 12 rfl rfl)
theorem dX2_ask_85 : decode cX2_ask 85 = .ok (.getfield 12, 3) := dk_180 0 12 (dk_at dksX2_ask_3 13 rfl rfl)
theorem dX2_ask_88 : decode cX2_ask 88 = .ok (.iload_n 3, 1) := dk_29 (dk_at dksX2_ask_3 16 rfl rfl)
theorem dX2_ask_89 : decode cX2_ask 89 = .ok (.invokevirtual 58, 3) := dk_182 0 58 (dk_at dksX2_ask_3 17 rfl rfl)
theorem dX2_ask_92 : decode cX2_ask 92 = .ok (.instanceof 141, 3) := dk_193 0 141 (dk_at dksX2_ask_3 20 rfl rfl)
theorem dX2_ask_95 : decode cX2_ask 95 = .ok (.ifCond .eq 9, 3) := dk_153 0 9 (dk_at dksX2_ask_4 0 rfl rfl)
theorem dX2_ask_98 : decode cX2_ask 98 = .ok (.iconst 1, 1) := dk_4 (dk_at dksX2_ask_4 3 rfl rfl)
theorem dX2_ask_99 : decode cX2_ask 99 = .ok (.iload_n 3, 1) := dk_29 (dk_at dksX2_ask_4 4 rfl rfl)
theorem dX2_ask_100 : decode cX2_ask 100 = .ok (.ishl, 1) := dk_120 (dk_at dksX2_ask_4 5 rfl rfl)
theorem dX2_ask_101 : decode cX2_ask 101 = .ok (.goto 4, 3) := dk_167 0 4 (dk_at dksX2_ask_4 6 rfl rfl)
theorem dX2_ask_104 : decode cX2_ask 104 = .ok (.iconst 0, 1) := dk_3 (dk_at dksX2_ask_4 9 rfl rfl)
theorem dX2_ask_105 : decode cX2_ask 105 = .ok (.ior, 1) := dk_128 (dk_at dksX2_ask_4 10 rfl rfl)
theorem dX2_ask_106 : decode cX2_ask 106 = .ok (.putfield 250, 3) := dk_181 0 250 (dk_at dksX2_ask_4 11 rfl rfl)
theorem dX2_ask_109 : decode cX2_ask 109 = .ok (.iinc 3 1, 3) := dk_132 3 1 (dk_at dksX2_ask_4 14 rfl rfl)
theorem dX2_ask_112 : decode cX2_ask 112 = .ok (.goto (-81), 3) := dk_167 255 175 (dk_at dksX2_ask_4 17 rfl rfl)
theorem dX2_ask_115 : decode cX2_ask 115 = .ok (.aload_n 1, 1) := dk_43 (dk_at dksX2_ask_4 20 rfl rfl)
theorem dX2_ask_116 : decode cX2_ask 116 = .ok (.getfield 244, 3) := dk_180 0 244 (dk_at dksX2_ask_4 21 rfl rfl)
theorem dX2_ask_119 : decode cX2_ask 119 = .ok (.iload_n 2, 1) := dk_28 (dk_at dksX2_ask_5 0 rfl rfl)
theorem dX2_ask_120 : decode cX2_ask 120 = .ok (.isub, 1) := dk_100 (dk_at dksX2_ask_5 1 rfl rfl)
theorem dX2_ask_121 : decode cX2_ask 121 = .ok (.ireturn, 1) := dk_172 (dk_at dksX2_ask_5 2 rfl rfl)
def dkwX2_inForce_0 : List UInt8 := [42, 42, 186, 0, 121, 0, 0, 182, 0, 124, 172]
abbrev dktX2_inForce_0 : List UInt8 := dkwX2_inForce_0 ++ []
theorem dksX2_inForce_0 : cX2_inForce.data.toList.drop 0 = dktX2_inForce_0 := by decide +kernel
theorem dX2_inForce_0 : decode cX2_inForce 0 = .ok (.aload_n 0, 1) := dk_42 (dk_at dksX2_inForce_0 0 rfl rfl)
theorem dX2_inForce_1 : decode cX2_inForce 1 = .ok (.aload_n 0, 1) := dk_42 (dk_at dksX2_inForce_0 1 rfl rfl)
theorem dX2_inForce_2 : decode cX2_inForce 2 = .ok (.invokedynamic 121, 5) := by decide +kernel
theorem dX2_inForce_7 : decode cX2_inForce 7 = .ok (.invokevirtual 124, 3) := dk_182 0 124 (dk_at dksX2_inForce_0 7 rfl rfl)
theorem dX2_inForce_10 : decode cX2_inForce 10 = .ok (.ireturn, 1) := dk_172 (dk_at dksX2_inForce_0 10 rfl rfl)
def dkwX2_isWriting_0 : List UInt8 := [43, 42, 180, 0, 98, 182, 0, 117, 172]
abbrev dktX2_isWriting_0 : List UInt8 := dkwX2_isWriting_0 ++ []
theorem dksX2_isWriting_0 : cX2_isWriting.data.toList.drop 0 = dktX2_isWriting_0 := by decide +kernel
theorem dX2_isWriting_0 : decode cX2_isWriting 0 = .ok (.aload_n 1, 1) := dk_43 (dk_at dksX2_isWriting_0 0 rfl rfl)
theorem dX2_isWriting_1 : decode cX2_isWriting 1 = .ok (.aload_n 0, 1) := dk_42 (dk_at dksX2_isWriting_0 1 rfl rfl)
theorem dX2_isWriting_2 : decode cX2_isWriting 2 = .ok (.getfield 98, 3) := dk_180 0 98 (dk_at dksX2_isWriting_0 2 rfl rfl)
theorem dX2_isWriting_5 : decode cX2_isWriting 5 = .ok (.invokevirtual 117, 3) := dk_182 0 117 (dk_at dksX2_isWriting_0 5 rfl rfl)
theorem dX2_isWriting_8 : decode cX2_isWriting 8 = .ok (.ireturn, 1) := dk_172 (dk_at dksX2_isWriting_0 8 rfl rfl)
def dkwX2_count_1 : List UInt8 := [182, 0, 58, 192, 0, 62, 185, 0, 107, 2, 0, 184, 0, 113, 96, 61, 132, 3, 1, 167, 255, 219, 28, 172]
abbrev dktX2_count_1 : List UInt8 := dkwX2_count_1 ++ []
def dkwX2_count_0 : List UInt8 := [3, 61, 3, 62, 29, 42, 180, 0, 12, 182, 0, 54, 162, 0, 32, 28, 43, 42, 180, 0, 12, 29]
abbrev dktX2_count_0 : List UInt8 := dkwX2_count_0 ++ dktX2_count_1
theorem dksX2_count_0 : cX2_count.data.toList.drop 0 = dktX2_count_0 := by decide +kernel
theorem dksX2_count_1 : cX2_count.data.toList.drop 22 = dktX2_count_1 := dk_seg dksX2_count_0 22 rfl rfl
theorem dX2_count_0 : decode cX2_count 0 = .ok (.iconst 0, 1) := dk_3 (dk_at dksX2_count_0 0 rfl rfl)
theorem dX2_count_1 : decode cX2_count 1 = .ok (.istore_n 2, 1) := dk_61 (dk_at dksX2_count_0 1 rfl rfl)
theorem dX2_count_2 : decode cX2_count 2 = .ok (.iconst 0, 1) := dk_3 (dk_at dksX2_count_0 2 rfl rfl)
theorem dX2_count_3 : decode cX2_count 3 = .ok (.istore_n 3, 1) := dk_62 (dk_at dksX2_count_0 3 rfl rfl)
theorem dX2_count_4 : decode cX2_count 4 = .ok (.iload_n 3, 1) := dk_29 (dk_at dksX2_count_0 4 rfl rfl)
theorem dX2_count_5 : decode cX2_count 5 = .ok (.aload_n 0, 1) := dk_42 (dk_at dksX2_count_0 5 rfl rfl)
theorem dX2_count_6 : decode cX2_count 6 = .ok (.getfield 12, 3) := dk_180 0 12 (dk_at dksX2_count_0 6 rfl rfl)
theorem dX2_count_9 : decode cX2_count 9 = .ok (.invokevirtual 54, 3) := dk_182 0 54 (dk_at dksX2_count_0 9 rfl rfl)
theorem dX2_count_12 : decode cX2_count 12 = .ok (.if_icmp .ge 32, 3) := dk_162 0 32 (dk_at dksX2_count_0 12 rfl rfl)
theorem dX2_count_15 : decode cX2_count 15 = .ok (.iload_n 2, 1) := dk_28 (dk_at dksX2_count_0 15 rfl rfl)
theorem dX2_count_16 : decode cX2_count 16 = .ok (.aload_n 1, 1) := dk_43 (dk_at dksX2_count_0 16 rfl rfl)
theorem dX2_count_17 : decode cX2_count 17 = .ok (.aload_n 0, 1) := dk_42 (dk_at dksX2_count_0 17 rfl rfl)
theorem dX2_count_18 : decode cX2_count 18 = .ok (.getfield 12, 3) := dk_180 0 12 (dk_at dksX2_count_0 18 rfl rfl)
theorem dX2_count_21 : decode cX2_count 21 = .ok (.iload_n 3, 1) := dk_29 (dk_at dksX2_count_0 21 rfl rfl)
theorem dX2_count_22 : decode cX2_count 22 = .ok (.invokevirtual 58, 3) := dk_182 0 58 (dk_at dksX2_count_1 0 rfl rfl)
theorem dX2_count_25 : decode cX2_count 25 = .ok (.checkcast 62, 3) := dk_192 0 62 (dk_at dksX2_count_1 3 rfl rfl)
theorem dX2_count_28 : decode cX2_count 28 = .ok (.invokeinterface 107 2, 5) := by decide +kernel
theorem dX2_count_33 : decode cX2_count 33 = .ok (.invokestatic 113, 3) := dk_184 0 113 (dk_at dksX2_count_1 11 rfl rfl)
theorem dX2_count_36 : decode cX2_count 36 = .ok (.iadd, 1) := dk_96 (dk_at dksX2_count_1 14 rfl rfl)
theorem dX2_count_37 : decode cX2_count 37 = .ok (.istore_n 2, 1) := dk_61 (dk_at dksX2_count_1 15 rfl rfl)
theorem dX2_count_38 : decode cX2_count 38 = .ok (.iinc 3 1, 3) := dk_132 3 1 (dk_at dksX2_count_1 16 rfl rfl)
theorem dX2_count_41 : decode cX2_count 41 = .ok (.goto (-37), 3) := dk_167 255 219 (dk_at dksX2_count_1 19 rfl rfl)
theorem dX2_count_44 : decode cX2_count 44 = .ok (.iload_n 2, 1) := dk_28 (dk_at dksX2_count_1 22 rfl rfl)
theorem dX2_count_45 : decode cX2_count 45 = .ok (.ireturn, 1) := dk_172 (dk_at dksX2_count_1 23 rfl rfl)
def dkwX2_wrappedBy_2 : List UInt8 := [167, 0, 4, 3, 184, 0, 113, 96, 61, 132, 3, 1, 167, 255, 202, 28, 172]
abbrev dktX2_wrappedBy_2 : List UInt8 := dkwX2_wrappedBy_2 ++ []
def dkwX2_wrappedBy_1 : List UInt8 := [42, 180, 0, 18, 29, 182, 0, 58, 192, 0, 68, 180, 0, 199, 27, 182, 0, 232, 153, 0, 7, 4]
abbrev dktX2_wrappedBy_1 : List UInt8 := dkwX2_wrappedBy_1 ++ dktX2_wrappedBy_2
def dkwX2_wrappedBy_0 : List UInt8 := [3, 61, 3, 62, 29, 42, 180, 0, 18, 182, 0, 54, 162, 0, 49, 28, 42, 29, 182, 0, 215, 153, 0, 28]
abbrev dktX2_wrappedBy_0 : List UInt8 := dkwX2_wrappedBy_0 ++ dktX2_wrappedBy_1
theorem dksX2_wrappedBy_0 : cX2_wrappedBy.data.toList.drop 0 = dktX2_wrappedBy_0 := by decide +kernel
theorem dksX2_wrappedBy_1 : cX2_wrappedBy.data.toList.drop 24 = dktX2_wrappedBy_1 := dk_seg dksX2_wrappedBy_0 24 rfl rfl
theorem dksX2_wrappedBy_2 : cX2_wrappedBy.data.toList.drop 46 = dktX2_wrappedBy_2 := dk_seg dksX2_wrappedBy_1 22 rfl rfl
theorem dX2_wrappedBy_0 : decode cX2_wrappedBy 0 = .ok (.iconst 0, 1) := dk_3 (dk_at dksX2_wrappedBy_0 0 rfl rfl)
theorem dX2_wrappedBy_1 : decode cX2_wrappedBy 1 = .ok (.istore_n 2, 1) := dk_61 (dk_at dksX2_wrappedBy_0 1 rfl rfl)
theorem dX2_wrappedBy_2 : decode cX2_wrappedBy 2 = .ok (.iconst 0, 1) := dk_3 (dk_at dksX2_wrappedBy_0 2 rfl rfl)
theorem dX2_wrappedBy_3 : decode cX2_wrappedBy 3 = .ok (.istore_n 3, 1) := dk_62 (dk_at dksX2_wrappedBy_0 3 rfl rfl)
theorem dX2_wrappedBy_4 : decode cX2_wrappedBy 4 = .ok (.iload_n 3, 1) := dk_29 (dk_at dksX2_wrappedBy_0 4 rfl rfl)
theorem dX2_wrappedBy_5 : decode cX2_wrappedBy 5 = .ok (.aload_n 0, 1) := dk_42 (dk_at dksX2_wrappedBy_0 5 rfl rfl)
theorem dX2_wrappedBy_6 : decode cX2_wrappedBy 6 = .ok (.getfield 18, 3) := dk_180 0 18 (dk_at dksX2_wrappedBy_0 6 rfl rfl)
theorem dX2_wrappedBy_9 : decode cX2_wrappedBy 9 = .ok (.invokevirtual 54, 3) := dk_182 0 54 (dk_at dksX2_wrappedBy_0 9 rfl rfl)
theorem dX2_wrappedBy_12 : decode cX2_wrappedBy 12 = .ok (.if_icmp .ge 49, 3) := dk_162 0 49 (dk_at dksX2_wrappedBy_0 12 rfl rfl)
theorem dX2_wrappedBy_15 : decode cX2_wrappedBy 15 = .ok (.iload_n 2, 1) := dk_28 (dk_at dksX2_wrappedBy_0 15 rfl rfl)
theorem dX2_wrappedBy_16 : decode cX2_wrappedBy 16 = .ok (.aload_n 0, 1) := dk_42 (dk_at dksX2_wrappedBy_0 16 rfl rfl)
theorem dX2_wrappedBy_17 : decode cX2_wrappedBy 17 = .ok (.iload_n 3, 1) := dk_29 (dk_at dksX2_wrappedBy_0 17 rfl rfl)
theorem dX2_wrappedBy_18 : decode cX2_wrappedBy 18 = .ok (.invokevirtual 215, 3) := dk_182 0 215 (dk_at dksX2_wrappedBy_0 18 rfl rfl)
theorem dX2_wrappedBy_21 : decode cX2_wrappedBy 21 = .ok (.ifCond .eq 28, 3) := dk_153 0 28 (dk_at dksX2_wrappedBy_0 21 rfl rfl)
theorem dX2_wrappedBy_24 : decode cX2_wrappedBy 24 = .ok (.aload_n 0, 1) := dk_42 (dk_at dksX2_wrappedBy_1 0 rfl rfl)
theorem dX2_wrappedBy_25 : decode cX2_wrappedBy 25 = .ok (.getfield 18, 3) := dk_180 0 18 (dk_at dksX2_wrappedBy_1 1 rfl rfl)
theorem dX2_wrappedBy_28 : decode cX2_wrappedBy 28 = .ok (.iload_n 3, 1) := dk_29 (dk_at dksX2_wrappedBy_1 4 rfl rfl)
theorem dX2_wrappedBy_29 : decode cX2_wrappedBy 29 = .ok (.invokevirtual 58, 3) := dk_182 0 58 (dk_at dksX2_wrappedBy_1 5 rfl rfl)
theorem dX2_wrappedBy_32 : decode cX2_wrappedBy 32 = .ok (.checkcast 68, 3) := dk_192 0 68 (dk_at dksX2_wrappedBy_1 8 rfl rfl)
theorem dX2_wrappedBy_35 : decode cX2_wrappedBy 35 = .ok (.getfield 199, 3) := dk_180 0 199 (dk_at dksX2_wrappedBy_1 11 rfl rfl)
theorem dX2_wrappedBy_38 : decode cX2_wrappedBy 38 = .ok (.iload_n 1, 1) := dk_27 (dk_at dksX2_wrappedBy_1 14 rfl rfl)
theorem dX2_wrappedBy_39 : decode cX2_wrappedBy 39 = .ok (.invokevirtual 232, 3) := dk_182 0 232 (dk_at dksX2_wrappedBy_1 15 rfl rfl)
theorem dX2_wrappedBy_42 : decode cX2_wrappedBy 42 = .ok (.ifCond .eq 7, 3) := dk_153 0 7 (dk_at dksX2_wrappedBy_1 18 rfl rfl)
theorem dX2_wrappedBy_45 : decode cX2_wrappedBy 45 = .ok (.iconst 1, 1) := dk_4 (dk_at dksX2_wrappedBy_1 21 rfl rfl)
theorem dX2_wrappedBy_46 : decode cX2_wrappedBy 46 = .ok (.goto 4, 3) := dk_167 0 4 (dk_at dksX2_wrappedBy_2 0 rfl rfl)
theorem dX2_wrappedBy_49 : decode cX2_wrappedBy 49 = .ok (.iconst 0, 1) := dk_3 (dk_at dksX2_wrappedBy_2 3 rfl rfl)
theorem dX2_wrappedBy_50 : decode cX2_wrappedBy 50 = .ok (.invokestatic 113, 3) := dk_184 0 113 (dk_at dksX2_wrappedBy_2 4 rfl rfl)
theorem dX2_wrappedBy_53 : decode cX2_wrappedBy 53 = .ok (.iadd, 1) := dk_96 (dk_at dksX2_wrappedBy_2 7 rfl rfl)
theorem dX2_wrappedBy_54 : decode cX2_wrappedBy 54 = .ok (.istore_n 2, 1) := dk_61 (dk_at dksX2_wrappedBy_2 8 rfl rfl)
theorem dX2_wrappedBy_55 : decode cX2_wrappedBy 55 = .ok (.iinc 3 1, 3) := dk_132 3 1 (dk_at dksX2_wrappedBy_2 9 rfl rfl)
theorem dX2_wrappedBy_58 : decode cX2_wrappedBy 58 = .ok (.goto (-54), 3) := dk_167 255 202 (dk_at dksX2_wrappedBy_2 12 rfl rfl)
theorem dX2_wrappedBy_61 : decode cX2_wrappedBy 61 = .ok (.iload_n 2, 1) := dk_28 (dk_at dksX2_wrappedBy_2 15 rfl rfl)
theorem dX2_wrappedBy_62 : decode cX2_wrappedBy 62 = .ok (.ireturn, 1) := dk_172 (dk_at dksX2_wrappedBy_2 16 rfl rfl)
def dkwX2_readers_1 : List UInt8 := [159, 0, 9, 4, 29, 120, 167, 0, 4, 3, 128, 61, 132, 3, 1, 167, 255, 222, 28, 172]
abbrev dktX2_readers_1 : List UInt8 := dkwX2_readers_1 ++ []
def dkwX2_readers_0 : List UInt8 := [3, 61, 3, 62, 29, 42, 180, 0, 21, 182, 0, 54, 162, 0, 29, 28, 42, 29, 27, 182, 1, 7, 2]
abbrev dktX2_readers_0 : List UInt8 := dkwX2_readers_0 ++ dktX2_readers_1
theorem dksX2_readers_0 : cX2_readers.data.toList.drop 0 = dktX2_readers_0 := by decide +kernel
theorem dksX2_readers_1 : cX2_readers.data.toList.drop 23 = dktX2_readers_1 := dk_seg dksX2_readers_0 23 rfl rfl
theorem dX2_readers_0 : decode cX2_readers 0 = .ok (.iconst 0, 1) := dk_3 (dk_at dksX2_readers_0 0 rfl rfl)
theorem dX2_readers_1 : decode cX2_readers 1 = .ok (.istore_n 2, 1) := dk_61 (dk_at dksX2_readers_0 1 rfl rfl)
theorem dX2_readers_2 : decode cX2_readers 2 = .ok (.iconst 0, 1) := dk_3 (dk_at dksX2_readers_0 2 rfl rfl)
theorem dX2_readers_3 : decode cX2_readers 3 = .ok (.istore_n 3, 1) := dk_62 (dk_at dksX2_readers_0 3 rfl rfl)
theorem dX2_readers_4 : decode cX2_readers 4 = .ok (.iload_n 3, 1) := dk_29 (dk_at dksX2_readers_0 4 rfl rfl)
theorem dX2_readers_5 : decode cX2_readers 5 = .ok (.aload_n 0, 1) := dk_42 (dk_at dksX2_readers_0 5 rfl rfl)
theorem dX2_readers_6 : decode cX2_readers 6 = .ok (.getfield 21, 3) := dk_180 0 21 (dk_at dksX2_readers_0 6 rfl rfl)
theorem dX2_readers_9 : decode cX2_readers 9 = .ok (.invokevirtual 54, 3) := dk_182 0 54 (dk_at dksX2_readers_0 9 rfl rfl)
theorem dX2_readers_12 : decode cX2_readers 12 = .ok (.if_icmp .ge 29, 3) := dk_162 0 29 (dk_at dksX2_readers_0 12 rfl rfl)
theorem dX2_readers_15 : decode cX2_readers 15 = .ok (.iload_n 2, 1) := dk_28 (dk_at dksX2_readers_0 15 rfl rfl)
theorem dX2_readers_16 : decode cX2_readers 16 = .ok (.aload_n 0, 1) := dk_42 (dk_at dksX2_readers_0 16 rfl rfl)
theorem dX2_readers_17 : decode cX2_readers 17 = .ok (.iload_n 3, 1) := dk_29 (dk_at dksX2_readers_0 17 rfl rfl)
theorem dX2_readers_18 : decode cX2_readers 18 = .ok (.iload_n 1, 1) := dk_27 (dk_at dksX2_readers_0 18 rfl rfl)
theorem dX2_readers_19 : decode cX2_readers 19 = .ok (.invokevirtual 263, 3) := dk_182 1 7 (dk_at dksX2_readers_0 19 rfl rfl)
theorem dX2_readers_22 : decode cX2_readers 22 = .ok (.iconst (-1), 1) := dk_2 (dk_at dksX2_readers_0 22 rfl rfl)
theorem dX2_readers_23 : decode cX2_readers 23 = .ok (.if_icmp .eq 9, 3) := dk_159 0 9 (dk_at dksX2_readers_1 0 rfl rfl)
theorem dX2_readers_26 : decode cX2_readers 26 = .ok (.iconst 1, 1) := dk_4 (dk_at dksX2_readers_1 3 rfl rfl)
theorem dX2_readers_27 : decode cX2_readers 27 = .ok (.iload_n 3, 1) := dk_29 (dk_at dksX2_readers_1 4 rfl rfl)
theorem dX2_readers_28 : decode cX2_readers 28 = .ok (.ishl, 1) := dk_120 (dk_at dksX2_readers_1 5 rfl rfl)
theorem dX2_readers_29 : decode cX2_readers 29 = .ok (.goto 4, 3) := dk_167 0 4 (dk_at dksX2_readers_1 6 rfl rfl)
theorem dX2_readers_32 : decode cX2_readers 32 = .ok (.iconst 0, 1) := dk_3 (dk_at dksX2_readers_1 9 rfl rfl)
theorem dX2_readers_33 : decode cX2_readers 33 = .ok (.ior, 1) := dk_128 (dk_at dksX2_readers_1 10 rfl rfl)
theorem dX2_readers_34 : decode cX2_readers 34 = .ok (.istore_n 2, 1) := dk_61 (dk_at dksX2_readers_1 11 rfl rfl)
theorem dX2_readers_35 : decode cX2_readers 35 = .ok (.iinc 3 1, 3) := dk_132 3 1 (dk_at dksX2_readers_1 12 rfl rfl)
theorem dX2_readers_38 : decode cX2_readers 38 = .ok (.goto (-34), 3) := dk_167 255 222 (dk_at dksX2_readers_1 15 rfl rfl)
theorem dX2_readers_41 : decode cX2_readers 41 = .ok (.iload_n 2, 1) := dk_28 (dk_at dksX2_readers_1 18 rfl rfl)
theorem dX2_readers_42 : decode cX2_readers 42 = .ok (.ireturn, 1) := dk_172 (dk_at dksX2_readers_1 19 rfl rfl)
def dkwX2_could_3 : List UInt8 := [180, 0, 27, 29, 182, 1, 36, 192, 0, 93, 27, 46, 167, 0, 4, 2, 172]
abbrev dktX2_could_3 : List UInt8 := dkwX2_could_3 ++ []
def dkwX2_could_2 : List UInt8 := [154, 0, 5, 2, 172, 27, 42, 180, 0, 27, 29, 182, 1, 36, 192, 0, 93, 190, 162, 0, 19, 42]
abbrev dktX2_could_2 : List UInt8 := dkwX2_could_2 ++ dktX2_could_3
def dkwX2_could_1 : List UInt8 := [133, 184, 0, 207, 153, 0, 22, 29, 133, 9, 42, 180, 0, 27, 182, 1, 32, 4, 100, 133, 184, 0, 207]
abbrev dktX2_could_1 : List UInt8 := dkwX2_could_1 ++ dktX2_could_2
def dkwX2_could_0 : List UInt8 := [42, 180, 0, 27, 182, 1, 32, 4, 100, 42, 180, 0, 98, 28, 100, 100, 62, 28, 133, 9, 42, 180, 0, 98]
abbrev dktX2_could_0 : List UInt8 := dkwX2_could_0 ++ dktX2_could_1
theorem dksX2_could_0 : cX2_could.data.toList.drop 0 = dktX2_could_0 := by decide +kernel
theorem dksX2_could_1 : cX2_could.data.toList.drop 24 = dktX2_could_1 := dk_seg dksX2_could_0 24 rfl rfl
theorem dksX2_could_2 : cX2_could.data.toList.drop 47 = dktX2_could_2 := dk_seg dksX2_could_1 23 rfl rfl
theorem dksX2_could_3 : cX2_could.data.toList.drop 69 = dktX2_could_3 := dk_seg dksX2_could_2 22 rfl rfl
theorem dX2_could_0 : decode cX2_could 0 = .ok (.aload_n 0, 1) := dk_42 (dk_at dksX2_could_0 0 rfl rfl)
theorem dX2_could_1 : decode cX2_could 1 = .ok (.getfield 27, 3) := dk_180 0 27 (dk_at dksX2_could_0 1 rfl rfl)
theorem dX2_could_4 : decode cX2_could 4 = .ok (.invokevirtual 288, 3) := dk_182 1 32 (dk_at dksX2_could_0 4 rfl rfl)
theorem dX2_could_7 : decode cX2_could 7 = .ok (.iconst 1, 1) := dk_4 (dk_at dksX2_could_0 7 rfl rfl)
theorem dX2_could_8 : decode cX2_could 8 = .ok (.isub, 1) := dk_100 (dk_at dksX2_could_0 8 rfl rfl)
theorem dX2_could_9 : decode cX2_could 9 = .ok (.aload_n 0, 1) := dk_42 (dk_at dksX2_could_0 9 rfl rfl)
theorem dX2_could_10 : decode cX2_could 10 = .ok (.getfield 98, 3) := dk_180 0 98 (dk_at dksX2_could_0 10 rfl rfl)
theorem dX2_could_13 : decode cX2_could 13 = .ok (.iload_n 2, 1) := dk_28 (dk_at dksX2_could_0 13 rfl rfl)
theorem dX2_could_14 : decode cX2_could 14 = .ok (.isub, 1) := dk_100 (dk_at dksX2_could_0 14 rfl rfl)
theorem dX2_could_15 : decode cX2_could 15 = .ok (.isub, 1) := dk_100 (dk_at dksX2_could_0 15 rfl rfl)
theorem dX2_could_16 : decode cX2_could 16 = .ok (.istore_n 3, 1) := dk_62 (dk_at dksX2_could_0 16 rfl rfl)
theorem dX2_could_17 : decode cX2_could 17 = .ok (.iload_n 2, 1) := dk_28 (dk_at dksX2_could_0 17 rfl rfl)
theorem dX2_could_18 : decode cX2_could 18 = .ok (.i2l, 1) := dk_133 (dk_at dksX2_could_0 18 rfl rfl)
theorem dX2_could_19 : decode cX2_could 19 = .ok (.lconst 0, 1) := dk_9 (dk_at dksX2_could_0 19 rfl rfl)
theorem dX2_could_20 : decode cX2_could 20 = .ok (.aload_n 0, 1) := dk_42 (dk_at dksX2_could_0 20 rfl rfl)
theorem dX2_could_21 : decode cX2_could 21 = .ok (.getfield 98, 3) := dk_180 0 98 (dk_at dksX2_could_0 21 rfl rfl)
theorem dX2_could_24 : decode cX2_could 24 = .ok (.i2l, 1) := dk_133 (dk_at dksX2_could_1 0 rfl rfl)
theorem dX2_could_25 : decode cX2_could 25 = .ok (.invokestatic 207, 3) := dk_184 0 207 (dk_at dksX2_could_1 1 rfl rfl)
theorem dX2_could_28 : decode cX2_could 28 = .ok (.ifCond .eq 22, 3) := dk_153 0 22 (dk_at dksX2_could_1 4 rfl rfl)
theorem dX2_could_31 : decode cX2_could 31 = .ok (.iload_n 3, 1) := dk_29 (dk_at dksX2_could_1 7 rfl rfl)
theorem dX2_could_32 : decode cX2_could 32 = .ok (.i2l, 1) := dk_133 (dk_at dksX2_could_1 8 rfl rfl)
theorem dX2_could_33 : decode cX2_could 33 = .ok (.lconst 0, 1) := dk_9 (dk_at dksX2_could_1 9 rfl rfl)
theorem dX2_could_34 : decode cX2_could 34 = .ok (.aload_n 0, 1) := dk_42 (dk_at dksX2_could_1 10 rfl rfl)
theorem dX2_could_35 : decode cX2_could 35 = .ok (.getfield 27, 3) := dk_180 0 27 (dk_at dksX2_could_1 11 rfl rfl)
theorem dX2_could_38 : decode cX2_could 38 = .ok (.invokevirtual 288, 3) := dk_182 1 32 (dk_at dksX2_could_1 14 rfl rfl)
theorem dX2_could_41 : decode cX2_could 41 = .ok (.iconst 1, 1) := dk_4 (dk_at dksX2_could_1 17 rfl rfl)
theorem dX2_could_42 : decode cX2_could 42 = .ok (.isub, 1) := dk_100 (dk_at dksX2_could_1 18 rfl rfl)
theorem dX2_could_43 : decode cX2_could 43 = .ok (.i2l, 1) := dk_133 (dk_at dksX2_could_1 19 rfl rfl)
theorem dX2_could_44 : decode cX2_could 44 = .ok (.invokestatic 207, 3) := dk_184 0 207 (dk_at dksX2_could_1 20 rfl rfl)
theorem dX2_could_47 : decode cX2_could 47 = .ok (.ifCond .ne 5, 3) := dk_154 0 5 (dk_at dksX2_could_2 0 rfl rfl)
theorem dX2_could_50 : decode cX2_could 50 = .ok (.iconst (-1), 1) := dk_2 (dk_at dksX2_could_2 3 rfl rfl)
theorem dX2_could_51 : decode cX2_could 51 = .ok (.ireturn, 1) := dk_172 (dk_at dksX2_could_2 4 rfl rfl)
theorem dX2_could_52 : decode cX2_could 52 = .ok (.iload_n 1, 1) := dk_27 (dk_at dksX2_could_2 5 rfl rfl)
theorem dX2_could_53 : decode cX2_could 53 = .ok (.aload_n 0, 1) := dk_42 (dk_at dksX2_could_2 6 rfl rfl)
theorem dX2_could_54 : decode cX2_could 54 = .ok (.getfield 27, 3) := dk_180 0 27 (dk_at dksX2_could_2 7 rfl rfl)
theorem dX2_could_57 : decode cX2_could 57 = .ok (.iload_n 3, 1) := dk_29 (dk_at dksX2_could_2 10 rfl rfl)
theorem dX2_could_58 : decode cX2_could 58 = .ok (.invokevirtual 292, 3) := dk_182 1 36 (dk_at dksX2_could_2 11 rfl rfl)
theorem dX2_could_61 : decode cX2_could 61 = .ok (.checkcast 93, 3) := dk_192 0 93 (dk_at dksX2_could_2 14 rfl rfl)
theorem dX2_could_64 : decode cX2_could 64 = .ok (.arraylength, 1) := dk_190 (dk_at dksX2_could_2 17 rfl rfl)
theorem dX2_could_65 : decode cX2_could 65 = .ok (.if_icmp .ge 19, 3) := dk_162 0 19 (dk_at dksX2_could_2 18 rfl rfl)
theorem dX2_could_68 : decode cX2_could 68 = .ok (.aload_n 0, 1) := dk_42 (dk_at dksX2_could_2 21 rfl rfl)
theorem dX2_could_69 : decode cX2_could 69 = .ok (.getfield 27, 3) := dk_180 0 27 (dk_at dksX2_could_3 0 rfl rfl)
theorem dX2_could_72 : decode cX2_could 72 = .ok (.iload_n 3, 1) := dk_29 (dk_at dksX2_could_3 3 rfl rfl)
theorem dX2_could_73 : decode cX2_could 73 = .ok (.invokevirtual 292, 3) := dk_182 1 36 (dk_at dksX2_could_3 4 rfl rfl)
theorem dX2_could_76 : decode cX2_could 76 = .ok (.checkcast 93, 3) := dk_192 0 93 (dk_at dksX2_could_3 7 rfl rfl)
theorem dX2_could_79 : decode cX2_could 79 = .ok (.iload_n 1, 1) := dk_27 (dk_at dksX2_could_3 10 rfl rfl)
theorem dX2_could_80 : decode cX2_could 80 = .ok (.iaload, 1) := dk_46 (dk_at dksX2_could_3 11 rfl rfl)
theorem dX2_could_81 : decode cX2_could 81 = .ok (.goto 4, 3) := dk_167 0 4 (dk_at dksX2_could_3 12 rfl rfl)
theorem dX2_could_84 : decode cX2_could 84 = .ok (.iconst (-1), 1) := dk_2 (dk_at dksX2_could_3 15 rfl rfl)
theorem dX2_could_85 : decode cX2_could 85 = .ok (.ireturn, 1) := dk_172 (dk_at dksX2_could_3 16 rfl rfl)
def dkwX2_pass_4 : List UInt8 := [60, 132, 2, 1, 167, 255, 202, 177]
abbrev dktX2_pass_4 : List UInt8 := dkwX2_pass_4 ++ []
def dkwX2_pass_3 : List UInt8 := [182, 1, 22, 154, 0, 6, 167, 0, 19, 42, 42, 180, 0, 21, 28, 182, 0, 58, 192, 0, 74, 182, 1, 25]
abbrev dktX2_pass_3 : List UInt8 := dkwX2_pass_3 ++ dktX2_pass_4
def dkwX2_pass_2 : List UInt8 := [180, 0, 21, 182, 0, 54, 162, 0, 49, 42, 180, 0, 21, 28, 182, 0, 58, 192, 0, 74, 42, 180, 0, 98]
abbrev dktX2_pass_2 : List UInt8 := dkwX2_pass_2 ++ dktX2_pass_3
def dkwX2_pass_1 : List UInt8 := [180, 0, 98, 182, 0, 166, 182, 0, 190, 60, 42, 182, 0, 193, 60, 42, 182, 1, 19, 3, 61, 28, 42]
abbrev dktX2_pass_1 : List UInt8 := dkwX2_pass_1 ++ dktX2_pass_2
def dkwX2_pass_0 : List UInt8 := [42, 89, 180, 0, 98, 4, 96, 181, 0, 98, 42, 42, 180, 0, 98, 182, 1, 16, 153, 0, 16, 42, 42, 42]
abbrev dktX2_pass_0 : List UInt8 := dkwX2_pass_0 ++ dktX2_pass_1
theorem dksX2_pass_0 : cX2_pass.data.toList.drop 0 = dktX2_pass_0 := by decide +kernel
theorem dksX2_pass_1 : cX2_pass.data.toList.drop 24 = dktX2_pass_1 := dk_seg dksX2_pass_0 24 rfl rfl
theorem dksX2_pass_2 : cX2_pass.data.toList.drop 47 = dktX2_pass_2 := dk_seg dksX2_pass_1 23 rfl rfl
theorem dksX2_pass_3 : cX2_pass.data.toList.drop 71 = dktX2_pass_3 := dk_seg dksX2_pass_2 24 rfl rfl
theorem dksX2_pass_4 : cX2_pass.data.toList.drop 95 = dktX2_pass_4 := dk_seg dksX2_pass_3 24 rfl rfl
theorem dX2_pass_0 : decode cX2_pass 0 = .ok (.aload_n 0, 1) := dk_42 (dk_at dksX2_pass_0 0 rfl rfl)
theorem dX2_pass_1 : decode cX2_pass 1 = .ok (.dup, 1) := dk_89 (dk_at dksX2_pass_0 1 rfl rfl)
theorem dX2_pass_2 : decode cX2_pass 2 = .ok (.getfield 98, 3) := dk_180 0 98 (dk_at dksX2_pass_0 2 rfl rfl)
theorem dX2_pass_5 : decode cX2_pass 5 = .ok (.iconst 1, 1) := dk_4 (dk_at dksX2_pass_0 5 rfl rfl)
theorem dX2_pass_6 : decode cX2_pass 6 = .ok (.iadd, 1) := dk_96 (dk_at dksX2_pass_0 6 rfl rfl)
theorem dX2_pass_7 : decode cX2_pass 7 = .ok (.putfield 98, 3) := dk_181 0 98 (dk_at dksX2_pass_0 7 rfl rfl)
theorem dX2_pass_10 : decode cX2_pass 10 = .ok (.aload_n 0, 1) := dk_42 (dk_at dksX2_pass_0 10 rfl rfl)
theorem dX2_pass_11 : decode cX2_pass 11 = .ok (.aload_n 0, 1) := dk_42 (dk_at dksX2_pass_0 11 rfl rfl)
theorem dX2_pass_12 : decode cX2_pass 12 = .ok (.getfield 98, 3) := dk_180 0 98 (dk_at dksX2_pass_0 12 rfl rfl)
theorem dX2_pass_15 : decode cX2_pass 15 = .ok (.invokevirtual 272, 3) := dk_182 1 16 (dk_at dksX2_pass_0 15 rfl rfl)
theorem dX2_pass_18 : decode cX2_pass 18 = .ok (.ifCond .eq 16, 3) := dk_153 0 16 (dk_at dksX2_pass_0 18 rfl rfl)
theorem dX2_pass_21 : decode cX2_pass 21 = .ok (.aload_n 0, 1) := dk_42 (dk_at dksX2_pass_0 21 rfl rfl)
theorem dX2_pass_22 : decode cX2_pass 22 = .ok (.aload_n 0, 1) := dk_42 (dk_at dksX2_pass_0 22 rfl rfl)
theorem dX2_pass_23 : decode cX2_pass 23 = .ok (.aload_n 0, 1) := dk_42 (dk_at dksX2_pass_0 23 rfl rfl)
theorem dX2_pass_24 : decode cX2_pass 24 = .ok (.getfield 98, 3) := dk_180 0 98 (dk_at dksX2_pass_1 0 rfl rfl)
theorem dX2_pass_27 : decode cX2_pass 27 = .ok (.invokevirtual 166, 3) := dk_182 0 166 (dk_at dksX2_pass_1 3 rfl rfl)
theorem dX2_pass_30 : decode cX2_pass 30 = .ok (.invokevirtual 190, 3) := dk_182 0 190 (dk_at dksX2_pass_1 6 rfl rfl)
theorem dX2_pass_33 : decode cX2_pass 33 = .ok (.istore_n 1, 1) := dk_60 (dk_at dksX2_pass_1 9 rfl rfl)
theorem dX2_pass_34 : decode cX2_pass 34 = .ok (.aload_n 0, 1) := dk_42 (dk_at dksX2_pass_1 10 rfl rfl)
theorem dX2_pass_35 : decode cX2_pass 35 = .ok (.invokevirtual 193, 3) := dk_182 0 193 (dk_at dksX2_pass_1 11 rfl rfl)
theorem dX2_pass_38 : decode cX2_pass 38 = .ok (.istore_n 1, 1) := dk_60 (dk_at dksX2_pass_1 14 rfl rfl)
theorem dX2_pass_39 : decode cX2_pass 39 = .ok (.aload_n 0, 1) := dk_42 (dk_at dksX2_pass_1 15 rfl rfl)
theorem dX2_pass_40 : decode cX2_pass 40 = .ok (.invokevirtual 275, 3) := dk_182 1 19 (dk_at dksX2_pass_1 16 rfl rfl)
theorem dX2_pass_43 : decode cX2_pass 43 = .ok (.iconst 0, 1) := dk_3 (dk_at dksX2_pass_1 19 rfl rfl)
theorem dX2_pass_44 : decode cX2_pass 44 = .ok (.istore_n 2, 1) := dk_61 (dk_at dksX2_pass_1 20 rfl rfl)
theorem dX2_pass_45 : decode cX2_pass 45 = .ok (.iload_n 2, 1) := dk_28 (dk_at dksX2_pass_1 21 rfl rfl)
theorem dX2_pass_46 : decode cX2_pass 46 = .ok (.aload_n 0, 1) := dk_42 (dk_at dksX2_pass_1 22 rfl rfl)
theorem dX2_pass_47 : decode cX2_pass 47 = .ok (.getfield 21, 3) := dk_180 0 21 (dk_at dksX2_pass_2 0 rfl rfl)
theorem dX2_pass_50 : decode cX2_pass 50 = .ok (.invokevirtual 54, 3) := dk_182 0 54 (dk_at dksX2_pass_2 3 rfl rfl)
theorem dX2_pass_53 : decode cX2_pass 53 = .ok (.if_icmp .ge 49, 3) := dk_162 0 49 (dk_at dksX2_pass_2 6 rfl rfl)
theorem dX2_pass_56 : decode cX2_pass 56 = .ok (.aload_n 0, 1) := dk_42 (dk_at dksX2_pass_2 9 rfl rfl)
theorem dX2_pass_57 : decode cX2_pass 57 = .ok (.getfield 21, 3) := dk_180 0 21 (dk_at dksX2_pass_2 10 rfl rfl)
theorem dX2_pass_60 : decode cX2_pass 60 = .ok (.iload_n 2, 1) := dk_28 (dk_at dksX2_pass_2 13 rfl rfl)
theorem dX2_pass_61 : decode cX2_pass 61 = .ok (.invokevirtual 58, 3) := dk_182 0 58 (dk_at dksX2_pass_2 14 rfl rfl)
theorem dX2_pass_64 : decode cX2_pass 64 = .ok (.checkcast 74, 3) := dk_192 0 74 (dk_at dksX2_pass_2 17 rfl rfl)
theorem dX2_pass_67 : decode cX2_pass 67 = .ok (.aload_n 0, 1) := dk_42 (dk_at dksX2_pass_2 20 rfl rfl)
theorem dX2_pass_68 : decode cX2_pass 68 = .ok (.getfield 98, 3) := dk_180 0 98 (dk_at dksX2_pass_2 21 rfl rfl)
theorem dX2_pass_71 : decode cX2_pass 71 = .ok (.invokevirtual 278, 3) := dk_182 1 22 (dk_at dksX2_pass_3 0 rfl rfl)
theorem dX2_pass_74 : decode cX2_pass 74 = .ok (.ifCond .ne 6, 3) := dk_154 0 6 (dk_at dksX2_pass_3 3 rfl rfl)
theorem dX2_pass_77 : decode cX2_pass 77 = .ok (.goto 19, 3) := dk_167 0 19 (dk_at dksX2_pass_3 6 rfl rfl)
theorem dX2_pass_80 : decode cX2_pass 80 = .ok (.aload_n 0, 1) := dk_42 (dk_at dksX2_pass_3 9 rfl rfl)
theorem dX2_pass_81 : decode cX2_pass 81 = .ok (.aload_n 0, 1) := dk_42 (dk_at dksX2_pass_3 10 rfl rfl)
theorem dX2_pass_82 : decode cX2_pass 82 = .ok (.getfield 21, 3) := dk_180 0 21 (dk_at dksX2_pass_3 11 rfl rfl)
theorem dX2_pass_85 : decode cX2_pass 85 = .ok (.iload_n 2, 1) := dk_28 (dk_at dksX2_pass_3 14 rfl rfl)
theorem dX2_pass_86 : decode cX2_pass 86 = .ok (.invokevirtual 58, 3) := dk_182 0 58 (dk_at dksX2_pass_3 15 rfl rfl)
theorem dX2_pass_89 : decode cX2_pass 89 = .ok (.checkcast 74, 3) := dk_192 0 74 (dk_at dksX2_pass_3 18 rfl rfl)
theorem dX2_pass_92 : decode cX2_pass 92 = .ok (.invokevirtual 281, 3) := dk_182 1 25 (dk_at dksX2_pass_3 21 rfl rfl)
theorem dX2_pass_95 : decode cX2_pass 95 = .ok (.istore_n 1, 1) := dk_60 (dk_at dksX2_pass_4 0 rfl rfl)
theorem dX2_pass_96 : decode cX2_pass 96 = .ok (.iinc 2 1, 3) := dk_132 2 1 (dk_at dksX2_pass_4 1 rfl rfl)
theorem dX2_pass_99 : decode cX2_pass 99 = .ok (.goto (-54), 3) := dk_167 255 202 (dk_at dksX2_pass_4 4 rfl rfl)
theorem dX2_pass_102 : decode cX2_pass 102 = .ok (.return_, 1) := dk_177 (dk_at dksX2_pass_4 7 rfl rfl)
def dkwX2_sweep_2 : List UInt8 := [182, 0, 203, 42, 89, 180, 0, 104, 4, 96, 181, 0, 104, 132, 2, 1, 167, 255, 204, 177]
abbrev dktX2_sweep_2 : List UInt8 := dkwX2_sweep_2 ++ []
def dkwX2_sweep_1 : List UInt8 := [162, 0, 42, 42, 180, 0, 18, 42, 180, 0, 31, 28, 46, 182, 0, 58, 192, 0, 68, 180, 0, 199, 27]
abbrev dktX2_sweep_1 : List UInt8 := dkwX2_sweep_1 ++ dktX2_sweep_2
def dkwX2_sweep_0 : List UInt8 := [42, 182, 0, 187, 60, 42, 182, 0, 238, 3, 61, 28, 42, 180, 0, 48, 162, 0, 50, 28, 42, 180, 0, 229]
abbrev dktX2_sweep_0 : List UInt8 := dkwX2_sweep_0 ++ dktX2_sweep_1
theorem dksX2_sweep_0 : cX2_sweep.data.toList.drop 0 = dktX2_sweep_0 := by decide +kernel
theorem dksX2_sweep_1 : cX2_sweep.data.toList.drop 24 = dktX2_sweep_1 := dk_seg dksX2_sweep_0 24 rfl rfl
theorem dksX2_sweep_2 : cX2_sweep.data.toList.drop 47 = dktX2_sweep_2 := dk_seg dksX2_sweep_1 23 rfl rfl
theorem dX2_sweep_0 : decode cX2_sweep 0 = .ok (.aload_n 0, 1) := dk_42 (dk_at dksX2_sweep_0 0 rfl rfl)
theorem dX2_sweep_1 : decode cX2_sweep 1 = .ok (.invokevirtual 187, 3) := dk_182 0 187 (dk_at dksX2_sweep_0 1 rfl rfl)
theorem dX2_sweep_4 : decode cX2_sweep 4 = .ok (.istore_n 1, 1) := dk_60 (dk_at dksX2_sweep_0 4 rfl rfl)
theorem dX2_sweep_5 : decode cX2_sweep 5 = .ok (.aload_n 0, 1) := dk_42 (dk_at dksX2_sweep_0 5 rfl rfl)
theorem dX2_sweep_6 : decode cX2_sweep 6 = .ok (.invokevirtual 238, 3) := dk_182 0 238 (dk_at dksX2_sweep_0 6 rfl rfl)
theorem dX2_sweep_9 : decode cX2_sweep 9 = .ok (.iconst 0, 1) := dk_3 (dk_at dksX2_sweep_0 9 rfl rfl)
theorem dX2_sweep_10 : decode cX2_sweep 10 = .ok (.istore_n 2, 1) := dk_61 (dk_at dksX2_sweep_0 10 rfl rfl)
theorem dX2_sweep_11 : decode cX2_sweep 11 = .ok (.iload_n 2, 1) := dk_28 (dk_at dksX2_sweep_0 11 rfl rfl)
theorem dX2_sweep_12 : decode cX2_sweep 12 = .ok (.aload_n 0, 1) := dk_42 (dk_at dksX2_sweep_0 12 rfl rfl)
theorem dX2_sweep_13 : decode cX2_sweep 13 = .ok (.getfield 48, 3) := dk_180 0 48 (dk_at dksX2_sweep_0 13 rfl rfl)
theorem dX2_sweep_16 : decode cX2_sweep 16 = .ok (.if_icmp .ge 50, 3) := dk_162 0 50 (dk_at dksX2_sweep_0 16 rfl rfl)
theorem dX2_sweep_19 : decode cX2_sweep 19 = .ok (.iload_n 2, 1) := dk_28 (dk_at dksX2_sweep_0 19 rfl rfl)
theorem dX2_sweep_20 : decode cX2_sweep 20 = .ok (.aload_n 0, 1) := dk_42 (dk_at dksX2_sweep_0 20 rfl rfl)
theorem dX2_sweep_21 : decode cX2_sweep 21 = .ok (.getfield 229, 3) := dk_180 0 229 (dk_at dksX2_sweep_0 21 rfl rfl)
theorem dX2_sweep_24 : decode cX2_sweep 24 = .ok (.if_icmp .ge 42, 3) := dk_162 0 42 (dk_at dksX2_sweep_1 0 rfl rfl)
theorem dX2_sweep_27 : decode cX2_sweep 27 = .ok (.aload_n 0, 1) := dk_42 (dk_at dksX2_sweep_1 3 rfl rfl)
theorem dX2_sweep_28 : decode cX2_sweep 28 = .ok (.getfield 18, 3) := dk_180 0 18 (dk_at dksX2_sweep_1 4 rfl rfl)
theorem dX2_sweep_31 : decode cX2_sweep 31 = .ok (.aload_n 0, 1) := dk_42 (dk_at dksX2_sweep_1 7 rfl rfl)
theorem dX2_sweep_32 : decode cX2_sweep 32 = .ok (.getfield 31, 3) := dk_180 0 31 (dk_at dksX2_sweep_1 8 rfl rfl)
theorem dX2_sweep_35 : decode cX2_sweep 35 = .ok (.iload_n 2, 1) := dk_28 (dk_at dksX2_sweep_1 11 rfl rfl)
theorem dX2_sweep_36 : decode cX2_sweep 36 = .ok (.iaload, 1) := dk_46 (dk_at dksX2_sweep_1 12 rfl rfl)
theorem dX2_sweep_37 : decode cX2_sweep 37 = .ok (.invokevirtual 58, 3) := dk_182 0 58 (dk_at dksX2_sweep_1 13 rfl rfl)
theorem dX2_sweep_40 : decode cX2_sweep 40 = .ok (.checkcast 68, 3) := dk_192 0 68 (dk_at dksX2_sweep_1 16 rfl rfl)
theorem dX2_sweep_43 : decode cX2_sweep 43 = .ok (.getfield 199, 3) := dk_180 0 199 (dk_at dksX2_sweep_1 19 rfl rfl)
theorem dX2_sweep_46 : decode cX2_sweep 46 = .ok (.iload_n 1, 1) := dk_27 (dk_at dksX2_sweep_1 22 rfl rfl)
theorem dX2_sweep_47 : decode cX2_sweep 47 = .ok (.invokevirtual 203, 3) := dk_182 0 203 (dk_at dksX2_sweep_2 0 rfl rfl)
theorem dX2_sweep_50 : decode cX2_sweep 50 = .ok (.aload_n 0, 1) := dk_42 (dk_at dksX2_sweep_2 3 rfl rfl)
theorem dX2_sweep_51 : decode cX2_sweep 51 = .ok (.dup, 1) := dk_89 (dk_at dksX2_sweep_2 4 rfl rfl)
theorem dX2_sweep_52 : decode cX2_sweep 52 = .ok (.getfield 104, 3) := dk_180 0 104 (dk_at dksX2_sweep_2 5 rfl rfl)
theorem dX2_sweep_55 : decode cX2_sweep 55 = .ok (.iconst 1, 1) := dk_4 (dk_at dksX2_sweep_2 8 rfl rfl)
theorem dX2_sweep_56 : decode cX2_sweep 56 = .ok (.iadd, 1) := dk_96 (dk_at dksX2_sweep_2 9 rfl rfl)
theorem dX2_sweep_57 : decode cX2_sweep 57 = .ok (.putfield 104, 3) := dk_181 0 104 (dk_at dksX2_sweep_2 10 rfl rfl)
theorem dX2_sweep_60 : decode cX2_sweep 60 = .ok (.iinc 2 1, 3) := dk_132 2 1 (dk_at dksX2_sweep_2 13 rfl rfl)
theorem dX2_sweep_63 : decode cX2_sweep 63 = .ok (.goto (-52), 3) := dk_167 255 204 (dk_at dksX2_sweep_2 16 rfl rfl)
theorem dX2_sweep_66 : decode cX2_sweep 66 = .ok (.return_, 1) := dk_177 (dk_at dksX2_sweep_2 19 rfl rfl)
def dkwX2_share_0 : List UInt8 := [42, 182, 1, 10, 61, 28, 154, 0, 7, 12, 167, 0, 12, 42, 27, 182, 1, 13, 134, 28, 134, 110, 174]
abbrev dktX2_share_0 : List UInt8 := dkwX2_share_0 ++ []
theorem dksX2_share_0 : cX2_share.data.toList.drop 0 = dktX2_share_0 := by decide +kernel
theorem dX2_share_0 : decode cX2_share 0 = .ok (.aload_n 0, 1) := dk_42 (dk_at dksX2_share_0 0 rfl rfl)
theorem dX2_share_1 : decode cX2_share 1 = .ok (.invokevirtual 266, 3) := dk_182 1 10 (dk_at dksX2_share_0 1 rfl rfl)
theorem dX2_share_4 : decode cX2_share 4 = .ok (.istore_n 2, 1) := dk_61 (dk_at dksX2_share_0 4 rfl rfl)
theorem dX2_share_5 : decode cX2_share 5 = .ok (.iload_n 2, 1) := dk_28 (dk_at dksX2_share_0 5 rfl rfl)
theorem dX2_share_6 : decode cX2_share 6 = .ok (.ifCond .ne 7, 3) := dk_154 0 7 (dk_at dksX2_share_0 6 rfl rfl)
theorem dX2_share_9 : decode cX2_share 9 = .ok (.fconst 1, 1) := dk_12 (dk_at dksX2_share_0 9 rfl rfl)
theorem dX2_share_10 : decode cX2_share 10 = .ok (.goto 12, 3) := dk_167 0 12 (dk_at dksX2_share_0 10 rfl rfl)
theorem dX2_share_13 : decode cX2_share 13 = .ok (.aload_n 0, 1) := dk_42 (dk_at dksX2_share_0 13 rfl rfl)
theorem dX2_share_14 : decode cX2_share 14 = .ok (.iload_n 1, 1) := dk_27 (dk_at dksX2_share_0 14 rfl rfl)
theorem dX2_share_15 : decode cX2_share 15 = .ok (.invokevirtual 269, 3) := dk_182 1 13 (dk_at dksX2_share_0 15 rfl rfl)
theorem dX2_share_18 : decode cX2_share 18 = .ok (.i2f, 1) := dk_134 (dk_at dksX2_share_0 18 rfl rfl)
theorem dX2_share_19 : decode cX2_share 19 = .ok (.iload_n 2, 1) := dk_28 (dk_at dksX2_share_0 19 rfl rfl)
theorem dX2_share_20 : decode cX2_share 20 = .ok (.i2f, 1) := dk_134 (dk_at dksX2_share_0 20 rfl rfl)
theorem dX2_share_21 : decode cX2_share 21 = .ok (.fdiv, 1) := dk_110 (dk_at dksX2_share_0 21 rfl rfl)
theorem dX2_share_22 : decode cX2_share 22 = .ok (.freturn, 1) := dk_174 (dk_at dksX2_share_0 22 rfl rfl)
def dkwX2_canWithdraw_1 : List UInt8 := [182, 0, 170, 154, 0, 7, 4, 167, 0, 4, 3, 172]
abbrev dktX2_canWithdraw_1 : List UInt8 := dkwX2_canWithdraw_1 ++ []
def dkwX2_canWithdraw_0 : List UInt8 := [42, 180, 0, 12, 27, 182, 0, 58, 192, 0, 62, 77, 44, 193, 0, 131, 153, 0, 18, 44, 42, 180, 0, 98]
abbrev dktX2_canWithdraw_0 : List UInt8 := dkwX2_canWithdraw_0 ++ dktX2_canWithdraw_1
theorem dksX2_canWithdraw_0 : cX2_canWithdraw.data.toList.drop 0 = dktX2_canWithdraw_0 := by decide +kernel
theorem dksX2_canWithdraw_1 : cX2_canWithdraw.data.toList.drop 24 = dktX2_canWithdraw_1 := dk_seg dksX2_canWithdraw_0 24 rfl rfl
theorem dX2_canWithdraw_0 : decode cX2_canWithdraw 0 = .ok (.aload_n 0, 1) := dk_42 (dk_at dksX2_canWithdraw_0 0 rfl rfl)
theorem dX2_canWithdraw_1 : decode cX2_canWithdraw 1 = .ok (.getfield 12, 3) := dk_180 0 12 (dk_at dksX2_canWithdraw_0 1 rfl rfl)
theorem dX2_canWithdraw_4 : decode cX2_canWithdraw 4 = .ok (.iload_n 1, 1) := dk_27 (dk_at dksX2_canWithdraw_0 4 rfl rfl)
theorem dX2_canWithdraw_5 : decode cX2_canWithdraw 5 = .ok (.invokevirtual 58, 3) := dk_182 0 58 (dk_at dksX2_canWithdraw_0 5 rfl rfl)
theorem dX2_canWithdraw_8 : decode cX2_canWithdraw 8 = .ok (.checkcast 62, 3) := dk_192 0 62 (dk_at dksX2_canWithdraw_0 8 rfl rfl)
theorem dX2_canWithdraw_11 : decode cX2_canWithdraw 11 = .ok (.astore_n 2, 1) := dk_77 (dk_at dksX2_canWithdraw_0 11 rfl rfl)
theorem dX2_canWithdraw_12 : decode cX2_canWithdraw 12 = .ok (.aload_n 2, 1) := dk_44 (dk_at dksX2_canWithdraw_0 12 rfl rfl)
theorem dX2_canWithdraw_13 : decode cX2_canWithdraw 13 = .ok (.instanceof 131, 3) := dk_193 0 131 (dk_at dksX2_canWithdraw_0 13 rfl rfl)
theorem dX2_canWithdraw_16 : decode cX2_canWithdraw 16 = .ok (.ifCond .eq 18, 3) := dk_153 0 18 (dk_at dksX2_canWithdraw_0 16 rfl rfl)
theorem dX2_canWithdraw_19 : decode cX2_canWithdraw 19 = .ok (.aload_n 2, 1) := dk_44 (dk_at dksX2_canWithdraw_0 19 rfl rfl)
theorem dX2_canWithdraw_20 : decode cX2_canWithdraw 20 = .ok (.aload_n 0, 1) := dk_42 (dk_at dksX2_canWithdraw_0 20 rfl rfl)
theorem dX2_canWithdraw_21 : decode cX2_canWithdraw 21 = .ok (.getfield 98, 3) := dk_180 0 98 (dk_at dksX2_canWithdraw_0 21 rfl rfl)
theorem dX2_canWithdraw_24 : decode cX2_canWithdraw 24 = .ok (.invokevirtual 170, 3) := dk_182 0 170 (dk_at dksX2_canWithdraw_1 0 rfl rfl)
theorem dX2_canWithdraw_27 : decode cX2_canWithdraw 27 = .ok (.ifCond .ne 7, 3) := dk_154 0 7 (dk_at dksX2_canWithdraw_1 3 rfl rfl)
theorem dX2_canWithdraw_30 : decode cX2_canWithdraw 30 = .ok (.iconst 1, 1) := dk_4 (dk_at dksX2_canWithdraw_1 6 rfl rfl)
theorem dX2_canWithdraw_31 : decode cX2_canWithdraw 31 = .ok (.goto 4, 3) := dk_167 0 4 (dk_at dksX2_canWithdraw_1 7 rfl rfl)
theorem dX2_canWithdraw_34 : decode cX2_canWithdraw 34 = .ok (.iconst 0, 1) := dk_3 (dk_at dksX2_canWithdraw_1 10 rfl rfl)
theorem dX2_canWithdraw_35 : decode cX2_canWithdraw 35 = .ok (.ireturn, 1) := dk_172 (dk_at dksX2_canWithdraw_1 11 rfl rfl)
def dkwX2_isAlone_0 : List UInt8 := [42, 42, 27, 186, 0, 173, 0, 0, 182, 0, 124, 154, 0, 7, 4, 167, 0, 4, 3, 172]
abbrev dktX2_isAlone_0 : List UInt8 := dkwX2_isAlone_0 ++ []
theorem dksX2_isAlone_0 : cX2_isAlone.data.toList.drop 0 = dktX2_isAlone_0 := by decide +kernel
theorem dX2_isAlone_0 : decode cX2_isAlone 0 = .ok (.aload_n 0, 1) := dk_42 (dk_at dksX2_isAlone_0 0 rfl rfl)
theorem dX2_isAlone_1 : decode cX2_isAlone 1 = .ok (.aload_n 0, 1) := dk_42 (dk_at dksX2_isAlone_0 1 rfl rfl)
theorem dX2_isAlone_2 : decode cX2_isAlone 2 = .ok (.iload_n 1, 1) := dk_27 (dk_at dksX2_isAlone_0 2 rfl rfl)
theorem dX2_isAlone_3 : decode cX2_isAlone 3 = .ok (.invokedynamic 173, 5) := by decide +kernel
theorem dX2_isAlone_8 : decode cX2_isAlone 8 = .ok (.invokevirtual 124, 3) := dk_182 0 124 (dk_at dksX2_isAlone_0 8 rfl rfl)
theorem dX2_isAlone_11 : decode cX2_isAlone 11 = .ok (.ifCond .ne 7, 3) := dk_154 0 7 (dk_at dksX2_isAlone_0 11 rfl rfl)
theorem dX2_isAlone_14 : decode cX2_isAlone 14 = .ok (.iconst 1, 1) := dk_4 (dk_at dksX2_isAlone_0 14 rfl rfl)
theorem dX2_isAlone_15 : decode cX2_isAlone 15 = .ok (.goto 4, 3) := dk_167 0 4 (dk_at dksX2_isAlone_0 15 rfl rfl)
theorem dX2_isAlone_18 : decode cX2_isAlone 18 = .ok (.iconst 0, 1) := dk_3 (dk_at dksX2_isAlone_0 18 rfl rfl)
theorem dX2_isAlone_19 : decode cX2_isAlone 19 = .ok (.ireturn, 1) := dk_172 (dk_at dksX2_isAlone_0 19 rfl rfl)
def dkwX2_lambda_isAlone_0_1 : List UInt8 := [172]
abbrev dktX2_lambda_isAlone_0_1 : List UInt8 := dkwX2_lambda_isAlone_0_1 ++ []
def dkwX2_lambda_isAlone_0_0 : List UInt8 := [44, 180, 1, 37, 27, 159, 0, 18, 44, 42, 180, 0, 98, 182, 0, 117, 153, 0, 7, 4, 167, 0, 4, 3]
abbrev dktX2_lambda_isAlone_0_0 : List UInt8 := dkwX2_lambda_isAlone_0_0 ++ dktX2_lambda_isAlone_0_1
theorem dksX2_lambda_isAlone_0_0 : cX2_lambda_isAlone_0.data.toList.drop 0 = dktX2_lambda_isAlone_0_0 := by decide +kernel
theorem dksX2_lambda_isAlone_0_1 : cX2_lambda_isAlone_0.data.toList.drop 24 = dktX2_lambda_isAlone_0_1 := dk_seg dksX2_lambda_isAlone_0_0 24 rfl rfl
theorem dX2_lambda_isAlone_0_0 : decode cX2_lambda_isAlone_0 0 = .ok (.aload_n 2, 1) := dk_44 (dk_at dksX2_lambda_isAlone_0_0 0 rfl rfl)
theorem dX2_lambda_isAlone_0_1 : decode cX2_lambda_isAlone_0 1 = .ok (.getfield 293, 3) := dk_180 1 37 (dk_at dksX2_lambda_isAlone_0_0 1 rfl rfl)
theorem dX2_lambda_isAlone_0_4 : decode cX2_lambda_isAlone_0 4 = .ok (.iload_n 1, 1) := dk_27 (dk_at dksX2_lambda_isAlone_0_0 4 rfl rfl)
theorem dX2_lambda_isAlone_0_5 : decode cX2_lambda_isAlone_0 5 = .ok (.if_icmp .eq 18, 3) := dk_159 0 18 (dk_at dksX2_lambda_isAlone_0_0 5 rfl rfl)
theorem dX2_lambda_isAlone_0_8 : decode cX2_lambda_isAlone_0 8 = .ok (.aload_n 2, 1) := dk_44 (dk_at dksX2_lambda_isAlone_0_0 8 rfl rfl)
theorem dX2_lambda_isAlone_0_9 : decode cX2_lambda_isAlone_0 9 = .ok (.aload_n 0, 1) := dk_42 (dk_at dksX2_lambda_isAlone_0_0 9 rfl rfl)
theorem dX2_lambda_isAlone_0_10 : decode cX2_lambda_isAlone_0 10 = .ok (.getfield 98, 3) := dk_180 0 98 (dk_at dksX2_lambda_isAlone_0_0 10 rfl rfl)
theorem dX2_lambda_isAlone_0_13 : decode cX2_lambda_isAlone_0 13 = .ok (.invokevirtual 117, 3) := dk_182 0 117 (dk_at dksX2_lambda_isAlone_0_0 13 rfl rfl)
theorem dX2_lambda_isAlone_0_16 : decode cX2_lambda_isAlone_0 16 = .ok (.ifCond .eq 7, 3) := dk_153 0 7 (dk_at dksX2_lambda_isAlone_0_0 16 rfl rfl)
theorem dX2_lambda_isAlone_0_19 : decode cX2_lambda_isAlone_0 19 = .ok (.iconst 1, 1) := dk_4 (dk_at dksX2_lambda_isAlone_0_0 19 rfl rfl)
theorem dX2_lambda_isAlone_0_20 : decode cX2_lambda_isAlone_0 20 = .ok (.goto 4, 3) := dk_167 0 4 (dk_at dksX2_lambda_isAlone_0_0 20 rfl rfl)
theorem dX2_lambda_isAlone_0_23 : decode cX2_lambda_isAlone_0 23 = .ok (.iconst 0, 1) := dk_3 (dk_at dksX2_lambda_isAlone_0_0 23 rfl rfl)
theorem dX2_lambda_isAlone_0_24 : decode cX2_lambda_isAlone_0 24 = .ok (.ireturn, 1) := dk_172 (dk_at dksX2_lambda_isAlone_0_1 0 rfl rfl)
def dkwX2_withdraw_6 : List UInt8 := [182, 0, 193, 172]
abbrev dktX2_withdraw_6 : List UInt8 := dkwX2_withdraw_6 ++ []
def dkwX2_withdraw_5 : List UInt8 := [182, 0, 137, 87, 42, 182, 0, 187, 2, 160, 0, 12, 42, 42, 180, 0, 98, 182, 0, 190, 62, 42]
abbrev dktX2_withdraw_5 : List UInt8 := dkwX2_withdraw_5 ++ dktX2_withdraw_6
def dkwX2_withdraw_4 : List UInt8 := [153, 0, 27, 25, 5, 192, 0, 131, 58, 4, 42, 180, 0, 12, 29, 25, 4, 17, 39, 15, 182, 0, 133]
abbrev dktX2_withdraw_4 : List UInt8 := dkwX2_withdraw_4 ++ dktX2_withdraw_5
def dkwX2_withdraw_3 : List UInt8 := [153, 0, 50, 29, 2, 159, 0, 45, 42, 180, 0, 12, 29, 182, 0, 58, 58, 5, 25, 5, 193, 0, 131]
abbrev dktX2_withdraw_3 : List UInt8 := dkwX2_withdraw_3 ++ dktX2_withdraw_4
def dkwX2_withdraw_2 : List UInt8 := [45, 42, 180, 0, 98, 182, 0, 182, 182, 0, 137, 87, 42, 42, 186, 0, 186, 0, 0, 182, 0, 179, 62, 28]
abbrev dktX2_withdraw_2 : List UInt8 := dkwX2_withdraw_2 ++ dktX2_withdraw_3
def dkwX2_withdraw_1 : List UInt8 := [182, 0, 58, 58, 4, 25, 4, 193, 0, 131, 153, 0, 26, 25, 4, 192, 0, 131, 78, 42, 180, 0, 12, 27]
abbrev dktX2_withdraw_1 : List UInt8 := dkwX2_withdraw_1 ++ dktX2_withdraw_2
def dkwX2_withdraw_0 : List UInt8 := [42, 186, 0, 176, 0, 0, 182, 0, 179, 27, 160, 0, 7, 4, 167, 0, 4, 3, 61, 42, 180, 0, 12, 27]
abbrev dktX2_withdraw_0 : List UInt8 := dkwX2_withdraw_0 ++ dktX2_withdraw_1
theorem dksX2_withdraw_0 : cX2_withdraw.data.toList.drop 0 = dktX2_withdraw_0 := by decide +kernel
theorem dksX2_withdraw_1 : cX2_withdraw.data.toList.drop 24 = dktX2_withdraw_1 := dk_seg dksX2_withdraw_0 24 rfl rfl
theorem dksX2_withdraw_2 : cX2_withdraw.data.toList.drop 48 = dktX2_withdraw_2 := dk_seg dksX2_withdraw_1 24 rfl rfl
theorem dksX2_withdraw_3 : cX2_withdraw.data.toList.drop 72 = dktX2_withdraw_3 := dk_seg dksX2_withdraw_2 24 rfl rfl
theorem dksX2_withdraw_4 : cX2_withdraw.data.toList.drop 95 = dktX2_withdraw_4 := dk_seg dksX2_withdraw_3 23 rfl rfl
theorem dksX2_withdraw_5 : cX2_withdraw.data.toList.drop 118 = dktX2_withdraw_5 := dk_seg dksX2_withdraw_4 23 rfl rfl
theorem dksX2_withdraw_6 : cX2_withdraw.data.toList.drop 140 = dktX2_withdraw_6 := dk_seg dksX2_withdraw_5 22 rfl rfl
theorem dX2_withdraw_0 : decode cX2_withdraw 0 = .ok (.aload_n 0, 1) := dk_42 (dk_at dksX2_withdraw_0 0 rfl rfl)
theorem dX2_withdraw_1 : decode cX2_withdraw 1 = .ok (.invokedynamic 176, 5) := by decide +kernel
theorem dX2_withdraw_6 : decode cX2_withdraw 6 = .ok (.invokevirtual 179, 3) := dk_182 0 179 (dk_at dksX2_withdraw_0 6 rfl rfl)
theorem dX2_withdraw_9 : decode cX2_withdraw 9 = .ok (.iload_n 1, 1) := dk_27 (dk_at dksX2_withdraw_0 9 rfl rfl)
theorem dX2_withdraw_10 : decode cX2_withdraw 10 = .ok (.if_icmp .ne 7, 3) := dk_160 0 7 (dk_at dksX2_withdraw_0 10 rfl rfl)
theorem dX2_withdraw_13 : decode cX2_withdraw 13 = .ok (.iconst 1, 1) := dk_4 (dk_at dksX2_withdraw_0 13 rfl rfl)
theorem dX2_withdraw_14 : decode cX2_withdraw 14 = .ok (.goto 4, 3) := dk_167 0 4 (dk_at dksX2_withdraw_0 14 rfl rfl)
theorem dX2_withdraw_17 : decode cX2_withdraw 17 = .ok (.iconst 0, 1) := dk_3 (dk_at dksX2_withdraw_0 17 rfl rfl)
theorem dX2_withdraw_18 : decode cX2_withdraw 18 = .ok (.istore_n 2, 1) := dk_61 (dk_at dksX2_withdraw_0 18 rfl rfl)
theorem dX2_withdraw_19 : decode cX2_withdraw 19 = .ok (.aload_n 0, 1) := dk_42 (dk_at dksX2_withdraw_0 19 rfl rfl)
theorem dX2_withdraw_20 : decode cX2_withdraw 20 = .ok (.getfield 12, 3) := dk_180 0 12 (dk_at dksX2_withdraw_0 20 rfl rfl)
theorem dX2_withdraw_23 : decode cX2_withdraw 23 = .ok (.iload_n 1, 1) := dk_27 (dk_at dksX2_withdraw_0 23 rfl rfl)
theorem dX2_withdraw_24 : decode cX2_withdraw 24 = .ok (.invokevirtual 58, 3) := dk_182 0 58 (dk_at dksX2_withdraw_1 0 rfl rfl)
theorem dX2_withdraw_27 : decode cX2_withdraw 27 = .ok (.astore 4, 2) := dk_58 4 (dk_at dksX2_withdraw_1 3 rfl rfl)
theorem dX2_withdraw_29 : decode cX2_withdraw 29 = .ok (.aload 4, 2) := dk_25 4 (dk_at dksX2_withdraw_1 5 rfl rfl)
theorem dX2_withdraw_31 : decode cX2_withdraw 31 = .ok (.instanceof 131, 3) := dk_193 0 131 (dk_at dksX2_withdraw_1 7 rfl rfl)
theorem dX2_withdraw_34 : decode cX2_withdraw 34 = .ok (.ifCond .eq 26, 3) := dk_153 0 26 (dk_at dksX2_withdraw_1 10 rfl rfl)
theorem dX2_withdraw_37 : decode cX2_withdraw 37 = .ok (.aload 4, 2) := dk_25 4 (dk_at dksX2_withdraw_1 13 rfl rfl)
theorem dX2_withdraw_39 : decode cX2_withdraw 39 = .ok (.checkcast 131, 3) := dk_192 0 131 (dk_at dksX2_withdraw_1 15 rfl rfl)
theorem dX2_withdraw_42 : decode cX2_withdraw 42 = .ok (.astore_n 3, 1) := dk_78 (dk_at dksX2_withdraw_1 18 rfl rfl)
theorem dX2_withdraw_43 : decode cX2_withdraw 43 = .ok (.aload_n 0, 1) := dk_42 (dk_at dksX2_withdraw_1 19 rfl rfl)
theorem dX2_withdraw_44 : decode cX2_withdraw 44 = .ok (.getfield 12, 3) := dk_180 0 12 (dk_at dksX2_withdraw_1 20 rfl rfl)
theorem dX2_withdraw_47 : decode cX2_withdraw 47 = .ok (.iload_n 1, 1) := dk_27 (dk_at dksX2_withdraw_1 23 rfl rfl)
theorem dX2_withdraw_48 : decode cX2_withdraw 48 = .ok (.aload_n 3, 1) := dk_45 (dk_at dksX2_withdraw_2 0 rfl rfl)
theorem dX2_withdraw_49 : decode cX2_withdraw 49 = .ok (.aload_n 0, 1) := dk_42 (dk_at dksX2_withdraw_2 1 rfl rfl)
theorem dX2_withdraw_50 : decode cX2_withdraw 50 = .ok (.getfield 98, 3) := dk_180 0 98 (dk_at dksX2_withdraw_2 2 rfl rfl)
theorem dX2_withdraw_53 : decode cX2_withdraw 53 = .ok (.invokevirtual 182, 3) := dk_182 0 182 (dk_at dksX2_withdraw_2 5 rfl rfl)
theorem dX2_withdraw_56 : decode cX2_withdraw 56 = .ok (.invokevirtual 137, 3) := dk_182 0 137 (dk_at dksX2_withdraw_2 8 rfl rfl)
theorem dX2_withdraw_59 : decode cX2_withdraw 59 = .ok (.pop, 1) := dk_87 (dk_at dksX2_withdraw_2 11 rfl rfl)
theorem dX2_withdraw_60 : decode cX2_withdraw 60 = .ok (.aload_n 0, 1) := dk_42 (dk_at dksX2_withdraw_2 12 rfl rfl)
theorem dX2_withdraw_61 : decode cX2_withdraw 61 = .ok (.aload_n 0, 1) := dk_42 (dk_at dksX2_withdraw_2 13 rfl rfl)
theorem dX2_withdraw_62 : decode cX2_withdraw 62 = .ok (.invokedynamic 186, 5) := by decide +kernel
theorem dX2_withdraw_67 : decode cX2_withdraw 67 = .ok (.invokevirtual 179, 3) := dk_182 0 179 (dk_at dksX2_withdraw_2 19 rfl rfl)
theorem dX2_withdraw_70 : decode cX2_withdraw 70 = .ok (.istore_n 3, 1) := dk_62 (dk_at dksX2_withdraw_2 22 rfl rfl)
theorem dX2_withdraw_71 : decode cX2_withdraw 71 = .ok (.iload_n 2, 1) := dk_28 (dk_at dksX2_withdraw_2 23 rfl rfl)
theorem dX2_withdraw_72 : decode cX2_withdraw 72 = .ok (.ifCond .eq 50, 3) := dk_153 0 50 (dk_at dksX2_withdraw_3 0 rfl rfl)
theorem dX2_withdraw_75 : decode cX2_withdraw 75 = .ok (.iload_n 3, 1) := dk_29 (dk_at dksX2_withdraw_3 3 rfl rfl)
theorem dX2_withdraw_76 : decode cX2_withdraw 76 = .ok (.iconst (-1), 1) := dk_2 (dk_at dksX2_withdraw_3 4 rfl rfl)
theorem dX2_withdraw_77 : decode cX2_withdraw 77 = .ok (.if_icmp .eq 45, 3) := dk_159 0 45 (dk_at dksX2_withdraw_3 5 rfl rfl)
theorem dX2_withdraw_80 : decode cX2_withdraw 80 = .ok (.aload_n 0, 1) := dk_42 (dk_at dksX2_withdraw_3 8 rfl rfl)
theorem dX2_withdraw_81 : decode cX2_withdraw 81 = .ok (.getfield 12, 3) := dk_180 0 12 (dk_at dksX2_withdraw_3 9 rfl rfl)
theorem dX2_withdraw_84 : decode cX2_withdraw 84 = .ok (.iload_n 3, 1) := dk_29 (dk_at dksX2_withdraw_3 12 rfl rfl)
theorem dX2_withdraw_85 : decode cX2_withdraw 85 = .ok (.invokevirtual 58, 3) := dk_182 0 58 (dk_at dksX2_withdraw_3 13 rfl rfl)
theorem dX2_withdraw_88 : decode cX2_withdraw 88 = .ok (.astore 5, 2) := dk_58 5 (dk_at dksX2_withdraw_3 16 rfl rfl)
theorem dX2_withdraw_90 : decode cX2_withdraw 90 = .ok (.aload 5, 2) := dk_25 5 (dk_at dksX2_withdraw_3 18 rfl rfl)
theorem dX2_withdraw_92 : decode cX2_withdraw 92 = .ok (.instanceof 131, 3) := dk_193 0 131 (dk_at dksX2_withdraw_3 20 rfl rfl)
theorem dX2_withdraw_95 : decode cX2_withdraw 95 = .ok (.ifCond .eq 27, 3) := dk_153 0 27 (dk_at dksX2_withdraw_4 0 rfl rfl)
theorem dX2_withdraw_98 : decode cX2_withdraw 98 = .ok (.aload 5, 2) := dk_25 5 (dk_at dksX2_withdraw_4 3 rfl rfl)
theorem dX2_withdraw_100 : decode cX2_withdraw 100 = .ok (.checkcast 131, 3) := dk_192 0 131 (dk_at dksX2_withdraw_4 5 rfl rfl)
theorem dX2_withdraw_103 : decode cX2_withdraw 103 = .ok (.astore 4, 2) := dk_58 4 (dk_at dksX2_withdraw_4 8 rfl rfl)
theorem dX2_withdraw_105 : decode cX2_withdraw 105 = .ok (.aload_n 0, 1) := dk_42 (dk_at dksX2_withdraw_4 10 rfl rfl)
theorem dX2_withdraw_106 : decode cX2_withdraw 106 = .ok (.getfield 12, 3) := dk_180 0 12 (dk_at dksX2_withdraw_4 11 rfl rfl)
theorem dX2_withdraw_109 : decode cX2_withdraw 109 = .ok (.iload_n 3, 1) := dk_29 (dk_at dksX2_withdraw_4 14 rfl rfl)
theorem dX2_withdraw_110 : decode cX2_withdraw 110 = .ok (.aload 4, 2) := dk_25 4 (dk_at dksX2_withdraw_4 15 rfl rfl)
theorem dX2_withdraw_112 : decode cX2_withdraw 112 = .ok (.sipush 9999, 3) := dk_17 39 15 (dk_at dksX2_withdraw_4 17 rfl rfl)
theorem dX2_withdraw_115 : decode cX2_withdraw 115 = .ok (.invokevirtual 133, 3) := dk_182 0 133 (dk_at dksX2_withdraw_4 20 rfl rfl)
theorem dX2_withdraw_118 : decode cX2_withdraw 118 = .ok (.invokevirtual 137, 3) := dk_182 0 137 (dk_at dksX2_withdraw_5 0 rfl rfl)
theorem dX2_withdraw_121 : decode cX2_withdraw 121 = .ok (.pop, 1) := dk_87 (dk_at dksX2_withdraw_5 3 rfl rfl)
theorem dX2_withdraw_122 : decode cX2_withdraw 122 = .ok (.aload_n 0, 1) := dk_42 (dk_at dksX2_withdraw_5 4 rfl rfl)
theorem dX2_withdraw_123 : decode cX2_withdraw 123 = .ok (.invokevirtual 187, 3) := dk_182 0 187 (dk_at dksX2_withdraw_5 5 rfl rfl)
theorem dX2_withdraw_126 : decode cX2_withdraw 126 = .ok (.iconst (-1), 1) := dk_2 (dk_at dksX2_withdraw_5 8 rfl rfl)
theorem dX2_withdraw_127 : decode cX2_withdraw 127 = .ok (.if_icmp .ne 12, 3) := dk_160 0 12 (dk_at dksX2_withdraw_5 9 rfl rfl)
theorem dX2_withdraw_130 : decode cX2_withdraw 130 = .ok (.aload_n 0, 1) := dk_42 (dk_at dksX2_withdraw_5 12 rfl rfl)
theorem dX2_withdraw_131 : decode cX2_withdraw 131 = .ok (.aload_n 0, 1) := dk_42 (dk_at dksX2_withdraw_5 13 rfl rfl)
theorem dX2_withdraw_132 : decode cX2_withdraw 132 = .ok (.getfield 98, 3) := dk_180 0 98 (dk_at dksX2_withdraw_5 14 rfl rfl)
theorem dX2_withdraw_135 : decode cX2_withdraw 135 = .ok (.invokevirtual 190, 3) := dk_182 0 190 (dk_at dksX2_withdraw_5 17 rfl rfl)
theorem dX2_withdraw_138 : decode cX2_withdraw 138 = .ok (.istore_n 3, 1) := dk_62 (dk_at dksX2_withdraw_5 20 rfl rfl)
theorem dX2_withdraw_139 : decode cX2_withdraw 139 = .ok (.aload_n 0, 1) := dk_42 (dk_at dksX2_withdraw_5 21 rfl rfl)
theorem dX2_withdraw_140 : decode cX2_withdraw 140 = .ok (.invokevirtual 193, 3) := dk_182 0 193 (dk_at dksX2_withdraw_6 0 rfl rfl)
theorem dX2_withdraw_143 : decode cX2_withdraw 143 = .ok (.ireturn, 1) := dk_172 (dk_at dksX2_withdraw_6 3 rfl rfl)
theorem dX2_lambda_withdraw_1_0 : decode cX2_lambda_withdraw_1 0 = .ok (.aload_n 0, 1) := by decide +kernel
theorem dX2_lambda_withdraw_1_1 : decode cX2_lambda_withdraw_1 1 = .ok (.instanceof 131, 3) := by decide +kernel
theorem dX2_lambda_withdraw_1_4 : decode cX2_lambda_withdraw_1 4 = .ok (.ireturn, 1) := by decide +kernel
def dkwX2_greatest_1 : List UInt8 := [192, 0, 62, 185, 0, 107, 2, 0, 153, 0, 5, 28, 172, 132, 2, 255, 167, 255, 227, 2, 172]
abbrev dktX2_greatest_1 : List UInt8 := dkwX2_greatest_1 ++ []
def dkwX2_greatest_0 : List UInt8 := [42, 180, 0, 12, 182, 0, 54, 4, 100, 61, 28, 155, 0, 31, 43, 42, 180, 0, 12, 28, 182, 0, 58]
abbrev dktX2_greatest_0 : List UInt8 := dkwX2_greatest_0 ++ dktX2_greatest_1
theorem dksX2_greatest_0 : cX2_greatest.data.toList.drop 0 = dktX2_greatest_0 := by decide +kernel
theorem dksX2_greatest_1 : cX2_greatest.data.toList.drop 23 = dktX2_greatest_1 := dk_seg dksX2_greatest_0 23 rfl rfl
theorem dX2_greatest_0 : decode cX2_greatest 0 = .ok (.aload_n 0, 1) := dk_42 (dk_at dksX2_greatest_0 0 rfl rfl)
theorem dX2_greatest_1 : decode cX2_greatest 1 = .ok (.getfield 12, 3) := dk_180 0 12 (dk_at dksX2_greatest_0 1 rfl rfl)
theorem dX2_greatest_4 : decode cX2_greatest 4 = .ok (.invokevirtual 54, 3) := dk_182 0 54 (dk_at dksX2_greatest_0 4 rfl rfl)
theorem dX2_greatest_7 : decode cX2_greatest 7 = .ok (.iconst 1, 1) := dk_4 (dk_at dksX2_greatest_0 7 rfl rfl)
theorem dX2_greatest_8 : decode cX2_greatest 8 = .ok (.isub, 1) := dk_100 (dk_at dksX2_greatest_0 8 rfl rfl)
theorem dX2_greatest_9 : decode cX2_greatest 9 = .ok (.istore_n 2, 1) := dk_61 (dk_at dksX2_greatest_0 9 rfl rfl)
theorem dX2_greatest_10 : decode cX2_greatest 10 = .ok (.iload_n 2, 1) := dk_28 (dk_at dksX2_greatest_0 10 rfl rfl)
theorem dX2_greatest_11 : decode cX2_greatest 11 = .ok (.ifCond .lt 31, 3) := dk_155 0 31 (dk_at dksX2_greatest_0 11 rfl rfl)
theorem dX2_greatest_14 : decode cX2_greatest 14 = .ok (.aload_n 1, 1) := dk_43 (dk_at dksX2_greatest_0 14 rfl rfl)
theorem dX2_greatest_15 : decode cX2_greatest 15 = .ok (.aload_n 0, 1) := dk_42 (dk_at dksX2_greatest_0 15 rfl rfl)
theorem dX2_greatest_16 : decode cX2_greatest 16 = .ok (.getfield 12, 3) := dk_180 0 12 (dk_at dksX2_greatest_0 16 rfl rfl)
theorem dX2_greatest_19 : decode cX2_greatest 19 = .ok (.iload_n 2, 1) := dk_28 (dk_at dksX2_greatest_0 19 rfl rfl)
theorem dX2_greatest_20 : decode cX2_greatest 20 = .ok (.invokevirtual 58, 3) := dk_182 0 58 (dk_at dksX2_greatest_0 20 rfl rfl)
theorem dX2_greatest_23 : decode cX2_greatest 23 = .ok (.checkcast 62, 3) := dk_192 0 62 (dk_at dksX2_greatest_1 0 rfl rfl)
theorem dX2_greatest_26 : decode cX2_greatest 26 = .ok (.invokeinterface 107 2, 5) := by decide +kernel
theorem dX2_greatest_31 : decode cX2_greatest 31 = .ok (.ifCond .eq 5, 3) := dk_153 0 5 (dk_at dksX2_greatest_1 8 rfl rfl)
theorem dX2_greatest_34 : decode cX2_greatest 34 = .ok (.iload_n 2, 1) := dk_28 (dk_at dksX2_greatest_1 11 rfl rfl)
theorem dX2_greatest_35 : decode cX2_greatest 35 = .ok (.ireturn, 1) := dk_172 (dk_at dksX2_greatest_1 12 rfl rfl)
theorem dX2_greatest_36 : decode cX2_greatest 36 = .ok (.iinc 2 (-1), 3) := dk_132 2 255 (dk_at dksX2_greatest_1 13 rfl rfl)
theorem dX2_greatest_39 : decode cX2_greatest 39 = .ok (.goto (-29), 3) := dk_167 255 227 (dk_at dksX2_greatest_1 16 rfl rfl)
theorem dX2_greatest_42 : decode cX2_greatest 42 = .ok (.iconst (-1), 1) := dk_2 (dk_at dksX2_greatest_1 19 rfl rfl)
theorem dX2_greatest_43 : decode cX2_greatest 43 = .ok (.ireturn, 1) := dk_172 (dk_at dksX2_greatest_1 20 rfl rfl)
def dkwX2_lambda_withdraw_2_0 : List UInt8 := [43, 193, 0, 131, 153, 0, 18, 43, 42, 180, 0, 98, 182, 0, 170, 154, 0, 7, 4, 167, 0, 4, 3, 172]
abbrev dktX2_lambda_withdraw_2_0 : List UInt8 := dkwX2_lambda_withdraw_2_0 ++ []
theorem dksX2_lambda_withdraw_2_0 : cX2_lambda_withdraw_2.data.toList.drop 0 = dktX2_lambda_withdraw_2_0 := by decide +kernel
theorem dX2_lambda_withdraw_2_0 : decode cX2_lambda_withdraw_2 0 = .ok (.aload_n 1, 1) := dk_43 (dk_at dksX2_lambda_withdraw_2_0 0 rfl rfl)
theorem dX2_lambda_withdraw_2_1 : decode cX2_lambda_withdraw_2 1 = .ok (.instanceof 131, 3) := dk_193 0 131 (dk_at dksX2_lambda_withdraw_2_0 1 rfl rfl)
theorem dX2_lambda_withdraw_2_4 : decode cX2_lambda_withdraw_2 4 = .ok (.ifCond .eq 18, 3) := dk_153 0 18 (dk_at dksX2_lambda_withdraw_2_0 4 rfl rfl)
theorem dX2_lambda_withdraw_2_7 : decode cX2_lambda_withdraw_2 7 = .ok (.aload_n 1, 1) := dk_43 (dk_at dksX2_lambda_withdraw_2_0 7 rfl rfl)
theorem dX2_lambda_withdraw_2_8 : decode cX2_lambda_withdraw_2 8 = .ok (.aload_n 0, 1) := dk_42 (dk_at dksX2_lambda_withdraw_2_0 8 rfl rfl)
theorem dX2_lambda_withdraw_2_9 : decode cX2_lambda_withdraw_2 9 = .ok (.getfield 98, 3) := dk_180 0 98 (dk_at dksX2_lambda_withdraw_2_0 9 rfl rfl)
theorem dX2_lambda_withdraw_2_12 : decode cX2_lambda_withdraw_2 12 = .ok (.invokevirtual 170, 3) := dk_182 0 170 (dk_at dksX2_lambda_withdraw_2_0 12 rfl rfl)
theorem dX2_lambda_withdraw_2_15 : decode cX2_lambda_withdraw_2 15 = .ok (.ifCond .ne 7, 3) := dk_154 0 7 (dk_at dksX2_lambda_withdraw_2_0 15 rfl rfl)
theorem dX2_lambda_withdraw_2_18 : decode cX2_lambda_withdraw_2 18 = .ok (.iconst 1, 1) := dk_4 (dk_at dksX2_lambda_withdraw_2_0 18 rfl rfl)
theorem dX2_lambda_withdraw_2_19 : decode cX2_lambda_withdraw_2 19 = .ok (.goto 4, 3) := dk_167 0 4 (dk_at dksX2_lambda_withdraw_2_0 19 rfl rfl)
theorem dX2_lambda_withdraw_2_22 : decode cX2_lambda_withdraw_2 22 = .ok (.iconst 0, 1) := dk_3 (dk_at dksX2_lambda_withdraw_2_0 22 rfl rfl)
theorem dX2_lambda_withdraw_2_23 : decode cX2_lambda_withdraw_2 23 = .ok (.ireturn, 1) := dk_172 (dk_at dksX2_lambda_withdraw_2_0 23 rfl rfl)
def dkwX2_keep_3 : List UInt8 := [182, 1, 33, 87, 177]
abbrev dktX2_keep_3 : List UInt8 := dkwX2_keep_3 ++ []
def dkwX2_keep_2 : List UInt8 := [180, 0, 27, 43, 182, 0, 94, 42, 180, 0, 27, 182, 1, 32, 16, 48, 164, 0, 11, 42, 180, 0, 27]
abbrev dktX2_keep_2 : List UInt8 := dkwX2_keep_2 ++ dktX2_keep_3
def dkwX2_keep_1 : List UInt8 := [182, 0, 215, 153, 0, 11, 42, 28, 182, 1, 29, 167, 0, 4, 2, 79, 132, 2, 1, 167, 255, 227, 42]
abbrev dktX2_keep_1 : List UInt8 := dkwX2_keep_1 ++ dktX2_keep_2
def dkwX2_keep_0 : List UInt8 := [42, 180, 0, 18, 182, 0, 54, 188, 10, 76, 3, 61, 28, 43, 190, 162, 0, 29, 43, 28, 42, 28]
abbrev dktX2_keep_0 : List UInt8 := dkwX2_keep_0 ++ dktX2_keep_1
theorem dksX2_keep_0 : cX2_keep.data.toList.drop 0 = dktX2_keep_0 := by decide +kernel
theorem dksX2_keep_1 : cX2_keep.data.toList.drop 22 = dktX2_keep_1 := dk_seg dksX2_keep_0 22 rfl rfl
theorem dksX2_keep_2 : cX2_keep.data.toList.drop 45 = dktX2_keep_2 := dk_seg dksX2_keep_1 23 rfl rfl
theorem dksX2_keep_3 : cX2_keep.data.toList.drop 68 = dktX2_keep_3 := dk_seg dksX2_keep_2 23 rfl rfl
theorem dX2_keep_0 : decode cX2_keep 0 = .ok (.aload_n 0, 1) := dk_42 (dk_at dksX2_keep_0 0 rfl rfl)
theorem dX2_keep_1 : decode cX2_keep 1 = .ok (.getfield 18, 3) := dk_180 0 18 (dk_at dksX2_keep_0 1 rfl rfl)
theorem dX2_keep_4 : decode cX2_keep 4 = .ok (.invokevirtual 54, 3) := dk_182 0 54 (dk_at dksX2_keep_0 4 rfl rfl)
theorem dX2_keep_7 : decode cX2_keep 7 = .ok (.newarray .int, 2) := dk_188_10 (dk_at dksX2_keep_0 7 rfl rfl)
theorem dX2_keep_9 : decode cX2_keep 9 = .ok (.astore_n 1, 1) := dk_76 (dk_at dksX2_keep_0 9 rfl rfl)
theorem dX2_keep_10 : decode cX2_keep 10 = .ok (.iconst 0, 1) := dk_3 (dk_at dksX2_keep_0 10 rfl rfl)
theorem dX2_keep_11 : decode cX2_keep 11 = .ok (.istore_n 2, 1) := dk_61 (dk_at dksX2_keep_0 11 rfl rfl)
theorem dX2_keep_12 : decode cX2_keep 12 = .ok (.iload_n 2, 1) := dk_28 (dk_at dksX2_keep_0 12 rfl rfl)
theorem dX2_keep_13 : decode cX2_keep 13 = .ok (.aload_n 1, 1) := dk_43 (dk_at dksX2_keep_0 13 rfl rfl)
theorem dX2_keep_14 : decode cX2_keep 14 = .ok (.arraylength, 1) := dk_190 (dk_at dksX2_keep_0 14 rfl rfl)
theorem dX2_keep_15 : decode cX2_keep 15 = .ok (.if_icmp .ge 29, 3) := dk_162 0 29 (dk_at dksX2_keep_0 15 rfl rfl)
theorem dX2_keep_18 : decode cX2_keep 18 = .ok (.aload_n 1, 1) := dk_43 (dk_at dksX2_keep_0 18 rfl rfl)
theorem dX2_keep_19 : decode cX2_keep 19 = .ok (.iload_n 2, 1) := dk_28 (dk_at dksX2_keep_0 19 rfl rfl)
theorem dX2_keep_20 : decode cX2_keep 20 = .ok (.aload_n 0, 1) := dk_42 (dk_at dksX2_keep_0 20 rfl rfl)
theorem dX2_keep_21 : decode cX2_keep 21 = .ok (.iload_n 2, 1) := dk_28 (dk_at dksX2_keep_0 21 rfl rfl)
theorem dX2_keep_22 : decode cX2_keep 22 = .ok (.invokevirtual 215, 3) := dk_182 0 215 (dk_at dksX2_keep_1 0 rfl rfl)
theorem dX2_keep_25 : decode cX2_keep 25 = .ok (.ifCond .eq 11, 3) := dk_153 0 11 (dk_at dksX2_keep_1 3 rfl rfl)
theorem dX2_keep_28 : decode cX2_keep 28 = .ok (.aload_n 0, 1) := dk_42 (dk_at dksX2_keep_1 6 rfl rfl)
theorem dX2_keep_29 : decode cX2_keep 29 = .ok (.iload_n 2, 1) := dk_28 (dk_at dksX2_keep_1 7 rfl rfl)
theorem dX2_keep_30 : decode cX2_keep 30 = .ok (.invokevirtual 285, 3) := dk_182 1 29 (dk_at dksX2_keep_1 8 rfl rfl)
theorem dX2_keep_33 : decode cX2_keep 33 = .ok (.goto 4, 3) := dk_167 0 4 (dk_at dksX2_keep_1 11 rfl rfl)
theorem dX2_keep_36 : decode cX2_keep 36 = .ok (.iconst (-1), 1) := dk_2 (dk_at dksX2_keep_1 14 rfl rfl)
theorem dX2_keep_37 : decode cX2_keep 37 = .ok (.iastore, 1) := dk_79 (dk_at dksX2_keep_1 15 rfl rfl)
theorem dX2_keep_38 : decode cX2_keep 38 = .ok (.iinc 2 1, 3) := dk_132 2 1 (dk_at dksX2_keep_1 16 rfl rfl)
theorem dX2_keep_41 : decode cX2_keep 41 = .ok (.goto (-29), 3) := dk_167 255 227 (dk_at dksX2_keep_1 19 rfl rfl)
theorem dX2_keep_44 : decode cX2_keep 44 = .ok (.aload_n 0, 1) := dk_42 (dk_at dksX2_keep_1 22 rfl rfl)
theorem dX2_keep_45 : decode cX2_keep 45 = .ok (.getfield 27, 3) := dk_180 0 27 (dk_at dksX2_keep_2 0 rfl rfl)
theorem dX2_keep_48 : decode cX2_keep 48 = .ok (.aload_n 1, 1) := dk_43 (dk_at dksX2_keep_2 3 rfl rfl)
theorem dX2_keep_49 : decode cX2_keep 49 = .ok (.invokevirtual 94, 3) := dk_182 0 94 (dk_at dksX2_keep_2 4 rfl rfl)
theorem dX2_keep_52 : decode cX2_keep 52 = .ok (.aload_n 0, 1) := dk_42 (dk_at dksX2_keep_2 7 rfl rfl)
theorem dX2_keep_53 : decode cX2_keep 53 = .ok (.getfield 27, 3) := dk_180 0 27 (dk_at dksX2_keep_2 8 rfl rfl)
theorem dX2_keep_56 : decode cX2_keep 56 = .ok (.invokevirtual 288, 3) := dk_182 1 32 (dk_at dksX2_keep_2 11 rfl rfl)
theorem dX2_keep_59 : decode cX2_keep 59 = .ok (.bipush 48, 2) := dk_16 48 (dk_at dksX2_keep_2 14 rfl rfl)
theorem dX2_keep_61 : decode cX2_keep 61 = .ok (.if_icmp .le 11, 3) := dk_164 0 11 (dk_at dksX2_keep_2 16 rfl rfl)
theorem dX2_keep_64 : decode cX2_keep 64 = .ok (.aload_n 0, 1) := dk_42 (dk_at dksX2_keep_2 19 rfl rfl)
theorem dX2_keep_65 : decode cX2_keep 65 = .ok (.getfield 27, 3) := dk_180 0 27 (dk_at dksX2_keep_2 20 rfl rfl)
theorem dX2_keep_68 : decode cX2_keep 68 = .ok (.invokevirtual 289, 3) := dk_182 1 33 (dk_at dksX2_keep_3 0 rfl rfl)
theorem dX2_keep_71 : decode cX2_keep 71 = .ok (.pop, 1) := dk_87 (dk_at dksX2_keep_3 3 rfl rfl)
theorem dX2_keep_72 : decode cX2_keep 72 = .ok (.return_, 1) := dk_177 (dk_at dksX2_keep_3 4 rfl rfl)
def dkwX3_init_0 : List UInt8 := [42, 183, 0, 1, 42, 27, 181, 0, 7, 42, 28, 181, 0, 13, 42, 29, 181, 0, 16, 177]
abbrev dktX3_init_0 : List UInt8 := dkwX3_init_0 ++ []
theorem dksX3_init_0 : cX3_init.data.toList.drop 0 = dktX3_init_0 := by decide +kernel
theorem dX3_init_0 : decode cX3_init 0 = .ok (.aload_n 0, 1) := dk_42 (dk_at dksX3_init_0 0 rfl rfl)
theorem dX3_init_1 : decode cX3_init 1 = .ok (.invokespecial 1, 3) := dk_183 0 1 (dk_at dksX3_init_0 1 rfl rfl)
theorem dX3_init_4 : decode cX3_init 4 = .ok (.aload_n 0, 1) := dk_42 (dk_at dksX3_init_0 4 rfl rfl)
theorem dX3_init_5 : decode cX3_init 5 = .ok (.iload_n 1, 1) := dk_27 (dk_at dksX3_init_0 5 rfl rfl)
theorem dX3_init_6 : decode cX3_init 6 = .ok (.putfield 7, 3) := dk_181 0 7 (dk_at dksX3_init_0 6 rfl rfl)
theorem dX3_init_9 : decode cX3_init 9 = .ok (.aload_n 0, 1) := dk_42 (dk_at dksX3_init_0 9 rfl rfl)
theorem dX3_init_10 : decode cX3_init 10 = .ok (.iload_n 2, 1) := dk_28 (dk_at dksX3_init_0 10 rfl rfl)
theorem dX3_init_11 : decode cX3_init 11 = .ok (.putfield 13, 3) := dk_181 0 13 (dk_at dksX3_init_0 11 rfl rfl)
theorem dX3_init_14 : decode cX3_init 14 = .ok (.aload_n 0, 1) := dk_42 (dk_at dksX3_init_0 14 rfl rfl)
theorem dX3_init_15 : decode cX3_init 15 = .ok (.iload_n 3, 1) := dk_29 (dk_at dksX3_init_0 15 rfl rfl)
theorem dX3_init_16 : decode cX3_init 16 = .ok (.putfield 16, 3) := dk_181 0 16 (dk_at dksX3_init_0 16 rfl rfl)
theorem dX3_init_19 : decode cX3_init 19 = .ok (.return_, 1) := dk_177 (dk_at dksX3_init_0 19 rfl rfl)
def dkwX3_isInForce_0 : List UInt8 := [42, 193, 0, 25, 153, 0, 15, 42, 27, 182, 0, 27, 153, 0, 7, 4, 167, 0, 4, 3, 172]
abbrev dktX3_isInForce_0 : List UInt8 := dkwX3_isInForce_0 ++ []
theorem dksX3_isInForce_0 : cX3_isInForce.data.toList.drop 0 = dktX3_isInForce_0 := by decide +kernel
theorem dX3_isInForce_0 : decode cX3_isInForce 0 = .ok (.aload_n 0, 1) := dk_42 (dk_at dksX3_isInForce_0 0 rfl rfl)
theorem dX3_isInForce_1 : decode cX3_isInForce 1 = .ok (.instanceof 25, 3) := dk_193 0 25 (dk_at dksX3_isInForce_0 1 rfl rfl)
theorem dX3_isInForce_4 : decode cX3_isInForce 4 = .ok (.ifCond .eq 15, 3) := dk_153 0 15 (dk_at dksX3_isInForce_0 4 rfl rfl)
theorem dX3_isInForce_7 : decode cX3_isInForce 7 = .ok (.aload_n 0, 1) := dk_42 (dk_at dksX3_isInForce_0 7 rfl rfl)
theorem dX3_isInForce_8 : decode cX3_isInForce 8 = .ok (.iload_n 1, 1) := dk_27 (dk_at dksX3_isInForce_0 8 rfl rfl)
theorem dX3_isInForce_9 : decode cX3_isInForce 9 = .ok (.invokevirtual 27, 3) := dk_182 0 27 (dk_at dksX3_isInForce_0 9 rfl rfl)
theorem dX3_isInForce_12 : decode cX3_isInForce 12 = .ok (.ifCond .eq 7, 3) := dk_153 0 7 (dk_at dksX3_isInForce_0 12 rfl rfl)
theorem dX3_isInForce_15 : decode cX3_isInForce 15 = .ok (.iconst 1, 1) := dk_4 (dk_at dksX3_isInForce_0 15 rfl rfl)
theorem dX3_isInForce_16 : decode cX3_isInForce 16 = .ok (.goto 4, 3) := dk_167 0 4 (dk_at dksX3_isInForce_0 16 rfl rfl)
theorem dX3_isInForce_19 : decode cX3_isInForce 19 = .ok (.iconst 0, 1) := dk_3 (dk_at dksX3_isInForce_0 19 rfl rfl)
theorem dX3_isInForce_20 : decode cX3_isInForce 20 = .ok (.ireturn, 1) := dk_172 (dk_at dksX3_isInForce_0 20 rfl rfl)
def dkwX3_spans_0 : List UInt8 := [27, 133, 42, 180, 0, 13, 133, 42, 180, 0, 16, 133, 184, 0, 19, 172]
abbrev dktX3_spans_0 : List UInt8 := dkwX3_spans_0 ++ []
theorem dksX3_spans_0 : cX3_spans.data.toList.drop 0 = dktX3_spans_0 := by decide +kernel
theorem dX3_spans_0 : decode cX3_spans 0 = .ok (.iload_n 1, 1) := dk_27 (dk_at dksX3_spans_0 0 rfl rfl)
theorem dX3_spans_1 : decode cX3_spans 1 = .ok (.i2l, 1) := dk_133 (dk_at dksX3_spans_0 1 rfl rfl)
theorem dX3_spans_2 : decode cX3_spans 2 = .ok (.aload_n 0, 1) := dk_42 (dk_at dksX3_spans_0 2 rfl rfl)
theorem dX3_spans_3 : decode cX3_spans 3 = .ok (.getfield 13, 3) := dk_180 0 13 (dk_at dksX3_spans_0 3 rfl rfl)
theorem dX3_spans_6 : decode cX3_spans 6 = .ok (.i2l, 1) := dk_133 (dk_at dksX3_spans_0 6 rfl rfl)
theorem dX3_spans_7 : decode cX3_spans 7 = .ok (.aload_n 0, 1) := dk_42 (dk_at dksX3_spans_0 7 rfl rfl)
theorem dX3_spans_8 : decode cX3_spans 8 = .ok (.getfield 16, 3) := dk_180 0 16 (dk_at dksX3_spans_0 8 rfl rfl)
theorem dX3_spans_11 : decode cX3_spans 11 = .ok (.i2l, 1) := dk_133 (dk_at dksX3_spans_0 11 rfl rfl)
theorem dX3_spans_12 : decode cX3_spans 12 = .ok (.invokestatic 19, 3) := dk_184 0 19 (dk_at dksX3_spans_0 12 rfl rfl)
theorem dX3_spans_15 : decode cX3_spans 15 = .ok (.ireturn, 1) := dk_172 (dk_at dksX3_spans_0 15 rfl rfl)
def dkwX3_hasEnded_0 : List UInt8 := [42, 180, 0, 16, 27, 162, 0, 7, 4, 167, 0, 4, 3, 172]
abbrev dktX3_hasEnded_0 : List UInt8 := dkwX3_hasEnded_0 ++ []
theorem dksX3_hasEnded_0 : cX3_hasEnded.data.toList.drop 0 = dktX3_hasEnded_0 := by decide +kernel
theorem dX3_hasEnded_0 : decode cX3_hasEnded 0 = .ok (.aload_n 0, 1) := dk_42 (dk_at dksX3_hasEnded_0 0 rfl rfl)
theorem dX3_hasEnded_1 : decode cX3_hasEnded 1 = .ok (.getfield 16, 3) := dk_180 0 16 (dk_at dksX3_hasEnded_0 1 rfl rfl)
theorem dX3_hasEnded_4 : decode cX3_hasEnded 4 = .ok (.iload_n 1, 1) := dk_27 (dk_at dksX3_hasEnded_0 4 rfl rfl)
theorem dX3_hasEnded_5 : decode cX3_hasEnded 5 = .ok (.if_icmp .ge 7, 3) := dk_162 0 7 (dk_at dksX3_hasEnded_0 5 rfl rfl)
theorem dX3_hasEnded_8 : decode cX3_hasEnded 8 = .ok (.iconst 1, 1) := dk_4 (dk_at dksX3_hasEnded_0 8 rfl rfl)
theorem dX3_hasEnded_9 : decode cX3_hasEnded 9 = .ok (.goto 4, 3) := dk_167 0 4 (dk_at dksX3_hasEnded_0 9 rfl rfl)
theorem dX3_hasEnded_12 : decode cX3_hasEnded 12 = .ok (.iconst 0, 1) := dk_3 (dk_at dksX3_hasEnded_0 12 rfl rfl)
theorem dX3_hasEnded_13 : decode cX3_hasEnded 13 = .ok (.ireturn, 1) := dk_172 (dk_at dksX3_hasEnded_0 13 rfl rfl)
def dkwX4_init_0 : List UInt8 := [42, 27, 28, 29, 183, 0, 1, 177]
abbrev dktX4_init_0 : List UInt8 := dkwX4_init_0 ++ []
theorem dksX4_init_0 : cX4_init.data.toList.drop 0 = dktX4_init_0 := by decide +kernel
theorem dX4_init_0 : decode cX4_init 0 = .ok (.aload_n 0, 1) := dk_42 (dk_at dksX4_init_0 0 rfl rfl)
theorem dX4_init_1 : decode cX4_init 1 = .ok (.iload_n 1, 1) := dk_27 (dk_at dksX4_init_0 1 rfl rfl)
theorem dX4_init_2 : decode cX4_init 2 = .ok (.iload_n 2, 1) := dk_28 (dk_at dksX4_init_0 2 rfl rfl)
theorem dX4_init_3 : decode cX4_init 3 = .ok (.iload_n 3, 1) := dk_29 (dk_at dksX4_init_0 3 rfl rfl)
theorem dX4_init_4 : decode cX4_init 4 = .ok (.invokespecial 1, 3) := dk_183 0 1 (dk_at dksX4_init_0 4 rfl rfl)
theorem dX4_init_7 : decode cX4_init 7 = .ok (.return_, 1) := dk_177 (dk_at dksX4_init_0 7 rfl rfl)
def dkwX4_endingAt_0 : List UInt8 := [187, 0, 7, 89, 42, 180, 0, 9, 42, 180, 0, 13, 27, 183, 0, 16, 176]
abbrev dktX4_endingAt_0 : List UInt8 := dkwX4_endingAt_0 ++ []
theorem dksX4_endingAt_0 : cX4_endingAt.data.toList.drop 0 = dktX4_endingAt_0 := by decide +kernel
theorem dX4_endingAt_0 : decode cX4_endingAt 0 = .ok (.new 7, 3) := dk_187 0 7 (dk_at dksX4_endingAt_0 0 rfl rfl)
theorem dX4_endingAt_3 : decode cX4_endingAt 3 = .ok (.dup, 1) := dk_89 (dk_at dksX4_endingAt_0 3 rfl rfl)
theorem dX4_endingAt_4 : decode cX4_endingAt 4 = .ok (.aload_n 0, 1) := dk_42 (dk_at dksX4_endingAt_0 4 rfl rfl)
theorem dX4_endingAt_5 : decode cX4_endingAt 5 = .ok (.getfield 9, 3) := dk_180 0 9 (dk_at dksX4_endingAt_0 5 rfl rfl)
theorem dX4_endingAt_8 : decode cX4_endingAt 8 = .ok (.aload_n 0, 1) := dk_42 (dk_at dksX4_endingAt_0 8 rfl rfl)
theorem dX4_endingAt_9 : decode cX4_endingAt 9 = .ok (.getfield 13, 3) := dk_180 0 13 (dk_at dksX4_endingAt_0 9 rfl rfl)
theorem dX4_endingAt_12 : decode cX4_endingAt 12 = .ok (.iload_n 1, 1) := dk_27 (dk_at dksX4_endingAt_0 12 rfl rfl)
theorem dX4_endingAt_13 : decode cX4_endingAt 13 = .ok (.invokespecial 16, 3) := dk_183 0 16 (dk_at dksX4_endingAt_0 13 rfl rfl)
theorem dX4_endingAt_16 : decode cX4_endingAt 16 = .ok (.areturn, 1) := dk_176 (dk_at dksX4_endingAt_0 16 rfl rfl)
def dkwX4_withdrawn_0 : List UInt8 := [187, 0, 17, 89, 42, 27, 183, 0, 19, 176]
abbrev dktX4_withdrawn_0 : List UInt8 := dkwX4_withdrawn_0 ++ []
theorem dksX4_withdrawn_0 : cX4_withdrawn.data.toList.drop 0 = dktX4_withdrawn_0 := by decide +kernel
theorem dX4_withdrawn_0 : decode cX4_withdrawn 0 = .ok (.new 17, 3) := dk_187 0 17 (dk_at dksX4_withdrawn_0 0 rfl rfl)
theorem dX4_withdrawn_3 : decode cX4_withdrawn 3 = .ok (.dup, 1) := dk_89 (dk_at dksX4_withdrawn_0 3 rfl rfl)
theorem dX4_withdrawn_4 : decode cX4_withdrawn 4 = .ok (.aload_n 0, 1) := dk_42 (dk_at dksX4_withdrawn_0 4 rfl rfl)
theorem dX4_withdrawn_5 : decode cX4_withdrawn 5 = .ok (.iload_n 1, 1) := dk_27 (dk_at dksX4_withdrawn_0 5 rfl rfl)
theorem dX4_withdrawn_6 : decode cX4_withdrawn 6 = .ok (.invokespecial 19, 3) := dk_183 0 19 (dk_at dksX4_withdrawn_0 6 rfl rfl)
theorem dX4_withdrawn_9 : decode cX4_withdrawn 9 = .ok (.areturn, 1) := dk_176 (dk_at dksX4_withdrawn_0 9 rfl rfl)
def dkwX6_init_1 : List UInt8 := [181, 0, 22, 42, 182, 0, 26, 177]
abbrev dktX6_init_1 : List UInt8 := dkwX6_init_1 ++ []
def dkwX6_init_0 : List UInt8 := [42, 43, 181, 0, 3, 42, 183, 0, 9, 42, 187, 0, 15, 89, 183, 0, 17, 181, 0, 18, 42, 28]
abbrev dktX6_init_0 : List UInt8 := dkwX6_init_0 ++ dktX6_init_1
theorem dksX6_init_0 : cX6_init.data.toList.drop 0 = dktX6_init_0 := by decide +kernel
theorem dksX6_init_1 : cX6_init.data.toList.drop 22 = dktX6_init_1 := dk_seg dksX6_init_0 22 rfl rfl
theorem dX6_init_0 : decode cX6_init 0 = .ok (.aload_n 0, 1) := dk_42 (dk_at dksX6_init_0 0 rfl rfl)
theorem dX6_init_1 : decode cX6_init 1 = .ok (.aload_n 1, 1) := dk_43 (dk_at dksX6_init_0 1 rfl rfl)
theorem dX6_init_2 : decode cX6_init 2 = .ok (.putfield 3, 3) := dk_181 0 3 (dk_at dksX6_init_0 2 rfl rfl)
theorem dX6_init_5 : decode cX6_init 5 = .ok (.aload_n 0, 1) := dk_42 (dk_at dksX6_init_0 5 rfl rfl)
theorem dX6_init_6 : decode cX6_init 6 = .ok (.invokespecial 9, 3) := dk_183 0 9 (dk_at dksX6_init_0 6 rfl rfl)
theorem dX6_init_9 : decode cX6_init 9 = .ok (.aload_n 0, 1) := dk_42 (dk_at dksX6_init_0 9 rfl rfl)
theorem dX6_init_10 : decode cX6_init 10 = .ok (.new 15, 3) := dk_187 0 15 (dk_at dksX6_init_0 10 rfl rfl)
theorem dX6_init_13 : decode cX6_init 13 = .ok (.dup, 1) := dk_89 (dk_at dksX6_init_0 13 rfl rfl)
theorem dX6_init_14 : decode cX6_init 14 = .ok (.invokespecial 17, 3) := dk_183 0 17 (dk_at dksX6_init_0 14 rfl rfl)
theorem dX6_init_17 : decode cX6_init 17 = .ok (.putfield 18, 3) := dk_181 0 18 (dk_at dksX6_init_0 17 rfl rfl)
theorem dX6_init_20 : decode cX6_init 20 = .ok (.aload_n 0, 1) := dk_42 (dk_at dksX6_init_0 20 rfl rfl)
theorem dX6_init_21 : decode cX6_init 21 = .ok (.iload_n 2, 1) := dk_28 (dk_at dksX6_init_0 21 rfl rfl)
theorem dX6_init_22 : decode cX6_init 22 = .ok (.putfield 22, 3) := dk_181 0 22 (dk_at dksX6_init_1 0 rfl rfl)
theorem dX6_init_25 : decode cX6_init 25 = .ok (.aload_n 0, 1) := dk_42 (dk_at dksX6_init_1 3 rfl rfl)
theorem dX6_init_26 : decode cX6_init 26 = .ok (.invokevirtual 26, 3) := dk_182 0 26 (dk_at dksX6_init_1 4 rfl rfl)
theorem dX6_init_29 : decode cX6_init 29 = .ok (.return_, 1) := dk_177 (dk_at dksX6_init_1 7 rfl rfl)
def dkwX6_next_10 : List UInt8 := [181, 0, 83, 42, 178, 0, 86, 181, 0, 53, 42, 89, 180, 0, 33, 4, 96, 181, 0, 33, 177]
abbrev dktX6_next_10 : List UInt8 := dkwX6_next_10 ++ []
def dkwX6_next_9 : List UInt8 := [180, 0, 33, 4, 96, 181, 0, 33, 167, 255, 204, 42, 178, 0, 80, 181, 0, 53, 167, 0, 25, 42, 27]
abbrev dktX6_next_9 : List UInt8 := dkwX6_next_9 ++ dktX6_next_10
def dkwX6_next_8 : List UInt8 := [180, 0, 70, 104, 42, 42, 180, 0, 33, 182, 0, 36, 96, 16, 48, 100, 184, 0, 74, 181, 0, 70, 42, 89]
abbrev dktX6_next_8 : List UInt8 := dkwX6_next_8 ++ dktX6_next_9
def dkwX6_next_7 : List UInt8 := [3, 181, 0, 70, 42, 42, 180, 0, 33, 182, 0, 36, 184, 0, 67, 153, 0, 44, 42, 18, 73, 16, 10, 42]
abbrev dktX6_next_7 : List UInt8 := dkwX6_next_7 ++ dktX6_next_8
def dkwX6_next_6 : List UInt8 := [181, 0, 33, 167, 255, 215, 42, 178, 0, 64, 181, 0, 53, 167, 0, 102, 27, 184, 0, 67, 153, 0, 73, 42]
abbrev dktX6_next_6 : List UInt8 := dkwX6_next_6 ++ dktX6_next_7
def dkwX6_next_5 : List UInt8 := [42, 180, 0, 18, 42, 42, 180, 0, 33, 182, 0, 36, 146, 182, 0, 60, 87, 42, 89, 180, 0, 33, 4, 96]
abbrev dktX6_next_5 : List UInt8 := dkwX6_next_5 ++ dktX6_next_6
def dkwX6_next_4 : List UInt8 := [167, 0, 163, 27, 184, 0, 56, 153, 0, 57, 42, 42, 180, 0, 33, 182, 0, 36, 184, 0, 56, 153, 0, 33]
abbrev dktX6_next_4 : List UInt8 := dkwX6_next_4 ++ dktX6_next_5
def dkwX6_next_3 : List UInt8 := [182, 0, 36, 60, 42, 180, 0, 33, 42, 180, 0, 22, 161, 0, 13, 42, 178, 0, 47, 181, 0, 53]
abbrev dktX6_next_3 : List UInt8 := dkwX6_next_3 ++ dktX6_next_4
def dkwX6_next_2 : List UInt8 := [167, 255, 209, 42, 42, 180, 0, 33, 181, 0, 40, 42, 180, 0, 18, 3, 182, 0, 43, 42, 42, 180, 0, 33]
abbrev dktX6_next_2 : List UInt8 := dkwX6_next_2 ++ dktX6_next_3
def dkwX6_next_1 : List UInt8 := [42, 42, 180, 0, 33, 182, 0, 36, 16, 10, 160, 0, 16, 42, 89, 180, 0, 33, 4, 96, 181, 0, 33]
abbrev dktX6_next_1 : List UInt8 := dkwX6_next_1 ++ dktX6_next_2
def dkwX6_next_0 : List UInt8 := [42, 180, 0, 33, 42, 180, 0, 22, 162, 0, 42, 42, 42, 180, 0, 33, 182, 0, 36, 16, 32, 159, 0, 16]
abbrev dktX6_next_0 : List UInt8 := dkwX6_next_0 ++ dktX6_next_1
theorem dksX6_next_0 : cX6_next.data.toList.drop 0 = dktX6_next_0 := by decide +kernel
theorem dksX6_next_1 : cX6_next.data.toList.drop 24 = dktX6_next_1 := dk_seg dksX6_next_0 24 rfl rfl
theorem dksX6_next_2 : cX6_next.data.toList.drop 47 = dktX6_next_2 := dk_seg dksX6_next_1 23 rfl rfl
theorem dksX6_next_3 : cX6_next.data.toList.drop 71 = dktX6_next_3 := dk_seg dksX6_next_2 24 rfl rfl
theorem dksX6_next_4 : cX6_next.data.toList.drop 93 = dktX6_next_4 := dk_seg dksX6_next_3 22 rfl rfl
theorem dksX6_next_5 : cX6_next.data.toList.drop 117 = dktX6_next_5 := dk_seg dksX6_next_4 24 rfl rfl
theorem dksX6_next_6 : cX6_next.data.toList.drop 141 = dktX6_next_6 := dk_seg dksX6_next_5 24 rfl rfl
theorem dksX6_next_7 : cX6_next.data.toList.drop 165 = dktX6_next_7 := dk_seg dksX6_next_6 24 rfl rfl
theorem dksX6_next_8 : cX6_next.data.toList.drop 189 = dktX6_next_8 := dk_seg dksX6_next_7 24 rfl rfl
theorem dksX6_next_9 : cX6_next.data.toList.drop 213 = dktX6_next_9 := dk_seg dksX6_next_8 24 rfl rfl
theorem dksX6_next_10 : cX6_next.data.toList.drop 236 = dktX6_next_10 := dk_seg dksX6_next_9 23 rfl rfl
theorem dX6_next_0 : decode cX6_next 0 = .ok (.aload_n 0, 1) := dk_42 (dk_at dksX6_next_0 0 rfl rfl)
theorem dX6_next_1 : decode cX6_next 1 = .ok (.getfield 33, 3) := dk_180 0 33 (dk_at dksX6_next_0 1 rfl rfl)
theorem dX6_next_4 : decode cX6_next 4 = .ok (.aload_n 0, 1) := dk_42 (dk_at dksX6_next_0 4 rfl rfl)
theorem dX6_next_5 : decode cX6_next 5 = .ok (.getfield 22, 3) := dk_180 0 22 (dk_at dksX6_next_0 5 rfl rfl)
theorem dX6_next_8 : decode cX6_next 8 = .ok (.if_icmp .ge 42, 3) := dk_162 0 42 (dk_at dksX6_next_0 8 rfl rfl)
theorem dX6_next_11 : decode cX6_next 11 = .ok (.aload_n 0, 1) := dk_42 (dk_at dksX6_next_0 11 rfl rfl)
theorem dX6_next_12 : decode cX6_next 12 = .ok (.aload_n 0, 1) := dk_42 (dk_at dksX6_next_0 12 rfl rfl)
theorem dX6_next_13 : decode cX6_next 13 = .ok (.getfield 33, 3) := dk_180 0 33 (dk_at dksX6_next_0 13 rfl rfl)
theorem dX6_next_16 : decode cX6_next 16 = .ok (.invokevirtual 36, 3) := dk_182 0 36 (dk_at dksX6_next_0 16 rfl rfl)
theorem dX6_next_19 : decode cX6_next 19 = .ok (.bipush 32, 2) := dk_16 32 (dk_at dksX6_next_0 19 rfl rfl)
theorem dX6_next_21 : decode cX6_next 21 = .ok (.if_icmp .eq 16, 3) := dk_159 0 16 (dk_at dksX6_next_0 21 rfl rfl)
theorem dX6_next_24 : decode cX6_next 24 = .ok (.aload_n 0, 1) := dk_42 (dk_at dksX6_next_1 0 rfl rfl)
theorem dX6_next_25 : decode cX6_next 25 = .ok (.aload_n 0, 1) := dk_42 (dk_at dksX6_next_1 1 rfl rfl)
theorem dX6_next_26 : decode cX6_next 26 = .ok (.getfield 33, 3) := dk_180 0 33 (dk_at dksX6_next_1 2 rfl rfl)
theorem dX6_next_29 : decode cX6_next 29 = .ok (.invokevirtual 36, 3) := dk_182 0 36 (dk_at dksX6_next_1 5 rfl rfl)
theorem dX6_next_32 : decode cX6_next 32 = .ok (.bipush 10, 2) := dk_16 10 (dk_at dksX6_next_1 8 rfl rfl)
theorem dX6_next_34 : decode cX6_next 34 = .ok (.if_icmp .ne 16, 3) := dk_160 0 16 (dk_at dksX6_next_1 10 rfl rfl)
theorem dX6_next_37 : decode cX6_next 37 = .ok (.aload_n 0, 1) := dk_42 (dk_at dksX6_next_1 13 rfl rfl)
theorem dX6_next_38 : decode cX6_next 38 = .ok (.dup, 1) := dk_89 (dk_at dksX6_next_1 14 rfl rfl)
theorem dX6_next_39 : decode cX6_next 39 = .ok (.getfield 33, 3) := dk_180 0 33 (dk_at dksX6_next_1 15 rfl rfl)
theorem dX6_next_42 : decode cX6_next 42 = .ok (.iconst 1, 1) := dk_4 (dk_at dksX6_next_1 18 rfl rfl)
theorem dX6_next_43 : decode cX6_next 43 = .ok (.iadd, 1) := dk_96 (dk_at dksX6_next_1 19 rfl rfl)
theorem dX6_next_44 : decode cX6_next 44 = .ok (.putfield 33, 3) := dk_181 0 33 (dk_at dksX6_next_1 20 rfl rfl)
theorem dX6_next_47 : decode cX6_next 47 = .ok (.goto (-47), 3) := dk_167 255 209 (dk_at dksX6_next_2 0 rfl rfl)
theorem dX6_next_50 : decode cX6_next 50 = .ok (.aload_n 0, 1) := dk_42 (dk_at dksX6_next_2 3 rfl rfl)
theorem dX6_next_51 : decode cX6_next 51 = .ok (.aload_n 0, 1) := dk_42 (dk_at dksX6_next_2 4 rfl rfl)
theorem dX6_next_52 : decode cX6_next 52 = .ok (.getfield 33, 3) := dk_180 0 33 (dk_at dksX6_next_2 5 rfl rfl)
theorem dX6_next_55 : decode cX6_next 55 = .ok (.putfield 40, 3) := dk_181 0 40 (dk_at dksX6_next_2 8 rfl rfl)
theorem dX6_next_58 : decode cX6_next 58 = .ok (.aload_n 0, 1) := dk_42 (dk_at dksX6_next_2 11 rfl rfl)
theorem dX6_next_59 : decode cX6_next 59 = .ok (.getfield 18, 3) := dk_180 0 18 (dk_at dksX6_next_2 12 rfl rfl)
theorem dX6_next_62 : decode cX6_next 62 = .ok (.iconst 0, 1) := dk_3 (dk_at dksX6_next_2 15 rfl rfl)
theorem dX6_next_63 : decode cX6_next 63 = .ok (.invokevirtual 43, 3) := dk_182 0 43 (dk_at dksX6_next_2 16 rfl rfl)
theorem dX6_next_66 : decode cX6_next 66 = .ok (.aload_n 0, 1) := dk_42 (dk_at dksX6_next_2 19 rfl rfl)
theorem dX6_next_67 : decode cX6_next 67 = .ok (.aload_n 0, 1) := dk_42 (dk_at dksX6_next_2 20 rfl rfl)
theorem dX6_next_68 : decode cX6_next 68 = .ok (.getfield 33, 3) := dk_180 0 33 (dk_at dksX6_next_2 21 rfl rfl)
theorem dX6_next_71 : decode cX6_next 71 = .ok (.invokevirtual 36, 3) := dk_182 0 36 (dk_at dksX6_next_3 0 rfl rfl)
theorem dX6_next_74 : decode cX6_next 74 = .ok (.istore_n 1, 1) := dk_60 (dk_at dksX6_next_3 3 rfl rfl)
theorem dX6_next_75 : decode cX6_next 75 = .ok (.aload_n 0, 1) := dk_42 (dk_at dksX6_next_3 4 rfl rfl)
theorem dX6_next_76 : decode cX6_next 76 = .ok (.getfield 33, 3) := dk_180 0 33 (dk_at dksX6_next_3 5 rfl rfl)
theorem dX6_next_79 : decode cX6_next 79 = .ok (.aload_n 0, 1) := dk_42 (dk_at dksX6_next_3 8 rfl rfl)
theorem dX6_next_80 : decode cX6_next 80 = .ok (.getfield 22, 3) := dk_180 0 22 (dk_at dksX6_next_3 9 rfl rfl)
theorem dX6_next_83 : decode cX6_next 83 = .ok (.if_icmp .lt 13, 3) := dk_161 0 13 (dk_at dksX6_next_3 12 rfl rfl)
theorem dX6_next_86 : decode cX6_next 86 = .ok (.aload_n 0, 1) := dk_42 (dk_at dksX6_next_3 15 rfl rfl)
theorem dX6_next_87 : decode cX6_next 87 = .ok (.getstatic 47, 3) := dk_178 0 47 (dk_at dksX6_next_3 16 rfl rfl)
theorem dX6_next_90 : decode cX6_next 90 = .ok (.putfield 53, 3) := dk_181 0 53 (dk_at dksX6_next_3 19 rfl rfl)
theorem dX6_next_93 : decode cX6_next 93 = .ok (.goto 163, 3) := dk_167 0 163 (dk_at dksX6_next_4 0 rfl rfl)
theorem dX6_next_96 : decode cX6_next 96 = .ok (.iload_n 1, 1) := dk_27 (dk_at dksX6_next_4 3 rfl rfl)
theorem dX6_next_97 : decode cX6_next 97 = .ok (.invokestatic 56, 3) := dk_184 0 56 (dk_at dksX6_next_4 4 rfl rfl)
theorem dX6_next_100 : decode cX6_next 100 = .ok (.ifCond .eq 57, 3) := dk_153 0 57 (dk_at dksX6_next_4 7 rfl rfl)
theorem dX6_next_103 : decode cX6_next 103 = .ok (.aload_n 0, 1) := dk_42 (dk_at dksX6_next_4 10 rfl rfl)
theorem dX6_next_104 : decode cX6_next 104 = .ok (.aload_n 0, 1) := dk_42 (dk_at dksX6_next_4 11 rfl rfl)
theorem dX6_next_105 : decode cX6_next 105 = .ok (.getfield 33, 3) := dk_180 0 33 (dk_at dksX6_next_4 12 rfl rfl)
theorem dX6_next_108 : decode cX6_next 108 = .ok (.invokevirtual 36, 3) := dk_182 0 36 (dk_at dksX6_next_4 15 rfl rfl)
theorem dX6_next_111 : decode cX6_next 111 = .ok (.invokestatic 56, 3) := dk_184 0 56 (dk_at dksX6_next_4 18 rfl rfl)
theorem dX6_next_114 : decode cX6_next 114 = .ok (.ifCond .eq 33, 3) := dk_153 0 33 (dk_at dksX6_next_4 21 rfl rfl)
theorem dX6_next_117 : decode cX6_next 117 = .ok (.aload_n 0, 1) := dk_42 (dk_at dksX6_next_5 0 rfl rfl)
theorem dX6_next_118 : decode cX6_next 118 = .ok (.getfield 18, 3) := dk_180 0 18 (dk_at dksX6_next_5 1 rfl rfl)
theorem dX6_next_121 : decode cX6_next 121 = .ok (.aload_n 0, 1) := dk_42 (dk_at dksX6_next_5 4 rfl rfl)
theorem dX6_next_122 : decode cX6_next 122 = .ok (.aload_n 0, 1) := dk_42 (dk_at dksX6_next_5 5 rfl rfl)
theorem dX6_next_123 : decode cX6_next 123 = .ok (.getfield 33, 3) := dk_180 0 33 (dk_at dksX6_next_5 6 rfl rfl)
theorem dX6_next_126 : decode cX6_next 126 = .ok (.invokevirtual 36, 3) := dk_182 0 36 (dk_at dksX6_next_5 9 rfl rfl)
theorem dX6_next_129 : decode cX6_next 129 = .ok (.i2c, 1) := dk_146 (dk_at dksX6_next_5 12 rfl rfl)
theorem dX6_next_130 : decode cX6_next 130 = .ok (.invokevirtual 60, 3) := dk_182 0 60 (dk_at dksX6_next_5 13 rfl rfl)
theorem dX6_next_133 : decode cX6_next 133 = .ok (.pop, 1) := dk_87 (dk_at dksX6_next_5 16 rfl rfl)
theorem dX6_next_134 : decode cX6_next 134 = .ok (.aload_n 0, 1) := dk_42 (dk_at dksX6_next_5 17 rfl rfl)
theorem dX6_next_135 : decode cX6_next 135 = .ok (.dup, 1) := dk_89 (dk_at dksX6_next_5 18 rfl rfl)
theorem dX6_next_136 : decode cX6_next 136 = .ok (.getfield 33, 3) := dk_180 0 33 (dk_at dksX6_next_5 19 rfl rfl)
theorem dX6_next_139 : decode cX6_next 139 = .ok (.iconst 1, 1) := dk_4 (dk_at dksX6_next_5 22 rfl rfl)
theorem dX6_next_140 : decode cX6_next 140 = .ok (.iadd, 1) := dk_96 (dk_at dksX6_next_5 23 rfl rfl)
theorem dX6_next_141 : decode cX6_next 141 = .ok (.putfield 33, 3) := dk_181 0 33 (dk_at dksX6_next_6 0 rfl rfl)
theorem dX6_next_144 : decode cX6_next 144 = .ok (.goto (-41), 3) := dk_167 255 215 (dk_at dksX6_next_6 3 rfl rfl)
theorem dX6_next_147 : decode cX6_next 147 = .ok (.aload_n 0, 1) := dk_42 (dk_at dksX6_next_6 6 rfl rfl)
theorem dX6_next_148 : decode cX6_next 148 = .ok (.getstatic 64, 3) := dk_178 0 64 (dk_at dksX6_next_6 7 rfl rfl)
theorem dX6_next_151 : decode cX6_next 151 = .ok (.putfield 53, 3) := dk_181 0 53 (dk_at dksX6_next_6 10 rfl rfl)
theorem dX6_next_154 : decode cX6_next 154 = .ok (.goto 102, 3) := dk_167 0 102 (dk_at dksX6_next_6 13 rfl rfl)
theorem dX6_next_157 : decode cX6_next 157 = .ok (.iload_n 1, 1) := dk_27 (dk_at dksX6_next_6 16 rfl rfl)
theorem dX6_next_158 : decode cX6_next 158 = .ok (.invokestatic 67, 3) := dk_184 0 67 (dk_at dksX6_next_6 17 rfl rfl)
theorem dX6_next_161 : decode cX6_next 161 = .ok (.ifCond .eq 73, 3) := dk_153 0 73 (dk_at dksX6_next_6 20 rfl rfl)
theorem dX6_next_164 : decode cX6_next 164 = .ok (.aload_n 0, 1) := dk_42 (dk_at dksX6_next_6 23 rfl rfl)
theorem dX6_next_165 : decode cX6_next 165 = .ok (.iconst 0, 1) := dk_3 (dk_at dksX6_next_7 0 rfl rfl)
theorem dX6_next_166 : decode cX6_next 166 = .ok (.putfield 70, 3) := dk_181 0 70 (dk_at dksX6_next_7 1 rfl rfl)
theorem dX6_next_169 : decode cX6_next 169 = .ok (.aload_n 0, 1) := dk_42 (dk_at dksX6_next_7 4 rfl rfl)
theorem dX6_next_170 : decode cX6_next 170 = .ok (.aload_n 0, 1) := dk_42 (dk_at dksX6_next_7 5 rfl rfl)
theorem dX6_next_171 : decode cX6_next 171 = .ok (.getfield 33, 3) := dk_180 0 33 (dk_at dksX6_next_7 6 rfl rfl)
theorem dX6_next_174 : decode cX6_next 174 = .ok (.invokevirtual 36, 3) := dk_182 0 36 (dk_at dksX6_next_7 9 rfl rfl)
theorem dX6_next_177 : decode cX6_next 177 = .ok (.invokestatic 67, 3) := dk_184 0 67 (dk_at dksX6_next_7 12 rfl rfl)
theorem dX6_next_180 : decode cX6_next 180 = .ok (.ifCond .eq 44, 3) := dk_153 0 44 (dk_at dksX6_next_7 15 rfl rfl)
theorem dX6_next_183 : decode cX6_next 183 = .ok (.aload_n 0, 1) := dk_42 (dk_at dksX6_next_7 18 rfl rfl)
theorem dX6_next_184 : decode cX6_next 184 = .ok (.ldc 73, 2) := dk_18 73 (dk_at dksX6_next_7 19 rfl rfl)
theorem dX6_next_186 : decode cX6_next 186 = .ok (.bipush 10, 2) := dk_16 10 (dk_at dksX6_next_7 21 rfl rfl)
theorem dX6_next_188 : decode cX6_next 188 = .ok (.aload_n 0, 1) := dk_42 (dk_at dksX6_next_7 23 rfl rfl)
theorem dX6_next_189 : decode cX6_next 189 = .ok (.getfield 70, 3) := dk_180 0 70 (dk_at dksX6_next_8 0 rfl rfl)
theorem dX6_next_192 : decode cX6_next 192 = .ok (.imul, 1) := dk_104 (dk_at dksX6_next_8 3 rfl rfl)
theorem dX6_next_193 : decode cX6_next 193 = .ok (.aload_n 0, 1) := dk_42 (dk_at dksX6_next_8 4 rfl rfl)
theorem dX6_next_194 : decode cX6_next 194 = .ok (.aload_n 0, 1) := dk_42 (dk_at dksX6_next_8 5 rfl rfl)
theorem dX6_next_195 : decode cX6_next 195 = .ok (.getfield 33, 3) := dk_180 0 33 (dk_at dksX6_next_8 6 rfl rfl)
theorem dX6_next_198 : decode cX6_next 198 = .ok (.invokevirtual 36, 3) := dk_182 0 36 (dk_at dksX6_next_8 9 rfl rfl)
theorem dX6_next_201 : decode cX6_next 201 = .ok (.iadd, 1) := dk_96 (dk_at dksX6_next_8 12 rfl rfl)
theorem dX6_next_202 : decode cX6_next 202 = .ok (.bipush 48, 2) := dk_16 48 (dk_at dksX6_next_8 13 rfl rfl)
theorem dX6_next_204 : decode cX6_next 204 = .ok (.isub, 1) := dk_100 (dk_at dksX6_next_8 15 rfl rfl)
theorem dX6_next_205 : decode cX6_next 205 = .ok (.invokestatic 74, 3) := dk_184 0 74 (dk_at dksX6_next_8 16 rfl rfl)
theorem dX6_next_208 : decode cX6_next 208 = .ok (.putfield 70, 3) := dk_181 0 70 (dk_at dksX6_next_8 19 rfl rfl)
theorem dX6_next_211 : decode cX6_next 211 = .ok (.aload_n 0, 1) := dk_42 (dk_at dksX6_next_8 22 rfl rfl)
theorem dX6_next_212 : decode cX6_next 212 = .ok (.dup, 1) := dk_89 (dk_at dksX6_next_8 23 rfl rfl)
theorem dX6_next_213 : decode cX6_next 213 = .ok (.getfield 33, 3) := dk_180 0 33 (dk_at dksX6_next_9 0 rfl rfl)
theorem dX6_next_216 : decode cX6_next 216 = .ok (.iconst 1, 1) := dk_4 (dk_at dksX6_next_9 3 rfl rfl)
theorem dX6_next_217 : decode cX6_next 217 = .ok (.iadd, 1) := dk_96 (dk_at dksX6_next_9 4 rfl rfl)
theorem dX6_next_218 : decode cX6_next 218 = .ok (.putfield 33, 3) := dk_181 0 33 (dk_at dksX6_next_9 5 rfl rfl)
theorem dX6_next_221 : decode cX6_next 221 = .ok (.goto (-52), 3) := dk_167 255 204 (dk_at dksX6_next_9 8 rfl rfl)
theorem dX6_next_224 : decode cX6_next 224 = .ok (.aload_n 0, 1) := dk_42 (dk_at dksX6_next_9 11 rfl rfl)
theorem dX6_next_225 : decode cX6_next 225 = .ok (.getstatic 80, 3) := dk_178 0 80 (dk_at dksX6_next_9 12 rfl rfl)
theorem dX6_next_228 : decode cX6_next 228 = .ok (.putfield 53, 3) := dk_181 0 53 (dk_at dksX6_next_9 15 rfl rfl)
theorem dX6_next_231 : decode cX6_next 231 = .ok (.goto 25, 3) := dk_167 0 25 (dk_at dksX6_next_9 18 rfl rfl)
theorem dX6_next_234 : decode cX6_next 234 = .ok (.aload_n 0, 1) := dk_42 (dk_at dksX6_next_9 21 rfl rfl)
theorem dX6_next_235 : decode cX6_next 235 = .ok (.iload_n 1, 1) := dk_27 (dk_at dksX6_next_9 22 rfl rfl)
theorem dX6_next_236 : decode cX6_next 236 = .ok (.putfield 83, 3) := dk_181 0 83 (dk_at dksX6_next_10 0 rfl rfl)
theorem dX6_next_239 : decode cX6_next 239 = .ok (.aload_n 0, 1) := dk_42 (dk_at dksX6_next_10 3 rfl rfl)
theorem dX6_next_240 : decode cX6_next 240 = .ok (.getstatic 86, 3) := dk_178 0 86 (dk_at dksX6_next_10 4 rfl rfl)
theorem dX6_next_243 : decode cX6_next 243 = .ok (.putfield 53, 3) := dk_181 0 53 (dk_at dksX6_next_10 7 rfl rfl)
theorem dX6_next_246 : decode cX6_next 246 = .ok (.aload_n 0, 1) := dk_42 (dk_at dksX6_next_10 10 rfl rfl)
theorem dX6_next_247 : decode cX6_next 247 = .ok (.dup, 1) := dk_89 (dk_at dksX6_next_10 11 rfl rfl)
theorem dX6_next_248 : decode cX6_next 248 = .ok (.getfield 33, 3) := dk_180 0 33 (dk_at dksX6_next_10 12 rfl rfl)
theorem dX6_next_251 : decode cX6_next 251 = .ok (.iconst 1, 1) := dk_4 (dk_at dksX6_next_10 15 rfl rfl)
theorem dX6_next_252 : decode cX6_next 252 = .ok (.iadd, 1) := dk_96 (dk_at dksX6_next_10 16 rfl rfl)
theorem dX6_next_253 : decode cX6_next 253 = .ok (.putfield 33, 3) := dk_181 0 33 (dk_at dksX6_next_10 17 rfl rfl)
theorem dX6_next_256 : decode cX6_next 256 = .ok (.return_, 1) := dk_177 (dk_at dksX6_next_10 20 rfl rfl)
def dkwX6_byteAt_1 : List UInt8 := [3, 172]
abbrev dktX6_byteAt_1 : List UInt8 := dkwX6_byteAt_1 ++ []
def dkwX6_byteAt_0 : List UInt8 := [27, 42, 180, 0, 22, 162, 0, 19, 42, 180, 0, 3, 180, 0, 29, 27, 51, 17, 0, 255, 126, 167, 0, 4]
abbrev dktX6_byteAt_0 : List UInt8 := dkwX6_byteAt_0 ++ dktX6_byteAt_1
theorem dksX6_byteAt_0 : cX6_byteAt.data.toList.drop 0 = dktX6_byteAt_0 := by decide +kernel
theorem dksX6_byteAt_1 : cX6_byteAt.data.toList.drop 24 = dktX6_byteAt_1 := dk_seg dksX6_byteAt_0 24 rfl rfl
theorem dX6_byteAt_0 : decode cX6_byteAt 0 = .ok (.iload_n 1, 1) := dk_27 (dk_at dksX6_byteAt_0 0 rfl rfl)
theorem dX6_byteAt_1 : decode cX6_byteAt 1 = .ok (.aload_n 0, 1) := dk_42 (dk_at dksX6_byteAt_0 1 rfl rfl)
theorem dX6_byteAt_2 : decode cX6_byteAt 2 = .ok (.getfield 22, 3) := dk_180 0 22 (dk_at dksX6_byteAt_0 2 rfl rfl)
theorem dX6_byteAt_5 : decode cX6_byteAt 5 = .ok (.if_icmp .ge 19, 3) := dk_162 0 19 (dk_at dksX6_byteAt_0 5 rfl rfl)
theorem dX6_byteAt_8 : decode cX6_byteAt 8 = .ok (.aload_n 0, 1) := dk_42 (dk_at dksX6_byteAt_0 8 rfl rfl)
theorem dX6_byteAt_9 : decode cX6_byteAt 9 = .ok (.getfield 3, 3) := dk_180 0 3 (dk_at dksX6_byteAt_0 9 rfl rfl)
theorem dX6_byteAt_12 : decode cX6_byteAt 12 = .ok (.getfield 29, 3) := dk_180 0 29 (dk_at dksX6_byteAt_0 12 rfl rfl)
theorem dX6_byteAt_15 : decode cX6_byteAt 15 = .ok (.iload_n 1, 1) := dk_27 (dk_at dksX6_byteAt_0 15 rfl rfl)
theorem dX6_byteAt_16 : decode cX6_byteAt 16 = .ok (.baload, 1) := dk_51 (dk_at dksX6_byteAt_0 16 rfl rfl)
theorem dX6_byteAt_17 : decode cX6_byteAt 17 = .ok (.sipush 255, 3) := dk_17 0 255 (dk_at dksX6_byteAt_0 17 rfl rfl)
theorem dX6_byteAt_20 : decode cX6_byteAt 20 = .ok (.iand, 1) := dk_126 (dk_at dksX6_byteAt_0 20 rfl rfl)
theorem dX6_byteAt_21 : decode cX6_byteAt 21 = .ok (.goto 4, 3) := dk_167 0 4 (dk_at dksX6_byteAt_0 21 rfl rfl)
theorem dX6_byteAt_24 : decode cX6_byteAt 24 = .ok (.iconst 0, 1) := dk_3 (dk_at dksX6_byteAt_1 0 rfl rfl)
theorem dX6_byteAt_25 : decode cX6_byteAt 25 = .ok (.ireturn, 1) := dk_172 (dk_at dksX6_byteAt_1 1 rfl rfl)
def dkwX6_isLetter_0 : List UInt8 := [26, 16, 97, 161, 0, 13, 26, 16, 122, 163, 0, 7, 4, 167, 0, 4, 3, 172]
abbrev dktX6_isLetter_0 : List UInt8 := dkwX6_isLetter_0 ++ []
theorem dksX6_isLetter_0 : cX6_isLetter.data.toList.drop 0 = dktX6_isLetter_0 := by decide +kernel
theorem dX6_isLetter_0 : decode cX6_isLetter 0 = .ok (.iload_n 0, 1) := dk_26 (dk_at dksX6_isLetter_0 0 rfl rfl)
theorem dX6_isLetter_1 : decode cX6_isLetter 1 = .ok (.bipush 97, 2) := dk_16 97 (dk_at dksX6_isLetter_0 1 rfl rfl)
theorem dX6_isLetter_3 : decode cX6_isLetter 3 = .ok (.if_icmp .lt 13, 3) := dk_161 0 13 (dk_at dksX6_isLetter_0 3 rfl rfl)
theorem dX6_isLetter_6 : decode cX6_isLetter 6 = .ok (.iload_n 0, 1) := dk_26 (dk_at dksX6_isLetter_0 6 rfl rfl)
theorem dX6_isLetter_7 : decode cX6_isLetter 7 = .ok (.bipush 122, 2) := dk_16 122 (dk_at dksX6_isLetter_0 7 rfl rfl)
theorem dX6_isLetter_9 : decode cX6_isLetter 9 = .ok (.if_icmp .gt 7, 3) := dk_163 0 7 (dk_at dksX6_isLetter_0 9 rfl rfl)
theorem dX6_isLetter_12 : decode cX6_isLetter 12 = .ok (.iconst 1, 1) := dk_4 (dk_at dksX6_isLetter_0 12 rfl rfl)
theorem dX6_isLetter_13 : decode cX6_isLetter 13 = .ok (.goto 4, 3) := dk_167 0 4 (dk_at dksX6_isLetter_0 13 rfl rfl)
theorem dX6_isLetter_16 : decode cX6_isLetter 16 = .ok (.iconst 0, 1) := dk_3 (dk_at dksX6_isLetter_0 16 rfl rfl)
theorem dX6_isLetter_17 : decode cX6_isLetter 17 = .ok (.ireturn, 1) := dk_172 (dk_at dksX6_isLetter_0 17 rfl rfl)
def dkwX6_isDigit_0 : List UInt8 := [26, 16, 48, 161, 0, 13, 26, 16, 57, 163, 0, 7, 4, 167, 0, 4, 3, 172]
abbrev dktX6_isDigit_0 : List UInt8 := dkwX6_isDigit_0 ++ []
theorem dksX6_isDigit_0 : cX6_isDigit.data.toList.drop 0 = dktX6_isDigit_0 := by decide +kernel
theorem dX6_isDigit_0 : decode cX6_isDigit 0 = .ok (.iload_n 0, 1) := dk_26 (dk_at dksX6_isDigit_0 0 rfl rfl)
theorem dX6_isDigit_1 : decode cX6_isDigit 1 = .ok (.bipush 48, 2) := dk_16 48 (dk_at dksX6_isDigit_0 1 rfl rfl)
theorem dX6_isDigit_3 : decode cX6_isDigit 3 = .ok (.if_icmp .lt 13, 3) := dk_161 0 13 (dk_at dksX6_isDigit_0 3 rfl rfl)
theorem dX6_isDigit_6 : decode cX6_isDigit 6 = .ok (.iload_n 0, 1) := dk_26 (dk_at dksX6_isDigit_0 6 rfl rfl)
theorem dX6_isDigit_7 : decode cX6_isDigit 7 = .ok (.bipush 57, 2) := dk_16 57 (dk_at dksX6_isDigit_0 7 rfl rfl)
theorem dX6_isDigit_9 : decode cX6_isDigit 9 = .ok (.if_icmp .gt 7, 3) := dk_163 0 7 (dk_at dksX6_isDigit_0 9 rfl rfl)
theorem dX6_isDigit_12 : decode cX6_isDigit 12 = .ok (.iconst 1, 1) := dk_4 (dk_at dksX6_isDigit_0 12 rfl rfl)
theorem dX6_isDigit_13 : decode cX6_isDigit 13 = .ok (.goto 4, 3) := dk_167 0 4 (dk_at dksX6_isDigit_0 13 rfl rfl)
theorem dX6_isDigit_16 : decode cX6_isDigit 16 = .ok (.iconst 0, 1) := dk_3 (dk_at dksX6_isDigit_0 16 rfl rfl)
theorem dX6_isDigit_17 : decode cX6_isDigit 17 = .ok (.ireturn, 1) := dk_172 (dk_at dksX6_isDigit_0 17 rfl rfl)
def dkwX6_accept_0 : List UInt8 := [42, 182, 0, 100, 43, 182, 0, 103, 61, 28, 153, 0, 7, 42, 182, 0, 26, 28, 172]
abbrev dktX6_accept_0 : List UInt8 := dkwX6_accept_0 ++ []
theorem dksX6_accept_0 : cX6_accept.data.toList.drop 0 = dktX6_accept_0 := by decide +kernel
theorem dX6_accept_0 : decode cX6_accept 0 = .ok (.aload_n 0, 1) := dk_42 (dk_at dksX6_accept_0 0 rfl rfl)
theorem dX6_accept_1 : decode cX6_accept 1 = .ok (.invokevirtual 100, 3) := dk_182 0 100 (dk_at dksX6_accept_0 1 rfl rfl)
theorem dX6_accept_4 : decode cX6_accept 4 = .ok (.aload_n 1, 1) := dk_43 (dk_at dksX6_accept_0 4 rfl rfl)
theorem dX6_accept_5 : decode cX6_accept 5 = .ok (.invokevirtual 103, 3) := dk_182 0 103 (dk_at dksX6_accept_0 5 rfl rfl)
theorem dX6_accept_8 : decode cX6_accept 8 = .ok (.istore_n 2, 1) := dk_61 (dk_at dksX6_accept_0 8 rfl rfl)
theorem dX6_accept_9 : decode cX6_accept 9 = .ok (.iload_n 2, 1) := dk_28 (dk_at dksX6_accept_0 9 rfl rfl)
theorem dX6_accept_10 : decode cX6_accept 10 = .ok (.ifCond .eq 7, 3) := dk_153 0 7 (dk_at dksX6_accept_0 10 rfl rfl)
theorem dX6_accept_13 : decode cX6_accept 13 = .ok (.aload_n 0, 1) := dk_42 (dk_at dksX6_accept_0 13 rfl rfl)
theorem dX6_accept_14 : decode cX6_accept 14 = .ok (.invokevirtual 26, 3) := dk_182 0 26 (dk_at dksX6_accept_0 14 rfl rfl)
theorem dX6_accept_17 : decode cX6_accept 17 = .ok (.iload_n 2, 1) := dk_28 (dk_at dksX6_accept_0 17 rfl rfl)
theorem dX6_accept_18 : decode cX6_accept 18 = .ok (.ireturn, 1) := dk_172 (dk_at dksX6_accept_0 18 rfl rfl)
def dkwX6_keyword_0 : List UInt8 := [42, 180, 0, 53, 178, 0, 64, 166, 0, 13, 42, 180, 0, 18, 182, 0, 94, 167, 0, 5, 18, 98, 176]
abbrev dktX6_keyword_0 : List UInt8 := dkwX6_keyword_0 ++ []
theorem dksX6_keyword_0 : cX6_keyword.data.toList.drop 0 = dktX6_keyword_0 := by decide +kernel
theorem dX6_keyword_0 : decode cX6_keyword 0 = .ok (.aload_n 0, 1) := dk_42 (dk_at dksX6_keyword_0 0 rfl rfl)
theorem dX6_keyword_1 : decode cX6_keyword 1 = .ok (.getfield 53, 3) := dk_180 0 53 (dk_at dksX6_keyword_0 1 rfl rfl)
theorem dX6_keyword_4 : decode cX6_keyword 4 = .ok (.getstatic 64, 3) := dk_178 0 64 (dk_at dksX6_keyword_0 4 rfl rfl)
theorem dX6_keyword_7 : decode cX6_keyword 7 = .ok (.if_acmp .ne 13, 3) := dk_166 0 13 (dk_at dksX6_keyword_0 7 rfl rfl)
theorem dX6_keyword_10 : decode cX6_keyword 10 = .ok (.aload_n 0, 1) := dk_42 (dk_at dksX6_keyword_0 10 rfl rfl)
theorem dX6_keyword_11 : decode cX6_keyword 11 = .ok (.getfield 18, 3) := dk_180 0 18 (dk_at dksX6_keyword_0 11 rfl rfl)
theorem dX6_keyword_14 : decode cX6_keyword 14 = .ok (.invokevirtual 94, 3) := dk_182 0 94 (dk_at dksX6_keyword_0 14 rfl rfl)
theorem dX6_keyword_17 : decode cX6_keyword 17 = .ok (.goto 5, 3) := dk_167 0 5 (dk_at dksX6_keyword_0 17 rfl rfl)
theorem dX6_keyword_20 : decode cX6_keyword 20 = .ok (.ldc 98, 2) := dk_18 98 (dk_at dksX6_keyword_0 20 rfl rfl)
theorem dX6_keyword_22 : decode cX6_keyword 22 = .ok (.areturn, 1) := dk_176 (dk_at dksX6_keyword_0 22 rfl rfl)
def dkwX6_check_0 : List UInt8 := [27, 154, 0, 17, 187, 0, 89, 89, 28, 42, 180, 0, 40, 1, 183, 0, 91, 191, 177]
abbrev dktX6_check_0 : List UInt8 := dkwX6_check_0 ++ []
theorem dksX6_check_0 : cX6_check.data.toList.drop 0 = dktX6_check_0 := by decide +kernel
theorem dX6_check_0 : decode cX6_check 0 = .ok (.iload_n 1, 1) := dk_27 (dk_at dksX6_check_0 0 rfl rfl)
theorem dX6_check_1 : decode cX6_check 1 = .ok (.ifCond .ne 17, 3) := dk_154 0 17 (dk_at dksX6_check_0 1 rfl rfl)
theorem dX6_check_4 : decode cX6_check 4 = .ok (.new 89, 3) := dk_187 0 89 (dk_at dksX6_check_0 4 rfl rfl)
theorem dX6_check_7 : decode cX6_check 7 = .ok (.dup, 1) := dk_89 (dk_at dksX6_check_0 7 rfl rfl)
theorem dX6_check_8 : decode cX6_check 8 = .ok (.iload_n 2, 1) := dk_28 (dk_at dksX6_check_0 8 rfl rfl)
theorem dX6_check_9 : decode cX6_check 9 = .ok (.aload_n 0, 1) := dk_42 (dk_at dksX6_check_0 9 rfl rfl)
theorem dX6_check_10 : decode cX6_check 10 = .ok (.getfield 40, 3) := dk_180 0 40 (dk_at dksX6_check_0 10 rfl rfl)
theorem dX6_check_13 : decode cX6_check 13 = .ok (.aconst_null, 1) := dk_1 (dk_at dksX6_check_0 13 rfl rfl)
theorem dX6_check_14 : decode cX6_check 14 = .ok (.invokespecial 91, 3) := dk_183 0 91 (dk_at dksX6_check_0 14 rfl rfl)
theorem dX6_check_17 : decode cX6_check 17 = .ok (.athrow, 1) := dk_191 (dk_at dksX6_check_0 17 rfl rfl)
theorem dX6_check_18 : decode cX6_check 18 = .ok (.return_, 1) := dk_177 (dk_at dksX6_check_0 18 rfl rfl)
def dkwX6_number_0 : List UInt8 := [42, 27, 28, 182, 0, 116, 62, 42, 182, 0, 26, 29, 172]
abbrev dktX6_number_0 : List UInt8 := dkwX6_number_0 ++ []
theorem dksX6_number_0 : cX6_number.data.toList.drop 0 = dktX6_number_0 := by decide +kernel
theorem dX6_number_0 : decode cX6_number 0 = .ok (.aload_n 0, 1) := dk_42 (dk_at dksX6_number_0 0 rfl rfl)
theorem dX6_number_1 : decode cX6_number 1 = .ok (.iload_n 1, 1) := dk_27 (dk_at dksX6_number_0 1 rfl rfl)
theorem dX6_number_2 : decode cX6_number 2 = .ok (.iload_n 2, 1) := dk_28 (dk_at dksX6_number_0 2 rfl rfl)
theorem dX6_number_3 : decode cX6_number 3 = .ok (.invokevirtual 116, 3) := dk_182 0 116 (dk_at dksX6_number_0 3 rfl rfl)
theorem dX6_number_6 : decode cX6_number 6 = .ok (.istore_n 3, 1) := dk_62 (dk_at dksX6_number_0 6 rfl rfl)
theorem dX6_number_7 : decode cX6_number 7 = .ok (.aload_n 0, 1) := dk_42 (dk_at dksX6_number_0 7 rfl rfl)
theorem dX6_number_8 : decode cX6_number 8 = .ok (.invokevirtual 26, 3) := dk_182 0 26 (dk_at dksX6_number_0 8 rfl rfl)
theorem dX6_number_11 : decode cX6_number 11 = .ok (.iload_n 3, 1) := dk_29 (dk_at dksX6_number_0 11 rfl rfl)
theorem dX6_number_12 : decode cX6_number 12 = .ok (.ireturn, 1) := dk_172 (dk_at dksX6_number_0 12 rfl rfl)
def dkwX6_peek_2 : List UInt8 := [42, 180, 0, 70, 172]
abbrev dktX6_peek_2 : List UInt8 := dkwX6_peek_2 ++ []
def dkwX6_peek_1 : List UInt8 := [180, 0, 70, 27, 161, 0, 15, 42, 180, 0, 70, 28, 163, 0, 7, 4, 167, 0, 4, 3, 5, 182, 0, 112]
abbrev dktX6_peek_1 : List UInt8 := dkwX6_peek_1 ++ dktX6_peek_2
def dkwX6_peek_0 : List UInt8 := [42, 42, 180, 0, 53, 178, 0, 80, 166, 0, 7, 4, 167, 0, 4, 3, 4, 182, 0, 112, 42, 42]
abbrev dktX6_peek_0 : List UInt8 := dkwX6_peek_0 ++ dktX6_peek_1
theorem dksX6_peek_0 : cX6_peek.data.toList.drop 0 = dktX6_peek_0 := by decide +kernel
theorem dksX6_peek_1 : cX6_peek.data.toList.drop 22 = dktX6_peek_1 := dk_seg dksX6_peek_0 22 rfl rfl
theorem dksX6_peek_2 : cX6_peek.data.toList.drop 46 = dktX6_peek_2 := dk_seg dksX6_peek_1 24 rfl rfl
theorem dX6_peek_0 : decode cX6_peek 0 = .ok (.aload_n 0, 1) := dk_42 (dk_at dksX6_peek_0 0 rfl rfl)
theorem dX6_peek_1 : decode cX6_peek 1 = .ok (.aload_n 0, 1) := dk_42 (dk_at dksX6_peek_0 1 rfl rfl)
theorem dX6_peek_2 : decode cX6_peek 2 = .ok (.getfield 53, 3) := dk_180 0 53 (dk_at dksX6_peek_0 2 rfl rfl)
theorem dX6_peek_5 : decode cX6_peek 5 = .ok (.getstatic 80, 3) := dk_178 0 80 (dk_at dksX6_peek_0 5 rfl rfl)
theorem dX6_peek_8 : decode cX6_peek 8 = .ok (.if_acmp .ne 7, 3) := dk_166 0 7 (dk_at dksX6_peek_0 8 rfl rfl)
theorem dX6_peek_11 : decode cX6_peek 11 = .ok (.iconst 1, 1) := dk_4 (dk_at dksX6_peek_0 11 rfl rfl)
theorem dX6_peek_12 : decode cX6_peek 12 = .ok (.goto 4, 3) := dk_167 0 4 (dk_at dksX6_peek_0 12 rfl rfl)
theorem dX6_peek_15 : decode cX6_peek 15 = .ok (.iconst 0, 1) := dk_3 (dk_at dksX6_peek_0 15 rfl rfl)
theorem dX6_peek_16 : decode cX6_peek 16 = .ok (.iconst 1, 1) := dk_4 (dk_at dksX6_peek_0 16 rfl rfl)
theorem dX6_peek_17 : decode cX6_peek 17 = .ok (.invokevirtual 112, 3) := dk_182 0 112 (dk_at dksX6_peek_0 17 rfl rfl)
theorem dX6_peek_20 : decode cX6_peek 20 = .ok (.aload_n 0, 1) := dk_42 (dk_at dksX6_peek_0 20 rfl rfl)
theorem dX6_peek_21 : decode cX6_peek 21 = .ok (.aload_n 0, 1) := dk_42 (dk_at dksX6_peek_0 21 rfl rfl)
theorem dX6_peek_22 : decode cX6_peek 22 = .ok (.getfield 70, 3) := dk_180 0 70 (dk_at dksX6_peek_1 0 rfl rfl)
theorem dX6_peek_25 : decode cX6_peek 25 = .ok (.iload_n 1, 1) := dk_27 (dk_at dksX6_peek_1 3 rfl rfl)
theorem dX6_peek_26 : decode cX6_peek 26 = .ok (.if_icmp .lt 15, 3) := dk_161 0 15 (dk_at dksX6_peek_1 4 rfl rfl)
theorem dX6_peek_29 : decode cX6_peek 29 = .ok (.aload_n 0, 1) := dk_42 (dk_at dksX6_peek_1 7 rfl rfl)
theorem dX6_peek_30 : decode cX6_peek 30 = .ok (.getfield 70, 3) := dk_180 0 70 (dk_at dksX6_peek_1 8 rfl rfl)
theorem dX6_peek_33 : decode cX6_peek 33 = .ok (.iload_n 2, 1) := dk_28 (dk_at dksX6_peek_1 11 rfl rfl)
theorem dX6_peek_34 : decode cX6_peek 34 = .ok (.if_icmp .gt 7, 3) := dk_163 0 7 (dk_at dksX6_peek_1 12 rfl rfl)
theorem dX6_peek_37 : decode cX6_peek 37 = .ok (.iconst 1, 1) := dk_4 (dk_at dksX6_peek_1 15 rfl rfl)
theorem dX6_peek_38 : decode cX6_peek 38 = .ok (.goto 4, 3) := dk_167 0 4 (dk_at dksX6_peek_1 16 rfl rfl)
theorem dX6_peek_41 : decode cX6_peek 41 = .ok (.iconst 0, 1) := dk_3 (dk_at dksX6_peek_1 19 rfl rfl)
theorem dX6_peek_42 : decode cX6_peek 42 = .ok (.iconst 2, 1) := dk_5 (dk_at dksX6_peek_1 20 rfl rfl)
theorem dX6_peek_43 : decode cX6_peek 43 = .ok (.invokevirtual 112, 3) := dk_182 0 112 (dk_at dksX6_peek_1 21 rfl rfl)
theorem dX6_peek_46 : decode cX6_peek 46 = .ok (.aload_n 0, 1) := dk_42 (dk_at dksX6_peek_2 0 rfl rfl)
theorem dX6_peek_47 : decode cX6_peek 47 = .ok (.getfield 70, 3) := dk_180 0 70 (dk_at dksX6_peek_2 1 rfl rfl)
theorem dX6_peek_50 : decode cX6_peek 50 = .ok (.ireturn, 1) := dk_172 (dk_at dksX6_peek_2 4 rfl rfl)
def dkwX6_expectSign_0 : List UInt8 := [42, 42, 27, 182, 0, 109, 4, 182, 0, 112, 42, 182, 0, 26, 177]
abbrev dktX6_expectSign_0 : List UInt8 := dkwX6_expectSign_0 ++ []
theorem dksX6_expectSign_0 : cX6_expectSign.data.toList.drop 0 = dktX6_expectSign_0 := by decide +kernel
theorem dX6_expectSign_0 : decode cX6_expectSign 0 = .ok (.aload_n 0, 1) := dk_42 (dk_at dksX6_expectSign_0 0 rfl rfl)
theorem dX6_expectSign_1 : decode cX6_expectSign 1 = .ok (.aload_n 0, 1) := dk_42 (dk_at dksX6_expectSign_0 1 rfl rfl)
theorem dX6_expectSign_2 : decode cX6_expectSign 2 = .ok (.iload_n 1, 1) := dk_27 (dk_at dksX6_expectSign_0 2 rfl rfl)
theorem dX6_expectSign_3 : decode cX6_expectSign 3 = .ok (.invokevirtual 109, 3) := dk_182 0 109 (dk_at dksX6_expectSign_0 3 rfl rfl)
theorem dX6_expectSign_6 : decode cX6_expectSign 6 = .ok (.iconst 1, 1) := dk_4 (dk_at dksX6_expectSign_0 6 rfl rfl)
theorem dX6_expectSign_7 : decode cX6_expectSign 7 = .ok (.invokevirtual 112, 3) := dk_182 0 112 (dk_at dksX6_expectSign_0 7 rfl rfl)
theorem dX6_expectSign_10 : decode cX6_expectSign 10 = .ok (.aload_n 0, 1) := dk_42 (dk_at dksX6_expectSign_0 10 rfl rfl)
theorem dX6_expectSign_11 : decode cX6_expectSign 11 = .ok (.invokevirtual 26, 3) := dk_182 0 26 (dk_at dksX6_expectSign_0 11 rfl rfl)
theorem dX6_expectSign_14 : decode cX6_expectSign 14 = .ok (.return_, 1) := dk_177 (dk_at dksX6_expectSign_0 14 rfl rfl)
def dkwX6_isSign_0 : List UInt8 := [42, 180, 0, 53, 178, 0, 86, 166, 0, 15, 42, 180, 0, 83, 27, 160, 0, 7, 4, 167, 0, 4, 3, 172]
abbrev dktX6_isSign_0 : List UInt8 := dkwX6_isSign_0 ++ []
theorem dksX6_isSign_0 : cX6_isSign.data.toList.drop 0 = dktX6_isSign_0 := by decide +kernel
theorem dX6_isSign_0 : decode cX6_isSign 0 = .ok (.aload_n 0, 1) := dk_42 (dk_at dksX6_isSign_0 0 rfl rfl)
theorem dX6_isSign_1 : decode cX6_isSign 1 = .ok (.getfield 53, 3) := dk_180 0 53 (dk_at dksX6_isSign_0 1 rfl rfl)
theorem dX6_isSign_4 : decode cX6_isSign 4 = .ok (.getstatic 86, 3) := dk_178 0 86 (dk_at dksX6_isSign_0 4 rfl rfl)
theorem dX6_isSign_7 : decode cX6_isSign 7 = .ok (.if_acmp .ne 15, 3) := dk_166 0 15 (dk_at dksX6_isSign_0 7 rfl rfl)
theorem dX6_isSign_10 : decode cX6_isSign 10 = .ok (.aload_n 0, 1) := dk_42 (dk_at dksX6_isSign_0 10 rfl rfl)
theorem dX6_isSign_11 : decode cX6_isSign 11 = .ok (.getfield 83, 3) := dk_180 0 83 (dk_at dksX6_isSign_0 11 rfl rfl)
theorem dX6_isSign_14 : decode cX6_isSign 14 = .ok (.iload_n 1, 1) := dk_27 (dk_at dksX6_isSign_0 14 rfl rfl)
theorem dX6_isSign_15 : decode cX6_isSign 15 = .ok (.if_icmp .ne 7, 3) := dk_160 0 7 (dk_at dksX6_isSign_0 15 rfl rfl)
theorem dX6_isSign_18 : decode cX6_isSign 18 = .ok (.iconst 1, 1) := dk_4 (dk_at dksX6_isSign_0 18 rfl rfl)
theorem dX6_isSign_19 : decode cX6_isSign 19 = .ok (.goto 4, 3) := dk_167 0 4 (dk_at dksX6_isSign_0 19 rfl rfl)
theorem dX6_isSign_22 : decode cX6_isSign 22 = .ok (.iconst 0, 1) := dk_3 (dk_at dksX6_isSign_0 22 rfl rfl)
theorem dX6_isSign_23 : decode cX6_isSign 23 = .ok (.ireturn, 1) := dk_172 (dk_at dksX6_isSign_0 23 rfl rfl)
def dkwX6_relationSign_2 : List UInt8 := [27, 172]
abbrev dktX6_relationSign_2 : List UInt8 := dkwX6_relationSign_2 ++ []
def dkwX6_relationSign_1 : List UInt8 := [182, 0, 109, 153, 0, 7, 4, 167, 0, 4, 3, 4, 182, 0, 112, 42, 180, 0, 83, 60, 42, 182, 0, 26]
abbrev dktX6_relationSign_1 : List UInt8 := dkwX6_relationSign_1 ++ dktX6_relationSign_2
def dkwX6_relationSign_0 : List UInt8 := [42, 42, 16, 60, 182, 0, 109, 154, 0, 21, 42, 16, 61, 182, 0, 109, 154, 0, 12, 42, 16, 62]
abbrev dktX6_relationSign_0 : List UInt8 := dkwX6_relationSign_0 ++ dktX6_relationSign_1
theorem dksX6_relationSign_0 : cX6_relationSign.data.toList.drop 0 = dktX6_relationSign_0 := by decide +kernel
theorem dksX6_relationSign_1 : cX6_relationSign.data.toList.drop 22 = dktX6_relationSign_1 := dk_seg dksX6_relationSign_0 22 rfl rfl
theorem dksX6_relationSign_2 : cX6_relationSign.data.toList.drop 46 = dktX6_relationSign_2 := dk_seg dksX6_relationSign_1 24 rfl rfl
theorem dX6_relationSign_0 : decode cX6_relationSign 0 = .ok (.aload_n 0, 1) := dk_42 (dk_at dksX6_relationSign_0 0 rfl rfl)
theorem dX6_relationSign_1 : decode cX6_relationSign 1 = .ok (.aload_n 0, 1) := dk_42 (dk_at dksX6_relationSign_0 1 rfl rfl)
theorem dX6_relationSign_2 : decode cX6_relationSign 2 = .ok (.bipush 60, 2) := dk_16 60 (dk_at dksX6_relationSign_0 2 rfl rfl)
theorem dX6_relationSign_4 : decode cX6_relationSign 4 = .ok (.invokevirtual 109, 3) := dk_182 0 109 (dk_at dksX6_relationSign_0 4 rfl rfl)
theorem dX6_relationSign_7 : decode cX6_relationSign 7 = .ok (.ifCond .ne 21, 3) := dk_154 0 21 (dk_at dksX6_relationSign_0 7 rfl rfl)
theorem dX6_relationSign_10 : decode cX6_relationSign 10 = .ok (.aload_n 0, 1) := dk_42 (dk_at dksX6_relationSign_0 10 rfl rfl)
theorem dX6_relationSign_11 : decode cX6_relationSign 11 = .ok (.bipush 61, 2) := dk_16 61 (dk_at dksX6_relationSign_0 11 rfl rfl)
theorem dX6_relationSign_13 : decode cX6_relationSign 13 = .ok (.invokevirtual 109, 3) := dk_182 0 109 (dk_at dksX6_relationSign_0 13 rfl rfl)
theorem dX6_relationSign_16 : decode cX6_relationSign 16 = .ok (.ifCond .ne 12, 3) := dk_154 0 12 (dk_at dksX6_relationSign_0 16 rfl rfl)
theorem dX6_relationSign_19 : decode cX6_relationSign 19 = .ok (.aload_n 0, 1) := dk_42 (dk_at dksX6_relationSign_0 19 rfl rfl)
theorem dX6_relationSign_20 : decode cX6_relationSign 20 = .ok (.bipush 62, 2) := dk_16 62 (dk_at dksX6_relationSign_0 20 rfl rfl)
theorem dX6_relationSign_22 : decode cX6_relationSign 22 = .ok (.invokevirtual 109, 3) := dk_182 0 109 (dk_at dksX6_relationSign_1 0 rfl rfl)
theorem dX6_relationSign_25 : decode cX6_relationSign 25 = .ok (.ifCond .eq 7, 3) := dk_153 0 7 (dk_at dksX6_relationSign_1 3 rfl rfl)
theorem dX6_relationSign_28 : decode cX6_relationSign 28 = .ok (.iconst 1, 1) := dk_4 (dk_at dksX6_relationSign_1 6 rfl rfl)
theorem dX6_relationSign_29 : decode cX6_relationSign 29 = .ok (.goto 4, 3) := dk_167 0 4 (dk_at dksX6_relationSign_1 7 rfl rfl)
theorem dX6_relationSign_32 : decode cX6_relationSign 32 = .ok (.iconst 0, 1) := dk_3 (dk_at dksX6_relationSign_1 10 rfl rfl)
theorem dX6_relationSign_33 : decode cX6_relationSign 33 = .ok (.iconst 1, 1) := dk_4 (dk_at dksX6_relationSign_1 11 rfl rfl)
theorem dX6_relationSign_34 : decode cX6_relationSign 34 = .ok (.invokevirtual 112, 3) := dk_182 0 112 (dk_at dksX6_relationSign_1 12 rfl rfl)
theorem dX6_relationSign_37 : decode cX6_relationSign 37 = .ok (.aload_n 0, 1) := dk_42 (dk_at dksX6_relationSign_1 15 rfl rfl)
theorem dX6_relationSign_38 : decode cX6_relationSign 38 = .ok (.getfield 83, 3) := dk_180 0 83 (dk_at dksX6_relationSign_1 16 rfl rfl)
theorem dX6_relationSign_41 : decode cX6_relationSign 41 = .ok (.istore_n 1, 1) := dk_60 (dk_at dksX6_relationSign_1 19 rfl rfl)
theorem dX6_relationSign_42 : decode cX6_relationSign 42 = .ok (.aload_n 0, 1) := dk_42 (dk_at dksX6_relationSign_1 20 rfl rfl)
theorem dX6_relationSign_43 : decode cX6_relationSign 43 = .ok (.invokevirtual 26, 3) := dk_182 0 26 (dk_at dksX6_relationSign_1 21 rfl rfl)
theorem dX6_relationSign_46 : decode cX6_relationSign 46 = .ok (.iload_n 1, 1) := dk_27 (dk_at dksX6_relationSign_2 0 rfl rfl)
theorem dX6_relationSign_47 : decode cX6_relationSign 47 = .ok (.ireturn, 1) := dk_172 (dk_at dksX6_relationSign_2 1 rfl rfl)
def dkwX7_init_0 : List UInt8 := [42, 43, 181, 0, 3, 42, 43, 28, 183, 0, 9, 177]
abbrev dktX7_init_0 : List UInt8 := dkwX7_init_0 ++ []
theorem dksX7_init_0 : cX7_init.data.toList.drop 0 = dktX7_init_0 := by decide +kernel
theorem dX7_init_0 : decode cX7_init 0 = .ok (.aload_n 0, 1) := dk_42 (dk_at dksX7_init_0 0 rfl rfl)
theorem dX7_init_1 : decode cX7_init 1 = .ok (.aload_n 1, 1) := dk_43 (dk_at dksX7_init_0 1 rfl rfl)
theorem dX7_init_2 : decode cX7_init 2 = .ok (.putfield 3, 3) := dk_181 0 3 (dk_at dksX7_init_0 2 rfl rfl)
theorem dX7_init_5 : decode cX7_init 5 = .ok (.aload_n 0, 1) := dk_42 (dk_at dksX7_init_0 5 rfl rfl)
theorem dX7_init_6 : decode cX7_init 6 = .ok (.aload_n 1, 1) := dk_43 (dk_at dksX7_init_0 6 rfl rfl)
theorem dX7_init_7 : decode cX7_init 7 = .ok (.iload_n 2, 1) := dk_28 (dk_at dksX7_init_0 7 rfl rfl)
theorem dX7_init_8 : decode cX7_init 8 = .ok (.invokespecial 9, 3) := dk_183 0 9 (dk_at dksX7_init_0 8 rfl rfl)
theorem dX7_init_11 : decode cX7_init 11 = .ok (.return_, 1) := dk_177 (dk_at dksX7_init_0 11 rfl rfl)
def dkwX7_parse_7 : List UInt8 := [42, 180, 0, 33, 176]
abbrev dktX7_parse_7 : List UInt8 := dkwX7_parse_7 ++ []
def dkwX7_parse_6 : List UInt8 := [180, 0, 33, 180, 0, 68, 21, 4, 182, 0, 78, 192, 0, 82, 182, 0, 84, 87, 132, 4, 1, 167, 255, 215]
abbrev dktX7_parse_6 : List UInt8 := dkwX7_parse_6 ++ dktX7_parse_7
def dkwX7_parse_5 : List UInt8 := [54, 4, 21, 4, 42, 180, 0, 33, 180, 0, 68, 182, 0, 72, 162, 0, 32, 42, 180, 0, 33, 42]
abbrev dktX7_parse_5 : List UInt8 := dkwX7_parse_5 ++ dktX7_parse_6
def dkwX7_parse_4 : List UInt8 := [21, 4, 42, 180, 0, 58, 162, 0, 17, 42, 180, 0, 33, 182, 0, 62, 87, 132, 4, 1, 167, 255, 236, 3]
abbrev dktX7_parse_4 : List UInt8 := dkwX7_parse_4 ++ dktX7_parse_5
def dkwX7_parse_3 : List UInt8 := [165, 0, 20, 42, 42, 182, 0, 50, 182, 0, 54, 42, 16, 59, 182, 0, 37, 167, 255, 232, 3, 54, 4]
abbrev dktX7_parse_3 : List UInt8 := dkwX7_parse_3 ++ dktX7_parse_4
def dkwX7_parse_2 : List UInt8 := [182, 0, 25, 184, 0, 29, 181, 0, 33, 42, 16, 59, 182, 0, 37, 42, 180, 0, 41, 178, 0, 45]
abbrev dktX7_parse_2 : List UInt8 := dkwX7_parse_2 ++ dktX7_parse_3
def dkwX7_parse_1 : List UInt8 := [17, 0, 200, 182, 0, 25, 61, 42, 3, 27, 182, 0, 25, 62, 42, 27, 28, 29, 42, 4, 16, 30]
abbrev dktX7_parse_1 : List UInt8 := dkwX7_parse_1 ++ dktX7_parse_2
def dkwX7_parse_0 : List UInt8 := [42, 42, 18, 15, 182, 0, 17, 4, 182, 0, 21, 42, 4, 17, 1, 244, 182, 0, 25, 60, 42, 3]
abbrev dktX7_parse_0 : List UInt8 := dkwX7_parse_0 ++ dktX7_parse_1
theorem dksX7_parse_0 : cX7_parse.data.toList.drop 0 = dktX7_parse_0 := by decide +kernel
theorem dksX7_parse_1 : cX7_parse.data.toList.drop 22 = dktX7_parse_1 := dk_seg dksX7_parse_0 22 rfl rfl
theorem dksX7_parse_2 : cX7_parse.data.toList.drop 44 = dktX7_parse_2 := dk_seg dksX7_parse_1 22 rfl rfl
theorem dksX7_parse_3 : cX7_parse.data.toList.drop 66 = dktX7_parse_3 := dk_seg dksX7_parse_2 22 rfl rfl
theorem dksX7_parse_4 : cX7_parse.data.toList.drop 89 = dktX7_parse_4 := dk_seg dksX7_parse_3 23 rfl rfl
theorem dksX7_parse_5 : cX7_parse.data.toList.drop 113 = dktX7_parse_5 := dk_seg dksX7_parse_4 24 rfl rfl
theorem dksX7_parse_6 : cX7_parse.data.toList.drop 135 = dktX7_parse_6 := dk_seg dksX7_parse_5 22 rfl rfl
theorem dksX7_parse_7 : cX7_parse.data.toList.drop 159 = dktX7_parse_7 := dk_seg dksX7_parse_6 24 rfl rfl
theorem dX7_parse_0 : decode cX7_parse 0 = .ok (.aload_n 0, 1) := dk_42 (dk_at dksX7_parse_0 0 rfl rfl)
theorem dX7_parse_1 : decode cX7_parse 1 = .ok (.aload_n 0, 1) := dk_42 (dk_at dksX7_parse_0 1 rfl rfl)
theorem dX7_parse_2 : decode cX7_parse 2 = .ok (.ldc 15, 2) := dk_18 15 (dk_at dksX7_parse_0 2 rfl rfl)
theorem dX7_parse_4 : decode cX7_parse 4 = .ok (.invokevirtual 17, 3) := dk_182 0 17 (dk_at dksX7_parse_0 4 rfl rfl)
theorem dX7_parse_7 : decode cX7_parse 7 = .ok (.iconst 1, 1) := dk_4 (dk_at dksX7_parse_0 7 rfl rfl)
theorem dX7_parse_8 : decode cX7_parse 8 = .ok (.invokevirtual 21, 3) := dk_182 0 21 (dk_at dksX7_parse_0 8 rfl rfl)
theorem dX7_parse_11 : decode cX7_parse 11 = .ok (.aload_n 0, 1) := dk_42 (dk_at dksX7_parse_0 11 rfl rfl)
theorem dX7_parse_12 : decode cX7_parse 12 = .ok (.iconst 1, 1) := dk_4 (dk_at dksX7_parse_0 12 rfl rfl)
theorem dX7_parse_13 : decode cX7_parse 13 = .ok (.sipush 500, 3) := dk_17 1 244 (dk_at dksX7_parse_0 13 rfl rfl)
theorem dX7_parse_16 : decode cX7_parse 16 = .ok (.invokevirtual 25, 3) := dk_182 0 25 (dk_at dksX7_parse_0 16 rfl rfl)
theorem dX7_parse_19 : decode cX7_parse 19 = .ok (.istore_n 1, 1) := dk_60 (dk_at dksX7_parse_0 19 rfl rfl)
theorem dX7_parse_20 : decode cX7_parse 20 = .ok (.aload_n 0, 1) := dk_42 (dk_at dksX7_parse_0 20 rfl rfl)
theorem dX7_parse_21 : decode cX7_parse 21 = .ok (.iconst 0, 1) := dk_3 (dk_at dksX7_parse_0 21 rfl rfl)
theorem dX7_parse_22 : decode cX7_parse 22 = .ok (.sipush 200, 3) := dk_17 0 200 (dk_at dksX7_parse_1 0 rfl rfl)
theorem dX7_parse_25 : decode cX7_parse 25 = .ok (.invokevirtual 25, 3) := dk_182 0 25 (dk_at dksX7_parse_1 3 rfl rfl)
theorem dX7_parse_28 : decode cX7_parse 28 = .ok (.istore_n 2, 1) := dk_61 (dk_at dksX7_parse_1 6 rfl rfl)
theorem dX7_parse_29 : decode cX7_parse 29 = .ok (.aload_n 0, 1) := dk_42 (dk_at dksX7_parse_1 7 rfl rfl)
theorem dX7_parse_30 : decode cX7_parse 30 = .ok (.iconst 0, 1) := dk_3 (dk_at dksX7_parse_1 8 rfl rfl)
theorem dX7_parse_31 : decode cX7_parse 31 = .ok (.iload_n 1, 1) := dk_27 (dk_at dksX7_parse_1 9 rfl rfl)
theorem dX7_parse_32 : decode cX7_parse 32 = .ok (.invokevirtual 25, 3) := dk_182 0 25 (dk_at dksX7_parse_1 10 rfl rfl)
theorem dX7_parse_35 : decode cX7_parse 35 = .ok (.istore_n 3, 1) := dk_62 (dk_at dksX7_parse_1 13 rfl rfl)
theorem dX7_parse_36 : decode cX7_parse 36 = .ok (.aload_n 0, 1) := dk_42 (dk_at dksX7_parse_1 14 rfl rfl)
theorem dX7_parse_37 : decode cX7_parse 37 = .ok (.iload_n 1, 1) := dk_27 (dk_at dksX7_parse_1 15 rfl rfl)
theorem dX7_parse_38 : decode cX7_parse 38 = .ok (.iload_n 2, 1) := dk_28 (dk_at dksX7_parse_1 16 rfl rfl)
theorem dX7_parse_39 : decode cX7_parse 39 = .ok (.iload_n 3, 1) := dk_29 (dk_at dksX7_parse_1 17 rfl rfl)
theorem dX7_parse_40 : decode cX7_parse 40 = .ok (.aload_n 0, 1) := dk_42 (dk_at dksX7_parse_1 18 rfl rfl)
theorem dX7_parse_41 : decode cX7_parse 41 = .ok (.iconst 1, 1) := dk_4 (dk_at dksX7_parse_1 19 rfl rfl)
theorem dX7_parse_42 : decode cX7_parse 42 = .ok (.bipush 30, 2) := dk_16 30 (dk_at dksX7_parse_1 20 rfl rfl)
theorem dX7_parse_44 : decode cX7_parse 44 = .ok (.invokevirtual 25, 3) := dk_182 0 25 (dk_at dksX7_parse_2 0 rfl rfl)
theorem dX7_parse_47 : decode cX7_parse 47 = .ok (.invokestatic 29, 3) := dk_184 0 29 (dk_at dksX7_parse_2 3 rfl rfl)
theorem dX7_parse_50 : decode cX7_parse 50 = .ok (.putfield 33, 3) := dk_181 0 33 (dk_at dksX7_parse_2 6 rfl rfl)
theorem dX7_parse_53 : decode cX7_parse 53 = .ok (.aload_n 0, 1) := dk_42 (dk_at dksX7_parse_2 9 rfl rfl)
theorem dX7_parse_54 : decode cX7_parse 54 = .ok (.bipush 59, 2) := dk_16 59 (dk_at dksX7_parse_2 10 rfl rfl)
theorem dX7_parse_56 : decode cX7_parse 56 = .ok (.invokevirtual 37, 3) := dk_182 0 37 (dk_at dksX7_parse_2 12 rfl rfl)
theorem dX7_parse_59 : decode cX7_parse 59 = .ok (.aload_n 0, 1) := dk_42 (dk_at dksX7_parse_2 15 rfl rfl)
theorem dX7_parse_60 : decode cX7_parse 60 = .ok (.getfield 41, 3) := dk_180 0 41 (dk_at dksX7_parse_2 16 rfl rfl)
theorem dX7_parse_63 : decode cX7_parse 63 = .ok (.getstatic 45, 3) := dk_178 0 45 (dk_at dksX7_parse_2 19 rfl rfl)
theorem dX7_parse_66 : decode cX7_parse 66 = .ok (.if_acmp .eq 20, 3) := dk_165 0 20 (dk_at dksX7_parse_3 0 rfl rfl)
theorem dX7_parse_69 : decode cX7_parse 69 = .ok (.aload_n 0, 1) := dk_42 (dk_at dksX7_parse_3 3 rfl rfl)
theorem dX7_parse_70 : decode cX7_parse 70 = .ok (.aload_n 0, 1) := dk_42 (dk_at dksX7_parse_3 4 rfl rfl)
theorem dX7_parse_71 : decode cX7_parse 71 = .ok (.invokevirtual 50, 3) := dk_182 0 50 (dk_at dksX7_parse_3 5 rfl rfl)
theorem dX7_parse_74 : decode cX7_parse 74 = .ok (.invokevirtual 54, 3) := dk_182 0 54 (dk_at dksX7_parse_3 8 rfl rfl)
theorem dX7_parse_77 : decode cX7_parse 77 = .ok (.aload_n 0, 1) := dk_42 (dk_at dksX7_parse_3 11 rfl rfl)
theorem dX7_parse_78 : decode cX7_parse 78 = .ok (.bipush 59, 2) := dk_16 59 (dk_at dksX7_parse_3 12 rfl rfl)
theorem dX7_parse_80 : decode cX7_parse 80 = .ok (.invokevirtual 37, 3) := dk_182 0 37 (dk_at dksX7_parse_3 14 rfl rfl)
theorem dX7_parse_83 : decode cX7_parse 83 = .ok (.goto (-24), 3) := dk_167 255 232 (dk_at dksX7_parse_3 17 rfl rfl)
theorem dX7_parse_86 : decode cX7_parse 86 = .ok (.iconst 0, 1) := dk_3 (dk_at dksX7_parse_3 20 rfl rfl)
theorem dX7_parse_87 : decode cX7_parse 87 = .ok (.istore 4, 2) := dk_54 4 (dk_at dksX7_parse_3 21 rfl rfl)
theorem dX7_parse_89 : decode cX7_parse 89 = .ok (.iload 4, 2) := dk_21 4 (dk_at dksX7_parse_4 0 rfl rfl)
theorem dX7_parse_91 : decode cX7_parse 91 = .ok (.aload_n 0, 1) := dk_42 (dk_at dksX7_parse_4 2 rfl rfl)
theorem dX7_parse_92 : decode cX7_parse 92 = .ok (.getfield 58, 3) := dk_180 0 58 (dk_at dksX7_parse_4 3 rfl rfl)
theorem dX7_parse_95 : decode cX7_parse 95 = .ok (.if_icmp .ge 17, 3) := dk_162 0 17 (dk_at dksX7_parse_4 6 rfl rfl)
theorem dX7_parse_98 : decode cX7_parse 98 = .ok (.aload_n 0, 1) := dk_42 (dk_at dksX7_parse_4 9 rfl rfl)
theorem dX7_parse_99 : decode cX7_parse 99 = .ok (.getfield 33, 3) := dk_180 0 33 (dk_at dksX7_parse_4 10 rfl rfl)
theorem dX7_parse_102 : decode cX7_parse 102 = .ok (.invokevirtual 62, 3) := dk_182 0 62 (dk_at dksX7_parse_4 13 rfl rfl)
theorem dX7_parse_105 : decode cX7_parse 105 = .ok (.pop, 1) := dk_87 (dk_at dksX7_parse_4 16 rfl rfl)
theorem dX7_parse_106 : decode cX7_parse 106 = .ok (.iinc 4 1, 3) := dk_132 4 1 (dk_at dksX7_parse_4 17 rfl rfl)
theorem dX7_parse_109 : decode cX7_parse 109 = .ok (.goto (-20), 3) := dk_167 255 236 (dk_at dksX7_parse_4 20 rfl rfl)
theorem dX7_parse_112 : decode cX7_parse 112 = .ok (.iconst 0, 1) := dk_3 (dk_at dksX7_parse_4 23 rfl rfl)
theorem dX7_parse_113 : decode cX7_parse 113 = .ok (.istore 4, 2) := dk_54 4 (dk_at dksX7_parse_5 0 rfl rfl)
theorem dX7_parse_115 : decode cX7_parse 115 = .ok (.iload 4, 2) := dk_21 4 (dk_at dksX7_parse_5 2 rfl rfl)
theorem dX7_parse_117 : decode cX7_parse 117 = .ok (.aload_n 0, 1) := dk_42 (dk_at dksX7_parse_5 4 rfl rfl)
theorem dX7_parse_118 : decode cX7_parse 118 = .ok (.getfield 33, 3) := dk_180 0 33 (dk_at dksX7_parse_5 5 rfl rfl)
theorem dX7_parse_121 : decode cX7_parse 121 = .ok (.getfield 68, 3) := dk_180 0 68 (dk_at dksX7_parse_5 8 rfl rfl)
theorem dX7_parse_124 : decode cX7_parse 124 = .ok (.invokevirtual 72, 3) := dk_182 0 72 (dk_at dksX7_parse_5 11 rfl rfl)
theorem dX7_parse_127 : decode cX7_parse 127 = .ok (.if_icmp .ge 32, 3) := dk_162 0 32 (dk_at dksX7_parse_5 14 rfl rfl)
theorem dX7_parse_130 : decode cX7_parse 130 = .ok (.aload_n 0, 1) := dk_42 (dk_at dksX7_parse_5 17 rfl rfl)
theorem dX7_parse_131 : decode cX7_parse 131 = .ok (.getfield 33, 3) := dk_180 0 33 (dk_at dksX7_parse_5 18 rfl rfl)
theorem dX7_parse_134 : decode cX7_parse 134 = .ok (.aload_n 0, 1) := dk_42 (dk_at dksX7_parse_5 21 rfl rfl)
theorem dX7_parse_135 : decode cX7_parse 135 = .ok (.getfield 33, 3) := dk_180 0 33 (dk_at dksX7_parse_6 0 rfl rfl)
theorem dX7_parse_138 : decode cX7_parse 138 = .ok (.getfield 68, 3) := dk_180 0 68 (dk_at dksX7_parse_6 3 rfl rfl)
theorem dX7_parse_141 : decode cX7_parse 141 = .ok (.iload 4, 2) := dk_21 4 (dk_at dksX7_parse_6 6 rfl rfl)
theorem dX7_parse_143 : decode cX7_parse 143 = .ok (.invokevirtual 78, 3) := dk_182 0 78 (dk_at dksX7_parse_6 8 rfl rfl)
theorem dX7_parse_146 : decode cX7_parse 146 = .ok (.checkcast 82, 3) := dk_192 0 82 (dk_at dksX7_parse_6 11 rfl rfl)
theorem dX7_parse_149 : decode cX7_parse 149 = .ok (.invokevirtual 84, 3) := dk_182 0 84 (dk_at dksX7_parse_6 14 rfl rfl)
theorem dX7_parse_152 : decode cX7_parse 152 = .ok (.pop, 1) := dk_87 (dk_at dksX7_parse_6 17 rfl rfl)
theorem dX7_parse_153 : decode cX7_parse 153 = .ok (.iinc 4 1, 3) := dk_132 4 1 (dk_at dksX7_parse_6 18 rfl rfl)
theorem dX7_parse_156 : decode cX7_parse 156 = .ok (.goto (-41), 3) := dk_167 255 215 (dk_at dksX7_parse_6 21 rfl rfl)
theorem dX7_parse_159 : decode cX7_parse 159 = .ok (.aload_n 0, 1) := dk_42 (dk_at dksX7_parse_7 0 rfl rfl)
theorem dX7_parse_160 : decode cX7_parse 160 = .ok (.getfield 33, 3) := dk_180 0 33 (dk_at dksX7_parse_7 1 rfl rfl)
theorem dX7_parse_163 : decode cX7_parse 163 = .ok (.areturn, 1) := dk_176 (dk_at dksX7_parse_7 4 rfl rfl)
def dkwX7_clause_10 : List UInt8 := [182, 0, 100, 42, 89, 180, 0, 58, 21, 5, 96, 181, 0, 58, 167, 0, 9, 42, 3, 4, 182, 0, 21, 177]
abbrev dktX7_clause_10 : List UInt8 := dkwX7_clause_10 ++ []
def dkwX7_clause_9 : List UInt8 := [42, 180, 0, 58, 21, 5, 96, 16, 30, 163, 0, 7, 4, 167, 0, 4, 3, 6, 182, 0, 21, 42]
abbrev dktX7_clause_9 : List UInt8 := dkwX7_clause_9 ++ dktX7_clause_10
def dkwX7_clause_8 : List UInt8 := [183, 0, 104, 182, 0, 107, 87, 167, 0, 62, 42, 182, 0, 100, 42, 4, 16, 30, 182, 0, 110, 54, 5, 42]
abbrev dktX7_clause_8 : List UInt8 := dkwX7_clause_8 ++ dktX7_clause_9
def dkwX7_clause_7 : List UInt8 := [187, 0, 82, 89, 21, 4, 42, 3, 21, 4, 4, 100, 182, 0, 25, 16, 30, 188, 10, 16, 30, 188, 10]
abbrev dktX7_clause_7 : List UInt8 := dkwX7_clause_7 ++ dktX7_clause_8
def dkwX7_clause_6 : List UInt8 := [182, 0, 21, 42, 182, 0, 100, 42, 4, 16, 48, 182, 0, 25, 54, 4, 42, 180, 0, 33, 180, 0, 68]
abbrev dktX7_clause_6 : List UInt8 := dkwX7_clause_6 ++ dktX7_clause_7
def dkwX7_clause_5 : List UInt8 := [42, 42, 180, 0, 33, 180, 0, 68, 182, 0, 72, 16, 8, 162, 0, 7, 4, 167, 0, 4, 3, 6]
abbrev dktX7_clause_5 : List UInt8 := dkwX7_clause_5 ++ dktX7_clause_6
def dkwX7_clause_4 : List UInt8 := [171, 0, 0, 0, 0, 157, 0, 0, 0, 2, 0, 0, 0, 0, 0, 0, 0, 26, 0, 0, 0, 1, 0, 0, 0, 104]
abbrev dktX7_clause_4 : List UInt8 := dkwX7_clause_4 ++ dktX7_clause_5
def dkwX7_clause_3 : List UInt8 := [62, 29]
abbrev dktX7_clause_3 : List UInt8 := dkwX7_clause_3 ++ dktX7_clause_4
def dkwX7_clause_2 : List UInt8 := [44, 18, 93, 182, 0, 95, 153, 0, 19, 3, 62, 167, 0, 14, 44, 18, 99, 182, 0, 95, 153, 0, 5, 4]
abbrev dktX7_clause_2 : List UInt8 := dkwX7_clause_2 ++ dktX7_clause_3
def dkwX7_clause_1 : List UInt8 := [171, 0, 0, 0, 0, 0, 0, 53, 0, 0, 0, 2, 175, 18, 243, 203, 0, 0, 0, 28, 64, 135, 30, 66, 0, 0, 0, 42]
abbrev dktX7_clause_1 : List UInt8 := dkwX7_clause_1 ++ dktX7_clause_2
def dkwX7_clause_0 : List UInt8 := [43, 77, 2, 62, 44, 182, 0, 88]
abbrev dktX7_clause_0 : List UInt8 := dkwX7_clause_0 ++ dktX7_clause_1
theorem dksX7_clause_0 : cX7_clause.data.toList.drop 0 = dktX7_clause_0 := by decide +kernel
theorem dksX7_clause_1 : cX7_clause.data.toList.drop 8 = dktX7_clause_1 := dk_seg dksX7_clause_0 8 rfl rfl
theorem dksX7_clause_2 : cX7_clause.data.toList.drop 36 = dktX7_clause_2 := dk_seg dksX7_clause_1 28 rfl rfl
theorem dksX7_clause_3 : cX7_clause.data.toList.drop 60 = dktX7_clause_3 := dk_seg dksX7_clause_2 24 rfl rfl
theorem dksX7_clause_4 : cX7_clause.data.toList.drop 62 = dktX7_clause_4 := dk_seg dksX7_clause_3 2 rfl rfl
theorem dksX7_clause_5 : cX7_clause.data.toList.drop 88 = dktX7_clause_5 := dk_seg dksX7_clause_4 26 rfl rfl
theorem dksX7_clause_6 : cX7_clause.data.toList.drop 110 = dktX7_clause_6 := dk_seg dksX7_clause_5 22 rfl rfl
theorem dksX7_clause_7 : cX7_clause.data.toList.drop 133 = dktX7_clause_7 := dk_seg dksX7_clause_6 23 rfl rfl
theorem dksX7_clause_8 : cX7_clause.data.toList.drop 156 = dktX7_clause_8 := dk_seg dksX7_clause_7 23 rfl rfl
theorem dksX7_clause_9 : cX7_clause.data.toList.drop 180 = dktX7_clause_9 := dk_seg dksX7_clause_8 24 rfl rfl
theorem dksX7_clause_10 : cX7_clause.data.toList.drop 202 = dktX7_clause_10 := dk_seg dksX7_clause_9 22 rfl rfl
theorem dX7_clause_0 : decode cX7_clause 0 = .ok (.aload_n 1, 1) := dk_43 (dk_at dksX7_clause_0 0 rfl rfl)
theorem dX7_clause_1 : decode cX7_clause 1 = .ok (.astore_n 2, 1) := dk_77 (dk_at dksX7_clause_0 1 rfl rfl)
theorem dX7_clause_2 : decode cX7_clause 2 = .ok (.iconst (-1), 1) := dk_2 (dk_at dksX7_clause_0 2 rfl rfl)
theorem dX7_clause_3 : decode cX7_clause 3 = .ok (.istore_n 3, 1) := dk_62 (dk_at dksX7_clause_0 3 rfl rfl)
theorem dX7_clause_4 : decode cX7_clause 4 = .ok (.aload_n 2, 1) := dk_44 (dk_at dksX7_clause_0 4 rfl rfl)
theorem dX7_clause_5 : decode cX7_clause 5 = .ok (.invokevirtual 88, 3) := dk_182 0 88 (dk_at dksX7_clause_0 5 rfl rfl)
theorem dX7_clause_8 : decode cX7_clause 8 = .ok (.lookupswitch 53 #[(-1357712437, 28), (1082596930, 42)], 28) := by decide +kernel
theorem dX7_clause_36 : decode cX7_clause 36 = .ok (.aload_n 2, 1) := dk_44 (dk_at dksX7_clause_2 0 rfl rfl)
theorem dX7_clause_37 : decode cX7_clause 37 = .ok (.ldc 93, 2) := dk_18 93 (dk_at dksX7_clause_2 1 rfl rfl)
theorem dX7_clause_39 : decode cX7_clause 39 = .ok (.invokevirtual 95, 3) := dk_182 0 95 (dk_at dksX7_clause_2 3 rfl rfl)
theorem dX7_clause_42 : decode cX7_clause 42 = .ok (.ifCond .eq 19, 3) := dk_153 0 19 (dk_at dksX7_clause_2 6 rfl rfl)
theorem dX7_clause_45 : decode cX7_clause 45 = .ok (.iconst 0, 1) := dk_3 (dk_at dksX7_clause_2 9 rfl rfl)
theorem dX7_clause_46 : decode cX7_clause 46 = .ok (.istore_n 3, 1) := dk_62 (dk_at dksX7_clause_2 10 rfl rfl)
theorem dX7_clause_47 : decode cX7_clause 47 = .ok (.goto 14, 3) := dk_167 0 14 (dk_at dksX7_clause_2 11 rfl rfl)
theorem dX7_clause_50 : decode cX7_clause 50 = .ok (.aload_n 2, 1) := dk_44 (dk_at dksX7_clause_2 14 rfl rfl)
theorem dX7_clause_51 : decode cX7_clause 51 = .ok (.ldc 99, 2) := dk_18 99 (dk_at dksX7_clause_2 15 rfl rfl)
theorem dX7_clause_53 : decode cX7_clause 53 = .ok (.invokevirtual 95, 3) := dk_182 0 95 (dk_at dksX7_clause_2 17 rfl rfl)
theorem dX7_clause_56 : decode cX7_clause 56 = .ok (.ifCond .eq 5, 3) := dk_153 0 5 (dk_at dksX7_clause_2 20 rfl rfl)
theorem dX7_clause_59 : decode cX7_clause 59 = .ok (.iconst 1, 1) := dk_4 (dk_at dksX7_clause_2 23 rfl rfl)
theorem dX7_clause_60 : decode cX7_clause 60 = .ok (.istore_n 3, 1) := dk_62 (dk_at dksX7_clause_3 0 rfl rfl)
theorem dX7_clause_61 : decode cX7_clause 61 = .ok (.iload_n 3, 1) := dk_29 (dk_at dksX7_clause_3 1 rfl rfl)
theorem dX7_clause_62 : decode cX7_clause 62 = .ok (.lookupswitch 157 #[(0, 26), (1, 104)], 26) := by decide +kernel
theorem dX7_clause_88 : decode cX7_clause 88 = .ok (.aload_n 0, 1) := dk_42 (dk_at dksX7_clause_5 0 rfl rfl)
theorem dX7_clause_89 : decode cX7_clause 89 = .ok (.aload_n 0, 1) := dk_42 (dk_at dksX7_clause_5 1 rfl rfl)
theorem dX7_clause_90 : decode cX7_clause 90 = .ok (.getfield 33, 3) := dk_180 0 33 (dk_at dksX7_clause_5 2 rfl rfl)
theorem dX7_clause_93 : decode cX7_clause 93 = .ok (.getfield 68, 3) := dk_180 0 68 (dk_at dksX7_clause_5 5 rfl rfl)
theorem dX7_clause_96 : decode cX7_clause 96 = .ok (.invokevirtual 72, 3) := dk_182 0 72 (dk_at dksX7_clause_5 8 rfl rfl)
theorem dX7_clause_99 : decode cX7_clause 99 = .ok (.bipush 8, 2) := dk_16 8 (dk_at dksX7_clause_5 11 rfl rfl)
theorem dX7_clause_101 : decode cX7_clause 101 = .ok (.if_icmp .ge 7, 3) := dk_162 0 7 (dk_at dksX7_clause_5 13 rfl rfl)
theorem dX7_clause_104 : decode cX7_clause 104 = .ok (.iconst 1, 1) := dk_4 (dk_at dksX7_clause_5 16 rfl rfl)
theorem dX7_clause_105 : decode cX7_clause 105 = .ok (.goto 4, 3) := dk_167 0 4 (dk_at dksX7_clause_5 17 rfl rfl)
theorem dX7_clause_108 : decode cX7_clause 108 = .ok (.iconst 0, 1) := dk_3 (dk_at dksX7_clause_5 20 rfl rfl)
theorem dX7_clause_109 : decode cX7_clause 109 = .ok (.iconst 3, 1) := dk_6 (dk_at dksX7_clause_5 21 rfl rfl)
theorem dX7_clause_110 : decode cX7_clause 110 = .ok (.invokevirtual 21, 3) := dk_182 0 21 (dk_at dksX7_clause_6 0 rfl rfl)
theorem dX7_clause_113 : decode cX7_clause 113 = .ok (.aload_n 0, 1) := dk_42 (dk_at dksX7_clause_6 3 rfl rfl)
theorem dX7_clause_114 : decode cX7_clause 114 = .ok (.invokevirtual 100, 3) := dk_182 0 100 (dk_at dksX7_clause_6 4 rfl rfl)
theorem dX7_clause_117 : decode cX7_clause 117 = .ok (.aload_n 0, 1) := dk_42 (dk_at dksX7_clause_6 7 rfl rfl)
theorem dX7_clause_118 : decode cX7_clause 118 = .ok (.iconst 1, 1) := dk_4 (dk_at dksX7_clause_6 8 rfl rfl)
theorem dX7_clause_119 : decode cX7_clause 119 = .ok (.bipush 48, 2) := dk_16 48 (dk_at dksX7_clause_6 9 rfl rfl)
theorem dX7_clause_121 : decode cX7_clause 121 = .ok (.invokevirtual 25, 3) := dk_182 0 25 (dk_at dksX7_clause_6 11 rfl rfl)
theorem dX7_clause_124 : decode cX7_clause 124 = .ok (.istore 4, 2) := dk_54 4 (dk_at dksX7_clause_6 14 rfl rfl)
theorem dX7_clause_126 : decode cX7_clause 126 = .ok (.aload_n 0, 1) := dk_42 (dk_at dksX7_clause_6 16 rfl rfl)
theorem dX7_clause_127 : decode cX7_clause 127 = .ok (.getfield 33, 3) := dk_180 0 33 (dk_at dksX7_clause_6 17 rfl rfl)
theorem dX7_clause_130 : decode cX7_clause 130 = .ok (.getfield 68, 3) := dk_180 0 68 (dk_at dksX7_clause_6 20 rfl rfl)
theorem dX7_clause_133 : decode cX7_clause 133 = .ok (.new 82, 3) := dk_187 0 82 (dk_at dksX7_clause_7 0 rfl rfl)
theorem dX7_clause_136 : decode cX7_clause 136 = .ok (.dup, 1) := dk_89 (dk_at dksX7_clause_7 3 rfl rfl)
theorem dX7_clause_137 : decode cX7_clause 137 = .ok (.iload 4, 2) := dk_21 4 (dk_at dksX7_clause_7 4 rfl rfl)
theorem dX7_clause_139 : decode cX7_clause 139 = .ok (.aload_n 0, 1) := dk_42 (dk_at dksX7_clause_7 6 rfl rfl)
theorem dX7_clause_140 : decode cX7_clause 140 = .ok (.iconst 0, 1) := dk_3 (dk_at dksX7_clause_7 7 rfl rfl)
theorem dX7_clause_141 : decode cX7_clause 141 = .ok (.iload 4, 2) := dk_21 4 (dk_at dksX7_clause_7 8 rfl rfl)
theorem dX7_clause_143 : decode cX7_clause 143 = .ok (.iconst 1, 1) := dk_4 (dk_at dksX7_clause_7 10 rfl rfl)
theorem dX7_clause_144 : decode cX7_clause 144 = .ok (.isub, 1) := dk_100 (dk_at dksX7_clause_7 11 rfl rfl)
theorem dX7_clause_145 : decode cX7_clause 145 = .ok (.invokevirtual 25, 3) := dk_182 0 25 (dk_at dksX7_clause_7 12 rfl rfl)
theorem dX7_clause_148 : decode cX7_clause 148 = .ok (.bipush 30, 2) := dk_16 30 (dk_at dksX7_clause_7 15 rfl rfl)
theorem dX7_clause_150 : decode cX7_clause 150 = .ok (.newarray .int, 2) := dk_188_10 (dk_at dksX7_clause_7 17 rfl rfl)
theorem dX7_clause_152 : decode cX7_clause 152 = .ok (.bipush 30, 2) := dk_16 30 (dk_at dksX7_clause_7 19 rfl rfl)
theorem dX7_clause_154 : decode cX7_clause 154 = .ok (.newarray .int, 2) := dk_188_10 (dk_at dksX7_clause_7 21 rfl rfl)
theorem dX7_clause_156 : decode cX7_clause 156 = .ok (.invokespecial 104, 3) := dk_183 0 104 (dk_at dksX7_clause_8 0 rfl rfl)
theorem dX7_clause_159 : decode cX7_clause 159 = .ok (.invokevirtual 107, 3) := dk_182 0 107 (dk_at dksX7_clause_8 3 rfl rfl)
theorem dX7_clause_162 : decode cX7_clause 162 = .ok (.pop, 1) := dk_87 (dk_at dksX7_clause_8 6 rfl rfl)
theorem dX7_clause_163 : decode cX7_clause 163 = .ok (.goto 62, 3) := dk_167 0 62 (dk_at dksX7_clause_8 7 rfl rfl)
theorem dX7_clause_166 : decode cX7_clause 166 = .ok (.aload_n 0, 1) := dk_42 (dk_at dksX7_clause_8 10 rfl rfl)
theorem dX7_clause_167 : decode cX7_clause 167 = .ok (.invokevirtual 100, 3) := dk_182 0 100 (dk_at dksX7_clause_8 11 rfl rfl)
theorem dX7_clause_170 : decode cX7_clause 170 = .ok (.aload_n 0, 1) := dk_42 (dk_at dksX7_clause_8 14 rfl rfl)
theorem dX7_clause_171 : decode cX7_clause 171 = .ok (.iconst 1, 1) := dk_4 (dk_at dksX7_clause_8 15 rfl rfl)
theorem dX7_clause_172 : decode cX7_clause 172 = .ok (.bipush 30, 2) := dk_16 30 (dk_at dksX7_clause_8 16 rfl rfl)
theorem dX7_clause_174 : decode cX7_clause 174 = .ok (.invokevirtual 110, 3) := dk_182 0 110 (dk_at dksX7_clause_8 18 rfl rfl)
theorem dX7_clause_177 : decode cX7_clause 177 = .ok (.istore 5, 2) := dk_54 5 (dk_at dksX7_clause_8 21 rfl rfl)
theorem dX7_clause_179 : decode cX7_clause 179 = .ok (.aload_n 0, 1) := dk_42 (dk_at dksX7_clause_8 23 rfl rfl)
theorem dX7_clause_180 : decode cX7_clause 180 = .ok (.aload_n 0, 1) := dk_42 (dk_at dksX7_clause_9 0 rfl rfl)
theorem dX7_clause_181 : decode cX7_clause 181 = .ok (.getfield 58, 3) := dk_180 0 58 (dk_at dksX7_clause_9 1 rfl rfl)
theorem dX7_clause_184 : decode cX7_clause 184 = .ok (.iload 5, 2) := dk_21 5 (dk_at dksX7_clause_9 4 rfl rfl)
theorem dX7_clause_186 : decode cX7_clause 186 = .ok (.iadd, 1) := dk_96 (dk_at dksX7_clause_9 6 rfl rfl)
theorem dX7_clause_187 : decode cX7_clause 187 = .ok (.bipush 30, 2) := dk_16 30 (dk_at dksX7_clause_9 7 rfl rfl)
theorem dX7_clause_189 : decode cX7_clause 189 = .ok (.if_icmp .gt 7, 3) := dk_163 0 7 (dk_at dksX7_clause_9 9 rfl rfl)
theorem dX7_clause_192 : decode cX7_clause 192 = .ok (.iconst 1, 1) := dk_4 (dk_at dksX7_clause_9 12 rfl rfl)
theorem dX7_clause_193 : decode cX7_clause 193 = .ok (.goto 4, 3) := dk_167 0 4 (dk_at dksX7_clause_9 13 rfl rfl)
theorem dX7_clause_196 : decode cX7_clause 196 = .ok (.iconst 0, 1) := dk_3 (dk_at dksX7_clause_9 16 rfl rfl)
theorem dX7_clause_197 : decode cX7_clause 197 = .ok (.iconst 3, 1) := dk_6 (dk_at dksX7_clause_9 17 rfl rfl)
theorem dX7_clause_198 : decode cX7_clause 198 = .ok (.invokevirtual 21, 3) := dk_182 0 21 (dk_at dksX7_clause_9 18 rfl rfl)
theorem dX7_clause_201 : decode cX7_clause 201 = .ok (.aload_n 0, 1) := dk_42 (dk_at dksX7_clause_9 21 rfl rfl)
theorem dX7_clause_202 : decode cX7_clause 202 = .ok (.invokevirtual 100, 3) := dk_182 0 100 (dk_at dksX7_clause_10 0 rfl rfl)
theorem dX7_clause_205 : decode cX7_clause 205 = .ok (.aload_n 0, 1) := dk_42 (dk_at dksX7_clause_10 3 rfl rfl)
theorem dX7_clause_206 : decode cX7_clause 206 = .ok (.dup, 1) := dk_89 (dk_at dksX7_clause_10 4 rfl rfl)
theorem dX7_clause_207 : decode cX7_clause 207 = .ok (.getfield 58, 3) := dk_180 0 58 (dk_at dksX7_clause_10 5 rfl rfl)
theorem dX7_clause_210 : decode cX7_clause 210 = .ok (.iload 5, 2) := dk_21 5 (dk_at dksX7_clause_10 8 rfl rfl)
theorem dX7_clause_212 : decode cX7_clause 212 = .ok (.iadd, 1) := dk_96 (dk_at dksX7_clause_10 10 rfl rfl)
theorem dX7_clause_213 : decode cX7_clause 213 = .ok (.putfield 58, 3) := dk_181 0 58 (dk_at dksX7_clause_10 11 rfl rfl)
theorem dX7_clause_216 : decode cX7_clause 216 = .ok (.goto 9, 3) := dk_167 0 9 (dk_at dksX7_clause_10 14 rfl rfl)
theorem dX7_clause_219 : decode cX7_clause 219 = .ok (.aload_n 0, 1) := dk_42 (dk_at dksX7_clause_10 17 rfl rfl)
theorem dX7_clause_220 : decode cX7_clause 220 = .ok (.iconst 0, 1) := dk_3 (dk_at dksX7_clause_10 18 rfl rfl)
theorem dX7_clause_221 : decode cX7_clause 221 = .ok (.iconst 1, 1) := dk_4 (dk_at dksX7_clause_10 19 rfl rfl)
theorem dX7_clause_222 : decode cX7_clause 222 = .ok (.invokevirtual 21, 3) := dk_182 0 21 (dk_at dksX7_clause_10 20 rfl rfl)
theorem dX7_clause_225 : decode cX7_clause 225 = .ok (.return_, 1) := dk_177 (dk_at dksX7_clause_10 23 rfl rfl)
def dkwX8_init_0 : List UInt8 := [42, 1, 45, 3, 3, 183, 0, 1, 42, 27, 181, 0, 7, 42, 28, 181, 0, 13, 177]
abbrev dktX8_init_0 : List UInt8 := dkwX8_init_0 ++ []
theorem dksX8_init_0 : cX8_init.data.toList.drop 0 = dktX8_init_0 := by decide +kernel
theorem dX8_init_0 : decode cX8_init 0 = .ok (.aload_n 0, 1) := dk_42 (dk_at dksX8_init_0 0 rfl rfl)
theorem dX8_init_1 : decode cX8_init 1 = .ok (.aconst_null, 1) := dk_1 (dk_at dksX8_init_0 1 rfl rfl)
theorem dX8_init_2 : decode cX8_init 2 = .ok (.aload_n 3, 1) := dk_45 (dk_at dksX8_init_0 2 rfl rfl)
theorem dX8_init_3 : decode cX8_init 3 = .ok (.iconst 0, 1) := dk_3 (dk_at dksX8_init_0 3 rfl rfl)
theorem dX8_init_4 : decode cX8_init 4 = .ok (.iconst 0, 1) := dk_3 (dk_at dksX8_init_0 4 rfl rfl)
theorem dX8_init_5 : decode cX8_init 5 = .ok (.invokespecial 1, 3) := dk_183 0 1 (dk_at dksX8_init_0 5 rfl rfl)
theorem dX8_init_8 : decode cX8_init 8 = .ok (.aload_n 0, 1) := dk_42 (dk_at dksX8_init_0 8 rfl rfl)
theorem dX8_init_9 : decode cX8_init 9 = .ok (.iload_n 1, 1) := dk_27 (dk_at dksX8_init_0 9 rfl rfl)
theorem dX8_init_10 : decode cX8_init 10 = .ok (.putfield 7, 3) := dk_181 0 7 (dk_at dksX8_init_0 10 rfl rfl)
theorem dX8_init_13 : decode cX8_init 13 = .ok (.aload_n 0, 1) := dk_42 (dk_at dksX8_init_0 13 rfl rfl)
theorem dX8_init_14 : decode cX8_init 14 = .ok (.iload_n 2, 1) := dk_28 (dk_at dksX8_init_0 14 rfl rfl)
theorem dX8_init_15 : decode cX8_init 15 = .ok (.putfield 13, 3) := dk_181 0 13 (dk_at dksX8_init_0 15 rfl rfl)
theorem dX8_init_18 : decode cX8_init 18 = .ok (.return_, 1) := dk_177 (dk_at dksX8_init_0 18 rfl rfl)
def dkwX9_greatest_1 : List UInt8 := [182, 0, 53, 153, 0, 5, 29, 172, 132, 3, 255, 167, 255, 230, 2, 172]
abbrev dktX9_greatest_1 : List UInt8 := dkwX9_greatest_1 ++ []
def dkwX9_greatest_0 : List UInt8 := [42, 180, 0, 39, 4, 100, 62, 29, 155, 0, 28, 27, 29, 184, 0, 45, 153, 0, 14, 42, 29, 28]
abbrev dktX9_greatest_0 : List UInt8 := dkwX9_greatest_0 ++ dktX9_greatest_1
theorem dksX9_greatest_0 : cX9_greatest.data.toList.drop 0 = dktX9_greatest_0 := by decide +kernel
theorem dksX9_greatest_1 : cX9_greatest.data.toList.drop 22 = dktX9_greatest_1 := dk_seg dksX9_greatest_0 22 rfl rfl
theorem dX9_greatest_0 : decode cX9_greatest 0 = .ok (.aload_n 0, 1) := dk_42 (dk_at dksX9_greatest_0 0 rfl rfl)
theorem dX9_greatest_1 : decode cX9_greatest 1 = .ok (.getfield 39, 3) := dk_180 0 39 (dk_at dksX9_greatest_0 1 rfl rfl)
theorem dX9_greatest_4 : decode cX9_greatest 4 = .ok (.iconst 1, 1) := dk_4 (dk_at dksX9_greatest_0 4 rfl rfl)
theorem dX9_greatest_5 : decode cX9_greatest 5 = .ok (.isub, 1) := dk_100 (dk_at dksX9_greatest_0 5 rfl rfl)
theorem dX9_greatest_6 : decode cX9_greatest 6 = .ok (.istore_n 3, 1) := dk_62 (dk_at dksX9_greatest_0 6 rfl rfl)
theorem dX9_greatest_7 : decode cX9_greatest 7 = .ok (.iload_n 3, 1) := dk_29 (dk_at dksX9_greatest_0 7 rfl rfl)
theorem dX9_greatest_8 : decode cX9_greatest 8 = .ok (.ifCond .lt 28, 3) := dk_155 0 28 (dk_at dksX9_greatest_0 8 rfl rfl)
theorem dX9_greatest_11 : decode cX9_greatest 11 = .ok (.iload_n 1, 1) := dk_27 (dk_at dksX9_greatest_0 11 rfl rfl)
theorem dX9_greatest_12 : decode cX9_greatest 12 = .ok (.iload_n 3, 1) := dk_29 (dk_at dksX9_greatest_0 12 rfl rfl)
theorem dX9_greatest_13 : decode cX9_greatest 13 = .ok (.invokestatic 45, 3) := dk_184 0 45 (dk_at dksX9_greatest_0 13 rfl rfl)
theorem dX9_greatest_16 : decode cX9_greatest 16 = .ok (.ifCond .eq 14, 3) := dk_153 0 14 (dk_at dksX9_greatest_0 16 rfl rfl)
theorem dX9_greatest_19 : decode cX9_greatest 19 = .ok (.aload_n 0, 1) := dk_42 (dk_at dksX9_greatest_0 19 rfl rfl)
theorem dX9_greatest_20 : decode cX9_greatest 20 = .ok (.iload_n 3, 1) := dk_29 (dk_at dksX9_greatest_0 20 rfl rfl)
theorem dX9_greatest_21 : decode cX9_greatest 21 = .ok (.iload_n 2, 1) := dk_28 (dk_at dksX9_greatest_0 21 rfl rfl)
theorem dX9_greatest_22 : decode cX9_greatest 22 = .ok (.invokevirtual 53, 3) := dk_182 0 53 (dk_at dksX9_greatest_1 0 rfl rfl)
theorem dX9_greatest_25 : decode cX9_greatest 25 = .ok (.ifCond .eq 5, 3) := dk_153 0 5 (dk_at dksX9_greatest_1 3 rfl rfl)
theorem dX9_greatest_28 : decode cX9_greatest 28 = .ok (.iload_n 3, 1) := dk_29 (dk_at dksX9_greatest_1 6 rfl rfl)
theorem dX9_greatest_29 : decode cX9_greatest 29 = .ok (.ireturn, 1) := dk_172 (dk_at dksX9_greatest_1 7 rfl rfl)
theorem dX9_greatest_30 : decode cX9_greatest 30 = .ok (.iinc 3 (-1), 3) := dk_132 3 255 (dk_at dksX9_greatest_1 8 rfl rfl)
theorem dX9_greatest_33 : decode cX9_greatest 33 = .ok (.goto (-26), 3) := dk_167 255 230 (dk_at dksX9_greatest_1 11 rfl rfl)
theorem dX9_greatest_36 : decode cX9_greatest 36 = .ok (.iconst (-1), 1) := dk_2 (dk_at dksX9_greatest_1 14 rfl rfl)
theorem dX9_greatest_37 : decode cX9_greatest 37 = .ok (.ireturn, 1) := dk_172 (dk_at dksX9_greatest_1 15 rfl rfl)
def dkwX9_canUse_2 : List UInt8 := [172]
abbrev dktX9_canUse_2 : List UInt8 := dkwX9_canUse_2 ++ []
def dkwX9_canUse_1 : List UInt8 := [180, 0, 18, 27, 46, 133, 42, 180, 0, 22, 27, 46, 133, 184, 0, 49, 153, 0, 7, 4, 167, 0, 4, 3]
abbrev dktX9_canUse_1 : List UInt8 := dkwX9_canUse_1 ++ dktX9_canUse_2
def dkwX9_canUse_0 : List UInt8 := [27, 42, 180, 0, 39, 162, 0, 40, 42, 180, 0, 42, 27, 184, 0, 45, 154, 0, 29, 28, 133, 42]
abbrev dktX9_canUse_0 : List UInt8 := dkwX9_canUse_0 ++ dktX9_canUse_1
theorem dksX9_canUse_0 : cX9_canUse.data.toList.drop 0 = dktX9_canUse_0 := by decide +kernel
theorem dksX9_canUse_1 : cX9_canUse.data.toList.drop 22 = dktX9_canUse_1 := dk_seg dksX9_canUse_0 22 rfl rfl
theorem dksX9_canUse_2 : cX9_canUse.data.toList.drop 46 = dktX9_canUse_2 := dk_seg dksX9_canUse_1 24 rfl rfl
theorem dX9_canUse_0 : decode cX9_canUse 0 = .ok (.iload_n 1, 1) := dk_27 (dk_at dksX9_canUse_0 0 rfl rfl)
theorem dX9_canUse_1 : decode cX9_canUse 1 = .ok (.aload_n 0, 1) := dk_42 (dk_at dksX9_canUse_0 1 rfl rfl)
theorem dX9_canUse_2 : decode cX9_canUse 2 = .ok (.getfield 39, 3) := dk_180 0 39 (dk_at dksX9_canUse_0 2 rfl rfl)
theorem dX9_canUse_5 : decode cX9_canUse 5 = .ok (.if_icmp .ge 40, 3) := dk_162 0 40 (dk_at dksX9_canUse_0 5 rfl rfl)
theorem dX9_canUse_8 : decode cX9_canUse 8 = .ok (.aload_n 0, 1) := dk_42 (dk_at dksX9_canUse_0 8 rfl rfl)
theorem dX9_canUse_9 : decode cX9_canUse 9 = .ok (.getfield 42, 3) := dk_180 0 42 (dk_at dksX9_canUse_0 9 rfl rfl)
theorem dX9_canUse_12 : decode cX9_canUse 12 = .ok (.iload_n 1, 1) := dk_27 (dk_at dksX9_canUse_0 12 rfl rfl)
theorem dX9_canUse_13 : decode cX9_canUse 13 = .ok (.invokestatic 45, 3) := dk_184 0 45 (dk_at dksX9_canUse_0 13 rfl rfl)
theorem dX9_canUse_16 : decode cX9_canUse 16 = .ok (.ifCond .ne 29, 3) := dk_154 0 29 (dk_at dksX9_canUse_0 16 rfl rfl)
theorem dX9_canUse_19 : decode cX9_canUse 19 = .ok (.iload_n 2, 1) := dk_28 (dk_at dksX9_canUse_0 19 rfl rfl)
theorem dX9_canUse_20 : decode cX9_canUse 20 = .ok (.i2l, 1) := dk_133 (dk_at dksX9_canUse_0 20 rfl rfl)
theorem dX9_canUse_21 : decode cX9_canUse 21 = .ok (.aload_n 0, 1) := dk_42 (dk_at dksX9_canUse_0 21 rfl rfl)
theorem dX9_canUse_22 : decode cX9_canUse 22 = .ok (.getfield 18, 3) := dk_180 0 18 (dk_at dksX9_canUse_1 0 rfl rfl)
theorem dX9_canUse_25 : decode cX9_canUse 25 = .ok (.iload_n 1, 1) := dk_27 (dk_at dksX9_canUse_1 3 rfl rfl)
theorem dX9_canUse_26 : decode cX9_canUse 26 = .ok (.iaload, 1) := dk_46 (dk_at dksX9_canUse_1 4 rfl rfl)
theorem dX9_canUse_27 : decode cX9_canUse 27 = .ok (.i2l, 1) := dk_133 (dk_at dksX9_canUse_1 5 rfl rfl)
theorem dX9_canUse_28 : decode cX9_canUse 28 = .ok (.aload_n 0, 1) := dk_42 (dk_at dksX9_canUse_1 6 rfl rfl)
theorem dX9_canUse_29 : decode cX9_canUse 29 = .ok (.getfield 22, 3) := dk_180 0 22 (dk_at dksX9_canUse_1 7 rfl rfl)
theorem dX9_canUse_32 : decode cX9_canUse 32 = .ok (.iload_n 1, 1) := dk_27 (dk_at dksX9_canUse_1 10 rfl rfl)
theorem dX9_canUse_33 : decode cX9_canUse 33 = .ok (.iaload, 1) := dk_46 (dk_at dksX9_canUse_1 11 rfl rfl)
theorem dX9_canUse_34 : decode cX9_canUse 34 = .ok (.i2l, 1) := dk_133 (dk_at dksX9_canUse_1 12 rfl rfl)
theorem dX9_canUse_35 : decode cX9_canUse 35 = .ok (.invokestatic 49, 3) := dk_184 0 49 (dk_at dksX9_canUse_1 13 rfl rfl)
theorem dX9_canUse_38 : decode cX9_canUse 38 = .ok (.ifCond .eq 7, 3) := dk_153 0 7 (dk_at dksX9_canUse_1 16 rfl rfl)
theorem dX9_canUse_41 : decode cX9_canUse 41 = .ok (.iconst 1, 1) := dk_4 (dk_at dksX9_canUse_1 19 rfl rfl)
theorem dX9_canUse_42 : decode cX9_canUse 42 = .ok (.goto 4, 3) := dk_167 0 4 (dk_at dksX9_canUse_1 20 rfl rfl)
theorem dX9_canUse_45 : decode cX9_canUse 45 = .ok (.iconst 0, 1) := dk_3 (dk_at dksX9_canUse_1 23 rfl rfl)
theorem dX9_canUse_46 : decode cX9_canUse 46 = .ok (.ireturn, 1) := dk_172 (dk_at dksX9_canUse_2 0 rfl rfl)
def dkwX9_copy_2 : List UInt8 := [180, 0, 36, 181, 0, 36, 43, 42, 180, 0, 39, 181, 0, 39, 43, 42, 180, 0, 42, 181, 0, 42, 43, 176]
abbrev dktX9_copy_2 : List UInt8 := dkwX9_copy_2 ++ []
def dkwX9_copy_1 : List UInt8 := [180, 0, 22, 182, 0, 25, 192, 0, 26, 183, 0, 30, 76, 43, 42, 180, 0, 33, 181, 0, 33, 43, 42]
abbrev dktX9_copy_1 : List UInt8 := dkwX9_copy_1 ++ dktX9_copy_2
def dkwX9_copy_0 : List UInt8 := [187, 0, 10, 89, 42, 180, 0, 9, 42, 180, 0, 15, 42, 180, 0, 18, 182, 0, 25, 192, 0, 26, 42]
abbrev dktX9_copy_0 : List UInt8 := dkwX9_copy_0 ++ dktX9_copy_1
theorem dksX9_copy_0 : cX9_copy.data.toList.drop 0 = dktX9_copy_0 := by decide +kernel
theorem dksX9_copy_1 : cX9_copy.data.toList.drop 23 = dktX9_copy_1 := dk_seg dksX9_copy_0 23 rfl rfl
theorem dksX9_copy_2 : cX9_copy.data.toList.drop 46 = dktX9_copy_2 := dk_seg dksX9_copy_1 23 rfl rfl
theorem dX9_copy_0 : decode cX9_copy 0 = .ok (.new 10, 3) := dk_187 0 10 (dk_at dksX9_copy_0 0 rfl rfl)
theorem dX9_copy_3 : decode cX9_copy 3 = .ok (.dup, 1) := dk_89 (dk_at dksX9_copy_0 3 rfl rfl)
theorem dX9_copy_4 : decode cX9_copy 4 = .ok (.aload_n 0, 1) := dk_42 (dk_at dksX9_copy_0 4 rfl rfl)
theorem dX9_copy_5 : decode cX9_copy 5 = .ok (.getfield 9, 3) := dk_180 0 9 (dk_at dksX9_copy_0 5 rfl rfl)
theorem dX9_copy_8 : decode cX9_copy 8 = .ok (.aload_n 0, 1) := dk_42 (dk_at dksX9_copy_0 8 rfl rfl)
theorem dX9_copy_9 : decode cX9_copy 9 = .ok (.getfield 15, 3) := dk_180 0 15 (dk_at dksX9_copy_0 9 rfl rfl)
theorem dX9_copy_12 : decode cX9_copy 12 = .ok (.aload_n 0, 1) := dk_42 (dk_at dksX9_copy_0 12 rfl rfl)
theorem dX9_copy_13 : decode cX9_copy 13 = .ok (.getfield 18, 3) := dk_180 0 18 (dk_at dksX9_copy_0 13 rfl rfl)
theorem dX9_copy_16 : decode cX9_copy 16 = .ok (.invokevirtual 25, 3) := dk_182 0 25 (dk_at dksX9_copy_0 16 rfl rfl)
theorem dX9_copy_19 : decode cX9_copy 19 = .ok (.checkcast 26, 3) := dk_192 0 26 (dk_at dksX9_copy_0 19 rfl rfl)
theorem dX9_copy_22 : decode cX9_copy 22 = .ok (.aload_n 0, 1) := dk_42 (dk_at dksX9_copy_0 22 rfl rfl)
theorem dX9_copy_23 : decode cX9_copy 23 = .ok (.getfield 22, 3) := dk_180 0 22 (dk_at dksX9_copy_1 0 rfl rfl)
theorem dX9_copy_26 : decode cX9_copy 26 = .ok (.invokevirtual 25, 3) := dk_182 0 25 (dk_at dksX9_copy_1 3 rfl rfl)
theorem dX9_copy_29 : decode cX9_copy 29 = .ok (.checkcast 26, 3) := dk_192 0 26 (dk_at dksX9_copy_1 6 rfl rfl)
theorem dX9_copy_32 : decode cX9_copy 32 = .ok (.invokespecial 30, 3) := dk_183 0 30 (dk_at dksX9_copy_1 9 rfl rfl)
theorem dX9_copy_35 : decode cX9_copy 35 = .ok (.astore_n 1, 1) := dk_76 (dk_at dksX9_copy_1 12 rfl rfl)
theorem dX9_copy_36 : decode cX9_copy 36 = .ok (.aload_n 1, 1) := dk_43 (dk_at dksX9_copy_1 13 rfl rfl)
theorem dX9_copy_37 : decode cX9_copy 37 = .ok (.aload_n 0, 1) := dk_42 (dk_at dksX9_copy_1 14 rfl rfl)
theorem dX9_copy_38 : decode cX9_copy 38 = .ok (.getfield 33, 3) := dk_180 0 33 (dk_at dksX9_copy_1 15 rfl rfl)
theorem dX9_copy_41 : decode cX9_copy 41 = .ok (.putfield 33, 3) := dk_181 0 33 (dk_at dksX9_copy_1 18 rfl rfl)
theorem dX9_copy_44 : decode cX9_copy 44 = .ok (.aload_n 1, 1) := dk_43 (dk_at dksX9_copy_1 21 rfl rfl)
theorem dX9_copy_45 : decode cX9_copy 45 = .ok (.aload_n 0, 1) := dk_42 (dk_at dksX9_copy_1 22 rfl rfl)
theorem dX9_copy_46 : decode cX9_copy 46 = .ok (.getfield 36, 3) := dk_180 0 36 (dk_at dksX9_copy_2 0 rfl rfl)
theorem dX9_copy_49 : decode cX9_copy 49 = .ok (.putfield 36, 3) := dk_181 0 36 (dk_at dksX9_copy_2 3 rfl rfl)
theorem dX9_copy_52 : decode cX9_copy 52 = .ok (.aload_n 1, 1) := dk_43 (dk_at dksX9_copy_2 6 rfl rfl)
theorem dX9_copy_53 : decode cX9_copy 53 = .ok (.aload_n 0, 1) := dk_42 (dk_at dksX9_copy_2 7 rfl rfl)
theorem dX9_copy_54 : decode cX9_copy 54 = .ok (.getfield 39, 3) := dk_180 0 39 (dk_at dksX9_copy_2 8 rfl rfl)
theorem dX9_copy_57 : decode cX9_copy 57 = .ok (.putfield 39, 3) := dk_181 0 39 (dk_at dksX9_copy_2 11 rfl rfl)
theorem dX9_copy_60 : decode cX9_copy 60 = .ok (.aload_n 1, 1) := dk_43 (dk_at dksX9_copy_2 14 rfl rfl)
theorem dX9_copy_61 : decode cX9_copy 61 = .ok (.aload_n 0, 1) := dk_42 (dk_at dksX9_copy_2 15 rfl rfl)
theorem dX9_copy_62 : decode cX9_copy 62 = .ok (.getfield 42, 3) := dk_180 0 42 (dk_at dksX9_copy_2 16 rfl rfl)
theorem dX9_copy_65 : decode cX9_copy 65 = .ok (.putfield 42, 3) := dk_181 0 42 (dk_at dksX9_copy_2 19 rfl rfl)
theorem dX9_copy_68 : decode cX9_copy 68 = .ok (.aload_n 1, 1) := dk_43 (dk_at dksX9_copy_2 22 rfl rfl)
theorem dX9_copy_69 : decode cX9_copy 69 = .ok (.areturn, 1) := dk_176 (dk_at dksX9_copy_2 23 rfl rfl)
def dkwX9_init_1 : List UInt8 := [181, 0, 22, 177]
abbrev dktX9_init_1 : List UInt8 := dkwX9_init_1 ++ []
def dkwX9_init_0 : List UInt8 := [42, 183, 0, 3, 42, 27, 181, 0, 9, 42, 28, 181, 0, 15, 42, 45, 181, 0, 18, 42, 25, 4]
abbrev dktX9_init_0 : List UInt8 := dkwX9_init_0 ++ dktX9_init_1
theorem dksX9_init_0 : cX9_init.data.toList.drop 0 = dktX9_init_0 := by decide +kernel
theorem dksX9_init_1 : cX9_init.data.toList.drop 22 = dktX9_init_1 := dk_seg dksX9_init_0 22 rfl rfl
theorem dX9_init_0 : decode cX9_init 0 = .ok (.aload_n 0, 1) := dk_42 (dk_at dksX9_init_0 0 rfl rfl)
theorem dX9_init_1 : decode cX9_init 1 = .ok (.invokespecial 3, 3) := dk_183 0 3 (dk_at dksX9_init_0 1 rfl rfl)
theorem dX9_init_4 : decode cX9_init 4 = .ok (.aload_n 0, 1) := dk_42 (dk_at dksX9_init_0 4 rfl rfl)
theorem dX9_init_5 : decode cX9_init 5 = .ok (.iload_n 1, 1) := dk_27 (dk_at dksX9_init_0 5 rfl rfl)
theorem dX9_init_6 : decode cX9_init 6 = .ok (.putfield 9, 3) := dk_181 0 9 (dk_at dksX9_init_0 6 rfl rfl)
theorem dX9_init_9 : decode cX9_init 9 = .ok (.aload_n 0, 1) := dk_42 (dk_at dksX9_init_0 9 rfl rfl)
theorem dX9_init_10 : decode cX9_init 10 = .ok (.iload_n 2, 1) := dk_28 (dk_at dksX9_init_0 10 rfl rfl)
theorem dX9_init_11 : decode cX9_init 11 = .ok (.putfield 15, 3) := dk_181 0 15 (dk_at dksX9_init_0 11 rfl rfl)
theorem dX9_init_14 : decode cX9_init 14 = .ok (.aload_n 0, 1) := dk_42 (dk_at dksX9_init_0 14 rfl rfl)
theorem dX9_init_15 : decode cX9_init 15 = .ok (.aload_n 3, 1) := dk_45 (dk_at dksX9_init_0 15 rfl rfl)
theorem dX9_init_16 : decode cX9_init 16 = .ok (.putfield 18, 3) := dk_181 0 18 (dk_at dksX9_init_0 16 rfl rfl)
theorem dX9_init_19 : decode cX9_init 19 = .ok (.aload_n 0, 1) := dk_42 (dk_at dksX9_init_0 19 rfl rfl)
theorem dX9_init_20 : decode cX9_init 20 = .ok (.aload 4, 2) := dk_25 4 (dk_at dksX9_init_0 20 rfl rfl)
theorem dX9_init_22 : decode cX9_init 22 = .ok (.putfield 22, 3) := dk_181 0 22 (dk_at dksX9_init_1 0 rfl rfl)
theorem dX9_init_25 : decode cX9_init 25 = .ok (.return_, 1) := dk_177 (dk_at dksX9_init_1 3 rfl rfl)
def dkwX9_isHour_0 : List UInt8 := [27, 42, 180, 0, 9, 112, 42, 180, 0, 15, 160, 0, 7, 4, 167, 0, 4, 3, 172]
abbrev dktX9_isHour_0 : List UInt8 := dkwX9_isHour_0 ++ []
theorem dksX9_isHour_0 : cX9_isHour.data.toList.drop 0 = dktX9_isHour_0 := by decide +kernel
theorem dX9_isHour_0 : decode cX9_isHour 0 = .ok (.iload_n 1, 1) := dk_27 (dk_at dksX9_isHour_0 0 rfl rfl)
theorem dX9_isHour_1 : decode cX9_isHour 1 = .ok (.aload_n 0, 1) := dk_42 (dk_at dksX9_isHour_0 1 rfl rfl)
theorem dX9_isHour_2 : decode cX9_isHour 2 = .ok (.getfield 9, 3) := dk_180 0 9 (dk_at dksX9_isHour_0 2 rfl rfl)
theorem dX9_isHour_5 : decode cX9_isHour 5 = .ok (.irem, 1) := dk_112 (dk_at dksX9_isHour_0 5 rfl rfl)
theorem dX9_isHour_6 : decode cX9_isHour 6 = .ok (.aload_n 0, 1) := dk_42 (dk_at dksX9_isHour_0 6 rfl rfl)
theorem dX9_isHour_7 : decode cX9_isHour 7 = .ok (.getfield 15, 3) := dk_180 0 15 (dk_at dksX9_isHour_0 7 rfl rfl)
theorem dX9_isHour_10 : decode cX9_isHour 10 = .ok (.if_icmp .ne 7, 3) := dk_160 0 7 (dk_at dksX9_isHour_0 10 rfl rfl)
theorem dX9_isHour_13 : decode cX9_isHour 13 = .ok (.iconst 1, 1) := dk_4 (dk_at dksX9_isHour_0 13 rfl rfl)
theorem dX9_isHour_14 : decode cX9_isHour 14 = .ok (.goto 4, 3) := dk_167 0 4 (dk_at dksX9_isHour_0 14 rfl rfl)
theorem dX9_isHour_17 : decode cX9_isHour 17 = .ok (.iconst 0, 1) := dk_3 (dk_at dksX9_isHour_0 17 rfl rfl)
theorem dX9_isHour_18 : decode cX9_isHour 18 = .ok (.ireturn, 1) := dk_172 (dk_at dksX9_isHour_0 18 rfl rfl)
def dkwX10_set_1 : List UInt8 := [180, 0, 14, 28, 4, 96, 182, 0, 36, 61, 167, 255, 235, 27, 172]
abbrev dktX10_set_1 : List UInt8 := dkwX10_set_1 ++ []
def dkwX10_set_0 : List UInt8 := [3, 60, 42, 180, 0, 14, 3, 182, 0, 36, 61, 28, 155, 0, 23, 27, 4, 28, 120, 128, 60, 42]
abbrev dktX10_set_0 : List UInt8 := dkwX10_set_0 ++ dktX10_set_1
theorem dksX10_set_0 : cX10_set.data.toList.drop 0 = dktX10_set_0 := by decide +kernel
theorem dksX10_set_1 : cX10_set.data.toList.drop 22 = dktX10_set_1 := dk_seg dksX10_set_0 22 rfl rfl
theorem dX10_set_0 : decode cX10_set 0 = .ok (.iconst 0, 1) := dk_3 (dk_at dksX10_set_0 0 rfl rfl)
theorem dX10_set_1 : decode cX10_set 1 = .ok (.istore_n 1, 1) := dk_60 (dk_at dksX10_set_0 1 rfl rfl)
theorem dX10_set_2 : decode cX10_set 2 = .ok (.aload_n 0, 1) := dk_42 (dk_at dksX10_set_0 2 rfl rfl)
theorem dX10_set_3 : decode cX10_set 3 = .ok (.getfield 14, 3) := dk_180 0 14 (dk_at dksX10_set_0 3 rfl rfl)
theorem dX10_set_6 : decode cX10_set 6 = .ok (.iconst 0, 1) := dk_3 (dk_at dksX10_set_0 6 rfl rfl)
theorem dX10_set_7 : decode cX10_set 7 = .ok (.invokevirtual 36, 3) := dk_182 0 36 (dk_at dksX10_set_0 7 rfl rfl)
theorem dX10_set_10 : decode cX10_set 10 = .ok (.istore_n 2, 1) := dk_61 (dk_at dksX10_set_0 10 rfl rfl)
theorem dX10_set_11 : decode cX10_set 11 = .ok (.iload_n 2, 1) := dk_28 (dk_at dksX10_set_0 11 rfl rfl)
theorem dX10_set_12 : decode cX10_set 12 = .ok (.ifCond .lt 23, 3) := dk_155 0 23 (dk_at dksX10_set_0 12 rfl rfl)
theorem dX10_set_15 : decode cX10_set 15 = .ok (.iload_n 1, 1) := dk_27 (dk_at dksX10_set_0 15 rfl rfl)
theorem dX10_set_16 : decode cX10_set 16 = .ok (.iconst 1, 1) := dk_4 (dk_at dksX10_set_0 16 rfl rfl)
theorem dX10_set_17 : decode cX10_set 17 = .ok (.iload_n 2, 1) := dk_28 (dk_at dksX10_set_0 17 rfl rfl)
theorem dX10_set_18 : decode cX10_set 18 = .ok (.ishl, 1) := dk_120 (dk_at dksX10_set_0 18 rfl rfl)
theorem dX10_set_19 : decode cX10_set 19 = .ok (.ior, 1) := dk_128 (dk_at dksX10_set_0 19 rfl rfl)
theorem dX10_set_20 : decode cX10_set 20 = .ok (.istore_n 1, 1) := dk_60 (dk_at dksX10_set_0 20 rfl rfl)
theorem dX10_set_21 : decode cX10_set 21 = .ok (.aload_n 0, 1) := dk_42 (dk_at dksX10_set_0 21 rfl rfl)
theorem dX10_set_22 : decode cX10_set 22 = .ok (.getfield 14, 3) := dk_180 0 14 (dk_at dksX10_set_1 0 rfl rfl)
theorem dX10_set_25 : decode cX10_set 25 = .ok (.iload_n 2, 1) := dk_28 (dk_at dksX10_set_1 3 rfl rfl)
theorem dX10_set_26 : decode cX10_set 26 = .ok (.iconst 1, 1) := dk_4 (dk_at dksX10_set_1 4 rfl rfl)
theorem dX10_set_27 : decode cX10_set 27 = .ok (.iadd, 1) := dk_96 (dk_at dksX10_set_1 5 rfl rfl)
theorem dX10_set_28 : decode cX10_set 28 = .ok (.invokevirtual 36, 3) := dk_182 0 36 (dk_at dksX10_set_1 6 rfl rfl)
theorem dX10_set_31 : decode cX10_set 31 = .ok (.istore_n 2, 1) := dk_61 (dk_at dksX10_set_1 9 rfl rfl)
theorem dX10_set_32 : decode cX10_set 32 = .ok (.goto (-21), 3) := dk_167 255 235 (dk_at dksX10_set_1 10 rfl rfl)
theorem dX10_set_35 : decode cX10_set 35 = .ok (.iload_n 1, 1) := dk_27 (dk_at dksX10_set_1 13 rfl rfl)
theorem dX10_set_36 : decode cX10_set 36 = .ok (.ireturn, 1) := dk_172 (dk_at dksX10_set_1 14 rfl rfl)
def dkwX10_copy_1 : List UInt8 := [42, 180, 0, 29, 181, 0, 29, 43, 42, 180, 0, 32, 181, 0, 32, 43, 176]
abbrev dktX10_copy_1 : List UInt8 := dkwX10_copy_1 ++ []
def dkwX10_copy_0 : List UInt8 := [187, 0, 15, 89, 42, 180, 0, 20, 183, 0, 24, 76, 43, 180, 0, 14, 42, 180, 0, 14, 182, 0, 25, 43]
abbrev dktX10_copy_0 : List UInt8 := dkwX10_copy_0 ++ dktX10_copy_1
theorem dksX10_copy_0 : cX10_copy.data.toList.drop 0 = dktX10_copy_0 := by decide +kernel
theorem dksX10_copy_1 : cX10_copy.data.toList.drop 24 = dktX10_copy_1 := dk_seg dksX10_copy_0 24 rfl rfl
theorem dX10_copy_0 : decode cX10_copy 0 = .ok (.new 15, 3) := dk_187 0 15 (dk_at dksX10_copy_0 0 rfl rfl)
theorem dX10_copy_3 : decode cX10_copy 3 = .ok (.dup, 1) := dk_89 (dk_at dksX10_copy_0 3 rfl rfl)
theorem dX10_copy_4 : decode cX10_copy 4 = .ok (.aload_n 0, 1) := dk_42 (dk_at dksX10_copy_0 4 rfl rfl)
theorem dX10_copy_5 : decode cX10_copy 5 = .ok (.getfield 20, 3) := dk_180 0 20 (dk_at dksX10_copy_0 5 rfl rfl)
theorem dX10_copy_8 : decode cX10_copy 8 = .ok (.invokespecial 24, 3) := dk_183 0 24 (dk_at dksX10_copy_0 8 rfl rfl)
theorem dX10_copy_11 : decode cX10_copy 11 = .ok (.astore_n 1, 1) := dk_76 (dk_at dksX10_copy_0 11 rfl rfl)
theorem dX10_copy_12 : decode cX10_copy 12 = .ok (.aload_n 1, 1) := dk_43 (dk_at dksX10_copy_0 12 rfl rfl)
theorem dX10_copy_13 : decode cX10_copy 13 = .ok (.getfield 14, 3) := dk_180 0 14 (dk_at dksX10_copy_0 13 rfl rfl)
theorem dX10_copy_16 : decode cX10_copy 16 = .ok (.aload_n 0, 1) := dk_42 (dk_at dksX10_copy_0 16 rfl rfl)
theorem dX10_copy_17 : decode cX10_copy 17 = .ok (.getfield 14, 3) := dk_180 0 14 (dk_at dksX10_copy_0 17 rfl rfl)
theorem dX10_copy_20 : decode cX10_copy 20 = .ok (.invokevirtual 25, 3) := dk_182 0 25 (dk_at dksX10_copy_0 20 rfl rfl)
theorem dX10_copy_23 : decode cX10_copy 23 = .ok (.aload_n 1, 1) := dk_43 (dk_at dksX10_copy_0 23 rfl rfl)
theorem dX10_copy_24 : decode cX10_copy 24 = .ok (.aload_n 0, 1) := dk_42 (dk_at dksX10_copy_1 0 rfl rfl)
theorem dX10_copy_25 : decode cX10_copy 25 = .ok (.getfield 29, 3) := dk_180 0 29 (dk_at dksX10_copy_1 1 rfl rfl)
theorem dX10_copy_28 : decode cX10_copy 28 = .ok (.putfield 29, 3) := dk_181 0 29 (dk_at dksX10_copy_1 4 rfl rfl)
theorem dX10_copy_31 : decode cX10_copy 31 = .ok (.aload_n 1, 1) := dk_43 (dk_at dksX10_copy_1 7 rfl rfl)
theorem dX10_copy_32 : decode cX10_copy 32 = .ok (.aload_n 0, 1) := dk_42 (dk_at dksX10_copy_1 8 rfl rfl)
theorem dX10_copy_33 : decode cX10_copy 33 = .ok (.getfield 32, 3) := dk_180 0 32 (dk_at dksX10_copy_1 9 rfl rfl)
theorem dX10_copy_36 : decode cX10_copy 36 = .ok (.putfield 32, 3) := dk_181 0 32 (dk_at dksX10_copy_1 12 rfl rfl)
theorem dX10_copy_39 : decode cX10_copy 39 = .ok (.aload_n 1, 1) := dk_43 (dk_at dksX10_copy_1 15 rfl rfl)
theorem dX10_copy_40 : decode cX10_copy 40 = .ok (.areturn, 1) := dk_176 (dk_at dksX10_copy_1 16 rfl rfl)
def dkwX10_init_0 : List UInt8 := [42, 183, 0, 3, 42, 187, 0, 9, 89, 16, 30, 183, 0, 11, 181, 0, 14, 42, 27, 181, 0, 20, 177]
abbrev dktX10_init_0 : List UInt8 := dkwX10_init_0 ++ []
theorem dksX10_init_0 : cX10_init.data.toList.drop 0 = dktX10_init_0 := by decide +kernel
theorem dX10_init_0 : decode cX10_init 0 = .ok (.aload_n 0, 1) := dk_42 (dk_at dksX10_init_0 0 rfl rfl)
theorem dX10_init_1 : decode cX10_init 1 = .ok (.invokespecial 3, 3) := dk_183 0 3 (dk_at dksX10_init_0 1 rfl rfl)
theorem dX10_init_4 : decode cX10_init 4 = .ok (.aload_n 0, 1) := dk_42 (dk_at dksX10_init_0 4 rfl rfl)
theorem dX10_init_5 : decode cX10_init 5 = .ok (.new 9, 3) := dk_187 0 9 (dk_at dksX10_init_0 5 rfl rfl)
theorem dX10_init_8 : decode cX10_init 8 = .ok (.dup, 1) := dk_89 (dk_at dksX10_init_0 8 rfl rfl)
theorem dX10_init_9 : decode cX10_init 9 = .ok (.bipush 30, 2) := dk_16 30 (dk_at dksX10_init_0 9 rfl rfl)
theorem dX10_init_11 : decode cX10_init 11 = .ok (.invokespecial 11, 3) := dk_183 0 11 (dk_at dksX10_init_0 11 rfl rfl)
theorem dX10_init_14 : decode cX10_init 14 = .ok (.putfield 14, 3) := dk_181 0 14 (dk_at dksX10_init_0 14 rfl rfl)
theorem dX10_init_17 : decode cX10_init 17 = .ok (.aload_n 0, 1) := dk_42 (dk_at dksX10_init_0 17 rfl rfl)
theorem dX10_init_18 : decode cX10_init 18 = .ok (.iload_n 1, 1) := dk_27 (dk_at dksX10_init_0 18 rfl rfl)
theorem dX10_init_19 : decode cX10_init 19 = .ok (.putfield 20, 3) := dk_181 0 20 (dk_at dksX10_init_0 19 rfl rfl)
theorem dX10_init_22 : decode cX10_init 22 = .ok (.return_, 1) := dk_177 (dk_at dksX10_init_0 22 rfl rfl)
def dkwX11_of_2 : List UInt8 := [132, 5, 1, 167, 255, 220, 28, 172]
abbrev dktX11_of_2 : List UInt8 := dkwX11_of_2 ++ []
def dkwX11_of_1 : List UInt8 := [58, 6, 25, 6, 42, 27, 182, 0, 41, 153, 0, 11, 25, 6, 182, 0, 45, 167, 0, 4, 28, 61]
abbrev dktX11_of_1 : List UInt8 := dkwX11_of_1 ++ dktX11_of_2
def dkwX11_of_0 : List UInt8 := [2, 61, 184, 0, 37, 78, 45, 190, 54, 4, 3, 54, 5, 21, 5, 21, 4, 162, 0, 35, 45, 21, 5, 50]
abbrev dktX11_of_0 : List UInt8 := dkwX11_of_0 ++ dktX11_of_1
theorem dksX11_of_0 : cX11_of.data.toList.drop 0 = dktX11_of_0 := by decide +kernel
theorem dksX11_of_1 : cX11_of.data.toList.drop 24 = dktX11_of_1 := dk_seg dksX11_of_0 24 rfl rfl
theorem dksX11_of_2 : cX11_of.data.toList.drop 46 = dktX11_of_2 := dk_seg dksX11_of_1 22 rfl rfl
theorem dX11_of_0 : decode cX11_of 0 = .ok (.iconst (-1), 1) := dk_2 (dk_at dksX11_of_0 0 rfl rfl)
theorem dX11_of_1 : decode cX11_of 1 = .ok (.istore_n 2, 1) := dk_61 (dk_at dksX11_of_0 1 rfl rfl)
theorem dX11_of_2 : decode cX11_of 2 = .ok (.invokestatic 37, 3) := dk_184 0 37 (dk_at dksX11_of_0 2 rfl rfl)
theorem dX11_of_5 : decode cX11_of 5 = .ok (.astore_n 3, 1) := dk_78 (dk_at dksX11_of_0 5 rfl rfl)
theorem dX11_of_6 : decode cX11_of 6 = .ok (.aload_n 3, 1) := dk_45 (dk_at dksX11_of_0 6 rfl rfl)
theorem dX11_of_7 : decode cX11_of 7 = .ok (.arraylength, 1) := dk_190 (dk_at dksX11_of_0 7 rfl rfl)
theorem dX11_of_8 : decode cX11_of 8 = .ok (.istore 4, 2) := dk_54 4 (dk_at dksX11_of_0 8 rfl rfl)
theorem dX11_of_10 : decode cX11_of 10 = .ok (.iconst 0, 1) := dk_3 (dk_at dksX11_of_0 10 rfl rfl)
theorem dX11_of_11 : decode cX11_of 11 = .ok (.istore 5, 2) := dk_54 5 (dk_at dksX11_of_0 11 rfl rfl)
theorem dX11_of_13 : decode cX11_of 13 = .ok (.iload 5, 2) := dk_21 5 (dk_at dksX11_of_0 13 rfl rfl)
theorem dX11_of_15 : decode cX11_of 15 = .ok (.iload 4, 2) := dk_21 4 (dk_at dksX11_of_0 15 rfl rfl)
theorem dX11_of_17 : decode cX11_of 17 = .ok (.if_icmp .ge 35, 3) := dk_162 0 35 (dk_at dksX11_of_0 17 rfl rfl)
theorem dX11_of_20 : decode cX11_of 20 = .ok (.aload_n 3, 1) := dk_45 (dk_at dksX11_of_0 20 rfl rfl)
theorem dX11_of_21 : decode cX11_of 21 = .ok (.iload 5, 2) := dk_21 5 (dk_at dksX11_of_0 21 rfl rfl)
theorem dX11_of_23 : decode cX11_of 23 = .ok (.aaload, 1) := dk_50 (dk_at dksX11_of_0 23 rfl rfl)
theorem dX11_of_24 : decode cX11_of 24 = .ok (.astore 6, 2) := dk_58 6 (dk_at dksX11_of_1 0 rfl rfl)
theorem dX11_of_26 : decode cX11_of 26 = .ok (.aload 6, 2) := dk_25 6 (dk_at dksX11_of_1 2 rfl rfl)
theorem dX11_of_28 : decode cX11_of 28 = .ok (.aload_n 0, 1) := dk_42 (dk_at dksX11_of_1 4 rfl rfl)
theorem dX11_of_29 : decode cX11_of 29 = .ok (.iload_n 1, 1) := dk_27 (dk_at dksX11_of_1 5 rfl rfl)
theorem dX11_of_30 : decode cX11_of 30 = .ok (.invokevirtual 41, 3) := dk_182 0 41 (dk_at dksX11_of_1 6 rfl rfl)
theorem dX11_of_33 : decode cX11_of 33 = .ok (.ifCond .eq 11, 3) := dk_153 0 11 (dk_at dksX11_of_1 9 rfl rfl)
theorem dX11_of_36 : decode cX11_of 36 = .ok (.aload 6, 2) := dk_25 6 (dk_at dksX11_of_1 12 rfl rfl)
theorem dX11_of_38 : decode cX11_of 38 = .ok (.invokevirtual 45, 3) := dk_182 0 45 (dk_at dksX11_of_1 14 rfl rfl)
theorem dX11_of_41 : decode cX11_of 41 = .ok (.goto 4, 3) := dk_167 0 4 (dk_at dksX11_of_1 17 rfl rfl)
theorem dX11_of_44 : decode cX11_of 44 = .ok (.iload_n 2, 1) := dk_28 (dk_at dksX11_of_1 20 rfl rfl)
theorem dX11_of_45 : decode cX11_of 45 = .ok (.istore_n 2, 1) := dk_61 (dk_at dksX11_of_1 21 rfl rfl)
theorem dX11_of_46 : decode cX11_of 46 = .ok (.iinc 5 1, 3) := dk_132 5 1 (dk_at dksX11_of_2 0 rfl rfl)
theorem dX11_of_49 : decode cX11_of 49 = .ok (.goto (-36), 3) := dk_167 255 220 (dk_at dksX11_of_2 3 rfl rfl)
theorem dX11_of_52 : decode cX11_of 52 = .ok (.iload_n 2, 1) := dk_28 (dk_at dksX11_of_2 6 rfl rfl)
theorem dX11_of_53 : decode cX11_of 53 = .ok (.ireturn, 1) := dk_172 (dk_at dksX11_of_2 7 rfl rfl)
def dkwX11_values_0 : List UInt8 := [178, 0, 18, 182, 0, 22, 192, 0, 23, 176]
abbrev dktX11_values_0 : List UInt8 := dkwX11_values_0 ++ []
theorem dksX11_values_0 : cX11_values.data.toList.drop 0 = dktX11_values_0 := by decide +kernel
theorem dX11_values_0 : decode cX11_values 0 = .ok (.getstatic 18, 3) := dk_178 0 18 (dk_at dksX11_values_0 0 rfl rfl)
theorem dX11_values_3 : decode cX11_values 3 = .ok (.invokevirtual 22, 3) := dk_182 0 22 (dk_at dksX11_values_0 3 rfl rfl)
theorem dX11_values_6 : decode cX11_values 6 = .ok (.checkcast 23, 3) := dk_192 0 23 (dk_at dksX11_values_0 6 rfl rfl)
theorem dX11_values_9 : decode cX11_values 9 = .ok (.areturn, 1) := dk_176 (dk_at dksX11_values_0 9 rfl rfl)
def dkwX12_init_0 : List UInt8 := [42, 43, 180, 0, 1, 43, 180, 0, 7, 43, 180, 0, 10, 183, 0, 13, 42, 28, 181, 0, 17, 177]
abbrev dktX12_init_0 : List UInt8 := dkwX12_init_0 ++ []
theorem dksX12_init_0 : cX12_init.data.toList.drop 0 = dktX12_init_0 := by decide +kernel
theorem dX12_init_0 : decode cX12_init 0 = .ok (.aload_n 0, 1) := dk_42 (dk_at dksX12_init_0 0 rfl rfl)
theorem dX12_init_1 : decode cX12_init 1 = .ok (.aload_n 1, 1) := dk_43 (dk_at dksX12_init_0 1 rfl rfl)
theorem dX12_init_2 : decode cX12_init 2 = .ok (.getfield 1, 3) := dk_180 0 1 (dk_at dksX12_init_0 2 rfl rfl)
theorem dX12_init_5 : decode cX12_init 5 = .ok (.aload_n 1, 1) := dk_43 (dk_at dksX12_init_0 5 rfl rfl)
theorem dX12_init_6 : decode cX12_init 6 = .ok (.getfield 7, 3) := dk_180 0 7 (dk_at dksX12_init_0 6 rfl rfl)
theorem dX12_init_9 : decode cX12_init 9 = .ok (.aload_n 1, 1) := dk_43 (dk_at dksX12_init_0 9 rfl rfl)
theorem dX12_init_10 : decode cX12_init 10 = .ok (.getfield 10, 3) := dk_180 0 10 (dk_at dksX12_init_0 10 rfl rfl)
theorem dX12_init_13 : decode cX12_init 13 = .ok (.invokespecial 13, 3) := dk_183 0 13 (dk_at dksX12_init_0 13 rfl rfl)
theorem dX12_init_16 : decode cX12_init 16 = .ok (.aload_n 0, 1) := dk_42 (dk_at dksX12_init_0 16 rfl rfl)
theorem dX12_init_17 : decode cX12_init 17 = .ok (.iload_n 2, 1) := dk_28 (dk_at dksX12_init_0 17 rfl rfl)
theorem dX12_init_18 : decode cX12_init 18 = .ok (.putfield 17, 3) := dk_181 0 17 (dk_at dksX12_init_0 18 rfl rfl)
theorem dX12_init_21 : decode cX12_init 21 = .ok (.return_, 1) := dk_177 (dk_at dksX12_init_0 21 rfl rfl)
def dkwX13_init_0 : List UInt8 := [42, 43, 181, 0, 3, 42, 43, 28, 183, 0, 9, 177]
abbrev dktX13_init_0 : List UInt8 := dkwX13_init_0 ++ []
theorem dksX13_init_0 : cX13_init.data.toList.drop 0 = dktX13_init_0 := by decide +kernel
theorem dX13_init_0 : decode cX13_init 0 = .ok (.aload_n 0, 1) := dk_42 (dk_at dksX13_init_0 0 rfl rfl)
theorem dX13_init_1 : decode cX13_init 1 = .ok (.aload_n 1, 1) := dk_43 (dk_at dksX13_init_0 1 rfl rfl)
theorem dX13_init_2 : decode cX13_init 2 = .ok (.putfield 3, 3) := dk_181 0 3 (dk_at dksX13_init_0 2 rfl rfl)
theorem dX13_init_5 : decode cX13_init 5 = .ok (.aload_n 0, 1) := dk_42 (dk_at dksX13_init_0 5 rfl rfl)
theorem dX13_init_6 : decode cX13_init 6 = .ok (.aload_n 1, 1) := dk_43 (dk_at dksX13_init_0 6 rfl rfl)
theorem dX13_init_7 : decode cX13_init 7 = .ok (.iload_n 2, 1) := dk_28 (dk_at dksX13_init_0 7 rfl rfl)
theorem dX13_init_8 : decode cX13_init 8 = .ok (.invokespecial 9, 3) := dk_183 0 9 (dk_at dksX13_init_0 8 rfl rfl)
theorem dX13_init_11 : decode cX13_init 11 = .ok (.return_, 1) := dk_177 (dk_at dksX13_init_0 11 rfl rfl)
def dkwX13_parse_2 : List UInt8 := [178, 0, 39, 166, 0, 7, 4, 167, 0, 4, 3, 4, 182, 0, 27, 43, 176]
abbrev dktX13_parse_2 : List UInt8 := dkwX13_parse_2 ++ []
def dkwX13_parse_1 : List UInt8 := [153, 0, 7, 4, 167, 0, 4, 3, 4, 182, 0, 27, 42, 182, 0, 31, 76, 42, 42, 180, 0, 35]
abbrev dktX13_parse_1 : List UInt8 := dkwX13_parse_1 ++ dktX13_parse_2
def dkwX13_parse_0 : List UInt8 := [42, 42, 18, 15, 182, 0, 17, 181, 0, 21, 42, 42, 180, 0, 21, 154, 0, 12, 42, 18, 25, 182, 0, 17]
abbrev dktX13_parse_0 : List UInt8 := dkwX13_parse_0 ++ dktX13_parse_1
theorem dksX13_parse_0 : cX13_parse.data.toList.drop 0 = dktX13_parse_0 := by decide +kernel
theorem dksX13_parse_1 : cX13_parse.data.toList.drop 24 = dktX13_parse_1 := dk_seg dksX13_parse_0 24 rfl rfl
theorem dksX13_parse_2 : cX13_parse.data.toList.drop 46 = dktX13_parse_2 := dk_seg dksX13_parse_1 22 rfl rfl
theorem dX13_parse_0 : decode cX13_parse 0 = .ok (.aload_n 0, 1) := dk_42 (dk_at dksX13_parse_0 0 rfl rfl)
theorem dX13_parse_1 : decode cX13_parse 1 = .ok (.aload_n 0, 1) := dk_42 (dk_at dksX13_parse_0 1 rfl rfl)
theorem dX13_parse_2 : decode cX13_parse 2 = .ok (.ldc 15, 2) := dk_18 15 (dk_at dksX13_parse_0 2 rfl rfl)
theorem dX13_parse_4 : decode cX13_parse 4 = .ok (.invokevirtual 17, 3) := dk_182 0 17 (dk_at dksX13_parse_0 4 rfl rfl)
theorem dX13_parse_7 : decode cX13_parse 7 = .ok (.putfield 21, 3) := dk_181 0 21 (dk_at dksX13_parse_0 7 rfl rfl)
theorem dX13_parse_10 : decode cX13_parse 10 = .ok (.aload_n 0, 1) := dk_42 (dk_at dksX13_parse_0 10 rfl rfl)
theorem dX13_parse_11 : decode cX13_parse 11 = .ok (.aload_n 0, 1) := dk_42 (dk_at dksX13_parse_0 11 rfl rfl)
theorem dX13_parse_12 : decode cX13_parse 12 = .ok (.getfield 21, 3) := dk_180 0 21 (dk_at dksX13_parse_0 12 rfl rfl)
theorem dX13_parse_15 : decode cX13_parse 15 = .ok (.ifCond .ne 12, 3) := dk_154 0 12 (dk_at dksX13_parse_0 15 rfl rfl)
theorem dX13_parse_18 : decode cX13_parse 18 = .ok (.aload_n 0, 1) := dk_42 (dk_at dksX13_parse_0 18 rfl rfl)
theorem dX13_parse_19 : decode cX13_parse 19 = .ok (.ldc 25, 2) := dk_18 25 (dk_at dksX13_parse_0 19 rfl rfl)
theorem dX13_parse_21 : decode cX13_parse 21 = .ok (.invokevirtual 17, 3) := dk_182 0 17 (dk_at dksX13_parse_0 21 rfl rfl)
theorem dX13_parse_24 : decode cX13_parse 24 = .ok (.ifCond .eq 7, 3) := dk_153 0 7 (dk_at dksX13_parse_1 0 rfl rfl)
theorem dX13_parse_27 : decode cX13_parse 27 = .ok (.iconst 1, 1) := dk_4 (dk_at dksX13_parse_1 3 rfl rfl)
theorem dX13_parse_28 : decode cX13_parse 28 = .ok (.goto 4, 3) := dk_167 0 4 (dk_at dksX13_parse_1 4 rfl rfl)
theorem dX13_parse_31 : decode cX13_parse 31 = .ok (.iconst 0, 1) := dk_3 (dk_at dksX13_parse_1 7 rfl rfl)
theorem dX13_parse_32 : decode cX13_parse 32 = .ok (.iconst 1, 1) := dk_4 (dk_at dksX13_parse_1 8 rfl rfl)
theorem dX13_parse_33 : decode cX13_parse 33 = .ok (.invokevirtual 27, 3) := dk_182 0 27 (dk_at dksX13_parse_1 9 rfl rfl)
theorem dX13_parse_36 : decode cX13_parse 36 = .ok (.aload_n 0, 1) := dk_42 (dk_at dksX13_parse_1 12 rfl rfl)
theorem dX13_parse_37 : decode cX13_parse 37 = .ok (.invokevirtual 31, 3) := dk_182 0 31 (dk_at dksX13_parse_1 13 rfl rfl)
theorem dX13_parse_40 : decode cX13_parse 40 = .ok (.astore_n 1, 1) := dk_76 (dk_at dksX13_parse_1 16 rfl rfl)
theorem dX13_parse_41 : decode cX13_parse 41 = .ok (.aload_n 0, 1) := dk_42 (dk_at dksX13_parse_1 17 rfl rfl)
theorem dX13_parse_42 : decode cX13_parse 42 = .ok (.aload_n 0, 1) := dk_42 (dk_at dksX13_parse_1 18 rfl rfl)
theorem dX13_parse_43 : decode cX13_parse 43 = .ok (.getfield 35, 3) := dk_180 0 35 (dk_at dksX13_parse_1 19 rfl rfl)
theorem dX13_parse_46 : decode cX13_parse 46 = .ok (.getstatic 39, 3) := dk_178 0 39 (dk_at dksX13_parse_2 0 rfl rfl)
theorem dX13_parse_49 : decode cX13_parse 49 = .ok (.if_acmp .ne 7, 3) := dk_166 0 7 (dk_at dksX13_parse_2 3 rfl rfl)
theorem dX13_parse_52 : decode cX13_parse 52 = .ok (.iconst 1, 1) := dk_4 (dk_at dksX13_parse_2 6 rfl rfl)
theorem dX13_parse_53 : decode cX13_parse 53 = .ok (.goto 4, 3) := dk_167 0 4 (dk_at dksX13_parse_2 7 rfl rfl)
theorem dX13_parse_56 : decode cX13_parse 56 = .ok (.iconst 0, 1) := dk_3 (dk_at dksX13_parse_2 10 rfl rfl)
theorem dX13_parse_57 : decode cX13_parse 57 = .ok (.iconst 1, 1) := dk_4 (dk_at dksX13_parse_2 11 rfl rfl)
theorem dX13_parse_58 : decode cX13_parse 58 = .ok (.invokevirtual 27, 3) := dk_182 0 27 (dk_at dksX13_parse_2 12 rfl rfl)
theorem dX13_parse_61 : decode cX13_parse 61 = .ok (.aload_n 1, 1) := dk_43 (dk_at dksX13_parse_2 15 rfl rfl)
theorem dX13_parse_62 : decode cX13_parse 62 = .ok (.areturn, 1) := dk_176 (dk_at dksX13_parse_2 16 rfl rfl)
def dkwX13_test_1 : List UInt8 := [154, 255, 241, 187, 0, 58, 89, 43, 4, 183, 0, 60, 176]
abbrev dktX13_test_1 : List UInt8 := dkwX13_test_1 ++ []
def dkwX13_test_0 : List UInt8 := [187, 0, 44, 89, 183, 0, 46, 76, 43, 42, 182, 0, 49, 182, 0, 52, 87, 42, 18, 56, 182, 0, 17]
abbrev dktX13_test_0 : List UInt8 := dkwX13_test_0 ++ dktX13_test_1
theorem dksX13_test_0 : cX13_test.data.toList.drop 0 = dktX13_test_0 := by decide +kernel
theorem dksX13_test_1 : cX13_test.data.toList.drop 23 = dktX13_test_1 := dk_seg dksX13_test_0 23 rfl rfl
theorem dX13_test_0 : decode cX13_test 0 = .ok (.new 44, 3) := dk_187 0 44 (dk_at dksX13_test_0 0 rfl rfl)
theorem dX13_test_3 : decode cX13_test 3 = .ok (.dup, 1) := dk_89 (dk_at dksX13_test_0 3 rfl rfl)
theorem dX13_test_4 : decode cX13_test 4 = .ok (.invokespecial 46, 3) := dk_183 0 46 (dk_at dksX13_test_0 4 rfl rfl)
theorem dX13_test_7 : decode cX13_test 7 = .ok (.astore_n 1, 1) := dk_76 (dk_at dksX13_test_0 7 rfl rfl)
theorem dX13_test_8 : decode cX13_test 8 = .ok (.aload_n 1, 1) := dk_43 (dk_at dksX13_test_0 8 rfl rfl)
theorem dX13_test_9 : decode cX13_test 9 = .ok (.aload_n 0, 1) := dk_42 (dk_at dksX13_test_0 9 rfl rfl)
theorem dX13_test_10 : decode cX13_test 10 = .ok (.invokevirtual 49, 3) := dk_182 0 49 (dk_at dksX13_test_0 10 rfl rfl)
theorem dX13_test_13 : decode cX13_test 13 = .ok (.invokevirtual 52, 3) := dk_182 0 52 (dk_at dksX13_test_0 13 rfl rfl)
theorem dX13_test_16 : decode cX13_test 16 = .ok (.pop, 1) := dk_87 (dk_at dksX13_test_0 16 rfl rfl)
theorem dX13_test_17 : decode cX13_test 17 = .ok (.aload_n 0, 1) := dk_42 (dk_at dksX13_test_0 17 rfl rfl)
theorem dX13_test_18 : decode cX13_test 18 = .ok (.ldc 56, 2) := dk_18 56 (dk_at dksX13_test_0 18 rfl rfl)
theorem dX13_test_20 : decode cX13_test 20 = .ok (.invokevirtual 17, 3) := dk_182 0 17 (dk_at dksX13_test_0 20 rfl rfl)
theorem dX13_test_23 : decode cX13_test 23 = .ok (.ifCond .ne (-15), 3) := dk_154 255 241 (dk_at dksX13_test_1 0 rfl rfl)
theorem dX13_test_26 : decode cX13_test 26 = .ok (.new 58, 3) := dk_187 0 58 (dk_at dksX13_test_1 3 rfl rfl)
theorem dX13_test_29 : decode cX13_test 29 = .ok (.dup, 1) := dk_89 (dk_at dksX13_test_1 6 rfl rfl)
theorem dX13_test_30 : decode cX13_test 30 = .ok (.aload_n 1, 1) := dk_43 (dk_at dksX13_test_1 7 rfl rfl)
theorem dX13_test_31 : decode cX13_test 31 = .ok (.iconst 1, 1) := dk_4 (dk_at dksX13_test_1 8 rfl rfl)
theorem dX13_test_32 : decode cX13_test 32 = .ok (.invokespecial 60, 3) := dk_183 0 60 (dk_at dksX13_test_1 9 rfl rfl)
theorem dX13_test_35 : decode cX13_test 35 = .ok (.areturn, 1) := dk_176 (dk_at dksX13_test_1 12 rfl rfl)
def dkwX13_conjunction_1 : List UInt8 := [154, 255, 241, 187, 0, 58, 89, 43, 3, 183, 0, 60, 176]
abbrev dktX13_conjunction_1 : List UInt8 := dkwX13_conjunction_1 ++ []
def dkwX13_conjunction_0 : List UInt8 := [187, 0, 44, 89, 183, 0, 46, 76, 43, 42, 182, 0, 63, 182, 0, 52, 87, 42, 18, 66, 182, 0, 17]
abbrev dktX13_conjunction_0 : List UInt8 := dkwX13_conjunction_0 ++ dktX13_conjunction_1
theorem dksX13_conjunction_0 : cX13_conjunction.data.toList.drop 0 = dktX13_conjunction_0 := by decide +kernel
theorem dksX13_conjunction_1 : cX13_conjunction.data.toList.drop 23 = dktX13_conjunction_1 := dk_seg dksX13_conjunction_0 23 rfl rfl
theorem dX13_conjunction_0 : decode cX13_conjunction 0 = .ok (.new 44, 3) := dk_187 0 44 (dk_at dksX13_conjunction_0 0 rfl rfl)
theorem dX13_conjunction_3 : decode cX13_conjunction 3 = .ok (.dup, 1) := dk_89 (dk_at dksX13_conjunction_0 3 rfl rfl)
theorem dX13_conjunction_4 : decode cX13_conjunction 4 = .ok (.invokespecial 46, 3) := dk_183 0 46 (dk_at dksX13_conjunction_0 4 rfl rfl)
theorem dX13_conjunction_7 : decode cX13_conjunction 7 = .ok (.astore_n 1, 1) := dk_76 (dk_at dksX13_conjunction_0 7 rfl rfl)
theorem dX13_conjunction_8 : decode cX13_conjunction 8 = .ok (.aload_n 1, 1) := dk_43 (dk_at dksX13_conjunction_0 8 rfl rfl)
theorem dX13_conjunction_9 : decode cX13_conjunction 9 = .ok (.aload_n 0, 1) := dk_42 (dk_at dksX13_conjunction_0 9 rfl rfl)
theorem dX13_conjunction_10 : decode cX13_conjunction 10 = .ok (.invokevirtual 63, 3) := dk_182 0 63 (dk_at dksX13_conjunction_0 10 rfl rfl)
theorem dX13_conjunction_13 : decode cX13_conjunction 13 = .ok (.invokevirtual 52, 3) := dk_182 0 52 (dk_at dksX13_conjunction_0 13 rfl rfl)
theorem dX13_conjunction_16 : decode cX13_conjunction 16 = .ok (.pop, 1) := dk_87 (dk_at dksX13_conjunction_0 16 rfl rfl)
theorem dX13_conjunction_17 : decode cX13_conjunction 17 = .ok (.aload_n 0, 1) := dk_42 (dk_at dksX13_conjunction_0 17 rfl rfl)
theorem dX13_conjunction_18 : decode cX13_conjunction 18 = .ok (.ldc 66, 2) := dk_18 66 (dk_at dksX13_conjunction_0 18 rfl rfl)
theorem dX13_conjunction_20 : decode cX13_conjunction 20 = .ok (.invokevirtual 17, 3) := dk_182 0 17 (dk_at dksX13_conjunction_0 20 rfl rfl)
theorem dX13_conjunction_23 : decode cX13_conjunction 23 = .ok (.ifCond .ne (-15), 3) := dk_154 255 241 (dk_at dksX13_conjunction_1 0 rfl rfl)
theorem dX13_conjunction_26 : decode cX13_conjunction 26 = .ok (.new 58, 3) := dk_187 0 58 (dk_at dksX13_conjunction_1 3 rfl rfl)
theorem dX13_conjunction_29 : decode cX13_conjunction 29 = .ok (.dup, 1) := dk_89 (dk_at dksX13_conjunction_1 6 rfl rfl)
theorem dX13_conjunction_30 : decode cX13_conjunction 30 = .ok (.aload_n 1, 1) := dk_43 (dk_at dksX13_conjunction_1 7 rfl rfl)
theorem dX13_conjunction_31 : decode cX13_conjunction 31 = .ok (.iconst 0, 1) := dk_3 (dk_at dksX13_conjunction_1 8 rfl rfl)
theorem dX13_conjunction_32 : decode cX13_conjunction 32 = .ok (.invokespecial 60, 3) := dk_183 0 60 (dk_at dksX13_conjunction_1 9 rfl rfl)
theorem dX13_conjunction_35 : decode cX13_conjunction 35 = .ok (.areturn, 1) := dk_176 (dk_at dksX13_conjunction_1 12 rfl rfl)
def dkwX13_factor_4 : List UInt8 := [182, 0, 102, 183, 0, 111, 176]
abbrev dktX13_factor_4 : List UInt8 := dkwX13_factor_4 ++ []
def dkwX13_factor_3 : List UInt8 := [100, 181, 0, 68, 43, 176, 42, 182, 0, 102, 60, 42, 182, 0, 106, 61, 187, 0, 109, 89, 27, 28, 42]
abbrev dktX13_factor_3 : List UInt8 := dkwX13_factor_3 ++ dktX13_factor_4
def dkwX13_factor_2 : List UInt8 := [153, 0, 30, 42, 182, 0, 86, 42, 182, 0, 31, 76, 42, 16, 41, 182, 0, 98, 42, 89, 180, 0, 68, 4]
abbrev dktX13_factor_2 : List UInt8 := dkwX13_factor_2 ++ dktX13_factor_3
def dkwX13_factor_1 : List UInt8 := [183, 0, 91, 76, 42, 89, 180, 0, 68, 4, 100, 181, 0, 68, 43, 176, 42, 16, 40, 182, 0, 94]
abbrev dktX13_factor_1 : List UInt8 := dkwX13_factor_1 ++ dktX13_factor_2
def dkwX13_factor_0 : List UInt8 := [42, 182, 0, 75, 18, 79, 182, 0, 81, 153, 0, 31, 42, 182, 0, 86, 187, 0, 89, 89, 42, 182, 0, 63]
abbrev dktX13_factor_0 : List UInt8 := dkwX13_factor_0 ++ dktX13_factor_1
theorem dksX13_factor_0 : cX13_factor.data.toList.drop 0 = dktX13_factor_0 := by decide +kernel
theorem dksX13_factor_1 : cX13_factor.data.toList.drop 24 = dktX13_factor_1 := dk_seg dksX13_factor_0 24 rfl rfl
theorem dksX13_factor_2 : cX13_factor.data.toList.drop 46 = dktX13_factor_2 := dk_seg dksX13_factor_1 22 rfl rfl
theorem dksX13_factor_3 : cX13_factor.data.toList.drop 70 = dktX13_factor_3 := dk_seg dksX13_factor_2 24 rfl rfl
theorem dksX13_factor_4 : cX13_factor.data.toList.drop 93 = dktX13_factor_4 := dk_seg dksX13_factor_3 23 rfl rfl
theorem dX13_factor_0 : decode cX13_factor 0 = .ok (.aload_n 0, 1) := dk_42 (dk_at dksX13_factor_0 0 rfl rfl)
theorem dX13_factor_1 : decode cX13_factor 1 = .ok (.invokevirtual 75, 3) := dk_182 0 75 (dk_at dksX13_factor_0 1 rfl rfl)
theorem dX13_factor_4 : decode cX13_factor 4 = .ok (.ldc 79, 2) := dk_18 79 (dk_at dksX13_factor_0 4 rfl rfl)
theorem dX13_factor_6 : decode cX13_factor 6 = .ok (.invokevirtual 81, 3) := dk_182 0 81 (dk_at dksX13_factor_0 6 rfl rfl)
theorem dX13_factor_9 : decode cX13_factor 9 = .ok (.ifCond .eq 31, 3) := dk_153 0 31 (dk_at dksX13_factor_0 9 rfl rfl)
theorem dX13_factor_12 : decode cX13_factor 12 = .ok (.aload_n 0, 1) := dk_42 (dk_at dksX13_factor_0 12 rfl rfl)
theorem dX13_factor_13 : decode cX13_factor 13 = .ok (.invokevirtual 86, 3) := dk_182 0 86 (dk_at dksX13_factor_0 13 rfl rfl)
theorem dX13_factor_16 : decode cX13_factor 16 = .ok (.new 89, 3) := dk_187 0 89 (dk_at dksX13_factor_0 16 rfl rfl)
theorem dX13_factor_19 : decode cX13_factor 19 = .ok (.dup, 1) := dk_89 (dk_at dksX13_factor_0 19 rfl rfl)
theorem dX13_factor_20 : decode cX13_factor 20 = .ok (.aload_n 0, 1) := dk_42 (dk_at dksX13_factor_0 20 rfl rfl)
theorem dX13_factor_21 : decode cX13_factor 21 = .ok (.invokevirtual 63, 3) := dk_182 0 63 (dk_at dksX13_factor_0 21 rfl rfl)
theorem dX13_factor_24 : decode cX13_factor 24 = .ok (.invokespecial 91, 3) := dk_183 0 91 (dk_at dksX13_factor_1 0 rfl rfl)
theorem dX13_factor_27 : decode cX13_factor 27 = .ok (.astore_n 1, 1) := dk_76 (dk_at dksX13_factor_1 3 rfl rfl)
theorem dX13_factor_28 : decode cX13_factor 28 = .ok (.aload_n 0, 1) := dk_42 (dk_at dksX13_factor_1 4 rfl rfl)
theorem dX13_factor_29 : decode cX13_factor 29 = .ok (.dup, 1) := dk_89 (dk_at dksX13_factor_1 5 rfl rfl)
theorem dX13_factor_30 : decode cX13_factor 30 = .ok (.getfield 68, 3) := dk_180 0 68 (dk_at dksX13_factor_1 6 rfl rfl)
theorem dX13_factor_33 : decode cX13_factor 33 = .ok (.iconst 1, 1) := dk_4 (dk_at dksX13_factor_1 9 rfl rfl)
theorem dX13_factor_34 : decode cX13_factor 34 = .ok (.isub, 1) := dk_100 (dk_at dksX13_factor_1 10 rfl rfl)
theorem dX13_factor_35 : decode cX13_factor 35 = .ok (.putfield 68, 3) := dk_181 0 68 (dk_at dksX13_factor_1 11 rfl rfl)
theorem dX13_factor_38 : decode cX13_factor 38 = .ok (.aload_n 1, 1) := dk_43 (dk_at dksX13_factor_1 14 rfl rfl)
theorem dX13_factor_39 : decode cX13_factor 39 = .ok (.areturn, 1) := dk_176 (dk_at dksX13_factor_1 15 rfl rfl)
theorem dX13_factor_40 : decode cX13_factor 40 = .ok (.aload_n 0, 1) := dk_42 (dk_at dksX13_factor_1 16 rfl rfl)
theorem dX13_factor_41 : decode cX13_factor 41 = .ok (.bipush 40, 2) := dk_16 40 (dk_at dksX13_factor_1 17 rfl rfl)
theorem dX13_factor_43 : decode cX13_factor 43 = .ok (.invokevirtual 94, 3) := dk_182 0 94 (dk_at dksX13_factor_1 19 rfl rfl)
theorem dX13_factor_46 : decode cX13_factor 46 = .ok (.ifCond .eq 30, 3) := dk_153 0 30 (dk_at dksX13_factor_2 0 rfl rfl)
theorem dX13_factor_49 : decode cX13_factor 49 = .ok (.aload_n 0, 1) := dk_42 (dk_at dksX13_factor_2 3 rfl rfl)
theorem dX13_factor_50 : decode cX13_factor 50 = .ok (.invokevirtual 86, 3) := dk_182 0 86 (dk_at dksX13_factor_2 4 rfl rfl)
theorem dX13_factor_53 : decode cX13_factor 53 = .ok (.aload_n 0, 1) := dk_42 (dk_at dksX13_factor_2 7 rfl rfl)
theorem dX13_factor_54 : decode cX13_factor 54 = .ok (.invokevirtual 31, 3) := dk_182 0 31 (dk_at dksX13_factor_2 8 rfl rfl)
theorem dX13_factor_57 : decode cX13_factor 57 = .ok (.astore_n 1, 1) := dk_76 (dk_at dksX13_factor_2 11 rfl rfl)
theorem dX13_factor_58 : decode cX13_factor 58 = .ok (.aload_n 0, 1) := dk_42 (dk_at dksX13_factor_2 12 rfl rfl)
theorem dX13_factor_59 : decode cX13_factor 59 = .ok (.bipush 41, 2) := dk_16 41 (dk_at dksX13_factor_2 13 rfl rfl)
theorem dX13_factor_61 : decode cX13_factor 61 = .ok (.invokevirtual 98, 3) := dk_182 0 98 (dk_at dksX13_factor_2 15 rfl rfl)
theorem dX13_factor_64 : decode cX13_factor 64 = .ok (.aload_n 0, 1) := dk_42 (dk_at dksX13_factor_2 18 rfl rfl)
theorem dX13_factor_65 : decode cX13_factor 65 = .ok (.dup, 1) := dk_89 (dk_at dksX13_factor_2 19 rfl rfl)
theorem dX13_factor_66 : decode cX13_factor 66 = .ok (.getfield 68, 3) := dk_180 0 68 (dk_at dksX13_factor_2 20 rfl rfl)
theorem dX13_factor_69 : decode cX13_factor 69 = .ok (.iconst 1, 1) := dk_4 (dk_at dksX13_factor_2 23 rfl rfl)
theorem dX13_factor_70 : decode cX13_factor 70 = .ok (.isub, 1) := dk_100 (dk_at dksX13_factor_3 0 rfl rfl)
theorem dX13_factor_71 : decode cX13_factor 71 = .ok (.putfield 68, 3) := dk_181 0 68 (dk_at dksX13_factor_3 1 rfl rfl)
theorem dX13_factor_74 : decode cX13_factor 74 = .ok (.aload_n 1, 1) := dk_43 (dk_at dksX13_factor_3 4 rfl rfl)
theorem dX13_factor_75 : decode cX13_factor 75 = .ok (.areturn, 1) := dk_176 (dk_at dksX13_factor_3 5 rfl rfl)
theorem dX13_factor_76 : decode cX13_factor 76 = .ok (.aload_n 0, 1) := dk_42 (dk_at dksX13_factor_3 6 rfl rfl)
theorem dX13_factor_77 : decode cX13_factor 77 = .ok (.invokevirtual 102, 3) := dk_182 0 102 (dk_at dksX13_factor_3 7 rfl rfl)
theorem dX13_factor_80 : decode cX13_factor 80 = .ok (.istore_n 1, 1) := dk_60 (dk_at dksX13_factor_3 10 rfl rfl)
theorem dX13_factor_81 : decode cX13_factor 81 = .ok (.aload_n 0, 1) := dk_42 (dk_at dksX13_factor_3 11 rfl rfl)
theorem dX13_factor_82 : decode cX13_factor 82 = .ok (.invokevirtual 106, 3) := dk_182 0 106 (dk_at dksX13_factor_3 12 rfl rfl)
theorem dX13_factor_85 : decode cX13_factor 85 = .ok (.istore_n 2, 1) := dk_61 (dk_at dksX13_factor_3 15 rfl rfl)
theorem dX13_factor_86 : decode cX13_factor 86 = .ok (.new 109, 3) := dk_187 0 109 (dk_at dksX13_factor_3 16 rfl rfl)
theorem dX13_factor_89 : decode cX13_factor 89 = .ok (.dup, 1) := dk_89 (dk_at dksX13_factor_3 19 rfl rfl)
theorem dX13_factor_90 : decode cX13_factor 90 = .ok (.iload_n 1, 1) := dk_27 (dk_at dksX13_factor_3 20 rfl rfl)
theorem dX13_factor_91 : decode cX13_factor 91 = .ok (.iload_n 2, 1) := dk_28 (dk_at dksX13_factor_3 21 rfl rfl)
theorem dX13_factor_92 : decode cX13_factor 92 = .ok (.aload_n 0, 1) := dk_42 (dk_at dksX13_factor_3 22 rfl rfl)
theorem dX13_factor_93 : decode cX13_factor 93 = .ok (.invokevirtual 102, 3) := dk_182 0 102 (dk_at dksX13_factor_4 0 rfl rfl)
theorem dX13_factor_96 : decode cX13_factor 96 = .ok (.invokespecial 111, 3) := dk_183 0 111 (dk_at dksX13_factor_4 3 rfl rfl)
theorem dX13_factor_99 : decode cX13_factor 99 = .ok (.areturn, 1) := dk_176 (dk_at dksX13_factor_4 6 rfl rfl)
def dkwX13_enter_1 : List UInt8 := [4, 96, 181, 0, 68, 42, 182, 0, 72, 177]
abbrev dktX13_enter_1 : List UInt8 := dkwX13_enter_1 ++ []
def dkwX13_enter_0 : List UInt8 := [42, 42, 180, 0, 68, 16, 6, 162, 0, 7, 4, 167, 0, 4, 3, 6, 182, 0, 27, 42, 89, 180, 0, 68]
abbrev dktX13_enter_0 : List UInt8 := dkwX13_enter_0 ++ dktX13_enter_1
theorem dksX13_enter_0 : cX13_enter.data.toList.drop 0 = dktX13_enter_0 := by decide +kernel
theorem dksX13_enter_1 : cX13_enter.data.toList.drop 24 = dktX13_enter_1 := dk_seg dksX13_enter_0 24 rfl rfl
theorem dX13_enter_0 : decode cX13_enter 0 = .ok (.aload_n 0, 1) := dk_42 (dk_at dksX13_enter_0 0 rfl rfl)
theorem dX13_enter_1 : decode cX13_enter 1 = .ok (.aload_n 0, 1) := dk_42 (dk_at dksX13_enter_0 1 rfl rfl)
theorem dX13_enter_2 : decode cX13_enter 2 = .ok (.getfield 68, 3) := dk_180 0 68 (dk_at dksX13_enter_0 2 rfl rfl)
theorem dX13_enter_5 : decode cX13_enter 5 = .ok (.bipush 6, 2) := dk_16 6 (dk_at dksX13_enter_0 5 rfl rfl)
theorem dX13_enter_7 : decode cX13_enter 7 = .ok (.if_icmp .ge 7, 3) := dk_162 0 7 (dk_at dksX13_enter_0 7 rfl rfl)
theorem dX13_enter_10 : decode cX13_enter 10 = .ok (.iconst 1, 1) := dk_4 (dk_at dksX13_enter_0 10 rfl rfl)
theorem dX13_enter_11 : decode cX13_enter 11 = .ok (.goto 4, 3) := dk_167 0 4 (dk_at dksX13_enter_0 11 rfl rfl)
theorem dX13_enter_14 : decode cX13_enter 14 = .ok (.iconst 0, 1) := dk_3 (dk_at dksX13_enter_0 14 rfl rfl)
theorem dX13_enter_15 : decode cX13_enter 15 = .ok (.iconst 3, 1) := dk_6 (dk_at dksX13_enter_0 15 rfl rfl)
theorem dX13_enter_16 : decode cX13_enter 16 = .ok (.invokevirtual 27, 3) := dk_182 0 27 (dk_at dksX13_enter_0 16 rfl rfl)
theorem dX13_enter_19 : decode cX13_enter 19 = .ok (.aload_n 0, 1) := dk_42 (dk_at dksX13_enter_0 19 rfl rfl)
theorem dX13_enter_20 : decode cX13_enter 20 = .ok (.dup, 1) := dk_89 (dk_at dksX13_enter_0 20 rfl rfl)
theorem dX13_enter_21 : decode cX13_enter 21 = .ok (.getfield 68, 3) := dk_180 0 68 (dk_at dksX13_enter_0 21 rfl rfl)
theorem dX13_enter_24 : decode cX13_enter 24 = .ok (.iconst 1, 1) := dk_4 (dk_at dksX13_enter_1 0 rfl rfl)
theorem dX13_enter_25 : decode cX13_enter 25 = .ok (.iadd, 1) := dk_96 (dk_at dksX13_enter_1 1 rfl rfl)
theorem dX13_enter_26 : decode cX13_enter 26 = .ok (.putfield 68, 3) := dk_181 0 68 (dk_at dksX13_enter_1 2 rfl rfl)
theorem dX13_enter_29 : decode cX13_enter 29 = .ok (.aload_n 0, 1) := dk_42 (dk_at dksX13_enter_1 5 rfl rfl)
theorem dX13_enter_30 : decode cX13_enter 30 = .ok (.invokevirtual 72, 3) := dk_182 0 72 (dk_at dksX13_enter_1 6 rfl rfl)
theorem dX13_enter_33 : decode cX13_enter 33 = .ok (.return_, 1) := dk_177 (dk_at dksX13_enter_1 9 rfl rfl)
def dkwX13_operand_2 : List UInt8 := [182, 0, 72, 27, 172]
abbrev dktX13_operand_2 : List UInt8 := dkwX13_operand_2 ++ []
def dkwX13_operand_1 : List UInt8 := [182, 0, 75, 184, 0, 121, 60, 42, 27, 2, 159, 0, 7, 4, 167, 0, 4, 3, 4, 182, 0, 27, 42]
abbrev dktX13_operand_1 : List UInt8 := dkwX13_operand_1 ++ dktX13_operand_2
def dkwX13_operand_0 : List UInt8 := [42, 180, 0, 35, 178, 0, 114, 166, 0, 14, 2, 42, 3, 17, 39, 15, 182, 0, 117, 100, 172, 42]
abbrev dktX13_operand_0 : List UInt8 := dkwX13_operand_0 ++ dktX13_operand_1
theorem dksX13_operand_0 : cX13_operand.data.toList.drop 0 = dktX13_operand_0 := by decide +kernel
theorem dksX13_operand_1 : cX13_operand.data.toList.drop 22 = dktX13_operand_1 := dk_seg dksX13_operand_0 22 rfl rfl
theorem dksX13_operand_2 : cX13_operand.data.toList.drop 45 = dktX13_operand_2 := dk_seg dksX13_operand_1 23 rfl rfl
theorem dX13_operand_0 : decode cX13_operand 0 = .ok (.aload_n 0, 1) := dk_42 (dk_at dksX13_operand_0 0 rfl rfl)
theorem dX13_operand_1 : decode cX13_operand 1 = .ok (.getfield 35, 3) := dk_180 0 35 (dk_at dksX13_operand_0 1 rfl rfl)
theorem dX13_operand_4 : decode cX13_operand 4 = .ok (.getstatic 114, 3) := dk_178 0 114 (dk_at dksX13_operand_0 4 rfl rfl)
theorem dX13_operand_7 : decode cX13_operand 7 = .ok (.if_acmp .ne 14, 3) := dk_166 0 14 (dk_at dksX13_operand_0 7 rfl rfl)
theorem dX13_operand_10 : decode cX13_operand 10 = .ok (.iconst (-1), 1) := dk_2 (dk_at dksX13_operand_0 10 rfl rfl)
theorem dX13_operand_11 : decode cX13_operand 11 = .ok (.aload_n 0, 1) := dk_42 (dk_at dksX13_operand_0 11 rfl rfl)
theorem dX13_operand_12 : decode cX13_operand 12 = .ok (.iconst 0, 1) := dk_3 (dk_at dksX13_operand_0 12 rfl rfl)
theorem dX13_operand_13 : decode cX13_operand 13 = .ok (.sipush 9999, 3) := dk_17 39 15 (dk_at dksX13_operand_0 13 rfl rfl)
theorem dX13_operand_16 : decode cX13_operand 16 = .ok (.invokevirtual 117, 3) := dk_182 0 117 (dk_at dksX13_operand_0 16 rfl rfl)
theorem dX13_operand_19 : decode cX13_operand 19 = .ok (.isub, 1) := dk_100 (dk_at dksX13_operand_0 19 rfl rfl)
theorem dX13_operand_20 : decode cX13_operand 20 = .ok (.ireturn, 1) := dk_172 (dk_at dksX13_operand_0 20 rfl rfl)
theorem dX13_operand_21 : decode cX13_operand 21 = .ok (.aload_n 0, 1) := dk_42 (dk_at dksX13_operand_0 21 rfl rfl)
theorem dX13_operand_22 : decode cX13_operand 22 = .ok (.invokevirtual 75, 3) := dk_182 0 75 (dk_at dksX13_operand_1 0 rfl rfl)
theorem dX13_operand_25 : decode cX13_operand 25 = .ok (.invokestatic 121, 3) := dk_184 0 121 (dk_at dksX13_operand_1 3 rfl rfl)
theorem dX13_operand_28 : decode cX13_operand 28 = .ok (.istore_n 1, 1) := dk_60 (dk_at dksX13_operand_1 6 rfl rfl)
theorem dX13_operand_29 : decode cX13_operand 29 = .ok (.aload_n 0, 1) := dk_42 (dk_at dksX13_operand_1 7 rfl rfl)
theorem dX13_operand_30 : decode cX13_operand 30 = .ok (.iload_n 1, 1) := dk_27 (dk_at dksX13_operand_1 8 rfl rfl)
theorem dX13_operand_31 : decode cX13_operand 31 = .ok (.iconst (-1), 1) := dk_2 (dk_at dksX13_operand_1 9 rfl rfl)
theorem dX13_operand_32 : decode cX13_operand 32 = .ok (.if_icmp .eq 7, 3) := dk_159 0 7 (dk_at dksX13_operand_1 10 rfl rfl)
theorem dX13_operand_35 : decode cX13_operand 35 = .ok (.iconst 1, 1) := dk_4 (dk_at dksX13_operand_1 13 rfl rfl)
theorem dX13_operand_36 : decode cX13_operand 36 = .ok (.goto 4, 3) := dk_167 0 4 (dk_at dksX13_operand_1 14 rfl rfl)
theorem dX13_operand_39 : decode cX13_operand 39 = .ok (.iconst 0, 1) := dk_3 (dk_at dksX13_operand_1 17 rfl rfl)
theorem dX13_operand_40 : decode cX13_operand 40 = .ok (.iconst 1, 1) := dk_4 (dk_at dksX13_operand_1 18 rfl rfl)
theorem dX13_operand_41 : decode cX13_operand 41 = .ok (.invokevirtual 27, 3) := dk_182 0 27 (dk_at dksX13_operand_1 19 rfl rfl)
theorem dX13_operand_44 : decode cX13_operand 44 = .ok (.aload_n 0, 1) := dk_42 (dk_at dksX13_operand_1 22 rfl rfl)
theorem dX13_operand_45 : decode cX13_operand 45 = .ok (.invokevirtual 72, 3) := dk_182 0 72 (dk_at dksX13_operand_2 0 rfl rfl)
theorem dX13_operand_48 : decode cX13_operand 48 = .ok (.iload_n 1, 1) := dk_27 (dk_at dksX13_operand_2 3 rfl rfl)
theorem dX13_operand_49 : decode cX13_operand 49 = .ok (.ireturn, 1) := dk_172 (dk_at dksX13_operand_2 4 rfl rfl)
theorem dX14_init_0 : decode cX14_init 0 = .ok (.aload_n 0, 1) := by decide +kernel
theorem dX14_init_1 : decode cX14_init 1 = .ok (.invokespecial 1, 3) := by decide +kernel
theorem dX14_init_4 : decode cX14_init 4 = .ok (.return_, 1) := by decide +kernel
def dkwX15_init_0 : List UInt8 := [42, 183, 0, 1, 42, 43, 181, 0, 7, 177]
abbrev dktX15_init_0 : List UInt8 := dkwX15_init_0 ++ []
theorem dksX15_init_0 : cX15_init.data.toList.drop 0 = dktX15_init_0 := by decide +kernel
theorem dX15_init_0 : decode cX15_init 0 = .ok (.aload_n 0, 1) := dk_42 (dk_at dksX15_init_0 0 rfl rfl)
theorem dX15_init_1 : decode cX15_init 1 = .ok (.invokespecial 1, 3) := dk_183 0 1 (dk_at dksX15_init_0 1 rfl rfl)
theorem dX15_init_4 : decode cX15_init 4 = .ok (.aload_n 0, 1) := dk_42 (dk_at dksX15_init_0 4 rfl rfl)
theorem dX15_init_5 : decode cX15_init 5 = .ok (.aload_n 1, 1) := dk_43 (dk_at dksX15_init_0 5 rfl rfl)
theorem dX15_init_6 : decode cX15_init 6 = .ok (.putfield 7, 3) := dk_181 0 7 (dk_at dksX15_init_0 6 rfl rfl)
theorem dX15_init_9 : decode cX15_init 9 = .ok (.return_, 1) := dk_177 (dk_at dksX15_init_0 9 rfl rfl)
def dkwX15_holds_0 : List UInt8 := [42, 180, 0, 7, 43, 28, 182, 0, 13, 154, 0, 7, 4, 167, 0, 4, 3, 172]
abbrev dktX15_holds_0 : List UInt8 := dkwX15_holds_0 ++ []
theorem dksX15_holds_0 : cX15_holds.data.toList.drop 0 = dktX15_holds_0 := by decide +kernel
theorem dX15_holds_0 : decode cX15_holds 0 = .ok (.aload_n 0, 1) := dk_42 (dk_at dksX15_holds_0 0 rfl rfl)
theorem dX15_holds_1 : decode cX15_holds 1 = .ok (.getfield 7, 3) := dk_180 0 7 (dk_at dksX15_holds_0 1 rfl rfl)
theorem dX15_holds_4 : decode cX15_holds 4 = .ok (.aload_n 1, 1) := dk_43 (dk_at dksX15_holds_0 4 rfl rfl)
theorem dX15_holds_5 : decode cX15_holds 5 = .ok (.iload_n 2, 1) := dk_28 (dk_at dksX15_holds_0 5 rfl rfl)
theorem dX15_holds_6 : decode cX15_holds 6 = .ok (.invokevirtual 13, 3) := dk_182 0 13 (dk_at dksX15_holds_0 6 rfl rfl)
theorem dX15_holds_9 : decode cX15_holds 9 = .ok (.ifCond .ne 7, 3) := dk_154 0 7 (dk_at dksX15_holds_0 9 rfl rfl)
theorem dX15_holds_12 : decode cX15_holds 12 = .ok (.iconst 1, 1) := dk_4 (dk_at dksX15_holds_0 12 rfl rfl)
theorem dX15_holds_13 : decode cX15_holds 13 = .ok (.goto 4, 3) := dk_167 0 4 (dk_at dksX15_holds_0 13 rfl rfl)
theorem dX15_holds_16 : decode cX15_holds 16 = .ok (.iconst 0, 1) := dk_3 (dk_at dksX15_holds_0 16 rfl rfl)
theorem dX15_holds_17 : decode cX15_holds 17 = .ok (.ireturn, 1) := dk_172 (dk_at dksX15_holds_0 17 rfl rfl)
def dkwX16_init_0 : List UInt8 := [42, 183, 0, 1, 42, 27, 181, 0, 7, 42, 28, 181, 0, 13, 42, 29, 181, 0, 16, 177]
abbrev dktX16_init_0 : List UInt8 := dkwX16_init_0 ++ []
theorem dksX16_init_0 : cX16_init.data.toList.drop 0 = dktX16_init_0 := by decide +kernel
theorem dX16_init_0 : decode cX16_init 0 = .ok (.aload_n 0, 1) := dk_42 (dk_at dksX16_init_0 0 rfl rfl)
theorem dX16_init_1 : decode cX16_init 1 = .ok (.invokespecial 1, 3) := dk_183 0 1 (dk_at dksX16_init_0 1 rfl rfl)
theorem dX16_init_4 : decode cX16_init 4 = .ok (.aload_n 0, 1) := dk_42 (dk_at dksX16_init_0 4 rfl rfl)
theorem dX16_init_5 : decode cX16_init 5 = .ok (.iload_n 1, 1) := dk_27 (dk_at dksX16_init_0 5 rfl rfl)
theorem dX16_init_6 : decode cX16_init 6 = .ok (.putfield 7, 3) := dk_181 0 7 (dk_at dksX16_init_0 6 rfl rfl)
theorem dX16_init_9 : decode cX16_init 9 = .ok (.aload_n 0, 1) := dk_42 (dk_at dksX16_init_0 9 rfl rfl)
theorem dX16_init_10 : decode cX16_init 10 = .ok (.iload_n 2, 1) := dk_28 (dk_at dksX16_init_0 10 rfl rfl)
theorem dX16_init_11 : decode cX16_init 11 = .ok (.putfield 13, 3) := dk_181 0 13 (dk_at dksX16_init_0 11 rfl rfl)
theorem dX16_init_14 : decode cX16_init 14 = .ok (.aload_n 0, 1) := dk_42 (dk_at dksX16_init_0 14 rfl rfl)
theorem dX16_init_15 : decode cX16_init 15 = .ok (.iload_n 3, 1) := dk_29 (dk_at dksX16_init_0 15 rfl rfl)
theorem dX16_init_16 : decode cX16_init 16 = .ok (.putfield 16, 3) := dk_181 0 16 (dk_at dksX16_init_0 16 rfl rfl)
theorem dX16_init_19 : decode cX16_init 19 = .ok (.return_, 1) := dk_177 (dk_at dksX16_init_0 19 rfl rfl)
def dkwX16_holds_3 : List UInt8 := [21, 4, 160, 0, 7, 4, 167, 0, 4, 3, 172]
abbrev dktX16_holds_3 : List UInt8 := dkwX16_holds_3 ++ []
def dkwX16_holds_2 : List UInt8 := [180, 0, 13, 16, 62, 160, 0, 17, 29, 21, 4, 164, 0, 7, 4, 167, 0, 18, 3, 167, 0, 14, 29]
abbrev dktX16_holds_2 : List UInt8 := dkwX16_holds_2 ++ dktX16_holds_3
def dkwX16_holds_1 : List UInt8 := [180, 0, 13, 16, 60, 160, 0, 17, 29, 21, 4, 162, 0, 7, 4, 167, 0, 41, 3, 167, 0, 37, 42]
abbrev dktX16_holds_1 : List UInt8 := dkwX16_holds_1 ++ dktX16_holds_2
def dkwX16_holds_0 : List UInt8 := [42, 180, 0, 7, 43, 28, 184, 0, 19, 62, 42, 180, 0, 16, 43, 28, 184, 0, 19, 54, 4, 42]
abbrev dktX16_holds_0 : List UInt8 := dkwX16_holds_0 ++ dktX16_holds_1
theorem dksX16_holds_0 : cX16_holds.data.toList.drop 0 = dktX16_holds_0 := by decide +kernel
theorem dksX16_holds_1 : cX16_holds.data.toList.drop 22 = dktX16_holds_1 := dk_seg dksX16_holds_0 22 rfl rfl
theorem dksX16_holds_2 : cX16_holds.data.toList.drop 45 = dktX16_holds_2 := dk_seg dksX16_holds_1 23 rfl rfl
theorem dksX16_holds_3 : cX16_holds.data.toList.drop 68 = dktX16_holds_3 := dk_seg dksX16_holds_2 23 rfl rfl
theorem dX16_holds_0 : decode cX16_holds 0 = .ok (.aload_n 0, 1) := dk_42 (dk_at dksX16_holds_0 0 rfl rfl)
theorem dX16_holds_1 : decode cX16_holds 1 = .ok (.getfield 7, 3) := dk_180 0 7 (dk_at dksX16_holds_0 1 rfl rfl)
theorem dX16_holds_4 : decode cX16_holds 4 = .ok (.aload_n 1, 1) := dk_43 (dk_at dksX16_holds_0 4 rfl rfl)
theorem dX16_holds_5 : decode cX16_holds 5 = .ok (.iload_n 2, 1) := dk_28 (dk_at dksX16_holds_0 5 rfl rfl)
theorem dX16_holds_6 : decode cX16_holds 6 = .ok (.invokestatic 19, 3) := dk_184 0 19 (dk_at dksX16_holds_0 6 rfl rfl)
theorem dX16_holds_9 : decode cX16_holds 9 = .ok (.istore_n 3, 1) := dk_62 (dk_at dksX16_holds_0 9 rfl rfl)
theorem dX16_holds_10 : decode cX16_holds 10 = .ok (.aload_n 0, 1) := dk_42 (dk_at dksX16_holds_0 10 rfl rfl)
theorem dX16_holds_11 : decode cX16_holds 11 = .ok (.getfield 16, 3) := dk_180 0 16 (dk_at dksX16_holds_0 11 rfl rfl)
theorem dX16_holds_14 : decode cX16_holds 14 = .ok (.aload_n 1, 1) := dk_43 (dk_at dksX16_holds_0 14 rfl rfl)
theorem dX16_holds_15 : decode cX16_holds 15 = .ok (.iload_n 2, 1) := dk_28 (dk_at dksX16_holds_0 15 rfl rfl)
theorem dX16_holds_16 : decode cX16_holds 16 = .ok (.invokestatic 19, 3) := dk_184 0 19 (dk_at dksX16_holds_0 16 rfl rfl)
theorem dX16_holds_19 : decode cX16_holds 19 = .ok (.istore 4, 2) := dk_54 4 (dk_at dksX16_holds_0 19 rfl rfl)
theorem dX16_holds_21 : decode cX16_holds 21 = .ok (.aload_n 0, 1) := dk_42 (dk_at dksX16_holds_0 21 rfl rfl)
theorem dX16_holds_22 : decode cX16_holds 22 = .ok (.getfield 13, 3) := dk_180 0 13 (dk_at dksX16_holds_1 0 rfl rfl)
theorem dX16_holds_25 : decode cX16_holds 25 = .ok (.bipush 60, 2) := dk_16 60 (dk_at dksX16_holds_1 3 rfl rfl)
theorem dX16_holds_27 : decode cX16_holds 27 = .ok (.if_icmp .ne 17, 3) := dk_160 0 17 (dk_at dksX16_holds_1 5 rfl rfl)
theorem dX16_holds_30 : decode cX16_holds 30 = .ok (.iload_n 3, 1) := dk_29 (dk_at dksX16_holds_1 8 rfl rfl)
theorem dX16_holds_31 : decode cX16_holds 31 = .ok (.iload 4, 2) := dk_21 4 (dk_at dksX16_holds_1 9 rfl rfl)
theorem dX16_holds_33 : decode cX16_holds 33 = .ok (.if_icmp .ge 7, 3) := dk_162 0 7 (dk_at dksX16_holds_1 11 rfl rfl)
theorem dX16_holds_36 : decode cX16_holds 36 = .ok (.iconst 1, 1) := dk_4 (dk_at dksX16_holds_1 14 rfl rfl)
theorem dX16_holds_37 : decode cX16_holds 37 = .ok (.goto 41, 3) := dk_167 0 41 (dk_at dksX16_holds_1 15 rfl rfl)
theorem dX16_holds_40 : decode cX16_holds 40 = .ok (.iconst 0, 1) := dk_3 (dk_at dksX16_holds_1 18 rfl rfl)
theorem dX16_holds_41 : decode cX16_holds 41 = .ok (.goto 37, 3) := dk_167 0 37 (dk_at dksX16_holds_1 19 rfl rfl)
theorem dX16_holds_44 : decode cX16_holds 44 = .ok (.aload_n 0, 1) := dk_42 (dk_at dksX16_holds_1 22 rfl rfl)
theorem dX16_holds_45 : decode cX16_holds 45 = .ok (.getfield 13, 3) := dk_180 0 13 (dk_at dksX16_holds_2 0 rfl rfl)
theorem dX16_holds_48 : decode cX16_holds 48 = .ok (.bipush 62, 2) := dk_16 62 (dk_at dksX16_holds_2 3 rfl rfl)
theorem dX16_holds_50 : decode cX16_holds 50 = .ok (.if_icmp .ne 17, 3) := dk_160 0 17 (dk_at dksX16_holds_2 5 rfl rfl)
theorem dX16_holds_53 : decode cX16_holds 53 = .ok (.iload_n 3, 1) := dk_29 (dk_at dksX16_holds_2 8 rfl rfl)
theorem dX16_holds_54 : decode cX16_holds 54 = .ok (.iload 4, 2) := dk_21 4 (dk_at dksX16_holds_2 9 rfl rfl)
theorem dX16_holds_56 : decode cX16_holds 56 = .ok (.if_icmp .le 7, 3) := dk_164 0 7 (dk_at dksX16_holds_2 11 rfl rfl)
theorem dX16_holds_59 : decode cX16_holds 59 = .ok (.iconst 1, 1) := dk_4 (dk_at dksX16_holds_2 14 rfl rfl)
theorem dX16_holds_60 : decode cX16_holds 60 = .ok (.goto 18, 3) := dk_167 0 18 (dk_at dksX16_holds_2 15 rfl rfl)
theorem dX16_holds_63 : decode cX16_holds 63 = .ok (.iconst 0, 1) := dk_3 (dk_at dksX16_holds_2 18 rfl rfl)
theorem dX16_holds_64 : decode cX16_holds 64 = .ok (.goto 14, 3) := dk_167 0 14 (dk_at dksX16_holds_2 19 rfl rfl)
theorem dX16_holds_67 : decode cX16_holds 67 = .ok (.iload_n 3, 1) := dk_29 (dk_at dksX16_holds_2 22 rfl rfl)
theorem dX16_holds_68 : decode cX16_holds 68 = .ok (.iload 4, 2) := dk_21 4 (dk_at dksX16_holds_3 0 rfl rfl)
theorem dX16_holds_70 : decode cX16_holds 70 = .ok (.if_icmp .ne 7, 3) := dk_160 0 7 (dk_at dksX16_holds_3 2 rfl rfl)
theorem dX16_holds_73 : decode cX16_holds 73 = .ok (.iconst 1, 1) := dk_4 (dk_at dksX16_holds_3 5 rfl rfl)
theorem dX16_holds_74 : decode cX16_holds 74 = .ok (.goto 4, 3) := dk_167 0 4 (dk_at dksX16_holds_3 6 rfl rfl)
theorem dX16_holds_77 : decode cX16_holds 77 = .ok (.iconst 0, 1) := dk_3 (dk_at dksX16_holds_3 9 rfl rfl)
theorem dX16_holds_78 : decode cX16_holds 78 = .ok (.ireturn, 1) := dk_172 (dk_at dksX16_holds_3 10 rfl rfl)
def dkwX16_value_0 : List UInt8 := [26, 156, 0, 7, 2, 26, 100, 172, 26, 43, 28, 184, 0, 23, 172]
abbrev dktX16_value_0 : List UInt8 := dkwX16_value_0 ++ []
theorem dksX16_value_0 : cX16_value.data.toList.drop 0 = dktX16_value_0 := by decide +kernel
theorem dX16_value_0 : decode cX16_value 0 = .ok (.iload_n 0, 1) := dk_26 (dk_at dksX16_value_0 0 rfl rfl)
theorem dX16_value_1 : decode cX16_value 1 = .ok (.ifCond .ge 7, 3) := dk_156 0 7 (dk_at dksX16_value_0 1 rfl rfl)
theorem dX16_value_4 : decode cX16_value 4 = .ok (.iconst (-1), 1) := dk_2 (dk_at dksX16_value_0 4 rfl rfl)
theorem dX16_value_5 : decode cX16_value 5 = .ok (.iload_n 0, 1) := dk_26 (dk_at dksX16_value_0 5 rfl rfl)
theorem dX16_value_6 : decode cX16_value 6 = .ok (.isub, 1) := dk_100 (dk_at dksX16_value_0 6 rfl rfl)
theorem dX16_value_7 : decode cX16_value 7 = .ok (.ireturn, 1) := dk_172 (dk_at dksX16_value_0 7 rfl rfl)
theorem dX16_value_8 : decode cX16_value 8 = .ok (.iload_n 0, 1) := dk_26 (dk_at dksX16_value_0 8 rfl rfl)
theorem dX16_value_9 : decode cX16_value 9 = .ok (.aload_n 1, 1) := dk_43 (dk_at dksX16_value_0 9 rfl rfl)
theorem dX16_value_10 : decode cX16_value 10 = .ok (.iload_n 2, 1) := dk_28 (dk_at dksX16_value_0 10 rfl rfl)
theorem dX16_value_11 : decode cX16_value 11 = .ok (.invokestatic 23, 3) := dk_184 0 23 (dk_at dksX16_value_0 11 rfl rfl)
theorem dX16_value_14 : decode cX16_value 14 = .ok (.ireturn, 1) := dk_172 (dk_at dksX16_value_0 14 rfl rfl)
def dkwX17_init_0 : List UInt8 := [42, 183, 0, 1, 42, 43, 181, 0, 7, 42, 28, 181, 0, 13, 177]
abbrev dktX17_init_0 : List UInt8 := dkwX17_init_0 ++ []
theorem dksX17_init_0 : cX17_init.data.toList.drop 0 = dktX17_init_0 := by decide +kernel
theorem dX17_init_0 : decode cX17_init 0 = .ok (.aload_n 0, 1) := dk_42 (dk_at dksX17_init_0 0 rfl rfl)
theorem dX17_init_1 : decode cX17_init 1 = .ok (.invokespecial 1, 3) := dk_183 0 1 (dk_at dksX17_init_0 1 rfl rfl)
theorem dX17_init_4 : decode cX17_init 4 = .ok (.aload_n 0, 1) := dk_42 (dk_at dksX17_init_0 4 rfl rfl)
theorem dX17_init_5 : decode cX17_init 5 = .ok (.aload_n 1, 1) := dk_43 (dk_at dksX17_init_0 5 rfl rfl)
theorem dX17_init_6 : decode cX17_init 6 = .ok (.putfield 7, 3) := dk_181 0 7 (dk_at dksX17_init_0 6 rfl rfl)
theorem dX17_init_9 : decode cX17_init 9 = .ok (.aload_n 0, 1) := dk_42 (dk_at dksX17_init_0 9 rfl rfl)
theorem dX17_init_10 : decode cX17_init 10 = .ok (.iload_n 2, 1) := dk_28 (dk_at dksX17_init_0 10 rfl rfl)
theorem dX17_init_11 : decode cX17_init 11 = .ok (.putfield 13, 3) := dk_181 0 13 (dk_at dksX17_init_0 11 rfl rfl)
theorem dX17_init_14 : decode cX17_init 14 = .ok (.return_, 1) := dk_177 (dk_at dksX17_init_0 14 rfl rfl)
def dkwX17_holds_2 : List UInt8 := [180, 0, 13, 154, 0, 7, 4, 167, 0, 4, 3, 172]
abbrev dktX17_holds_2 : List UInt8 := dkwX17_holds_2 ++ []
def dkwX17_holds_1 : List UInt8 := [43, 28, 182, 0, 27, 42, 180, 0, 13, 160, 0, 8, 42, 180, 0, 13, 172, 132, 3, 1, 167, 255, 214, 42]
abbrev dktX17_holds_1 : List UInt8 := dkwX17_holds_1 ++ dktX17_holds_2
def dkwX17_holds_0 : List UInt8 := [3, 62, 29, 42, 180, 0, 7, 182, 0, 17, 162, 0, 37, 42, 180, 0, 7, 29, 182, 0, 23, 192, 0, 2]
abbrev dktX17_holds_0 : List UInt8 := dkwX17_holds_0 ++ dktX17_holds_1
theorem dksX17_holds_0 : cX17_holds.data.toList.drop 0 = dktX17_holds_0 := by decide +kernel
theorem dksX17_holds_1 : cX17_holds.data.toList.drop 24 = dktX17_holds_1 := dk_seg dksX17_holds_0 24 rfl rfl
theorem dksX17_holds_2 : cX17_holds.data.toList.drop 48 = dktX17_holds_2 := dk_seg dksX17_holds_1 24 rfl rfl
theorem dX17_holds_0 : decode cX17_holds 0 = .ok (.iconst 0, 1) := dk_3 (dk_at dksX17_holds_0 0 rfl rfl)
theorem dX17_holds_1 : decode cX17_holds 1 = .ok (.istore_n 3, 1) := dk_62 (dk_at dksX17_holds_0 1 rfl rfl)
theorem dX17_holds_2 : decode cX17_holds 2 = .ok (.iload_n 3, 1) := dk_29 (dk_at dksX17_holds_0 2 rfl rfl)
theorem dX17_holds_3 : decode cX17_holds 3 = .ok (.aload_n 0, 1) := dk_42 (dk_at dksX17_holds_0 3 rfl rfl)
theorem dX17_holds_4 : decode cX17_holds 4 = .ok (.getfield 7, 3) := dk_180 0 7 (dk_at dksX17_holds_0 4 rfl rfl)
theorem dX17_holds_7 : decode cX17_holds 7 = .ok (.invokevirtual 17, 3) := dk_182 0 17 (dk_at dksX17_holds_0 7 rfl rfl)
theorem dX17_holds_10 : decode cX17_holds 10 = .ok (.if_icmp .ge 37, 3) := dk_162 0 37 (dk_at dksX17_holds_0 10 rfl rfl)
theorem dX17_holds_13 : decode cX17_holds 13 = .ok (.aload_n 0, 1) := dk_42 (dk_at dksX17_holds_0 13 rfl rfl)
theorem dX17_holds_14 : decode cX17_holds 14 = .ok (.getfield 7, 3) := dk_180 0 7 (dk_at dksX17_holds_0 14 rfl rfl)
theorem dX17_holds_17 : decode cX17_holds 17 = .ok (.iload_n 3, 1) := dk_29 (dk_at dksX17_holds_0 17 rfl rfl)
theorem dX17_holds_18 : decode cX17_holds 18 = .ok (.invokevirtual 23, 3) := dk_182 0 23 (dk_at dksX17_holds_0 18 rfl rfl)
theorem dX17_holds_21 : decode cX17_holds 21 = .ok (.checkcast 2, 3) := dk_192 0 2 (dk_at dksX17_holds_0 21 rfl rfl)
theorem dX17_holds_24 : decode cX17_holds 24 = .ok (.aload_n 1, 1) := dk_43 (dk_at dksX17_holds_1 0 rfl rfl)
theorem dX17_holds_25 : decode cX17_holds 25 = .ok (.iload_n 2, 1) := dk_28 (dk_at dksX17_holds_1 1 rfl rfl)
theorem dX17_holds_26 : decode cX17_holds 26 = .ok (.invokevirtual 27, 3) := dk_182 0 27 (dk_at dksX17_holds_1 2 rfl rfl)
theorem dX17_holds_29 : decode cX17_holds 29 = .ok (.aload_n 0, 1) := dk_42 (dk_at dksX17_holds_1 5 rfl rfl)
theorem dX17_holds_30 : decode cX17_holds 30 = .ok (.getfield 13, 3) := dk_180 0 13 (dk_at dksX17_holds_1 6 rfl rfl)
theorem dX17_holds_33 : decode cX17_holds 33 = .ok (.if_icmp .ne 8, 3) := dk_160 0 8 (dk_at dksX17_holds_1 9 rfl rfl)
theorem dX17_holds_36 : decode cX17_holds 36 = .ok (.aload_n 0, 1) := dk_42 (dk_at dksX17_holds_1 12 rfl rfl)
theorem dX17_holds_37 : decode cX17_holds 37 = .ok (.getfield 13, 3) := dk_180 0 13 (dk_at dksX17_holds_1 13 rfl rfl)
theorem dX17_holds_40 : decode cX17_holds 40 = .ok (.ireturn, 1) := dk_172 (dk_at dksX17_holds_1 16 rfl rfl)
theorem dX17_holds_41 : decode cX17_holds 41 = .ok (.iinc 3 1, 3) := dk_132 3 1 (dk_at dksX17_holds_1 17 rfl rfl)
theorem dX17_holds_44 : decode cX17_holds 44 = .ok (.goto (-42), 3) := dk_167 255 214 (dk_at dksX17_holds_1 20 rfl rfl)
theorem dX17_holds_47 : decode cX17_holds 47 = .ok (.aload_n 0, 1) := dk_42 (dk_at dksX17_holds_1 23 rfl rfl)
theorem dX17_holds_48 : decode cX17_holds 48 = .ok (.getfield 13, 3) := dk_180 0 13 (dk_at dksX17_holds_2 0 rfl rfl)
theorem dX17_holds_51 : decode cX17_holds 51 = .ok (.ifCond .ne 7, 3) := dk_154 0 7 (dk_at dksX17_holds_2 3 rfl rfl)
theorem dX17_holds_54 : decode cX17_holds 54 = .ok (.iconst 1, 1) := dk_4 (dk_at dksX17_holds_2 6 rfl rfl)
theorem dX17_holds_55 : decode cX17_holds 55 = .ok (.goto 4, 3) := dk_167 0 4 (dk_at dksX17_holds_2 7 rfl rfl)
theorem dX17_holds_58 : decode cX17_holds 58 = .ok (.iconst 0, 1) := dk_3 (dk_at dksX17_holds_2 10 rfl rfl)
theorem dX17_holds_59 : decode cX17_holds 59 = .ok (.ireturn, 1) := dk_172 (dk_at dksX17_holds_2 11 rfl rfl)
def dkwX18_fits_0 : List UInt8 := [28, 43, 180, 0, 7, 162, 0, 7, 4, 167, 0, 4, 3, 172]
abbrev dktX18_fits_0 : List UInt8 := dkwX18_fits_0 ++ []
theorem dksX18_fits_0 : cX18_fits.data.toList.drop 0 = dktX18_fits_0 := by decide +kernel
theorem dX18_fits_0 : decode cX18_fits 0 = .ok (.iload_n 2, 1) := dk_28 (dk_at dksX18_fits_0 0 rfl rfl)
theorem dX18_fits_1 : decode cX18_fits 1 = .ok (.aload_n 1, 1) := dk_43 (dk_at dksX18_fits_0 1 rfl rfl)
theorem dX18_fits_2 : decode cX18_fits 2 = .ok (.getfield 7, 3) := dk_180 0 7 (dk_at dksX18_fits_0 2 rfl rfl)
theorem dX18_fits_5 : decode cX18_fits 5 = .ok (.if_icmp .ge 7, 3) := dk_162 0 7 (dk_at dksX18_fits_0 5 rfl rfl)
theorem dX18_fits_8 : decode cX18_fits 8 = .ok (.iconst 1, 1) := dk_4 (dk_at dksX18_fits_0 8 rfl rfl)
theorem dX18_fits_9 : decode cX18_fits 9 = .ok (.goto 4, 3) := dk_167 0 4 (dk_at dksX18_fits_0 9 rfl rfl)
theorem dX18_fits_12 : decode cX18_fits 12 = .ok (.iconst 0, 1) := dk_3 (dk_at dksX18_fits_0 12 rfl rfl)
theorem dX18_fits_13 : decode cX18_fits 13 = .ok (.ireturn, 1) := dk_172 (dk_at dksX18_fits_0 13 rfl rfl)
def dkwX19_fits_0 : List UInt8 := [43, 28, 182, 0, 7, 172]
abbrev dktX19_fits_0 : List UInt8 := dkwX19_fits_0 ++ []
theorem dksX19_fits_0 : cX19_fits.data.toList.drop 0 = dktX19_fits_0 := by decide +kernel
theorem dX19_fits_0 : decode cX19_fits 0 = .ok (.aload_n 1, 1) := dk_43 (dk_at dksX19_fits_0 0 rfl rfl)
theorem dX19_fits_1 : decode cX19_fits 1 = .ok (.iload_n 2, 1) := dk_28 (dk_at dksX19_fits_0 1 rfl rfl)
theorem dX19_fits_2 : decode cX19_fits 2 = .ok (.invokevirtual 7, 3) := dk_182 0 7 (dk_at dksX19_fits_0 2 rfl rfl)
theorem dX19_fits_5 : decode cX19_fits 5 = .ok (.ireturn, 1) := dk_172 (dk_at dksX19_fits_0 5 rfl rfl)
def dkwX20_fits_0 : List UInt8 := [43, 28, 182, 0, 7, 172]
abbrev dktX20_fits_0 : List UInt8 := dkwX20_fits_0 ++ []
theorem dksX20_fits_0 : cX20_fits.data.toList.drop 0 = dktX20_fits_0 := by decide +kernel
theorem dX20_fits_0 : decode cX20_fits 0 = .ok (.aload_n 1, 1) := dk_43 (dk_at dksX20_fits_0 0 rfl rfl)
theorem dX20_fits_1 : decode cX20_fits 1 = .ok (.iload_n 2, 1) := dk_28 (dk_at dksX20_fits_0 1 rfl rfl)
theorem dX20_fits_2 : decode cX20_fits 2 = .ok (.invokevirtual 7, 3) := dk_182 0 7 (dk_at dksX20_fits_0 2 rfl rfl)
theorem dX20_fits_5 : decode cX20_fits 5 = .ok (.ireturn, 1) := dk_172 (dk_at dksX20_fits_0 5 rfl rfl)
theorem dX21_fits_0 : decode cX21_fits 0 = .ok (.aload_n 1, 1) := by decide +kernel
theorem dX21_fits_1 : decode cX21_fits 1 = .ok (.instanceof 7, 3) := by decide +kernel
theorem dX21_fits_4 : decode cX21_fits 4 = .ok (.ireturn, 1) := by decide +kernel
def dkwL_law_72 : List UInt8 := [4, 172]
abbrev dktL_law_72 : List UInt8 := dkwL_law_72 ++ []
def dkwL_law_71 : List UInt8 := [154, 0, 15, 45, 3, 47, 21, 6, 133, 148, 153, 0, 5, 3, 172, 167, 0, 3, 132, 4, 6, 167, 249, 20]
abbrev dktL_law_71 : List UInt8 := dkwL_law_71 ++ dktL_law_72
def dkwL_law_70 : List UInt8 := [21, 4, 4, 96, 46, 182, 0, 209, 54, 6, 44, 182, 0, 94, 21, 5, 159, 0, 5, 3, 172, 21, 5]
abbrev dktL_law_70 : List UInt8 := dkwL_law_70 ++ dktL_law_71
def dkwL_law_69 : List UInt8 := [182, 0, 206, 159, 0, 61, 3, 172, 43, 42, 21, 4, 4, 96, 46, 45, 184, 0, 207, 54, 5, 44, 42]
abbrev dktL_law_69 : List UInt8 := dkwL_law_69 ++ dktL_law_70
def dkwL_law_68 : List UInt8 := [182, 0, 197, 159, 0, 85, 3, 172, 43, 182, 0, 198, 44, 182, 0, 201, 167, 0, 72, 43, 182, 0, 202, 44]
abbrev dktL_law_68 : List UInt8 := dkwL_law_68 ++ dktL_law_69
def dkwL_law_67 : List UInt8 := [159, 0, 111, 3, 172, 43, 182, 0, 190, 44, 182, 0, 193, 159, 0, 98, 3, 172, 43, 182, 0, 194, 44]
abbrev dktL_law_67 : List UInt8 := dkwL_law_67 ++ dktL_law_68
def dkwL_law_66 : List UInt8 := [167, 0, 134, 43, 42, 21, 4, 4, 96, 46, 182, 0, 186, 44, 42, 21, 4, 4, 96, 46, 182, 0, 189]
abbrev dktL_law_66 : List UInt8 := dkwL_law_66 ++ dktL_law_67
def dkwL_law_65 : List UInt8 := [21, 5, 159, 0, 5, 3, 172, 21, 5, 154, 0, 15, 45, 3, 47, 21, 6, 133, 148, 153, 0, 5, 3, 172]
abbrev dktL_law_65 : List UInt8 := dkwL_law_65 ++ dktL_law_66
def dkwL_law_64 : List UInt8 := [46, 45, 184, 0, 183, 54, 5, 44, 42, 21, 4, 4, 96, 46, 182, 0, 185, 54, 6, 44, 182, 0, 94]
abbrev dktL_law_64 : List UInt8 := dkwL_law_64 ++ dktL_law_65
def dkwL_law_63 : List UInt8 := [154, 0, 15, 45, 3, 47, 21, 6, 133, 148, 153, 0, 5, 3, 172, 167, 0, 190, 43, 42, 21, 4, 4, 96]
abbrev dktL_law_63 : List UInt8 := dkwL_law_63 ++ dktL_law_64
def dkwL_law_62 : List UInt8 := [21, 4, 4, 96, 46, 182, 0, 182, 54, 6, 44, 182, 0, 94, 21, 5, 159, 0, 5, 3, 172, 21, 5]
abbrev dktL_law_62 : List UInt8 := dkwL_law_62 ++ dktL_law_63
def dkwL_law_61 : List UInt8 := [148, 153, 0, 5, 3, 172, 167, 0, 246, 43, 42, 21, 4, 4, 96, 46, 45, 184, 0, 180, 54, 5, 44, 42]
abbrev dktL_law_61 : List UInt8 := dkwL_law_61 ++ dktL_law_62
def dkwL_law_60 : List UInt8 := [54, 6, 44, 182, 0, 94, 21, 5, 159, 0, 5, 3, 172, 21, 5, 154, 0, 15, 45, 3, 47, 21, 6, 133]
abbrev dktL_law_60 : List UInt8 := dkwL_law_60 ++ dktL_law_61
def dkwL_law_59 : List UInt8 := [46, 45, 184, 0, 177, 54, 5, 44, 42, 21, 4, 4, 96, 46, 42, 21, 4, 5, 96, 46, 182, 0, 179]
abbrev dktL_law_59 : List UInt8 := dkwL_law_59 ++ dktL_law_60
def dkwL_law_58 : List UInt8 := [21, 6, 133, 148, 153, 0, 5, 3, 172, 167, 1, 58, 43, 42, 21, 4, 4, 96, 46, 42, 21, 4, 5, 96]
abbrev dktL_law_58 : List UInt8 := dkwL_law_58 ++ dktL_law_59
def dkwL_law_57 : List UInt8 := [182, 0, 176, 54, 6, 44, 182, 0, 94, 21, 5, 159, 0, 5, 3, 172, 21, 5, 154, 0, 15, 45, 3, 47]
abbrev dktL_law_57 : List UInt8 := dkwL_law_57 ++ dktL_law_58
def dkwL_law_56 : List UInt8 := [167, 1, 114, 43, 42, 21, 4, 4, 96, 46, 45, 184, 0, 174, 54, 5, 44, 42, 21, 4, 4, 96, 46]
abbrev dktL_law_56 : List UInt8 := dkwL_law_56 ++ dktL_law_57
def dkwL_law_55 : List UInt8 := [159, 0, 5, 3, 172, 21, 5, 154, 0, 15, 45, 3, 47, 21, 6, 133, 148, 153, 0, 5, 3, 172]
abbrev dktL_law_55 : List UInt8 := dkwL_law_55 ++ dktL_law_56
def dkwL_law_54 : List UInt8 := [184, 0, 171, 54, 5, 44, 42, 21, 4, 4, 96, 46, 182, 0, 173, 54, 6, 44, 182, 0, 94, 21, 5]
abbrev dktL_law_54 : List UInt8 := dkwL_law_54 ++ dktL_law_55
def dkwL_law_53 : List UInt8 := [167, 1, 183, 43, 182, 0, 167, 44, 182, 0, 170, 159, 1, 172, 3, 172, 43, 42, 21, 4, 4, 96, 46, 45]
abbrev dktL_law_53 : List UInt8 := dkwL_law_53 ++ dktL_law_54
def dkwL_law_52 : List UInt8 := [159, 0, 5, 3, 172, 21, 5, 154, 0, 15, 45, 3, 47, 21, 6, 133, 148, 153, 0, 5, 3, 172]
abbrev dktL_law_52 : List UInt8 := dkwL_law_52 ++ dktL_law_53
def dkwL_law_51 : List UInt8 := [184, 0, 164, 54, 5, 44, 42, 21, 4, 4, 96, 46, 182, 0, 166, 54, 6, 44, 182, 0, 94, 21, 5]
abbrev dktL_law_51 : List UInt8 := dkwL_law_51 ++ dktL_law_52
def dkwL_law_50 : List UInt8 := [167, 1, 252, 43, 182, 0, 160, 44, 182, 0, 163, 159, 1, 241, 3, 172, 43, 42, 21, 4, 4, 96, 46, 45]
abbrev dktL_law_50 : List UInt8 := dkwL_law_50 ++ dktL_law_51
def dkwL_law_49 : List UInt8 := [21, 5, 159, 0, 5, 3, 172, 21, 5, 154, 0, 15, 45, 3, 47, 21, 6, 133, 148, 153, 0, 5, 3, 172]
abbrev dktL_law_49 : List UInt8 := dkwL_law_49 ++ dktL_law_50
def dkwL_law_48 : List UInt8 := [96, 46, 45, 184, 0, 157, 54, 5, 44, 42, 21, 4, 4, 96, 46, 182, 0, 159, 54, 6, 44, 182, 0, 94]
abbrev dktL_law_48 : List UInt8 := dkwL_law_48 ++ dktL_law_49
def dkwL_law_47 : List UInt8 := [24, 5, 151, 153, 0, 11, 24, 7, 24, 7, 151, 154, 0, 5, 3, 172, 167, 2, 52, 43, 42, 21, 4, 4]
abbrev dktL_law_47 : List UInt8 := dkwL_law_47 ++ dktL_law_48
def dkwL_law_46 : List UInt8 := [182, 0, 152, 141, 57, 5, 44, 182, 0, 156, 141, 57, 7, 24, 5, 24, 7, 151, 153, 0, 21, 24, 5]
abbrev dktL_law_46 : List UInt8 := dkwL_law_46 ++ dktL_law_47
def dkwL_law_45 : List UInt8 := [24, 5, 24, 5, 151, 153, 0, 11, 24, 7, 24, 7, 151, 154, 0, 5, 3, 172, 167, 2, 95, 43]
abbrev dktL_law_45 : List UInt8 := dkwL_law_45 ++ dktL_law_46
def dkwL_law_44 : List UInt8 := [167, 2, 136, 43, 182, 0, 147, 57, 5, 44, 182, 0, 151, 57, 7, 24, 5, 24, 7, 151, 153, 0, 21]
abbrev dktL_law_44 : List UInt8 := dkwL_law_44 ++ dktL_law_45
def dkwL_law_43 : List UInt8 := [21, 5, 159, 0, 5, 3, 172, 21, 5, 154, 0, 15, 45, 3, 47, 21, 6, 133, 148, 153, 0, 5, 3, 172]
abbrev dktL_law_43 : List UInt8 := dkwL_law_43 ++ dktL_law_44
def dkwL_law_42 : List UInt8 := [46, 45, 184, 0, 144, 54, 5, 44, 42, 21, 4, 4, 96, 46, 182, 0, 146, 54, 6, 44, 182, 0, 94]
abbrev dktL_law_42 : List UInt8 := dkwL_law_42 ++ dktL_law_43
def dkwL_law_41 : List UInt8 := [154, 0, 15, 45, 3, 47, 21, 6, 133, 148, 153, 0, 5, 3, 172, 167, 2, 192, 43, 42, 21, 4, 4, 96]
abbrev dktL_law_41 : List UInt8 := dkwL_law_41 ++ dktL_law_42
def dkwL_law_40 : List UInt8 := [21, 4, 4, 96, 46, 182, 0, 143, 54, 6, 44, 182, 0, 94, 21, 5, 159, 0, 5, 3, 172, 21, 5]
abbrev dktL_law_40 : List UInt8 := dkwL_law_40 ++ dktL_law_41
def dkwL_law_39 : List UInt8 := [153, 0, 5, 3, 172, 167, 2, 248, 43, 42, 21, 4, 4, 96, 46, 45, 184, 0, 141, 54, 5, 44, 42]
abbrev dktL_law_39 : List UInt8 := dkwL_law_39 ++ dktL_law_40
def dkwL_law_38 : List UInt8 := [182, 0, 94, 21, 5, 159, 0, 5, 3, 172, 21, 5, 154, 0, 15, 45, 3, 47, 21, 6, 133, 148]
abbrev dktL_law_38 : List UInt8 := dkwL_law_38 ++ dktL_law_39
def dkwL_law_37 : List UInt8 := [184, 0, 138, 54, 5, 44, 42, 21, 4, 4, 96, 46, 42, 21, 4, 5, 96, 46, 182, 0, 140, 54, 6, 44]
abbrev dktL_law_37 : List UInt8 := dkwL_law_37 ++ dktL_law_38
def dkwL_law_36 : List UInt8 := [153, 0, 5, 3, 172, 167, 3, 60, 43, 42, 21, 4, 4, 96, 46, 42, 21, 4, 5, 96, 46, 45]
abbrev dktL_law_36 : List UInt8 := dkwL_law_36 ++ dktL_law_37
def dkwL_law_35 : List UInt8 := [182, 0, 94, 21, 5, 159, 0, 5, 3, 172, 21, 5, 154, 0, 15, 45, 3, 47, 21, 6, 133, 148]
abbrev dktL_law_35 : List UInt8 := dkwL_law_35 ++ dktL_law_36
def dkwL_law_34 : List UInt8 := [184, 0, 135, 54, 5, 44, 42, 21, 4, 4, 96, 46, 42, 21, 4, 5, 96, 46, 182, 0, 137, 54, 6, 44]
abbrev dktL_law_34 : List UInt8 := dkwL_law_34 ++ dktL_law_35
def dkwL_law_33 : List UInt8 := [153, 0, 5, 3, 172, 167, 3, 128, 43, 42, 21, 4, 4, 96, 46, 42, 21, 4, 5, 96, 46, 45]
abbrev dktL_law_33 : List UInt8 := dkwL_law_33 ++ dktL_law_34
def dkwL_law_32 : List UInt8 := [182, 0, 94, 21, 5, 159, 0, 5, 3, 172, 21, 5, 154, 0, 15, 45, 3, 47, 21, 6, 133, 148]
abbrev dktL_law_32 : List UInt8 := dkwL_law_32 ++ dktL_law_33
def dkwL_law_31 : List UInt8 := [21, 4, 4, 96, 46, 45, 184, 0, 132, 54, 5, 44, 42, 21, 4, 4, 96, 46, 182, 0, 134, 54, 6, 44]
abbrev dktL_law_31 : List UInt8 := dkwL_law_31 ++ dktL_law_32
def dkwL_law_30 : List UInt8 := [46, 182, 0, 127, 159, 3, 199, 3, 172, 43, 182, 0, 128, 44, 182, 0, 131, 159, 3, 186, 3, 172, 43, 42]
abbrev dktL_law_30 : List UInt8 := dkwL_law_30 ++ dktL_law_31
def dkwL_law_29 : List UInt8 := [153, 0, 5, 3, 172, 167, 3, 222, 43, 42, 21, 4, 4, 96, 46, 182, 0, 124, 44, 42, 21, 4, 4, 96]
abbrev dktL_law_29 : List UInt8 := dkwL_law_29 ++ dktL_law_30
def dkwL_law_28 : List UInt8 := [182, 0, 94, 21, 5, 159, 0, 5, 3, 172, 21, 5, 154, 0, 15, 45, 3, 47, 21, 6, 133, 148]
abbrev dktL_law_28 : List UInt8 := dkwL_law_28 ++ dktL_law_29
def dkwL_law_27 : List UInt8 := [184, 0, 121, 54, 5, 44, 42, 21, 4, 4, 96, 46, 42, 21, 4, 5, 96, 46, 182, 0, 123, 54, 6, 44]
abbrev dktL_law_27 : List UInt8 := dkwL_law_27 ++ dktL_law_28
def dkwL_law_26 : List UInt8 := [148, 153, 0, 5, 3, 172, 167, 4, 34, 43, 42, 21, 4, 4, 96, 46, 42, 21, 4, 5, 96, 46, 45]
abbrev dktL_law_26 : List UInt8 := dkwL_law_26 ++ dktL_law_27
def dkwL_law_25 : List UInt8 := [54, 6, 44, 182, 0, 94, 21, 5, 159, 0, 5, 3, 172, 21, 5, 154, 0, 15, 45, 3, 47, 21, 6, 133]
abbrev dktL_law_25 : List UInt8 := dkwL_law_25 ++ dktL_law_26
def dkwL_law_24 : List UInt8 := [96, 46, 45, 184, 0, 118, 54, 5, 44, 42, 21, 4, 4, 96, 46, 42, 21, 4, 5, 96, 46, 182, 0, 120]
abbrev dktL_law_24 : List UInt8 := dkwL_law_24 ++ dktL_law_25
def dkwL_law_23 : List UInt8 := [167, 0, 4, 9, 148, 153, 0, 5, 3, 172, 167, 4, 102, 43, 42, 21, 4, 4, 96, 46, 42, 21, 4, 5]
abbrev dktL_law_23 : List UInt8 := dkwL_law_23 ++ dktL_law_24
def dkwL_law_22 : List UInt8 := [182, 0, 94, 21, 5, 159, 0, 5, 3, 172, 21, 5, 154, 0, 22, 45, 3, 47, 21, 6, 153, 0, 7, 10]
abbrev dktL_law_22 : List UInt8 := dkwL_law_22 ++ dktL_law_23
def dkwL_law_21 : List UInt8 := [184, 0, 115, 54, 5, 44, 42, 21, 4, 4, 96, 46, 42, 21, 4, 5, 96, 46, 182, 0, 117, 54, 6, 44]
abbrev dktL_law_21 : List UInt8 := dkwL_law_21 ++ dktL_law_22
def dkwL_law_20 : List UInt8 := [153, 0, 5, 3, 172, 167, 4, 177, 43, 42, 21, 4, 4, 96, 46, 42, 21, 4, 5, 96, 46, 45]
abbrev dktL_law_20 : List UInt8 := dkwL_law_20 ++ dktL_law_21
def dkwL_law_19 : List UInt8 := [182, 0, 94, 21, 5, 159, 0, 5, 3, 172, 21, 5, 154, 0, 15, 45, 3, 47, 21, 6, 133, 148]
abbrev dktL_law_19 : List UInt8 := dkwL_law_19 ++ dktL_law_20
def dkwL_law_18 : List UInt8 := [184, 0, 112, 54, 5, 44, 42, 21, 4, 4, 96, 46, 42, 21, 4, 5, 96, 46, 182, 0, 114, 54, 6, 44]
abbrev dktL_law_18 : List UInt8 := dkwL_law_18 ++ dktL_law_19
def dkwL_law_17 : List UInt8 := [153, 0, 5, 3, 172, 167, 4, 245, 43, 42, 21, 4, 4, 96, 46, 42, 21, 4, 5, 96, 46, 45]
abbrev dktL_law_17 : List UInt8 := dkwL_law_17 ++ dktL_law_18
def dkwL_law_16 : List UInt8 := [182, 0, 94, 21, 5, 159, 0, 5, 3, 172, 21, 5, 154, 0, 15, 45, 3, 47, 21, 6, 133, 148]
abbrev dktL_law_16 : List UInt8 := dkwL_law_16 ++ dktL_law_17
def dkwL_law_15 : List UInt8 := [184, 0, 109, 54, 5, 44, 42, 21, 4, 4, 96, 46, 42, 21, 4, 5, 96, 46, 182, 0, 111, 54, 6, 44]
abbrev dktL_law_15 : List UInt8 := dkwL_law_15 ++ dktL_law_16
def dkwL_law_14 : List UInt8 := [153, 0, 5, 3, 172, 167, 5, 57, 43, 42, 21, 4, 4, 96, 46, 42, 21, 4, 5, 96, 46, 45]
abbrev dktL_law_14 : List UInt8 := dkwL_law_14 ++ dktL_law_15
def dkwL_law_13 : List UInt8 := [182, 0, 94, 21, 5, 159, 0, 5, 3, 172, 21, 5, 154, 0, 15, 45, 3, 47, 21, 6, 133, 148]
abbrev dktL_law_13 : List UInt8 := dkwL_law_13 ++ dktL_law_14
def dkwL_law_12 : List UInt8 := [184, 0, 105, 54, 5, 44, 42, 21, 4, 4, 96, 46, 42, 21, 4, 5, 96, 46, 182, 0, 108, 54, 6, 44]
abbrev dktL_law_12 : List UInt8 := dkwL_law_12 ++ dktL_law_13
def dkwL_law_11 : List UInt8 := [153, 0, 5, 3, 172, 167, 5, 125, 43, 42, 21, 4, 4, 96, 46, 42, 21, 4, 5, 96, 46, 45]
abbrev dktL_law_11 : List UInt8 := dkwL_law_11 ++ dktL_law_12
def dkwL_law_10 : List UInt8 := [182, 0, 94, 21, 5, 159, 0, 5, 3, 172, 21, 5, 154, 0, 15, 45, 3, 47, 21, 6, 133, 148]
abbrev dktL_law_10 : List UInt8 := dkwL_law_10 ++ dktL_law_11
def dkwL_law_9 : List UInt8 := [21, 4, 4, 96, 46, 45, 184, 0, 102, 54, 5, 44, 42, 21, 4, 4, 96, 46, 182, 0, 104, 54, 6, 44]
abbrev dktL_law_9 : List UInt8 := dkwL_law_9 ++ dktL_law_10
def dkwL_law_8 : List UInt8 := [148, 153, 0, 5, 3, 172, 167, 5, 194, 43, 182, 0, 98, 44, 182, 0, 101, 159, 5, 183, 3, 172, 43, 42]
abbrev dktL_law_8 : List UInt8 := dkwL_law_8 ++ dktL_law_9
def dkwL_law_7 : List UInt8 := [54, 6, 44, 182, 0, 94, 21, 5, 159, 0, 5, 3, 172, 21, 5, 154, 0, 15, 45, 3, 47, 21, 6, 133]
abbrev dktL_law_7 : List UInt8 := dkwL_law_7 ++ dktL_law_8
def dkwL_law_6 : List UInt8 := [172, 43, 42, 21, 4, 4, 96, 46, 45, 184, 0, 88, 54, 5, 44, 42, 21, 4, 4, 96, 46, 182, 0, 93]
abbrev dktL_law_6 : List UInt8 := dkwL_law_6 ++ dktL_law_7
def dkwL_law_5 : List UInt8 := [21, 4, 6, 96, 46, 42, 21, 4, 7, 96, 46, 42, 21, 4, 8, 96, 46, 182, 0, 87, 159, 5, 252, 3]
abbrev dktL_law_5 : List UInt8 := dkwL_law_5 ++ dktL_law_6
def dkwL_law_4 : List UInt8 := [46, 42, 21, 4, 8, 96, 46, 182, 0, 83, 44, 42, 21, 4, 4, 96, 46, 42, 21, 4, 5, 96, 46, 42]
abbrev dktL_law_4 : List UInt8 := dkwL_law_4 ++ dktL_law_5
def dkwL_law_3 : List UInt8 := [43, 42, 21, 4, 4, 96, 46, 42, 21, 4, 5, 96, 46, 42, 21, 4, 6, 96, 46, 42, 21, 4, 7, 96]
abbrev dktL_law_3 : List UInt8 := dkwL_law_3 ++ dktL_law_4
def dkwL_law_2 : List UInt8 := [170, 0, 0, 0, 0, 0, 6, 216, 0, 0, 0, 0, 0, 0, 0, 33, 0, 0, 0, 152, 0, 0, 0, 225, 0, 0, 1, 25, 0, 0, 1, 38, 0, 0, 1, 94, 0, 0, 1, 162, 0, 0, 1, 230, 0, 0, 2, 42, 0, 0, 2, 117, 0, 0, 2, 185, 0, 0, 2, 253, 0, 0, 3, 22, 0, 0, 3, 35, 0, 0, 3, 91, 0, 0, 3, 159, 0, 0, 3, 227, 0, 0, 4, 27, 0, 0, 4, 83, 0, 0, 4, 124, 0, 0, 4, 167, 0, 0, 4, 223, 0, 0, 4, 236, 0, 0, 5, 36, 0, 0, 5, 49, 0, 0, 5, 105, 0, 0, 5, 161, 0, 0, 5, 229, 0, 0, 6, 29, 0, 0, 6, 85, 0, 0, 6, 110, 0, 0, 6, 123, 0, 0, 6, 136, 0, 0, 6, 147, 0, 0, 6, 160]
abbrev dktL_law_2 : List UInt8 := dkwL_law_2 ++ dktL_law_3
def dkwL_law_1 : List UInt8 := [21, 4, 42, 190, 16, 6, 100, 163, 6, 232, 42, 21, 4, 46, 16, 63, 126]
abbrev dktL_law_1 : List UInt8 := dkwL_law_1 ++ dktL_law_2
def dkwL_law_0 : List UInt8 := [187, 0, 8, 89, 183, 0, 79, 76, 187, 0, 80, 89, 183, 0, 82, 77, 4, 188, 11, 78, 3, 54, 4]
abbrev dktL_law_0 : List UInt8 := dkwL_law_0 ++ dktL_law_1
theorem dksL_law_0 : cL_law.data.toList.drop 0 = dktL_law_0 := by decide +kernel
theorem dksL_law_1 : cL_law.data.toList.drop 23 = dktL_law_1 := dk_seg dksL_law_0 23 rfl rfl
theorem dksL_law_2 : cL_law.data.toList.drop 40 = dktL_law_2 := dk_seg dksL_law_1 17 rfl rfl
theorem dksL_law_3 : cL_law.data.toList.drop 192 = dktL_law_3 := dk_seg dksL_law_2 152 rfl rfl
theorem dksL_law_4 : cL_law.data.toList.drop 216 = dktL_law_4 := dk_seg dksL_law_3 24 rfl rfl
theorem dksL_law_5 : cL_law.data.toList.drop 240 = dktL_law_5 := dk_seg dksL_law_4 24 rfl rfl
theorem dksL_law_6 : cL_law.data.toList.drop 264 = dktL_law_6 := dk_seg dksL_law_5 24 rfl rfl
theorem dksL_law_7 : cL_law.data.toList.drop 288 = dktL_law_7 := dk_seg dksL_law_6 24 rfl rfl
theorem dksL_law_8 : cL_law.data.toList.drop 312 = dktL_law_8 := dk_seg dksL_law_7 24 rfl rfl
theorem dksL_law_9 : cL_law.data.toList.drop 336 = dktL_law_9 := dk_seg dksL_law_8 24 rfl rfl
theorem dksL_law_10 : cL_law.data.toList.drop 360 = dktL_law_10 := dk_seg dksL_law_9 24 rfl rfl
theorem dksL_law_11 : cL_law.data.toList.drop 382 = dktL_law_11 := dk_seg dksL_law_10 22 rfl rfl
theorem dksL_law_12 : cL_law.data.toList.drop 404 = dktL_law_12 := dk_seg dksL_law_11 22 rfl rfl
theorem dksL_law_13 : cL_law.data.toList.drop 428 = dktL_law_13 := dk_seg dksL_law_12 24 rfl rfl
theorem dksL_law_14 : cL_law.data.toList.drop 450 = dktL_law_14 := dk_seg dksL_law_13 22 rfl rfl
theorem dksL_law_15 : cL_law.data.toList.drop 472 = dktL_law_15 := dk_seg dksL_law_14 22 rfl rfl
theorem dksL_law_16 : cL_law.data.toList.drop 496 = dktL_law_16 := dk_seg dksL_law_15 24 rfl rfl
theorem dksL_law_17 : cL_law.data.toList.drop 518 = dktL_law_17 := dk_seg dksL_law_16 22 rfl rfl
theorem dksL_law_18 : cL_law.data.toList.drop 540 = dktL_law_18 := dk_seg dksL_law_17 22 rfl rfl
theorem dksL_law_19 : cL_law.data.toList.drop 564 = dktL_law_19 := dk_seg dksL_law_18 24 rfl rfl
theorem dksL_law_20 : cL_law.data.toList.drop 586 = dktL_law_20 := dk_seg dksL_law_19 22 rfl rfl
theorem dksL_law_21 : cL_law.data.toList.drop 608 = dktL_law_21 := dk_seg dksL_law_20 22 rfl rfl
theorem dksL_law_22 : cL_law.data.toList.drop 632 = dktL_law_22 := dk_seg dksL_law_21 24 rfl rfl
theorem dksL_law_23 : cL_law.data.toList.drop 656 = dktL_law_23 := dk_seg dksL_law_22 24 rfl rfl
theorem dksL_law_24 : cL_law.data.toList.drop 680 = dktL_law_24 := dk_seg dksL_law_23 24 rfl rfl
theorem dksL_law_25 : cL_law.data.toList.drop 704 = dktL_law_25 := dk_seg dksL_law_24 24 rfl rfl
theorem dksL_law_26 : cL_law.data.toList.drop 728 = dktL_law_26 := dk_seg dksL_law_25 24 rfl rfl
theorem dksL_law_27 : cL_law.data.toList.drop 751 = dktL_law_27 := dk_seg dksL_law_26 23 rfl rfl
theorem dksL_law_28 : cL_law.data.toList.drop 775 = dktL_law_28 := dk_seg dksL_law_27 24 rfl rfl
theorem dksL_law_29 : cL_law.data.toList.drop 797 = dktL_law_29 := dk_seg dksL_law_28 22 rfl rfl
theorem dksL_law_30 : cL_law.data.toList.drop 821 = dktL_law_30 := dk_seg dksL_law_29 24 rfl rfl
theorem dksL_law_31 : cL_law.data.toList.drop 845 = dktL_law_31 := dk_seg dksL_law_30 24 rfl rfl
theorem dksL_law_32 : cL_law.data.toList.drop 869 = dktL_law_32 := dk_seg dksL_law_31 24 rfl rfl
theorem dksL_law_33 : cL_law.data.toList.drop 891 = dktL_law_33 := dk_seg dksL_law_32 22 rfl rfl
theorem dksL_law_34 : cL_law.data.toList.drop 913 = dktL_law_34 := dk_seg dksL_law_33 22 rfl rfl
theorem dksL_law_35 : cL_law.data.toList.drop 937 = dktL_law_35 := dk_seg dksL_law_34 24 rfl rfl
theorem dksL_law_36 : cL_law.data.toList.drop 959 = dktL_law_36 := dk_seg dksL_law_35 22 rfl rfl
theorem dksL_law_37 : cL_law.data.toList.drop 981 = dktL_law_37 := dk_seg dksL_law_36 22 rfl rfl
theorem dksL_law_38 : cL_law.data.toList.drop 1005 = dktL_law_38 := dk_seg dksL_law_37 24 rfl rfl
theorem dksL_law_39 : cL_law.data.toList.drop 1027 = dktL_law_39 := dk_seg dksL_law_38 22 rfl rfl
theorem dksL_law_40 : cL_law.data.toList.drop 1050 = dktL_law_40 := dk_seg dksL_law_39 23 rfl rfl
theorem dksL_law_41 : cL_law.data.toList.drop 1073 = dktL_law_41 := dk_seg dksL_law_40 23 rfl rfl
theorem dksL_law_42 : cL_law.data.toList.drop 1097 = dktL_law_42 := dk_seg dksL_law_41 24 rfl rfl
theorem dksL_law_43 : cL_law.data.toList.drop 1120 = dktL_law_43 := dk_seg dksL_law_42 23 rfl rfl
theorem dksL_law_44 : cL_law.data.toList.drop 1144 = dktL_law_44 := dk_seg dksL_law_43 24 rfl rfl
theorem dksL_law_45 : cL_law.data.toList.drop 1167 = dktL_law_45 := dk_seg dksL_law_44 23 rfl rfl
theorem dksL_law_46 : cL_law.data.toList.drop 1189 = dktL_law_46 := dk_seg dksL_law_45 22 rfl rfl
theorem dksL_law_47 : cL_law.data.toList.drop 1212 = dktL_law_47 := dk_seg dksL_law_46 23 rfl rfl
theorem dksL_law_48 : cL_law.data.toList.drop 1236 = dktL_law_48 := dk_seg dksL_law_47 24 rfl rfl
theorem dksL_law_49 : cL_law.data.toList.drop 1260 = dktL_law_49 := dk_seg dksL_law_48 24 rfl rfl
theorem dksL_law_50 : cL_law.data.toList.drop 1284 = dktL_law_50 := dk_seg dksL_law_49 24 rfl rfl
theorem dksL_law_51 : cL_law.data.toList.drop 1308 = dktL_law_51 := dk_seg dksL_law_50 24 rfl rfl
theorem dksL_law_52 : cL_law.data.toList.drop 1331 = dktL_law_52 := dk_seg dksL_law_51 23 rfl rfl
theorem dksL_law_53 : cL_law.data.toList.drop 1353 = dktL_law_53 := dk_seg dksL_law_52 22 rfl rfl
theorem dksL_law_54 : cL_law.data.toList.drop 1377 = dktL_law_54 := dk_seg dksL_law_53 24 rfl rfl
theorem dksL_law_55 : cL_law.data.toList.drop 1400 = dktL_law_55 := dk_seg dksL_law_54 23 rfl rfl
theorem dksL_law_56 : cL_law.data.toList.drop 1422 = dktL_law_56 := dk_seg dksL_law_55 22 rfl rfl
theorem dksL_law_57 : cL_law.data.toList.drop 1445 = dktL_law_57 := dk_seg dksL_law_56 23 rfl rfl
theorem dksL_law_58 : cL_law.data.toList.drop 1469 = dktL_law_58 := dk_seg dksL_law_57 24 rfl rfl
theorem dksL_law_59 : cL_law.data.toList.drop 1493 = dktL_law_59 := dk_seg dksL_law_58 24 rfl rfl
theorem dksL_law_60 : cL_law.data.toList.drop 1516 = dktL_law_60 := dk_seg dksL_law_59 23 rfl rfl
theorem dksL_law_61 : cL_law.data.toList.drop 1540 = dktL_law_61 := dk_seg dksL_law_60 24 rfl rfl
theorem dksL_law_62 : cL_law.data.toList.drop 1564 = dktL_law_62 := dk_seg dksL_law_61 24 rfl rfl
theorem dksL_law_63 : cL_law.data.toList.drop 1587 = dktL_law_63 := dk_seg dksL_law_62 23 rfl rfl
theorem dksL_law_64 : cL_law.data.toList.drop 1611 = dktL_law_64 := dk_seg dksL_law_63 24 rfl rfl
theorem dksL_law_65 : cL_law.data.toList.drop 1634 = dktL_law_65 := dk_seg dksL_law_64 23 rfl rfl
theorem dksL_law_66 : cL_law.data.toList.drop 1658 = dktL_law_66 := dk_seg dksL_law_65 24 rfl rfl
theorem dksL_law_67 : cL_law.data.toList.drop 1681 = dktL_law_67 := dk_seg dksL_law_66 23 rfl rfl
theorem dksL_law_68 : cL_law.data.toList.drop 1704 = dktL_law_68 := dk_seg dksL_law_67 23 rfl rfl
theorem dksL_law_69 : cL_law.data.toList.drop 1728 = dktL_law_69 := dk_seg dksL_law_68 24 rfl rfl
theorem dksL_law_70 : cL_law.data.toList.drop 1751 = dktL_law_70 := dk_seg dksL_law_69 23 rfl rfl
theorem dksL_law_71 : cL_law.data.toList.drop 1774 = dktL_law_71 := dk_seg dksL_law_70 23 rfl rfl
theorem dksL_law_72 : cL_law.data.toList.drop 1798 = dktL_law_72 := dk_seg dksL_law_71 24 rfl rfl
theorem dL_law_0 : decode cL_law 0 = .ok (.new 8, 3) := dk_187 0 8 (dk_at dksL_law_0 0 rfl rfl)
theorem dL_law_3 : decode cL_law 3 = .ok (.dup, 1) := dk_89 (dk_at dksL_law_0 3 rfl rfl)
theorem dL_law_4 : decode cL_law 4 = .ok (.invokespecial 79, 3) := dk_183 0 79 (dk_at dksL_law_0 4 rfl rfl)
theorem dL_law_7 : decode cL_law 7 = .ok (.astore_n 1, 1) := dk_76 (dk_at dksL_law_0 7 rfl rfl)
theorem dL_law_8 : decode cL_law 8 = .ok (.new 80, 3) := dk_187 0 80 (dk_at dksL_law_0 8 rfl rfl)
theorem dL_law_11 : decode cL_law 11 = .ok (.dup, 1) := dk_89 (dk_at dksL_law_0 11 rfl rfl)
theorem dL_law_12 : decode cL_law 12 = .ok (.invokespecial 82, 3) := dk_183 0 82 (dk_at dksL_law_0 12 rfl rfl)
theorem dL_law_15 : decode cL_law 15 = .ok (.astore_n 2, 1) := dk_77 (dk_at dksL_law_0 15 rfl rfl)
theorem dL_law_16 : decode cL_law 16 = .ok (.iconst 1, 1) := dk_4 (dk_at dksL_law_0 16 rfl rfl)
theorem dL_law_17 : decode cL_law 17 = .ok (.newarray .long, 2) := dk_188_11 (dk_at dksL_law_0 17 rfl rfl)
theorem dL_law_19 : decode cL_law 19 = .ok (.astore_n 3, 1) := dk_78 (dk_at dksL_law_0 19 rfl rfl)
theorem dL_law_20 : decode cL_law 20 = .ok (.iconst 0, 1) := dk_3 (dk_at dksL_law_0 20 rfl rfl)
theorem dL_law_21 : decode cL_law 21 = .ok (.istore 4, 2) := dk_54 4 (dk_at dksL_law_0 21 rfl rfl)
theorem dL_law_23 : decode cL_law 23 = .ok (.iload 4, 2) := dk_21 4 (dk_at dksL_law_1 0 rfl rfl)
theorem dL_law_25 : decode cL_law 25 = .ok (.aload_n 0, 1) := dk_42 (dk_at dksL_law_1 2 rfl rfl)
theorem dL_law_26 : decode cL_law 26 = .ok (.arraylength, 1) := dk_190 (dk_at dksL_law_1 3 rfl rfl)
theorem dL_law_27 : decode cL_law 27 = .ok (.bipush 6, 2) := dk_16 6 (dk_at dksL_law_1 4 rfl rfl)
theorem dL_law_29 : decode cL_law 29 = .ok (.isub, 1) := dk_100 (dk_at dksL_law_1 6 rfl rfl)
theorem dL_law_30 : decode cL_law 30 = .ok (.if_icmp .gt 1768, 3) := dk_163 6 232 (dk_at dksL_law_1 7 rfl rfl)
theorem dL_law_33 : decode cL_law 33 = .ok (.aload_n 0, 1) := dk_42 (dk_at dksL_law_1 10 rfl rfl)
theorem dL_law_34 : decode cL_law 34 = .ok (.iload 4, 2) := dk_21 4 (dk_at dksL_law_1 11 rfl rfl)
theorem dL_law_36 : decode cL_law 36 = .ok (.iaload, 1) := dk_46 (dk_at dksL_law_1 13 rfl rfl)
theorem dL_law_37 : decode cL_law 37 = .ok (.bipush 63, 2) := dk_16 63 (dk_at dksL_law_1 14 rfl rfl)
theorem dL_law_39 : decode cL_law 39 = .ok (.iand, 1) := dk_126 (dk_at dksL_law_1 16 rfl rfl)
theorem dL_law_40 : decode cL_law 40 = .ok (.tableswitch 1752 0 33 #[152, 225, 281, 294, 350, 418, 486, 554, 629, 697, 765, 790, 803, 859, 927, 995, 1051, 1107, 1148, 1191, 1247, 1260, 1316, 1329, 1385, 1441, 1509, 1565, 1621, 1646, 1659, 1672, 1683, 1696], 152) := by decide +kernel
theorem dL_law_192 : decode cL_law 192 = .ok (.aload_n 1, 1) := dk_43 (dk_at dksL_law_3 0 rfl rfl)
theorem dL_law_193 : decode cL_law 193 = .ok (.aload_n 0, 1) := dk_42 (dk_at dksL_law_3 1 rfl rfl)
theorem dL_law_194 : decode cL_law 194 = .ok (.iload 4, 2) := dk_21 4 (dk_at dksL_law_3 2 rfl rfl)
theorem dL_law_196 : decode cL_law 196 = .ok (.iconst 1, 1) := dk_4 (dk_at dksL_law_3 4 rfl rfl)
theorem dL_law_197 : decode cL_law 197 = .ok (.iadd, 1) := dk_96 (dk_at dksL_law_3 5 rfl rfl)
theorem dL_law_198 : decode cL_law 198 = .ok (.iaload, 1) := dk_46 (dk_at dksL_law_3 6 rfl rfl)
theorem dL_law_199 : decode cL_law 199 = .ok (.aload_n 0, 1) := dk_42 (dk_at dksL_law_3 7 rfl rfl)
theorem dL_law_200 : decode cL_law 200 = .ok (.iload 4, 2) := dk_21 4 (dk_at dksL_law_3 8 rfl rfl)
theorem dL_law_202 : decode cL_law 202 = .ok (.iconst 2, 1) := dk_5 (dk_at dksL_law_3 10 rfl rfl)
theorem dL_law_203 : decode cL_law 203 = .ok (.iadd, 1) := dk_96 (dk_at dksL_law_3 11 rfl rfl)
theorem dL_law_204 : decode cL_law 204 = .ok (.iaload, 1) := dk_46 (dk_at dksL_law_3 12 rfl rfl)
theorem dL_law_205 : decode cL_law 205 = .ok (.aload_n 0, 1) := dk_42 (dk_at dksL_law_3 13 rfl rfl)
theorem dL_law_206 : decode cL_law 206 = .ok (.iload 4, 2) := dk_21 4 (dk_at dksL_law_3 14 rfl rfl)
theorem dL_law_208 : decode cL_law 208 = .ok (.iconst 3, 1) := dk_6 (dk_at dksL_law_3 16 rfl rfl)
theorem dL_law_209 : decode cL_law 209 = .ok (.iadd, 1) := dk_96 (dk_at dksL_law_3 17 rfl rfl)
theorem dL_law_210 : decode cL_law 210 = .ok (.iaload, 1) := dk_46 (dk_at dksL_law_3 18 rfl rfl)
theorem dL_law_211 : decode cL_law 211 = .ok (.aload_n 0, 1) := dk_42 (dk_at dksL_law_3 19 rfl rfl)
theorem dL_law_212 : decode cL_law 212 = .ok (.iload 4, 2) := dk_21 4 (dk_at dksL_law_3 20 rfl rfl)
theorem dL_law_214 : decode cL_law 214 = .ok (.iconst 4, 1) := dk_7 (dk_at dksL_law_3 22 rfl rfl)
theorem dL_law_215 : decode cL_law 215 = .ok (.iadd, 1) := dk_96 (dk_at dksL_law_3 23 rfl rfl)
theorem dL_law_216 : decode cL_law 216 = .ok (.iaload, 1) := dk_46 (dk_at dksL_law_4 0 rfl rfl)
theorem dL_law_217 : decode cL_law 217 = .ok (.aload_n 0, 1) := dk_42 (dk_at dksL_law_4 1 rfl rfl)
theorem dL_law_218 : decode cL_law 218 = .ok (.iload 4, 2) := dk_21 4 (dk_at dksL_law_4 2 rfl rfl)
theorem dL_law_220 : decode cL_law 220 = .ok (.iconst 5, 1) := dk_8 (dk_at dksL_law_4 4 rfl rfl)
theorem dL_law_221 : decode cL_law 221 = .ok (.iadd, 1) := dk_96 (dk_at dksL_law_4 5 rfl rfl)
theorem dL_law_222 : decode cL_law 222 = .ok (.iaload, 1) := dk_46 (dk_at dksL_law_4 6 rfl rfl)
theorem dL_law_223 : decode cL_law 223 = .ok (.invokevirtual 83, 3) := dk_182 0 83 (dk_at dksL_law_4 7 rfl rfl)
theorem dL_law_226 : decode cL_law 226 = .ok (.aload_n 2, 1) := dk_44 (dk_at dksL_law_4 10 rfl rfl)
theorem dL_law_227 : decode cL_law 227 = .ok (.aload_n 0, 1) := dk_42 (dk_at dksL_law_4 11 rfl rfl)
theorem dL_law_228 : decode cL_law 228 = .ok (.iload 4, 2) := dk_21 4 (dk_at dksL_law_4 12 rfl rfl)
theorem dL_law_230 : decode cL_law 230 = .ok (.iconst 1, 1) := dk_4 (dk_at dksL_law_4 14 rfl rfl)
theorem dL_law_231 : decode cL_law 231 = .ok (.iadd, 1) := dk_96 (dk_at dksL_law_4 15 rfl rfl)
theorem dL_law_232 : decode cL_law 232 = .ok (.iaload, 1) := dk_46 (dk_at dksL_law_4 16 rfl rfl)
theorem dL_law_233 : decode cL_law 233 = .ok (.aload_n 0, 1) := dk_42 (dk_at dksL_law_4 17 rfl rfl)
theorem dL_law_234 : decode cL_law 234 = .ok (.iload 4, 2) := dk_21 4 (dk_at dksL_law_4 18 rfl rfl)
theorem dL_law_236 : decode cL_law 236 = .ok (.iconst 2, 1) := dk_5 (dk_at dksL_law_4 20 rfl rfl)
theorem dL_law_237 : decode cL_law 237 = .ok (.iadd, 1) := dk_96 (dk_at dksL_law_4 21 rfl rfl)
theorem dL_law_238 : decode cL_law 238 = .ok (.iaload, 1) := dk_46 (dk_at dksL_law_4 22 rfl rfl)
theorem dL_law_239 : decode cL_law 239 = .ok (.aload_n 0, 1) := dk_42 (dk_at dksL_law_4 23 rfl rfl)
theorem dL_law_240 : decode cL_law 240 = .ok (.iload 4, 2) := dk_21 4 (dk_at dksL_law_5 0 rfl rfl)
theorem dL_law_242 : decode cL_law 242 = .ok (.iconst 3, 1) := dk_6 (dk_at dksL_law_5 2 rfl rfl)
theorem dL_law_243 : decode cL_law 243 = .ok (.iadd, 1) := dk_96 (dk_at dksL_law_5 3 rfl rfl)
theorem dL_law_244 : decode cL_law 244 = .ok (.iaload, 1) := dk_46 (dk_at dksL_law_5 4 rfl rfl)
theorem dL_law_245 : decode cL_law 245 = .ok (.aload_n 0, 1) := dk_42 (dk_at dksL_law_5 5 rfl rfl)
theorem dL_law_246 : decode cL_law 246 = .ok (.iload 4, 2) := dk_21 4 (dk_at dksL_law_5 6 rfl rfl)
theorem dL_law_248 : decode cL_law 248 = .ok (.iconst 4, 1) := dk_7 (dk_at dksL_law_5 8 rfl rfl)
theorem dL_law_249 : decode cL_law 249 = .ok (.iadd, 1) := dk_96 (dk_at dksL_law_5 9 rfl rfl)
theorem dL_law_250 : decode cL_law 250 = .ok (.iaload, 1) := dk_46 (dk_at dksL_law_5 10 rfl rfl)
theorem dL_law_251 : decode cL_law 251 = .ok (.aload_n 0, 1) := dk_42 (dk_at dksL_law_5 11 rfl rfl)
theorem dL_law_252 : decode cL_law 252 = .ok (.iload 4, 2) := dk_21 4 (dk_at dksL_law_5 12 rfl rfl)
theorem dL_law_254 : decode cL_law 254 = .ok (.iconst 5, 1) := dk_8 (dk_at dksL_law_5 14 rfl rfl)
theorem dL_law_255 : decode cL_law 255 = .ok (.iadd, 1) := dk_96 (dk_at dksL_law_5 15 rfl rfl)
theorem dL_law_256 : decode cL_law 256 = .ok (.iaload, 1) := dk_46 (dk_at dksL_law_5 16 rfl rfl)
theorem dL_law_257 : decode cL_law 257 = .ok (.invokevirtual 87, 3) := dk_182 0 87 (dk_at dksL_law_5 17 rfl rfl)
theorem dL_law_260 : decode cL_law 260 = .ok (.if_icmp .eq 1532, 3) := dk_159 5 252 (dk_at dksL_law_5 20 rfl rfl)
theorem dL_law_263 : decode cL_law 263 = .ok (.iconst 0, 1) := dk_3 (dk_at dksL_law_5 23 rfl rfl)
theorem dL_law_264 : decode cL_law 264 = .ok (.ireturn, 1) := dk_172 (dk_at dksL_law_6 0 rfl rfl)
theorem dL_law_265 : decode cL_law 265 = .ok (.aload_n 1, 1) := dk_43 (dk_at dksL_law_6 1 rfl rfl)
theorem dL_law_266 : decode cL_law 266 = .ok (.aload_n 0, 1) := dk_42 (dk_at dksL_law_6 2 rfl rfl)
theorem dL_law_267 : decode cL_law 267 = .ok (.iload 4, 2) := dk_21 4 (dk_at dksL_law_6 3 rfl rfl)
theorem dL_law_269 : decode cL_law 269 = .ok (.iconst 1, 1) := dk_4 (dk_at dksL_law_6 5 rfl rfl)
theorem dL_law_270 : decode cL_law 270 = .ok (.iadd, 1) := dk_96 (dk_at dksL_law_6 6 rfl rfl)
theorem dL_law_271 : decode cL_law 271 = .ok (.iaload, 1) := dk_46 (dk_at dksL_law_6 7 rfl rfl)
theorem dL_law_272 : decode cL_law 272 = .ok (.aload_n 3, 1) := dk_45 (dk_at dksL_law_6 8 rfl rfl)
theorem dL_law_273 : decode cL_law 273 = .ok (.invokestatic 88, 3) := dk_184 0 88 (dk_at dksL_law_6 9 rfl rfl)
theorem dL_law_276 : decode cL_law 276 = .ok (.istore 5, 2) := dk_54 5 (dk_at dksL_law_6 12 rfl rfl)
theorem dL_law_278 : decode cL_law 278 = .ok (.aload_n 2, 1) := dk_44 (dk_at dksL_law_6 14 rfl rfl)
theorem dL_law_279 : decode cL_law 279 = .ok (.aload_n 0, 1) := dk_42 (dk_at dksL_law_6 15 rfl rfl)
theorem dL_law_280 : decode cL_law 280 = .ok (.iload 4, 2) := dk_21 4 (dk_at dksL_law_6 16 rfl rfl)
theorem dL_law_282 : decode cL_law 282 = .ok (.iconst 1, 1) := dk_4 (dk_at dksL_law_6 18 rfl rfl)
theorem dL_law_283 : decode cL_law 283 = .ok (.iadd, 1) := dk_96 (dk_at dksL_law_6 19 rfl rfl)
theorem dL_law_284 : decode cL_law 284 = .ok (.iaload, 1) := dk_46 (dk_at dksL_law_6 20 rfl rfl)
theorem dL_law_285 : decode cL_law 285 = .ok (.invokevirtual 93, 3) := dk_182 0 93 (dk_at dksL_law_6 21 rfl rfl)
theorem dL_law_288 : decode cL_law 288 = .ok (.istore 6, 2) := dk_54 6 (dk_at dksL_law_7 0 rfl rfl)
theorem dL_law_290 : decode cL_law 290 = .ok (.aload_n 2, 1) := dk_44 (dk_at dksL_law_7 2 rfl rfl)
theorem dL_law_291 : decode cL_law 291 = .ok (.invokevirtual 94, 3) := dk_182 0 94 (dk_at dksL_law_7 3 rfl rfl)
theorem dL_law_294 : decode cL_law 294 = .ok (.iload 5, 2) := dk_21 5 (dk_at dksL_law_7 6 rfl rfl)
theorem dL_law_296 : decode cL_law 296 = .ok (.if_icmp .eq 5, 3) := dk_159 0 5 (dk_at dksL_law_7 8 rfl rfl)
theorem dL_law_299 : decode cL_law 299 = .ok (.iconst 0, 1) := dk_3 (dk_at dksL_law_7 11 rfl rfl)
theorem dL_law_300 : decode cL_law 300 = .ok (.ireturn, 1) := dk_172 (dk_at dksL_law_7 12 rfl rfl)
theorem dL_law_301 : decode cL_law 301 = .ok (.iload 5, 2) := dk_21 5 (dk_at dksL_law_7 13 rfl rfl)
theorem dL_law_303 : decode cL_law 303 = .ok (.ifCond .ne 15, 3) := dk_154 0 15 (dk_at dksL_law_7 15 rfl rfl)
theorem dL_law_306 : decode cL_law 306 = .ok (.aload_n 3, 1) := dk_45 (dk_at dksL_law_7 18 rfl rfl)
theorem dL_law_307 : decode cL_law 307 = .ok (.iconst 0, 1) := dk_3 (dk_at dksL_law_7 19 rfl rfl)
theorem dL_law_308 : decode cL_law 308 = .ok (.laload, 1) := dk_47 (dk_at dksL_law_7 20 rfl rfl)
theorem dL_law_309 : decode cL_law 309 = .ok (.iload 6, 2) := dk_21 6 (dk_at dksL_law_7 21 rfl rfl)
theorem dL_law_311 : decode cL_law 311 = .ok (.i2l, 1) := dk_133 (dk_at dksL_law_7 23 rfl rfl)
theorem dL_law_312 : decode cL_law 312 = .ok (.lcmp, 1) := dk_148 (dk_at dksL_law_8 0 rfl rfl)
theorem dL_law_313 : decode cL_law 313 = .ok (.ifCond .eq 5, 3) := dk_153 0 5 (dk_at dksL_law_8 1 rfl rfl)
theorem dL_law_316 : decode cL_law 316 = .ok (.iconst 0, 1) := dk_3 (dk_at dksL_law_8 4 rfl rfl)
theorem dL_law_317 : decode cL_law 317 = .ok (.ireturn, 1) := dk_172 (dk_at dksL_law_8 5 rfl rfl)
theorem dL_law_318 : decode cL_law 318 = .ok (.goto 1474, 3) := dk_167 5 194 (dk_at dksL_law_8 6 rfl rfl)
theorem dL_law_321 : decode cL_law 321 = .ok (.aload_n 1, 1) := dk_43 (dk_at dksL_law_8 9 rfl rfl)
theorem dL_law_322 : decode cL_law 322 = .ok (.invokevirtual 98, 3) := dk_182 0 98 (dk_at dksL_law_8 10 rfl rfl)
theorem dL_law_325 : decode cL_law 325 = .ok (.aload_n 2, 1) := dk_44 (dk_at dksL_law_8 13 rfl rfl)
theorem dL_law_326 : decode cL_law 326 = .ok (.invokevirtual 101, 3) := dk_182 0 101 (dk_at dksL_law_8 14 rfl rfl)
theorem dL_law_329 : decode cL_law 329 = .ok (.if_icmp .eq 1463, 3) := dk_159 5 183 (dk_at dksL_law_8 17 rfl rfl)
theorem dL_law_332 : decode cL_law 332 = .ok (.iconst 0, 1) := dk_3 (dk_at dksL_law_8 20 rfl rfl)
theorem dL_law_333 : decode cL_law 333 = .ok (.ireturn, 1) := dk_172 (dk_at dksL_law_8 21 rfl rfl)
theorem dL_law_334 : decode cL_law 334 = .ok (.aload_n 1, 1) := dk_43 (dk_at dksL_law_8 22 rfl rfl)
theorem dL_law_335 : decode cL_law 335 = .ok (.aload_n 0, 1) := dk_42 (dk_at dksL_law_8 23 rfl rfl)
theorem dL_law_336 : decode cL_law 336 = .ok (.iload 4, 2) := dk_21 4 (dk_at dksL_law_9 0 rfl rfl)
theorem dL_law_338 : decode cL_law 338 = .ok (.iconst 1, 1) := dk_4 (dk_at dksL_law_9 2 rfl rfl)
theorem dL_law_339 : decode cL_law 339 = .ok (.iadd, 1) := dk_96 (dk_at dksL_law_9 3 rfl rfl)
theorem dL_law_340 : decode cL_law 340 = .ok (.iaload, 1) := dk_46 (dk_at dksL_law_9 4 rfl rfl)
theorem dL_law_341 : decode cL_law 341 = .ok (.aload_n 3, 1) := dk_45 (dk_at dksL_law_9 5 rfl rfl)
theorem dL_law_342 : decode cL_law 342 = .ok (.invokestatic 102, 3) := dk_184 0 102 (dk_at dksL_law_9 6 rfl rfl)
theorem dL_law_345 : decode cL_law 345 = .ok (.istore 5, 2) := dk_54 5 (dk_at dksL_law_9 9 rfl rfl)
theorem dL_law_347 : decode cL_law 347 = .ok (.aload_n 2, 1) := dk_44 (dk_at dksL_law_9 11 rfl rfl)
theorem dL_law_348 : decode cL_law 348 = .ok (.aload_n 0, 1) := dk_42 (dk_at dksL_law_9 12 rfl rfl)
theorem dL_law_349 : decode cL_law 349 = .ok (.iload 4, 2) := dk_21 4 (dk_at dksL_law_9 13 rfl rfl)
theorem dL_law_351 : decode cL_law 351 = .ok (.iconst 1, 1) := dk_4 (dk_at dksL_law_9 15 rfl rfl)
theorem dL_law_352 : decode cL_law 352 = .ok (.iadd, 1) := dk_96 (dk_at dksL_law_9 16 rfl rfl)
theorem dL_law_353 : decode cL_law 353 = .ok (.iaload, 1) := dk_46 (dk_at dksL_law_9 17 rfl rfl)
theorem dL_law_354 : decode cL_law 354 = .ok (.invokevirtual 104, 3) := dk_182 0 104 (dk_at dksL_law_9 18 rfl rfl)
theorem dL_law_357 : decode cL_law 357 = .ok (.istore 6, 2) := dk_54 6 (dk_at dksL_law_9 21 rfl rfl)
theorem dL_law_359 : decode cL_law 359 = .ok (.aload_n 2, 1) := dk_44 (dk_at dksL_law_9 23 rfl rfl)
theorem dL_law_360 : decode cL_law 360 = .ok (.invokevirtual 94, 3) := dk_182 0 94 (dk_at dksL_law_10 0 rfl rfl)
theorem dL_law_363 : decode cL_law 363 = .ok (.iload 5, 2) := dk_21 5 (dk_at dksL_law_10 3 rfl rfl)
theorem dL_law_365 : decode cL_law 365 = .ok (.if_icmp .eq 5, 3) := dk_159 0 5 (dk_at dksL_law_10 5 rfl rfl)
theorem dL_law_368 : decode cL_law 368 = .ok (.iconst 0, 1) := dk_3 (dk_at dksL_law_10 8 rfl rfl)
theorem dL_law_369 : decode cL_law 369 = .ok (.ireturn, 1) := dk_172 (dk_at dksL_law_10 9 rfl rfl)
theorem dL_law_370 : decode cL_law 370 = .ok (.iload 5, 2) := dk_21 5 (dk_at dksL_law_10 10 rfl rfl)
theorem dL_law_372 : decode cL_law 372 = .ok (.ifCond .ne 15, 3) := dk_154 0 15 (dk_at dksL_law_10 12 rfl rfl)
theorem dL_law_375 : decode cL_law 375 = .ok (.aload_n 3, 1) := dk_45 (dk_at dksL_law_10 15 rfl rfl)
theorem dL_law_376 : decode cL_law 376 = .ok (.iconst 0, 1) := dk_3 (dk_at dksL_law_10 16 rfl rfl)
theorem dL_law_377 : decode cL_law 377 = .ok (.laload, 1) := dk_47 (dk_at dksL_law_10 17 rfl rfl)
theorem dL_law_378 : decode cL_law 378 = .ok (.iload 6, 2) := dk_21 6 (dk_at dksL_law_10 18 rfl rfl)
theorem dL_law_380 : decode cL_law 380 = .ok (.i2l, 1) := dk_133 (dk_at dksL_law_10 20 rfl rfl)
theorem dL_law_381 : decode cL_law 381 = .ok (.lcmp, 1) := dk_148 (dk_at dksL_law_10 21 rfl rfl)
theorem dL_law_382 : decode cL_law 382 = .ok (.ifCond .eq 5, 3) := dk_153 0 5 (dk_at dksL_law_11 0 rfl rfl)
theorem dL_law_385 : decode cL_law 385 = .ok (.iconst 0, 1) := dk_3 (dk_at dksL_law_11 3 rfl rfl)
theorem dL_law_386 : decode cL_law 386 = .ok (.ireturn, 1) := dk_172 (dk_at dksL_law_11 4 rfl rfl)
theorem dL_law_387 : decode cL_law 387 = .ok (.goto 1405, 3) := dk_167 5 125 (dk_at dksL_law_11 5 rfl rfl)
theorem dL_law_390 : decode cL_law 390 = .ok (.aload_n 1, 1) := dk_43 (dk_at dksL_law_11 8 rfl rfl)
theorem dL_law_391 : decode cL_law 391 = .ok (.aload_n 0, 1) := dk_42 (dk_at dksL_law_11 9 rfl rfl)
theorem dL_law_392 : decode cL_law 392 = .ok (.iload 4, 2) := dk_21 4 (dk_at dksL_law_11 10 rfl rfl)
theorem dL_law_394 : decode cL_law 394 = .ok (.iconst 1, 1) := dk_4 (dk_at dksL_law_11 12 rfl rfl)
theorem dL_law_395 : decode cL_law 395 = .ok (.iadd, 1) := dk_96 (dk_at dksL_law_11 13 rfl rfl)
theorem dL_law_396 : decode cL_law 396 = .ok (.iaload, 1) := dk_46 (dk_at dksL_law_11 14 rfl rfl)
theorem dL_law_397 : decode cL_law 397 = .ok (.aload_n 0, 1) := dk_42 (dk_at dksL_law_11 15 rfl rfl)
theorem dL_law_398 : decode cL_law 398 = .ok (.iload 4, 2) := dk_21 4 (dk_at dksL_law_11 16 rfl rfl)
theorem dL_law_400 : decode cL_law 400 = .ok (.iconst 2, 1) := dk_5 (dk_at dksL_law_11 18 rfl rfl)
theorem dL_law_401 : decode cL_law 401 = .ok (.iadd, 1) := dk_96 (dk_at dksL_law_11 19 rfl rfl)
theorem dL_law_402 : decode cL_law 402 = .ok (.iaload, 1) := dk_46 (dk_at dksL_law_11 20 rfl rfl)
theorem dL_law_403 : decode cL_law 403 = .ok (.aload_n 3, 1) := dk_45 (dk_at dksL_law_11 21 rfl rfl)
theorem dL_law_404 : decode cL_law 404 = .ok (.invokestatic 105, 3) := dk_184 0 105 (dk_at dksL_law_12 0 rfl rfl)
theorem dL_law_407 : decode cL_law 407 = .ok (.istore 5, 2) := dk_54 5 (dk_at dksL_law_12 3 rfl rfl)
theorem dL_law_409 : decode cL_law 409 = .ok (.aload_n 2, 1) := dk_44 (dk_at dksL_law_12 5 rfl rfl)
theorem dL_law_410 : decode cL_law 410 = .ok (.aload_n 0, 1) := dk_42 (dk_at dksL_law_12 6 rfl rfl)
theorem dL_law_411 : decode cL_law 411 = .ok (.iload 4, 2) := dk_21 4 (dk_at dksL_law_12 7 rfl rfl)
theorem dL_law_413 : decode cL_law 413 = .ok (.iconst 1, 1) := dk_4 (dk_at dksL_law_12 9 rfl rfl)
theorem dL_law_414 : decode cL_law 414 = .ok (.iadd, 1) := dk_96 (dk_at dksL_law_12 10 rfl rfl)
theorem dL_law_415 : decode cL_law 415 = .ok (.iaload, 1) := dk_46 (dk_at dksL_law_12 11 rfl rfl)
theorem dL_law_416 : decode cL_law 416 = .ok (.aload_n 0, 1) := dk_42 (dk_at dksL_law_12 12 rfl rfl)
theorem dL_law_417 : decode cL_law 417 = .ok (.iload 4, 2) := dk_21 4 (dk_at dksL_law_12 13 rfl rfl)
theorem dL_law_419 : decode cL_law 419 = .ok (.iconst 2, 1) := dk_5 (dk_at dksL_law_12 15 rfl rfl)
theorem dL_law_420 : decode cL_law 420 = .ok (.iadd, 1) := dk_96 (dk_at dksL_law_12 16 rfl rfl)
theorem dL_law_421 : decode cL_law 421 = .ok (.iaload, 1) := dk_46 (dk_at dksL_law_12 17 rfl rfl)
theorem dL_law_422 : decode cL_law 422 = .ok (.invokevirtual 108, 3) := dk_182 0 108 (dk_at dksL_law_12 18 rfl rfl)
theorem dL_law_425 : decode cL_law 425 = .ok (.istore 6, 2) := dk_54 6 (dk_at dksL_law_12 21 rfl rfl)
theorem dL_law_427 : decode cL_law 427 = .ok (.aload_n 2, 1) := dk_44 (dk_at dksL_law_12 23 rfl rfl)
theorem dL_law_428 : decode cL_law 428 = .ok (.invokevirtual 94, 3) := dk_182 0 94 (dk_at dksL_law_13 0 rfl rfl)
theorem dL_law_431 : decode cL_law 431 = .ok (.iload 5, 2) := dk_21 5 (dk_at dksL_law_13 3 rfl rfl)
theorem dL_law_433 : decode cL_law 433 = .ok (.if_icmp .eq 5, 3) := dk_159 0 5 (dk_at dksL_law_13 5 rfl rfl)
theorem dL_law_436 : decode cL_law 436 = .ok (.iconst 0, 1) := dk_3 (dk_at dksL_law_13 8 rfl rfl)
theorem dL_law_437 : decode cL_law 437 = .ok (.ireturn, 1) := dk_172 (dk_at dksL_law_13 9 rfl rfl)
theorem dL_law_438 : decode cL_law 438 = .ok (.iload 5, 2) := dk_21 5 (dk_at dksL_law_13 10 rfl rfl)
theorem dL_law_440 : decode cL_law 440 = .ok (.ifCond .ne 15, 3) := dk_154 0 15 (dk_at dksL_law_13 12 rfl rfl)
theorem dL_law_443 : decode cL_law 443 = .ok (.aload_n 3, 1) := dk_45 (dk_at dksL_law_13 15 rfl rfl)
theorem dL_law_444 : decode cL_law 444 = .ok (.iconst 0, 1) := dk_3 (dk_at dksL_law_13 16 rfl rfl)
theorem dL_law_445 : decode cL_law 445 = .ok (.laload, 1) := dk_47 (dk_at dksL_law_13 17 rfl rfl)
theorem dL_law_446 : decode cL_law 446 = .ok (.iload 6, 2) := dk_21 6 (dk_at dksL_law_13 18 rfl rfl)
theorem dL_law_448 : decode cL_law 448 = .ok (.i2l, 1) := dk_133 (dk_at dksL_law_13 20 rfl rfl)
theorem dL_law_449 : decode cL_law 449 = .ok (.lcmp, 1) := dk_148 (dk_at dksL_law_13 21 rfl rfl)
theorem dL_law_450 : decode cL_law 450 = .ok (.ifCond .eq 5, 3) := dk_153 0 5 (dk_at dksL_law_14 0 rfl rfl)
theorem dL_law_453 : decode cL_law 453 = .ok (.iconst 0, 1) := dk_3 (dk_at dksL_law_14 3 rfl rfl)
theorem dL_law_454 : decode cL_law 454 = .ok (.ireturn, 1) := dk_172 (dk_at dksL_law_14 4 rfl rfl)
theorem dL_law_455 : decode cL_law 455 = .ok (.goto 1337, 3) := dk_167 5 57 (dk_at dksL_law_14 5 rfl rfl)
theorem dL_law_458 : decode cL_law 458 = .ok (.aload_n 1, 1) := dk_43 (dk_at dksL_law_14 8 rfl rfl)
theorem dL_law_459 : decode cL_law 459 = .ok (.aload_n 0, 1) := dk_42 (dk_at dksL_law_14 9 rfl rfl)
theorem dL_law_460 : decode cL_law 460 = .ok (.iload 4, 2) := dk_21 4 (dk_at dksL_law_14 10 rfl rfl)
theorem dL_law_462 : decode cL_law 462 = .ok (.iconst 1, 1) := dk_4 (dk_at dksL_law_14 12 rfl rfl)
theorem dL_law_463 : decode cL_law 463 = .ok (.iadd, 1) := dk_96 (dk_at dksL_law_14 13 rfl rfl)
theorem dL_law_464 : decode cL_law 464 = .ok (.iaload, 1) := dk_46 (dk_at dksL_law_14 14 rfl rfl)
theorem dL_law_465 : decode cL_law 465 = .ok (.aload_n 0, 1) := dk_42 (dk_at dksL_law_14 15 rfl rfl)
theorem dL_law_466 : decode cL_law 466 = .ok (.iload 4, 2) := dk_21 4 (dk_at dksL_law_14 16 rfl rfl)
theorem dL_law_468 : decode cL_law 468 = .ok (.iconst 2, 1) := dk_5 (dk_at dksL_law_14 18 rfl rfl)
theorem dL_law_469 : decode cL_law 469 = .ok (.iadd, 1) := dk_96 (dk_at dksL_law_14 19 rfl rfl)
theorem dL_law_470 : decode cL_law 470 = .ok (.iaload, 1) := dk_46 (dk_at dksL_law_14 20 rfl rfl)
theorem dL_law_471 : decode cL_law 471 = .ok (.aload_n 3, 1) := dk_45 (dk_at dksL_law_14 21 rfl rfl)
theorem dL_law_472 : decode cL_law 472 = .ok (.invokestatic 109, 3) := dk_184 0 109 (dk_at dksL_law_15 0 rfl rfl)
theorem dL_law_475 : decode cL_law 475 = .ok (.istore 5, 2) := dk_54 5 (dk_at dksL_law_15 3 rfl rfl)
theorem dL_law_477 : decode cL_law 477 = .ok (.aload_n 2, 1) := dk_44 (dk_at dksL_law_15 5 rfl rfl)
theorem dL_law_478 : decode cL_law 478 = .ok (.aload_n 0, 1) := dk_42 (dk_at dksL_law_15 6 rfl rfl)
theorem dL_law_479 : decode cL_law 479 = .ok (.iload 4, 2) := dk_21 4 (dk_at dksL_law_15 7 rfl rfl)
theorem dL_law_481 : decode cL_law 481 = .ok (.iconst 1, 1) := dk_4 (dk_at dksL_law_15 9 rfl rfl)
theorem dL_law_482 : decode cL_law 482 = .ok (.iadd, 1) := dk_96 (dk_at dksL_law_15 10 rfl rfl)
theorem dL_law_483 : decode cL_law 483 = .ok (.iaload, 1) := dk_46 (dk_at dksL_law_15 11 rfl rfl)
theorem dL_law_484 : decode cL_law 484 = .ok (.aload_n 0, 1) := dk_42 (dk_at dksL_law_15 12 rfl rfl)
theorem dL_law_485 : decode cL_law 485 = .ok (.iload 4, 2) := dk_21 4 (dk_at dksL_law_15 13 rfl rfl)
theorem dL_law_487 : decode cL_law 487 = .ok (.iconst 2, 1) := dk_5 (dk_at dksL_law_15 15 rfl rfl)
theorem dL_law_488 : decode cL_law 488 = .ok (.iadd, 1) := dk_96 (dk_at dksL_law_15 16 rfl rfl)
theorem dL_law_489 : decode cL_law 489 = .ok (.iaload, 1) := dk_46 (dk_at dksL_law_15 17 rfl rfl)
theorem dL_law_490 : decode cL_law 490 = .ok (.invokevirtual 111, 3) := dk_182 0 111 (dk_at dksL_law_15 18 rfl rfl)
theorem dL_law_493 : decode cL_law 493 = .ok (.istore 6, 2) := dk_54 6 (dk_at dksL_law_15 21 rfl rfl)
theorem dL_law_495 : decode cL_law 495 = .ok (.aload_n 2, 1) := dk_44 (dk_at dksL_law_15 23 rfl rfl)
theorem dL_law_496 : decode cL_law 496 = .ok (.invokevirtual 94, 3) := dk_182 0 94 (dk_at dksL_law_16 0 rfl rfl)
theorem dL_law_499 : decode cL_law 499 = .ok (.iload 5, 2) := dk_21 5 (dk_at dksL_law_16 3 rfl rfl)
theorem dL_law_501 : decode cL_law 501 = .ok (.if_icmp .eq 5, 3) := dk_159 0 5 (dk_at dksL_law_16 5 rfl rfl)
theorem dL_law_504 : decode cL_law 504 = .ok (.iconst 0, 1) := dk_3 (dk_at dksL_law_16 8 rfl rfl)
theorem dL_law_505 : decode cL_law 505 = .ok (.ireturn, 1) := dk_172 (dk_at dksL_law_16 9 rfl rfl)
theorem dL_law_506 : decode cL_law 506 = .ok (.iload 5, 2) := dk_21 5 (dk_at dksL_law_16 10 rfl rfl)
theorem dL_law_508 : decode cL_law 508 = .ok (.ifCond .ne 15, 3) := dk_154 0 15 (dk_at dksL_law_16 12 rfl rfl)
theorem dL_law_511 : decode cL_law 511 = .ok (.aload_n 3, 1) := dk_45 (dk_at dksL_law_16 15 rfl rfl)
theorem dL_law_512 : decode cL_law 512 = .ok (.iconst 0, 1) := dk_3 (dk_at dksL_law_16 16 rfl rfl)
theorem dL_law_513 : decode cL_law 513 = .ok (.laload, 1) := dk_47 (dk_at dksL_law_16 17 rfl rfl)
theorem dL_law_514 : decode cL_law 514 = .ok (.iload 6, 2) := dk_21 6 (dk_at dksL_law_16 18 rfl rfl)
theorem dL_law_516 : decode cL_law 516 = .ok (.i2l, 1) := dk_133 (dk_at dksL_law_16 20 rfl rfl)
theorem dL_law_517 : decode cL_law 517 = .ok (.lcmp, 1) := dk_148 (dk_at dksL_law_16 21 rfl rfl)
theorem dL_law_518 : decode cL_law 518 = .ok (.ifCond .eq 5, 3) := dk_153 0 5 (dk_at dksL_law_17 0 rfl rfl)
theorem dL_law_521 : decode cL_law 521 = .ok (.iconst 0, 1) := dk_3 (dk_at dksL_law_17 3 rfl rfl)
theorem dL_law_522 : decode cL_law 522 = .ok (.ireturn, 1) := dk_172 (dk_at dksL_law_17 4 rfl rfl)
theorem dL_law_523 : decode cL_law 523 = .ok (.goto 1269, 3) := dk_167 4 245 (dk_at dksL_law_17 5 rfl rfl)
theorem dL_law_526 : decode cL_law 526 = .ok (.aload_n 1, 1) := dk_43 (dk_at dksL_law_17 8 rfl rfl)
theorem dL_law_527 : decode cL_law 527 = .ok (.aload_n 0, 1) := dk_42 (dk_at dksL_law_17 9 rfl rfl)
theorem dL_law_528 : decode cL_law 528 = .ok (.iload 4, 2) := dk_21 4 (dk_at dksL_law_17 10 rfl rfl)
theorem dL_law_530 : decode cL_law 530 = .ok (.iconst 1, 1) := dk_4 (dk_at dksL_law_17 12 rfl rfl)
theorem dL_law_531 : decode cL_law 531 = .ok (.iadd, 1) := dk_96 (dk_at dksL_law_17 13 rfl rfl)
theorem dL_law_532 : decode cL_law 532 = .ok (.iaload, 1) := dk_46 (dk_at dksL_law_17 14 rfl rfl)
theorem dL_law_533 : decode cL_law 533 = .ok (.aload_n 0, 1) := dk_42 (dk_at dksL_law_17 15 rfl rfl)
theorem dL_law_534 : decode cL_law 534 = .ok (.iload 4, 2) := dk_21 4 (dk_at dksL_law_17 16 rfl rfl)
theorem dL_law_536 : decode cL_law 536 = .ok (.iconst 2, 1) := dk_5 (dk_at dksL_law_17 18 rfl rfl)
theorem dL_law_537 : decode cL_law 537 = .ok (.iadd, 1) := dk_96 (dk_at dksL_law_17 19 rfl rfl)
theorem dL_law_538 : decode cL_law 538 = .ok (.iaload, 1) := dk_46 (dk_at dksL_law_17 20 rfl rfl)
theorem dL_law_539 : decode cL_law 539 = .ok (.aload_n 3, 1) := dk_45 (dk_at dksL_law_17 21 rfl rfl)
theorem dL_law_540 : decode cL_law 540 = .ok (.invokestatic 112, 3) := dk_184 0 112 (dk_at dksL_law_18 0 rfl rfl)
theorem dL_law_543 : decode cL_law 543 = .ok (.istore 5, 2) := dk_54 5 (dk_at dksL_law_18 3 rfl rfl)
theorem dL_law_545 : decode cL_law 545 = .ok (.aload_n 2, 1) := dk_44 (dk_at dksL_law_18 5 rfl rfl)
theorem dL_law_546 : decode cL_law 546 = .ok (.aload_n 0, 1) := dk_42 (dk_at dksL_law_18 6 rfl rfl)
theorem dL_law_547 : decode cL_law 547 = .ok (.iload 4, 2) := dk_21 4 (dk_at dksL_law_18 7 rfl rfl)
theorem dL_law_549 : decode cL_law 549 = .ok (.iconst 1, 1) := dk_4 (dk_at dksL_law_18 9 rfl rfl)
theorem dL_law_550 : decode cL_law 550 = .ok (.iadd, 1) := dk_96 (dk_at dksL_law_18 10 rfl rfl)
theorem dL_law_551 : decode cL_law 551 = .ok (.iaload, 1) := dk_46 (dk_at dksL_law_18 11 rfl rfl)
theorem dL_law_552 : decode cL_law 552 = .ok (.aload_n 0, 1) := dk_42 (dk_at dksL_law_18 12 rfl rfl)
theorem dL_law_553 : decode cL_law 553 = .ok (.iload 4, 2) := dk_21 4 (dk_at dksL_law_18 13 rfl rfl)
theorem dL_law_555 : decode cL_law 555 = .ok (.iconst 2, 1) := dk_5 (dk_at dksL_law_18 15 rfl rfl)
theorem dL_law_556 : decode cL_law 556 = .ok (.iadd, 1) := dk_96 (dk_at dksL_law_18 16 rfl rfl)
theorem dL_law_557 : decode cL_law 557 = .ok (.iaload, 1) := dk_46 (dk_at dksL_law_18 17 rfl rfl)
theorem dL_law_558 : decode cL_law 558 = .ok (.invokevirtual 114, 3) := dk_182 0 114 (dk_at dksL_law_18 18 rfl rfl)
theorem dL_law_561 : decode cL_law 561 = .ok (.istore 6, 2) := dk_54 6 (dk_at dksL_law_18 21 rfl rfl)
theorem dL_law_563 : decode cL_law 563 = .ok (.aload_n 2, 1) := dk_44 (dk_at dksL_law_18 23 rfl rfl)
theorem dL_law_564 : decode cL_law 564 = .ok (.invokevirtual 94, 3) := dk_182 0 94 (dk_at dksL_law_19 0 rfl rfl)
theorem dL_law_567 : decode cL_law 567 = .ok (.iload 5, 2) := dk_21 5 (dk_at dksL_law_19 3 rfl rfl)
theorem dL_law_569 : decode cL_law 569 = .ok (.if_icmp .eq 5, 3) := dk_159 0 5 (dk_at dksL_law_19 5 rfl rfl)
theorem dL_law_572 : decode cL_law 572 = .ok (.iconst 0, 1) := dk_3 (dk_at dksL_law_19 8 rfl rfl)
theorem dL_law_573 : decode cL_law 573 = .ok (.ireturn, 1) := dk_172 (dk_at dksL_law_19 9 rfl rfl)
theorem dL_law_574 : decode cL_law 574 = .ok (.iload 5, 2) := dk_21 5 (dk_at dksL_law_19 10 rfl rfl)
theorem dL_law_576 : decode cL_law 576 = .ok (.ifCond .ne 15, 3) := dk_154 0 15 (dk_at dksL_law_19 12 rfl rfl)
theorem dL_law_579 : decode cL_law 579 = .ok (.aload_n 3, 1) := dk_45 (dk_at dksL_law_19 15 rfl rfl)
theorem dL_law_580 : decode cL_law 580 = .ok (.iconst 0, 1) := dk_3 (dk_at dksL_law_19 16 rfl rfl)
theorem dL_law_581 : decode cL_law 581 = .ok (.laload, 1) := dk_47 (dk_at dksL_law_19 17 rfl rfl)
theorem dL_law_582 : decode cL_law 582 = .ok (.iload 6, 2) := dk_21 6 (dk_at dksL_law_19 18 rfl rfl)
theorem dL_law_584 : decode cL_law 584 = .ok (.i2l, 1) := dk_133 (dk_at dksL_law_19 20 rfl rfl)
theorem dL_law_585 : decode cL_law 585 = .ok (.lcmp, 1) := dk_148 (dk_at dksL_law_19 21 rfl rfl)
theorem dL_law_586 : decode cL_law 586 = .ok (.ifCond .eq 5, 3) := dk_153 0 5 (dk_at dksL_law_20 0 rfl rfl)
theorem dL_law_589 : decode cL_law 589 = .ok (.iconst 0, 1) := dk_3 (dk_at dksL_law_20 3 rfl rfl)
theorem dL_law_590 : decode cL_law 590 = .ok (.ireturn, 1) := dk_172 (dk_at dksL_law_20 4 rfl rfl)
theorem dL_law_591 : decode cL_law 591 = .ok (.goto 1201, 3) := dk_167 4 177 (dk_at dksL_law_20 5 rfl rfl)
theorem dL_law_594 : decode cL_law 594 = .ok (.aload_n 1, 1) := dk_43 (dk_at dksL_law_20 8 rfl rfl)
theorem dL_law_595 : decode cL_law 595 = .ok (.aload_n 0, 1) := dk_42 (dk_at dksL_law_20 9 rfl rfl)
theorem dL_law_596 : decode cL_law 596 = .ok (.iload 4, 2) := dk_21 4 (dk_at dksL_law_20 10 rfl rfl)
theorem dL_law_598 : decode cL_law 598 = .ok (.iconst 1, 1) := dk_4 (dk_at dksL_law_20 12 rfl rfl)
theorem dL_law_599 : decode cL_law 599 = .ok (.iadd, 1) := dk_96 (dk_at dksL_law_20 13 rfl rfl)
theorem dL_law_600 : decode cL_law 600 = .ok (.iaload, 1) := dk_46 (dk_at dksL_law_20 14 rfl rfl)
theorem dL_law_601 : decode cL_law 601 = .ok (.aload_n 0, 1) := dk_42 (dk_at dksL_law_20 15 rfl rfl)
theorem dL_law_602 : decode cL_law 602 = .ok (.iload 4, 2) := dk_21 4 (dk_at dksL_law_20 16 rfl rfl)
theorem dL_law_604 : decode cL_law 604 = .ok (.iconst 2, 1) := dk_5 (dk_at dksL_law_20 18 rfl rfl)
theorem dL_law_605 : decode cL_law 605 = .ok (.iadd, 1) := dk_96 (dk_at dksL_law_20 19 rfl rfl)
theorem dL_law_606 : decode cL_law 606 = .ok (.iaload, 1) := dk_46 (dk_at dksL_law_20 20 rfl rfl)
theorem dL_law_607 : decode cL_law 607 = .ok (.aload_n 3, 1) := dk_45 (dk_at dksL_law_20 21 rfl rfl)
theorem dL_law_608 : decode cL_law 608 = .ok (.invokestatic 115, 3) := dk_184 0 115 (dk_at dksL_law_21 0 rfl rfl)
theorem dL_law_611 : decode cL_law 611 = .ok (.istore 5, 2) := dk_54 5 (dk_at dksL_law_21 3 rfl rfl)
theorem dL_law_613 : decode cL_law 613 = .ok (.aload_n 2, 1) := dk_44 (dk_at dksL_law_21 5 rfl rfl)
theorem dL_law_614 : decode cL_law 614 = .ok (.aload_n 0, 1) := dk_42 (dk_at dksL_law_21 6 rfl rfl)
theorem dL_law_615 : decode cL_law 615 = .ok (.iload 4, 2) := dk_21 4 (dk_at dksL_law_21 7 rfl rfl)
theorem dL_law_617 : decode cL_law 617 = .ok (.iconst 1, 1) := dk_4 (dk_at dksL_law_21 9 rfl rfl)
theorem dL_law_618 : decode cL_law 618 = .ok (.iadd, 1) := dk_96 (dk_at dksL_law_21 10 rfl rfl)
theorem dL_law_619 : decode cL_law 619 = .ok (.iaload, 1) := dk_46 (dk_at dksL_law_21 11 rfl rfl)
theorem dL_law_620 : decode cL_law 620 = .ok (.aload_n 0, 1) := dk_42 (dk_at dksL_law_21 12 rfl rfl)
theorem dL_law_621 : decode cL_law 621 = .ok (.iload 4, 2) := dk_21 4 (dk_at dksL_law_21 13 rfl rfl)
theorem dL_law_623 : decode cL_law 623 = .ok (.iconst 2, 1) := dk_5 (dk_at dksL_law_21 15 rfl rfl)
theorem dL_law_624 : decode cL_law 624 = .ok (.iadd, 1) := dk_96 (dk_at dksL_law_21 16 rfl rfl)
theorem dL_law_625 : decode cL_law 625 = .ok (.iaload, 1) := dk_46 (dk_at dksL_law_21 17 rfl rfl)
theorem dL_law_626 : decode cL_law 626 = .ok (.invokevirtual 117, 3) := dk_182 0 117 (dk_at dksL_law_21 18 rfl rfl)
theorem dL_law_629 : decode cL_law 629 = .ok (.istore 6, 2) := dk_54 6 (dk_at dksL_law_21 21 rfl rfl)
theorem dL_law_631 : decode cL_law 631 = .ok (.aload_n 2, 1) := dk_44 (dk_at dksL_law_21 23 rfl rfl)
theorem dL_law_632 : decode cL_law 632 = .ok (.invokevirtual 94, 3) := dk_182 0 94 (dk_at dksL_law_22 0 rfl rfl)
theorem dL_law_635 : decode cL_law 635 = .ok (.iload 5, 2) := dk_21 5 (dk_at dksL_law_22 3 rfl rfl)
theorem dL_law_637 : decode cL_law 637 = .ok (.if_icmp .eq 5, 3) := dk_159 0 5 (dk_at dksL_law_22 5 rfl rfl)
theorem dL_law_640 : decode cL_law 640 = .ok (.iconst 0, 1) := dk_3 (dk_at dksL_law_22 8 rfl rfl)
theorem dL_law_641 : decode cL_law 641 = .ok (.ireturn, 1) := dk_172 (dk_at dksL_law_22 9 rfl rfl)
theorem dL_law_642 : decode cL_law 642 = .ok (.iload 5, 2) := dk_21 5 (dk_at dksL_law_22 10 rfl rfl)
theorem dL_law_644 : decode cL_law 644 = .ok (.ifCond .ne 22, 3) := dk_154 0 22 (dk_at dksL_law_22 12 rfl rfl)
theorem dL_law_647 : decode cL_law 647 = .ok (.aload_n 3, 1) := dk_45 (dk_at dksL_law_22 15 rfl rfl)
theorem dL_law_648 : decode cL_law 648 = .ok (.iconst 0, 1) := dk_3 (dk_at dksL_law_22 16 rfl rfl)
theorem dL_law_649 : decode cL_law 649 = .ok (.laload, 1) := dk_47 (dk_at dksL_law_22 17 rfl rfl)
theorem dL_law_650 : decode cL_law 650 = .ok (.iload 6, 2) := dk_21 6 (dk_at dksL_law_22 18 rfl rfl)
theorem dL_law_652 : decode cL_law 652 = .ok (.ifCond .eq 7, 3) := dk_153 0 7 (dk_at dksL_law_22 20 rfl rfl)
theorem dL_law_655 : decode cL_law 655 = .ok (.lconst 1, 1) := dk_10 (dk_at dksL_law_22 23 rfl rfl)
theorem dL_law_656 : decode cL_law 656 = .ok (.goto 4, 3) := dk_167 0 4 (dk_at dksL_law_23 0 rfl rfl)
theorem dL_law_659 : decode cL_law 659 = .ok (.lconst 0, 1) := dk_9 (dk_at dksL_law_23 3 rfl rfl)
theorem dL_law_660 : decode cL_law 660 = .ok (.lcmp, 1) := dk_148 (dk_at dksL_law_23 4 rfl rfl)
theorem dL_law_661 : decode cL_law 661 = .ok (.ifCond .eq 5, 3) := dk_153 0 5 (dk_at dksL_law_23 5 rfl rfl)
theorem dL_law_664 : decode cL_law 664 = .ok (.iconst 0, 1) := dk_3 (dk_at dksL_law_23 8 rfl rfl)
theorem dL_law_665 : decode cL_law 665 = .ok (.ireturn, 1) := dk_172 (dk_at dksL_law_23 9 rfl rfl)
theorem dL_law_666 : decode cL_law 666 = .ok (.goto 1126, 3) := dk_167 4 102 (dk_at dksL_law_23 10 rfl rfl)
theorem dL_law_669 : decode cL_law 669 = .ok (.aload_n 1, 1) := dk_43 (dk_at dksL_law_23 13 rfl rfl)
theorem dL_law_670 : decode cL_law 670 = .ok (.aload_n 0, 1) := dk_42 (dk_at dksL_law_23 14 rfl rfl)
theorem dL_law_671 : decode cL_law 671 = .ok (.iload 4, 2) := dk_21 4 (dk_at dksL_law_23 15 rfl rfl)
theorem dL_law_673 : decode cL_law 673 = .ok (.iconst 1, 1) := dk_4 (dk_at dksL_law_23 17 rfl rfl)
theorem dL_law_674 : decode cL_law 674 = .ok (.iadd, 1) := dk_96 (dk_at dksL_law_23 18 rfl rfl)
theorem dL_law_675 : decode cL_law 675 = .ok (.iaload, 1) := dk_46 (dk_at dksL_law_23 19 rfl rfl)
theorem dL_law_676 : decode cL_law 676 = .ok (.aload_n 0, 1) := dk_42 (dk_at dksL_law_23 20 rfl rfl)
theorem dL_law_677 : decode cL_law 677 = .ok (.iload 4, 2) := dk_21 4 (dk_at dksL_law_23 21 rfl rfl)
theorem dL_law_679 : decode cL_law 679 = .ok (.iconst 2, 1) := dk_5 (dk_at dksL_law_23 23 rfl rfl)
theorem dL_law_680 : decode cL_law 680 = .ok (.iadd, 1) := dk_96 (dk_at dksL_law_24 0 rfl rfl)
theorem dL_law_681 : decode cL_law 681 = .ok (.iaload, 1) := dk_46 (dk_at dksL_law_24 1 rfl rfl)
theorem dL_law_682 : decode cL_law 682 = .ok (.aload_n 3, 1) := dk_45 (dk_at dksL_law_24 2 rfl rfl)
theorem dL_law_683 : decode cL_law 683 = .ok (.invokestatic 118, 3) := dk_184 0 118 (dk_at dksL_law_24 3 rfl rfl)
theorem dL_law_686 : decode cL_law 686 = .ok (.istore 5, 2) := dk_54 5 (dk_at dksL_law_24 6 rfl rfl)
theorem dL_law_688 : decode cL_law 688 = .ok (.aload_n 2, 1) := dk_44 (dk_at dksL_law_24 8 rfl rfl)
theorem dL_law_689 : decode cL_law 689 = .ok (.aload_n 0, 1) := dk_42 (dk_at dksL_law_24 9 rfl rfl)
theorem dL_law_690 : decode cL_law 690 = .ok (.iload 4, 2) := dk_21 4 (dk_at dksL_law_24 10 rfl rfl)
theorem dL_law_692 : decode cL_law 692 = .ok (.iconst 1, 1) := dk_4 (dk_at dksL_law_24 12 rfl rfl)
theorem dL_law_693 : decode cL_law 693 = .ok (.iadd, 1) := dk_96 (dk_at dksL_law_24 13 rfl rfl)
theorem dL_law_694 : decode cL_law 694 = .ok (.iaload, 1) := dk_46 (dk_at dksL_law_24 14 rfl rfl)
theorem dL_law_695 : decode cL_law 695 = .ok (.aload_n 0, 1) := dk_42 (dk_at dksL_law_24 15 rfl rfl)
theorem dL_law_696 : decode cL_law 696 = .ok (.iload 4, 2) := dk_21 4 (dk_at dksL_law_24 16 rfl rfl)
theorem dL_law_698 : decode cL_law 698 = .ok (.iconst 2, 1) := dk_5 (dk_at dksL_law_24 18 rfl rfl)
theorem dL_law_699 : decode cL_law 699 = .ok (.iadd, 1) := dk_96 (dk_at dksL_law_24 19 rfl rfl)
theorem dL_law_700 : decode cL_law 700 = .ok (.iaload, 1) := dk_46 (dk_at dksL_law_24 20 rfl rfl)
theorem dL_law_701 : decode cL_law 701 = .ok (.invokevirtual 120, 3) := dk_182 0 120 (dk_at dksL_law_24 21 rfl rfl)
theorem dL_law_704 : decode cL_law 704 = .ok (.istore 6, 2) := dk_54 6 (dk_at dksL_law_25 0 rfl rfl)
theorem dL_law_706 : decode cL_law 706 = .ok (.aload_n 2, 1) := dk_44 (dk_at dksL_law_25 2 rfl rfl)
theorem dL_law_707 : decode cL_law 707 = .ok (.invokevirtual 94, 3) := dk_182 0 94 (dk_at dksL_law_25 3 rfl rfl)
theorem dL_law_710 : decode cL_law 710 = .ok (.iload 5, 2) := dk_21 5 (dk_at dksL_law_25 6 rfl rfl)
theorem dL_law_712 : decode cL_law 712 = .ok (.if_icmp .eq 5, 3) := dk_159 0 5 (dk_at dksL_law_25 8 rfl rfl)
theorem dL_law_715 : decode cL_law 715 = .ok (.iconst 0, 1) := dk_3 (dk_at dksL_law_25 11 rfl rfl)
theorem dL_law_716 : decode cL_law 716 = .ok (.ireturn, 1) := dk_172 (dk_at dksL_law_25 12 rfl rfl)
theorem dL_law_717 : decode cL_law 717 = .ok (.iload 5, 2) := dk_21 5 (dk_at dksL_law_25 13 rfl rfl)
theorem dL_law_719 : decode cL_law 719 = .ok (.ifCond .ne 15, 3) := dk_154 0 15 (dk_at dksL_law_25 15 rfl rfl)
theorem dL_law_722 : decode cL_law 722 = .ok (.aload_n 3, 1) := dk_45 (dk_at dksL_law_25 18 rfl rfl)
theorem dL_law_723 : decode cL_law 723 = .ok (.iconst 0, 1) := dk_3 (dk_at dksL_law_25 19 rfl rfl)
theorem dL_law_724 : decode cL_law 724 = .ok (.laload, 1) := dk_47 (dk_at dksL_law_25 20 rfl rfl)
theorem dL_law_725 : decode cL_law 725 = .ok (.iload 6, 2) := dk_21 6 (dk_at dksL_law_25 21 rfl rfl)
theorem dL_law_727 : decode cL_law 727 = .ok (.i2l, 1) := dk_133 (dk_at dksL_law_25 23 rfl rfl)
theorem dL_law_728 : decode cL_law 728 = .ok (.lcmp, 1) := dk_148 (dk_at dksL_law_26 0 rfl rfl)
theorem dL_law_729 : decode cL_law 729 = .ok (.ifCond .eq 5, 3) := dk_153 0 5 (dk_at dksL_law_26 1 rfl rfl)
theorem dL_law_732 : decode cL_law 732 = .ok (.iconst 0, 1) := dk_3 (dk_at dksL_law_26 4 rfl rfl)
theorem dL_law_733 : decode cL_law 733 = .ok (.ireturn, 1) := dk_172 (dk_at dksL_law_26 5 rfl rfl)
theorem dL_law_734 : decode cL_law 734 = .ok (.goto 1058, 3) := dk_167 4 34 (dk_at dksL_law_26 6 rfl rfl)
theorem dL_law_737 : decode cL_law 737 = .ok (.aload_n 1, 1) := dk_43 (dk_at dksL_law_26 9 rfl rfl)
theorem dL_law_738 : decode cL_law 738 = .ok (.aload_n 0, 1) := dk_42 (dk_at dksL_law_26 10 rfl rfl)
theorem dL_law_739 : decode cL_law 739 = .ok (.iload 4, 2) := dk_21 4 (dk_at dksL_law_26 11 rfl rfl)
theorem dL_law_741 : decode cL_law 741 = .ok (.iconst 1, 1) := dk_4 (dk_at dksL_law_26 13 rfl rfl)
theorem dL_law_742 : decode cL_law 742 = .ok (.iadd, 1) := dk_96 (dk_at dksL_law_26 14 rfl rfl)
theorem dL_law_743 : decode cL_law 743 = .ok (.iaload, 1) := dk_46 (dk_at dksL_law_26 15 rfl rfl)
theorem dL_law_744 : decode cL_law 744 = .ok (.aload_n 0, 1) := dk_42 (dk_at dksL_law_26 16 rfl rfl)
theorem dL_law_745 : decode cL_law 745 = .ok (.iload 4, 2) := dk_21 4 (dk_at dksL_law_26 17 rfl rfl)
theorem dL_law_747 : decode cL_law 747 = .ok (.iconst 2, 1) := dk_5 (dk_at dksL_law_26 19 rfl rfl)
theorem dL_law_748 : decode cL_law 748 = .ok (.iadd, 1) := dk_96 (dk_at dksL_law_26 20 rfl rfl)
theorem dL_law_749 : decode cL_law 749 = .ok (.iaload, 1) := dk_46 (dk_at dksL_law_26 21 rfl rfl)
theorem dL_law_750 : decode cL_law 750 = .ok (.aload_n 3, 1) := dk_45 (dk_at dksL_law_26 22 rfl rfl)
theorem dL_law_751 : decode cL_law 751 = .ok (.invokestatic 121, 3) := dk_184 0 121 (dk_at dksL_law_27 0 rfl rfl)
theorem dL_law_754 : decode cL_law 754 = .ok (.istore 5, 2) := dk_54 5 (dk_at dksL_law_27 3 rfl rfl)
theorem dL_law_756 : decode cL_law 756 = .ok (.aload_n 2, 1) := dk_44 (dk_at dksL_law_27 5 rfl rfl)
theorem dL_law_757 : decode cL_law 757 = .ok (.aload_n 0, 1) := dk_42 (dk_at dksL_law_27 6 rfl rfl)
theorem dL_law_758 : decode cL_law 758 = .ok (.iload 4, 2) := dk_21 4 (dk_at dksL_law_27 7 rfl rfl)
theorem dL_law_760 : decode cL_law 760 = .ok (.iconst 1, 1) := dk_4 (dk_at dksL_law_27 9 rfl rfl)
theorem dL_law_761 : decode cL_law 761 = .ok (.iadd, 1) := dk_96 (dk_at dksL_law_27 10 rfl rfl)
theorem dL_law_762 : decode cL_law 762 = .ok (.iaload, 1) := dk_46 (dk_at dksL_law_27 11 rfl rfl)
theorem dL_law_763 : decode cL_law 763 = .ok (.aload_n 0, 1) := dk_42 (dk_at dksL_law_27 12 rfl rfl)
theorem dL_law_764 : decode cL_law 764 = .ok (.iload 4, 2) := dk_21 4 (dk_at dksL_law_27 13 rfl rfl)
theorem dL_law_766 : decode cL_law 766 = .ok (.iconst 2, 1) := dk_5 (dk_at dksL_law_27 15 rfl rfl)
theorem dL_law_767 : decode cL_law 767 = .ok (.iadd, 1) := dk_96 (dk_at dksL_law_27 16 rfl rfl)
theorem dL_law_768 : decode cL_law 768 = .ok (.iaload, 1) := dk_46 (dk_at dksL_law_27 17 rfl rfl)
theorem dL_law_769 : decode cL_law 769 = .ok (.invokevirtual 123, 3) := dk_182 0 123 (dk_at dksL_law_27 18 rfl rfl)
theorem dL_law_772 : decode cL_law 772 = .ok (.istore 6, 2) := dk_54 6 (dk_at dksL_law_27 21 rfl rfl)
theorem dL_law_774 : decode cL_law 774 = .ok (.aload_n 2, 1) := dk_44 (dk_at dksL_law_27 23 rfl rfl)
theorem dL_law_775 : decode cL_law 775 = .ok (.invokevirtual 94, 3) := dk_182 0 94 (dk_at dksL_law_28 0 rfl rfl)
theorem dL_law_778 : decode cL_law 778 = .ok (.iload 5, 2) := dk_21 5 (dk_at dksL_law_28 3 rfl rfl)
theorem dL_law_780 : decode cL_law 780 = .ok (.if_icmp .eq 5, 3) := dk_159 0 5 (dk_at dksL_law_28 5 rfl rfl)
theorem dL_law_783 : decode cL_law 783 = .ok (.iconst 0, 1) := dk_3 (dk_at dksL_law_28 8 rfl rfl)
theorem dL_law_784 : decode cL_law 784 = .ok (.ireturn, 1) := dk_172 (dk_at dksL_law_28 9 rfl rfl)
theorem dL_law_785 : decode cL_law 785 = .ok (.iload 5, 2) := dk_21 5 (dk_at dksL_law_28 10 rfl rfl)
theorem dL_law_787 : decode cL_law 787 = .ok (.ifCond .ne 15, 3) := dk_154 0 15 (dk_at dksL_law_28 12 rfl rfl)
theorem dL_law_790 : decode cL_law 790 = .ok (.aload_n 3, 1) := dk_45 (dk_at dksL_law_28 15 rfl rfl)
theorem dL_law_791 : decode cL_law 791 = .ok (.iconst 0, 1) := dk_3 (dk_at dksL_law_28 16 rfl rfl)
theorem dL_law_792 : decode cL_law 792 = .ok (.laload, 1) := dk_47 (dk_at dksL_law_28 17 rfl rfl)
theorem dL_law_793 : decode cL_law 793 = .ok (.iload 6, 2) := dk_21 6 (dk_at dksL_law_28 18 rfl rfl)
theorem dL_law_795 : decode cL_law 795 = .ok (.i2l, 1) := dk_133 (dk_at dksL_law_28 20 rfl rfl)
theorem dL_law_796 : decode cL_law 796 = .ok (.lcmp, 1) := dk_148 (dk_at dksL_law_28 21 rfl rfl)
theorem dL_law_797 : decode cL_law 797 = .ok (.ifCond .eq 5, 3) := dk_153 0 5 (dk_at dksL_law_29 0 rfl rfl)
theorem dL_law_800 : decode cL_law 800 = .ok (.iconst 0, 1) := dk_3 (dk_at dksL_law_29 3 rfl rfl)
theorem dL_law_801 : decode cL_law 801 = .ok (.ireturn, 1) := dk_172 (dk_at dksL_law_29 4 rfl rfl)
theorem dL_law_802 : decode cL_law 802 = .ok (.goto 990, 3) := dk_167 3 222 (dk_at dksL_law_29 5 rfl rfl)
theorem dL_law_805 : decode cL_law 805 = .ok (.aload_n 1, 1) := dk_43 (dk_at dksL_law_29 8 rfl rfl)
theorem dL_law_806 : decode cL_law 806 = .ok (.aload_n 0, 1) := dk_42 (dk_at dksL_law_29 9 rfl rfl)
theorem dL_law_807 : decode cL_law 807 = .ok (.iload 4, 2) := dk_21 4 (dk_at dksL_law_29 10 rfl rfl)
theorem dL_law_809 : decode cL_law 809 = .ok (.iconst 1, 1) := dk_4 (dk_at dksL_law_29 12 rfl rfl)
theorem dL_law_810 : decode cL_law 810 = .ok (.iadd, 1) := dk_96 (dk_at dksL_law_29 13 rfl rfl)
theorem dL_law_811 : decode cL_law 811 = .ok (.iaload, 1) := dk_46 (dk_at dksL_law_29 14 rfl rfl)
theorem dL_law_812 : decode cL_law 812 = .ok (.invokevirtual 124, 3) := dk_182 0 124 (dk_at dksL_law_29 15 rfl rfl)
theorem dL_law_815 : decode cL_law 815 = .ok (.aload_n 2, 1) := dk_44 (dk_at dksL_law_29 18 rfl rfl)
theorem dL_law_816 : decode cL_law 816 = .ok (.aload_n 0, 1) := dk_42 (dk_at dksL_law_29 19 rfl rfl)
theorem dL_law_817 : decode cL_law 817 = .ok (.iload 4, 2) := dk_21 4 (dk_at dksL_law_29 20 rfl rfl)
theorem dL_law_819 : decode cL_law 819 = .ok (.iconst 1, 1) := dk_4 (dk_at dksL_law_29 22 rfl rfl)
theorem dL_law_820 : decode cL_law 820 = .ok (.iadd, 1) := dk_96 (dk_at dksL_law_29 23 rfl rfl)
theorem dL_law_821 : decode cL_law 821 = .ok (.iaload, 1) := dk_46 (dk_at dksL_law_30 0 rfl rfl)
theorem dL_law_822 : decode cL_law 822 = .ok (.invokevirtual 127, 3) := dk_182 0 127 (dk_at dksL_law_30 1 rfl rfl)
theorem dL_law_825 : decode cL_law 825 = .ok (.if_icmp .eq 967, 3) := dk_159 3 199 (dk_at dksL_law_30 4 rfl rfl)
theorem dL_law_828 : decode cL_law 828 = .ok (.iconst 0, 1) := dk_3 (dk_at dksL_law_30 7 rfl rfl)
theorem dL_law_829 : decode cL_law 829 = .ok (.ireturn, 1) := dk_172 (dk_at dksL_law_30 8 rfl rfl)
theorem dL_law_830 : decode cL_law 830 = .ok (.aload_n 1, 1) := dk_43 (dk_at dksL_law_30 9 rfl rfl)
theorem dL_law_831 : decode cL_law 831 = .ok (.invokevirtual 128, 3) := dk_182 0 128 (dk_at dksL_law_30 10 rfl rfl)
theorem dL_law_834 : decode cL_law 834 = .ok (.aload_n 2, 1) := dk_44 (dk_at dksL_law_30 13 rfl rfl)
theorem dL_law_835 : decode cL_law 835 = .ok (.invokevirtual 131, 3) := dk_182 0 131 (dk_at dksL_law_30 14 rfl rfl)
theorem dL_law_838 : decode cL_law 838 = .ok (.if_icmp .eq 954, 3) := dk_159 3 186 (dk_at dksL_law_30 17 rfl rfl)
theorem dL_law_841 : decode cL_law 841 = .ok (.iconst 0, 1) := dk_3 (dk_at dksL_law_30 20 rfl rfl)
theorem dL_law_842 : decode cL_law 842 = .ok (.ireturn, 1) := dk_172 (dk_at dksL_law_30 21 rfl rfl)
theorem dL_law_843 : decode cL_law 843 = .ok (.aload_n 1, 1) := dk_43 (dk_at dksL_law_30 22 rfl rfl)
theorem dL_law_844 : decode cL_law 844 = .ok (.aload_n 0, 1) := dk_42 (dk_at dksL_law_30 23 rfl rfl)
theorem dL_law_845 : decode cL_law 845 = .ok (.iload 4, 2) := dk_21 4 (dk_at dksL_law_31 0 rfl rfl)
theorem dL_law_847 : decode cL_law 847 = .ok (.iconst 1, 1) := dk_4 (dk_at dksL_law_31 2 rfl rfl)
theorem dL_law_848 : decode cL_law 848 = .ok (.iadd, 1) := dk_96 (dk_at dksL_law_31 3 rfl rfl)
theorem dL_law_849 : decode cL_law 849 = .ok (.iaload, 1) := dk_46 (dk_at dksL_law_31 4 rfl rfl)
theorem dL_law_850 : decode cL_law 850 = .ok (.aload_n 3, 1) := dk_45 (dk_at dksL_law_31 5 rfl rfl)
theorem dL_law_851 : decode cL_law 851 = .ok (.invokestatic 132, 3) := dk_184 0 132 (dk_at dksL_law_31 6 rfl rfl)
theorem dL_law_854 : decode cL_law 854 = .ok (.istore 5, 2) := dk_54 5 (dk_at dksL_law_31 9 rfl rfl)
theorem dL_law_856 : decode cL_law 856 = .ok (.aload_n 2, 1) := dk_44 (dk_at dksL_law_31 11 rfl rfl)
theorem dL_law_857 : decode cL_law 857 = .ok (.aload_n 0, 1) := dk_42 (dk_at dksL_law_31 12 rfl rfl)
theorem dL_law_858 : decode cL_law 858 = .ok (.iload 4, 2) := dk_21 4 (dk_at dksL_law_31 13 rfl rfl)
theorem dL_law_860 : decode cL_law 860 = .ok (.iconst 1, 1) := dk_4 (dk_at dksL_law_31 15 rfl rfl)
theorem dL_law_861 : decode cL_law 861 = .ok (.iadd, 1) := dk_96 (dk_at dksL_law_31 16 rfl rfl)
theorem dL_law_862 : decode cL_law 862 = .ok (.iaload, 1) := dk_46 (dk_at dksL_law_31 17 rfl rfl)
theorem dL_law_863 : decode cL_law 863 = .ok (.invokevirtual 134, 3) := dk_182 0 134 (dk_at dksL_law_31 18 rfl rfl)
theorem dL_law_866 : decode cL_law 866 = .ok (.istore 6, 2) := dk_54 6 (dk_at dksL_law_31 21 rfl rfl)
theorem dL_law_868 : decode cL_law 868 = .ok (.aload_n 2, 1) := dk_44 (dk_at dksL_law_31 23 rfl rfl)
theorem dL_law_869 : decode cL_law 869 = .ok (.invokevirtual 94, 3) := dk_182 0 94 (dk_at dksL_law_32 0 rfl rfl)
theorem dL_law_872 : decode cL_law 872 = .ok (.iload 5, 2) := dk_21 5 (dk_at dksL_law_32 3 rfl rfl)
theorem dL_law_874 : decode cL_law 874 = .ok (.if_icmp .eq 5, 3) := dk_159 0 5 (dk_at dksL_law_32 5 rfl rfl)
theorem dL_law_877 : decode cL_law 877 = .ok (.iconst 0, 1) := dk_3 (dk_at dksL_law_32 8 rfl rfl)
theorem dL_law_878 : decode cL_law 878 = .ok (.ireturn, 1) := dk_172 (dk_at dksL_law_32 9 rfl rfl)
theorem dL_law_879 : decode cL_law 879 = .ok (.iload 5, 2) := dk_21 5 (dk_at dksL_law_32 10 rfl rfl)
theorem dL_law_881 : decode cL_law 881 = .ok (.ifCond .ne 15, 3) := dk_154 0 15 (dk_at dksL_law_32 12 rfl rfl)
theorem dL_law_884 : decode cL_law 884 = .ok (.aload_n 3, 1) := dk_45 (dk_at dksL_law_32 15 rfl rfl)
theorem dL_law_885 : decode cL_law 885 = .ok (.iconst 0, 1) := dk_3 (dk_at dksL_law_32 16 rfl rfl)
theorem dL_law_886 : decode cL_law 886 = .ok (.laload, 1) := dk_47 (dk_at dksL_law_32 17 rfl rfl)
theorem dL_law_887 : decode cL_law 887 = .ok (.iload 6, 2) := dk_21 6 (dk_at dksL_law_32 18 rfl rfl)
theorem dL_law_889 : decode cL_law 889 = .ok (.i2l, 1) := dk_133 (dk_at dksL_law_32 20 rfl rfl)
theorem dL_law_890 : decode cL_law 890 = .ok (.lcmp, 1) := dk_148 (dk_at dksL_law_32 21 rfl rfl)
theorem dL_law_891 : decode cL_law 891 = .ok (.ifCond .eq 5, 3) := dk_153 0 5 (dk_at dksL_law_33 0 rfl rfl)
theorem dL_law_894 : decode cL_law 894 = .ok (.iconst 0, 1) := dk_3 (dk_at dksL_law_33 3 rfl rfl)
theorem dL_law_895 : decode cL_law 895 = .ok (.ireturn, 1) := dk_172 (dk_at dksL_law_33 4 rfl rfl)
theorem dL_law_896 : decode cL_law 896 = .ok (.goto 896, 3) := dk_167 3 128 (dk_at dksL_law_33 5 rfl rfl)
theorem dL_law_899 : decode cL_law 899 = .ok (.aload_n 1, 1) := dk_43 (dk_at dksL_law_33 8 rfl rfl)
theorem dL_law_900 : decode cL_law 900 = .ok (.aload_n 0, 1) := dk_42 (dk_at dksL_law_33 9 rfl rfl)
theorem dL_law_901 : decode cL_law 901 = .ok (.iload 4, 2) := dk_21 4 (dk_at dksL_law_33 10 rfl rfl)
theorem dL_law_903 : decode cL_law 903 = .ok (.iconst 1, 1) := dk_4 (dk_at dksL_law_33 12 rfl rfl)
theorem dL_law_904 : decode cL_law 904 = .ok (.iadd, 1) := dk_96 (dk_at dksL_law_33 13 rfl rfl)
theorem dL_law_905 : decode cL_law 905 = .ok (.iaload, 1) := dk_46 (dk_at dksL_law_33 14 rfl rfl)
theorem dL_law_906 : decode cL_law 906 = .ok (.aload_n 0, 1) := dk_42 (dk_at dksL_law_33 15 rfl rfl)
theorem dL_law_907 : decode cL_law 907 = .ok (.iload 4, 2) := dk_21 4 (dk_at dksL_law_33 16 rfl rfl)
theorem dL_law_909 : decode cL_law 909 = .ok (.iconst 2, 1) := dk_5 (dk_at dksL_law_33 18 rfl rfl)
theorem dL_law_910 : decode cL_law 910 = .ok (.iadd, 1) := dk_96 (dk_at dksL_law_33 19 rfl rfl)
theorem dL_law_911 : decode cL_law 911 = .ok (.iaload, 1) := dk_46 (dk_at dksL_law_33 20 rfl rfl)
theorem dL_law_912 : decode cL_law 912 = .ok (.aload_n 3, 1) := dk_45 (dk_at dksL_law_33 21 rfl rfl)
theorem dL_law_913 : decode cL_law 913 = .ok (.invokestatic 135, 3) := dk_184 0 135 (dk_at dksL_law_34 0 rfl rfl)
theorem dL_law_916 : decode cL_law 916 = .ok (.istore 5, 2) := dk_54 5 (dk_at dksL_law_34 3 rfl rfl)
theorem dL_law_918 : decode cL_law 918 = .ok (.aload_n 2, 1) := dk_44 (dk_at dksL_law_34 5 rfl rfl)
theorem dL_law_919 : decode cL_law 919 = .ok (.aload_n 0, 1) := dk_42 (dk_at dksL_law_34 6 rfl rfl)
theorem dL_law_920 : decode cL_law 920 = .ok (.iload 4, 2) := dk_21 4 (dk_at dksL_law_34 7 rfl rfl)
theorem dL_law_922 : decode cL_law 922 = .ok (.iconst 1, 1) := dk_4 (dk_at dksL_law_34 9 rfl rfl)
theorem dL_law_923 : decode cL_law 923 = .ok (.iadd, 1) := dk_96 (dk_at dksL_law_34 10 rfl rfl)
theorem dL_law_924 : decode cL_law 924 = .ok (.iaload, 1) := dk_46 (dk_at dksL_law_34 11 rfl rfl)
theorem dL_law_925 : decode cL_law 925 = .ok (.aload_n 0, 1) := dk_42 (dk_at dksL_law_34 12 rfl rfl)
theorem dL_law_926 : decode cL_law 926 = .ok (.iload 4, 2) := dk_21 4 (dk_at dksL_law_34 13 rfl rfl)
theorem dL_law_928 : decode cL_law 928 = .ok (.iconst 2, 1) := dk_5 (dk_at dksL_law_34 15 rfl rfl)
theorem dL_law_929 : decode cL_law 929 = .ok (.iadd, 1) := dk_96 (dk_at dksL_law_34 16 rfl rfl)
theorem dL_law_930 : decode cL_law 930 = .ok (.iaload, 1) := dk_46 (dk_at dksL_law_34 17 rfl rfl)
theorem dL_law_931 : decode cL_law 931 = .ok (.invokevirtual 137, 3) := dk_182 0 137 (dk_at dksL_law_34 18 rfl rfl)
theorem dL_law_934 : decode cL_law 934 = .ok (.istore 6, 2) := dk_54 6 (dk_at dksL_law_34 21 rfl rfl)
theorem dL_law_936 : decode cL_law 936 = .ok (.aload_n 2, 1) := dk_44 (dk_at dksL_law_34 23 rfl rfl)
theorem dL_law_937 : decode cL_law 937 = .ok (.invokevirtual 94, 3) := dk_182 0 94 (dk_at dksL_law_35 0 rfl rfl)
theorem dL_law_940 : decode cL_law 940 = .ok (.iload 5, 2) := dk_21 5 (dk_at dksL_law_35 3 rfl rfl)
theorem dL_law_942 : decode cL_law 942 = .ok (.if_icmp .eq 5, 3) := dk_159 0 5 (dk_at dksL_law_35 5 rfl rfl)
theorem dL_law_945 : decode cL_law 945 = .ok (.iconst 0, 1) := dk_3 (dk_at dksL_law_35 8 rfl rfl)
theorem dL_law_946 : decode cL_law 946 = .ok (.ireturn, 1) := dk_172 (dk_at dksL_law_35 9 rfl rfl)
theorem dL_law_947 : decode cL_law 947 = .ok (.iload 5, 2) := dk_21 5 (dk_at dksL_law_35 10 rfl rfl)
theorem dL_law_949 : decode cL_law 949 = .ok (.ifCond .ne 15, 3) := dk_154 0 15 (dk_at dksL_law_35 12 rfl rfl)
theorem dL_law_952 : decode cL_law 952 = .ok (.aload_n 3, 1) := dk_45 (dk_at dksL_law_35 15 rfl rfl)
theorem dL_law_953 : decode cL_law 953 = .ok (.iconst 0, 1) := dk_3 (dk_at dksL_law_35 16 rfl rfl)
theorem dL_law_954 : decode cL_law 954 = .ok (.laload, 1) := dk_47 (dk_at dksL_law_35 17 rfl rfl)
theorem dL_law_955 : decode cL_law 955 = .ok (.iload 6, 2) := dk_21 6 (dk_at dksL_law_35 18 rfl rfl)
theorem dL_law_957 : decode cL_law 957 = .ok (.i2l, 1) := dk_133 (dk_at dksL_law_35 20 rfl rfl)
theorem dL_law_958 : decode cL_law 958 = .ok (.lcmp, 1) := dk_148 (dk_at dksL_law_35 21 rfl rfl)
theorem dL_law_959 : decode cL_law 959 = .ok (.ifCond .eq 5, 3) := dk_153 0 5 (dk_at dksL_law_36 0 rfl rfl)
theorem dL_law_962 : decode cL_law 962 = .ok (.iconst 0, 1) := dk_3 (dk_at dksL_law_36 3 rfl rfl)
theorem dL_law_963 : decode cL_law 963 = .ok (.ireturn, 1) := dk_172 (dk_at dksL_law_36 4 rfl rfl)
theorem dL_law_964 : decode cL_law 964 = .ok (.goto 828, 3) := dk_167 3 60 (dk_at dksL_law_36 5 rfl rfl)
theorem dL_law_967 : decode cL_law 967 = .ok (.aload_n 1, 1) := dk_43 (dk_at dksL_law_36 8 rfl rfl)
theorem dL_law_968 : decode cL_law 968 = .ok (.aload_n 0, 1) := dk_42 (dk_at dksL_law_36 9 rfl rfl)
theorem dL_law_969 : decode cL_law 969 = .ok (.iload 4, 2) := dk_21 4 (dk_at dksL_law_36 10 rfl rfl)
theorem dL_law_971 : decode cL_law 971 = .ok (.iconst 1, 1) := dk_4 (dk_at dksL_law_36 12 rfl rfl)
theorem dL_law_972 : decode cL_law 972 = .ok (.iadd, 1) := dk_96 (dk_at dksL_law_36 13 rfl rfl)
theorem dL_law_973 : decode cL_law 973 = .ok (.iaload, 1) := dk_46 (dk_at dksL_law_36 14 rfl rfl)
theorem dL_law_974 : decode cL_law 974 = .ok (.aload_n 0, 1) := dk_42 (dk_at dksL_law_36 15 rfl rfl)
theorem dL_law_975 : decode cL_law 975 = .ok (.iload 4, 2) := dk_21 4 (dk_at dksL_law_36 16 rfl rfl)
theorem dL_law_977 : decode cL_law 977 = .ok (.iconst 2, 1) := dk_5 (dk_at dksL_law_36 18 rfl rfl)
theorem dL_law_978 : decode cL_law 978 = .ok (.iadd, 1) := dk_96 (dk_at dksL_law_36 19 rfl rfl)
theorem dL_law_979 : decode cL_law 979 = .ok (.iaload, 1) := dk_46 (dk_at dksL_law_36 20 rfl rfl)
theorem dL_law_980 : decode cL_law 980 = .ok (.aload_n 3, 1) := dk_45 (dk_at dksL_law_36 21 rfl rfl)
theorem dL_law_981 : decode cL_law 981 = .ok (.invokestatic 138, 3) := dk_184 0 138 (dk_at dksL_law_37 0 rfl rfl)
theorem dL_law_984 : decode cL_law 984 = .ok (.istore 5, 2) := dk_54 5 (dk_at dksL_law_37 3 rfl rfl)
theorem dL_law_986 : decode cL_law 986 = .ok (.aload_n 2, 1) := dk_44 (dk_at dksL_law_37 5 rfl rfl)
theorem dL_law_987 : decode cL_law 987 = .ok (.aload_n 0, 1) := dk_42 (dk_at dksL_law_37 6 rfl rfl)
theorem dL_law_988 : decode cL_law 988 = .ok (.iload 4, 2) := dk_21 4 (dk_at dksL_law_37 7 rfl rfl)
theorem dL_law_990 : decode cL_law 990 = .ok (.iconst 1, 1) := dk_4 (dk_at dksL_law_37 9 rfl rfl)
theorem dL_law_991 : decode cL_law 991 = .ok (.iadd, 1) := dk_96 (dk_at dksL_law_37 10 rfl rfl)
theorem dL_law_992 : decode cL_law 992 = .ok (.iaload, 1) := dk_46 (dk_at dksL_law_37 11 rfl rfl)
theorem dL_law_993 : decode cL_law 993 = .ok (.aload_n 0, 1) := dk_42 (dk_at dksL_law_37 12 rfl rfl)
theorem dL_law_994 : decode cL_law 994 = .ok (.iload 4, 2) := dk_21 4 (dk_at dksL_law_37 13 rfl rfl)
theorem dL_law_996 : decode cL_law 996 = .ok (.iconst 2, 1) := dk_5 (dk_at dksL_law_37 15 rfl rfl)
theorem dL_law_997 : decode cL_law 997 = .ok (.iadd, 1) := dk_96 (dk_at dksL_law_37 16 rfl rfl)
theorem dL_law_998 : decode cL_law 998 = .ok (.iaload, 1) := dk_46 (dk_at dksL_law_37 17 rfl rfl)
theorem dL_law_999 : decode cL_law 999 = .ok (.invokevirtual 140, 3) := dk_182 0 140 (dk_at dksL_law_37 18 rfl rfl)
theorem dL_law_1002 : decode cL_law 1002 = .ok (.istore 6, 2) := dk_54 6 (dk_at dksL_law_37 21 rfl rfl)
theorem dL_law_1004 : decode cL_law 1004 = .ok (.aload_n 2, 1) := dk_44 (dk_at dksL_law_37 23 rfl rfl)
theorem dL_law_1005 : decode cL_law 1005 = .ok (.invokevirtual 94, 3) := dk_182 0 94 (dk_at dksL_law_38 0 rfl rfl)
theorem dL_law_1008 : decode cL_law 1008 = .ok (.iload 5, 2) := dk_21 5 (dk_at dksL_law_38 3 rfl rfl)
theorem dL_law_1010 : decode cL_law 1010 = .ok (.if_icmp .eq 5, 3) := dk_159 0 5 (dk_at dksL_law_38 5 rfl rfl)
theorem dL_law_1013 : decode cL_law 1013 = .ok (.iconst 0, 1) := dk_3 (dk_at dksL_law_38 8 rfl rfl)
theorem dL_law_1014 : decode cL_law 1014 = .ok (.ireturn, 1) := dk_172 (dk_at dksL_law_38 9 rfl rfl)
theorem dL_law_1015 : decode cL_law 1015 = .ok (.iload 5, 2) := dk_21 5 (dk_at dksL_law_38 10 rfl rfl)
theorem dL_law_1017 : decode cL_law 1017 = .ok (.ifCond .ne 15, 3) := dk_154 0 15 (dk_at dksL_law_38 12 rfl rfl)
theorem dL_law_1020 : decode cL_law 1020 = .ok (.aload_n 3, 1) := dk_45 (dk_at dksL_law_38 15 rfl rfl)
theorem dL_law_1021 : decode cL_law 1021 = .ok (.iconst 0, 1) := dk_3 (dk_at dksL_law_38 16 rfl rfl)
theorem dL_law_1022 : decode cL_law 1022 = .ok (.laload, 1) := dk_47 (dk_at dksL_law_38 17 rfl rfl)
theorem dL_law_1023 : decode cL_law 1023 = .ok (.iload 6, 2) := dk_21 6 (dk_at dksL_law_38 18 rfl rfl)
theorem dL_law_1025 : decode cL_law 1025 = .ok (.i2l, 1) := dk_133 (dk_at dksL_law_38 20 rfl rfl)
theorem dL_law_1026 : decode cL_law 1026 = .ok (.lcmp, 1) := dk_148 (dk_at dksL_law_38 21 rfl rfl)
theorem dL_law_1027 : decode cL_law 1027 = .ok (.ifCond .eq 5, 3) := dk_153 0 5 (dk_at dksL_law_39 0 rfl rfl)
theorem dL_law_1030 : decode cL_law 1030 = .ok (.iconst 0, 1) := dk_3 (dk_at dksL_law_39 3 rfl rfl)
theorem dL_law_1031 : decode cL_law 1031 = .ok (.ireturn, 1) := dk_172 (dk_at dksL_law_39 4 rfl rfl)
theorem dL_law_1032 : decode cL_law 1032 = .ok (.goto 760, 3) := dk_167 2 248 (dk_at dksL_law_39 5 rfl rfl)
theorem dL_law_1035 : decode cL_law 1035 = .ok (.aload_n 1, 1) := dk_43 (dk_at dksL_law_39 8 rfl rfl)
theorem dL_law_1036 : decode cL_law 1036 = .ok (.aload_n 0, 1) := dk_42 (dk_at dksL_law_39 9 rfl rfl)
theorem dL_law_1037 : decode cL_law 1037 = .ok (.iload 4, 2) := dk_21 4 (dk_at dksL_law_39 10 rfl rfl)
theorem dL_law_1039 : decode cL_law 1039 = .ok (.iconst 1, 1) := dk_4 (dk_at dksL_law_39 12 rfl rfl)
theorem dL_law_1040 : decode cL_law 1040 = .ok (.iadd, 1) := dk_96 (dk_at dksL_law_39 13 rfl rfl)
theorem dL_law_1041 : decode cL_law 1041 = .ok (.iaload, 1) := dk_46 (dk_at dksL_law_39 14 rfl rfl)
theorem dL_law_1042 : decode cL_law 1042 = .ok (.aload_n 3, 1) := dk_45 (dk_at dksL_law_39 15 rfl rfl)
theorem dL_law_1043 : decode cL_law 1043 = .ok (.invokestatic 141, 3) := dk_184 0 141 (dk_at dksL_law_39 16 rfl rfl)
theorem dL_law_1046 : decode cL_law 1046 = .ok (.istore 5, 2) := dk_54 5 (dk_at dksL_law_39 19 rfl rfl)
theorem dL_law_1048 : decode cL_law 1048 = .ok (.aload_n 2, 1) := dk_44 (dk_at dksL_law_39 21 rfl rfl)
theorem dL_law_1049 : decode cL_law 1049 = .ok (.aload_n 0, 1) := dk_42 (dk_at dksL_law_39 22 rfl rfl)
theorem dL_law_1050 : decode cL_law 1050 = .ok (.iload 4, 2) := dk_21 4 (dk_at dksL_law_40 0 rfl rfl)
theorem dL_law_1052 : decode cL_law 1052 = .ok (.iconst 1, 1) := dk_4 (dk_at dksL_law_40 2 rfl rfl)
theorem dL_law_1053 : decode cL_law 1053 = .ok (.iadd, 1) := dk_96 (dk_at dksL_law_40 3 rfl rfl)
theorem dL_law_1054 : decode cL_law 1054 = .ok (.iaload, 1) := dk_46 (dk_at dksL_law_40 4 rfl rfl)
theorem dL_law_1055 : decode cL_law 1055 = .ok (.invokevirtual 143, 3) := dk_182 0 143 (dk_at dksL_law_40 5 rfl rfl)
theorem dL_law_1058 : decode cL_law 1058 = .ok (.istore 6, 2) := dk_54 6 (dk_at dksL_law_40 8 rfl rfl)
theorem dL_law_1060 : decode cL_law 1060 = .ok (.aload_n 2, 1) := dk_44 (dk_at dksL_law_40 10 rfl rfl)
theorem dL_law_1061 : decode cL_law 1061 = .ok (.invokevirtual 94, 3) := dk_182 0 94 (dk_at dksL_law_40 11 rfl rfl)
theorem dL_law_1064 : decode cL_law 1064 = .ok (.iload 5, 2) := dk_21 5 (dk_at dksL_law_40 14 rfl rfl)
theorem dL_law_1066 : decode cL_law 1066 = .ok (.if_icmp .eq 5, 3) := dk_159 0 5 (dk_at dksL_law_40 16 rfl rfl)
theorem dL_law_1069 : decode cL_law 1069 = .ok (.iconst 0, 1) := dk_3 (dk_at dksL_law_40 19 rfl rfl)
theorem dL_law_1070 : decode cL_law 1070 = .ok (.ireturn, 1) := dk_172 (dk_at dksL_law_40 20 rfl rfl)
theorem dL_law_1071 : decode cL_law 1071 = .ok (.iload 5, 2) := dk_21 5 (dk_at dksL_law_40 21 rfl rfl)
theorem dL_law_1073 : decode cL_law 1073 = .ok (.ifCond .ne 15, 3) := dk_154 0 15 (dk_at dksL_law_41 0 rfl rfl)
theorem dL_law_1076 : decode cL_law 1076 = .ok (.aload_n 3, 1) := dk_45 (dk_at dksL_law_41 3 rfl rfl)
theorem dL_law_1077 : decode cL_law 1077 = .ok (.iconst 0, 1) := dk_3 (dk_at dksL_law_41 4 rfl rfl)
theorem dL_law_1078 : decode cL_law 1078 = .ok (.laload, 1) := dk_47 (dk_at dksL_law_41 5 rfl rfl)
theorem dL_law_1079 : decode cL_law 1079 = .ok (.iload 6, 2) := dk_21 6 (dk_at dksL_law_41 6 rfl rfl)
theorem dL_law_1081 : decode cL_law 1081 = .ok (.i2l, 1) := dk_133 (dk_at dksL_law_41 8 rfl rfl)
theorem dL_law_1082 : decode cL_law 1082 = .ok (.lcmp, 1) := dk_148 (dk_at dksL_law_41 9 rfl rfl)
theorem dL_law_1083 : decode cL_law 1083 = .ok (.ifCond .eq 5, 3) := dk_153 0 5 (dk_at dksL_law_41 10 rfl rfl)
theorem dL_law_1086 : decode cL_law 1086 = .ok (.iconst 0, 1) := dk_3 (dk_at dksL_law_41 13 rfl rfl)
theorem dL_law_1087 : decode cL_law 1087 = .ok (.ireturn, 1) := dk_172 (dk_at dksL_law_41 14 rfl rfl)
theorem dL_law_1088 : decode cL_law 1088 = .ok (.goto 704, 3) := dk_167 2 192 (dk_at dksL_law_41 15 rfl rfl)
theorem dL_law_1091 : decode cL_law 1091 = .ok (.aload_n 1, 1) := dk_43 (dk_at dksL_law_41 18 rfl rfl)
theorem dL_law_1092 : decode cL_law 1092 = .ok (.aload_n 0, 1) := dk_42 (dk_at dksL_law_41 19 rfl rfl)
theorem dL_law_1093 : decode cL_law 1093 = .ok (.iload 4, 2) := dk_21 4 (dk_at dksL_law_41 20 rfl rfl)
theorem dL_law_1095 : decode cL_law 1095 = .ok (.iconst 1, 1) := dk_4 (dk_at dksL_law_41 22 rfl rfl)
theorem dL_law_1096 : decode cL_law 1096 = .ok (.iadd, 1) := dk_96 (dk_at dksL_law_41 23 rfl rfl)
theorem dL_law_1097 : decode cL_law 1097 = .ok (.iaload, 1) := dk_46 (dk_at dksL_law_42 0 rfl rfl)
theorem dL_law_1098 : decode cL_law 1098 = .ok (.aload_n 3, 1) := dk_45 (dk_at dksL_law_42 1 rfl rfl)
theorem dL_law_1099 : decode cL_law 1099 = .ok (.invokestatic 144, 3) := dk_184 0 144 (dk_at dksL_law_42 2 rfl rfl)
theorem dL_law_1102 : decode cL_law 1102 = .ok (.istore 5, 2) := dk_54 5 (dk_at dksL_law_42 5 rfl rfl)
theorem dL_law_1104 : decode cL_law 1104 = .ok (.aload_n 2, 1) := dk_44 (dk_at dksL_law_42 7 rfl rfl)
theorem dL_law_1105 : decode cL_law 1105 = .ok (.aload_n 0, 1) := dk_42 (dk_at dksL_law_42 8 rfl rfl)
theorem dL_law_1106 : decode cL_law 1106 = .ok (.iload 4, 2) := dk_21 4 (dk_at dksL_law_42 9 rfl rfl)
theorem dL_law_1108 : decode cL_law 1108 = .ok (.iconst 1, 1) := dk_4 (dk_at dksL_law_42 11 rfl rfl)
theorem dL_law_1109 : decode cL_law 1109 = .ok (.iadd, 1) := dk_96 (dk_at dksL_law_42 12 rfl rfl)
theorem dL_law_1110 : decode cL_law 1110 = .ok (.iaload, 1) := dk_46 (dk_at dksL_law_42 13 rfl rfl)
theorem dL_law_1111 : decode cL_law 1111 = .ok (.invokevirtual 146, 3) := dk_182 0 146 (dk_at dksL_law_42 14 rfl rfl)
theorem dL_law_1114 : decode cL_law 1114 = .ok (.istore 6, 2) := dk_54 6 (dk_at dksL_law_42 17 rfl rfl)
theorem dL_law_1116 : decode cL_law 1116 = .ok (.aload_n 2, 1) := dk_44 (dk_at dksL_law_42 19 rfl rfl)
theorem dL_law_1117 : decode cL_law 1117 = .ok (.invokevirtual 94, 3) := dk_182 0 94 (dk_at dksL_law_42 20 rfl rfl)
theorem dL_law_1120 : decode cL_law 1120 = .ok (.iload 5, 2) := dk_21 5 (dk_at dksL_law_43 0 rfl rfl)
theorem dL_law_1122 : decode cL_law 1122 = .ok (.if_icmp .eq 5, 3) := dk_159 0 5 (dk_at dksL_law_43 2 rfl rfl)
theorem dL_law_1125 : decode cL_law 1125 = .ok (.iconst 0, 1) := dk_3 (dk_at dksL_law_43 5 rfl rfl)
theorem dL_law_1126 : decode cL_law 1126 = .ok (.ireturn, 1) := dk_172 (dk_at dksL_law_43 6 rfl rfl)
theorem dL_law_1127 : decode cL_law 1127 = .ok (.iload 5, 2) := dk_21 5 (dk_at dksL_law_43 7 rfl rfl)
theorem dL_law_1129 : decode cL_law 1129 = .ok (.ifCond .ne 15, 3) := dk_154 0 15 (dk_at dksL_law_43 9 rfl rfl)
theorem dL_law_1132 : decode cL_law 1132 = .ok (.aload_n 3, 1) := dk_45 (dk_at dksL_law_43 12 rfl rfl)
theorem dL_law_1133 : decode cL_law 1133 = .ok (.iconst 0, 1) := dk_3 (dk_at dksL_law_43 13 rfl rfl)
theorem dL_law_1134 : decode cL_law 1134 = .ok (.laload, 1) := dk_47 (dk_at dksL_law_43 14 rfl rfl)
theorem dL_law_1135 : decode cL_law 1135 = .ok (.iload 6, 2) := dk_21 6 (dk_at dksL_law_43 15 rfl rfl)
theorem dL_law_1137 : decode cL_law 1137 = .ok (.i2l, 1) := dk_133 (dk_at dksL_law_43 17 rfl rfl)
theorem dL_law_1138 : decode cL_law 1138 = .ok (.lcmp, 1) := dk_148 (dk_at dksL_law_43 18 rfl rfl)
theorem dL_law_1139 : decode cL_law 1139 = .ok (.ifCond .eq 5, 3) := dk_153 0 5 (dk_at dksL_law_43 19 rfl rfl)
theorem dL_law_1142 : decode cL_law 1142 = .ok (.iconst 0, 1) := dk_3 (dk_at dksL_law_43 22 rfl rfl)
theorem dL_law_1143 : decode cL_law 1143 = .ok (.ireturn, 1) := dk_172 (dk_at dksL_law_43 23 rfl rfl)
theorem dL_law_1144 : decode cL_law 1144 = .ok (.goto 648, 3) := dk_167 2 136 (dk_at dksL_law_44 0 rfl rfl)
theorem dL_law_1147 : decode cL_law 1147 = .ok (.aload_n 1, 1) := dk_43 (dk_at dksL_law_44 3 rfl rfl)
theorem dL_law_1148 : decode cL_law 1148 = .ok (.invokevirtual 147, 3) := dk_182 0 147 (dk_at dksL_law_44 4 rfl rfl)
theorem dL_law_1151 : decode cL_law 1151 = .ok (.dstore 5, 2) := dk_57 5 (dk_at dksL_law_44 7 rfl rfl)
theorem dL_law_1153 : decode cL_law 1153 = .ok (.aload_n 2, 1) := dk_44 (dk_at dksL_law_44 9 rfl rfl)
theorem dL_law_1154 : decode cL_law 1154 = .ok (.invokevirtual 151, 3) := dk_182 0 151 (dk_at dksL_law_44 10 rfl rfl)
theorem dL_law_1157 : decode cL_law 1157 = .ok (.dstore 7, 2) := dk_57 7 (dk_at dksL_law_44 13 rfl rfl)
theorem dL_law_1159 : decode cL_law 1159 = .ok (.dload 5, 2) := dk_24 5 (dk_at dksL_law_44 15 rfl rfl)
theorem dL_law_1161 : decode cL_law 1161 = .ok (.dload 7, 2) := dk_24 7 (dk_at dksL_law_44 17 rfl rfl)
theorem dL_law_1163 : decode cL_law 1163 = .ok (.dcmp .l, 1) := dk_151 (dk_at dksL_law_44 19 rfl rfl)
theorem dL_law_1164 : decode cL_law 1164 = .ok (.ifCond .eq 21, 3) := dk_153 0 21 (dk_at dksL_law_44 20 rfl rfl)
theorem dL_law_1167 : decode cL_law 1167 = .ok (.dload 5, 2) := dk_24 5 (dk_at dksL_law_45 0 rfl rfl)
theorem dL_law_1169 : decode cL_law 1169 = .ok (.dload 5, 2) := dk_24 5 (dk_at dksL_law_45 2 rfl rfl)
theorem dL_law_1171 : decode cL_law 1171 = .ok (.dcmp .l, 1) := dk_151 (dk_at dksL_law_45 4 rfl rfl)
theorem dL_law_1172 : decode cL_law 1172 = .ok (.ifCond .eq 11, 3) := dk_153 0 11 (dk_at dksL_law_45 5 rfl rfl)
theorem dL_law_1175 : decode cL_law 1175 = .ok (.dload 7, 2) := dk_24 7 (dk_at dksL_law_45 8 rfl rfl)
theorem dL_law_1177 : decode cL_law 1177 = .ok (.dload 7, 2) := dk_24 7 (dk_at dksL_law_45 10 rfl rfl)
theorem dL_law_1179 : decode cL_law 1179 = .ok (.dcmp .l, 1) := dk_151 (dk_at dksL_law_45 12 rfl rfl)
theorem dL_law_1180 : decode cL_law 1180 = .ok (.ifCond .ne 5, 3) := dk_154 0 5 (dk_at dksL_law_45 13 rfl rfl)
theorem dL_law_1183 : decode cL_law 1183 = .ok (.iconst 0, 1) := dk_3 (dk_at dksL_law_45 16 rfl rfl)
theorem dL_law_1184 : decode cL_law 1184 = .ok (.ireturn, 1) := dk_172 (dk_at dksL_law_45 17 rfl rfl)
theorem dL_law_1185 : decode cL_law 1185 = .ok (.goto 607, 3) := dk_167 2 95 (dk_at dksL_law_45 18 rfl rfl)
theorem dL_law_1188 : decode cL_law 1188 = .ok (.aload_n 1, 1) := dk_43 (dk_at dksL_law_45 21 rfl rfl)
theorem dL_law_1189 : decode cL_law 1189 = .ok (.invokevirtual 152, 3) := dk_182 0 152 (dk_at dksL_law_46 0 rfl rfl)
theorem dL_law_1192 : decode cL_law 1192 = .ok (.f2d, 1) := dk_141 (dk_at dksL_law_46 3 rfl rfl)
theorem dL_law_1193 : decode cL_law 1193 = .ok (.dstore 5, 2) := dk_57 5 (dk_at dksL_law_46 4 rfl rfl)
theorem dL_law_1195 : decode cL_law 1195 = .ok (.aload_n 2, 1) := dk_44 (dk_at dksL_law_46 6 rfl rfl)
theorem dL_law_1196 : decode cL_law 1196 = .ok (.invokevirtual 156, 3) := dk_182 0 156 (dk_at dksL_law_46 7 rfl rfl)
theorem dL_law_1199 : decode cL_law 1199 = .ok (.f2d, 1) := dk_141 (dk_at dksL_law_46 10 rfl rfl)
theorem dL_law_1200 : decode cL_law 1200 = .ok (.dstore 7, 2) := dk_57 7 (dk_at dksL_law_46 11 rfl rfl)
theorem dL_law_1202 : decode cL_law 1202 = .ok (.dload 5, 2) := dk_24 5 (dk_at dksL_law_46 13 rfl rfl)
theorem dL_law_1204 : decode cL_law 1204 = .ok (.dload 7, 2) := dk_24 7 (dk_at dksL_law_46 15 rfl rfl)
theorem dL_law_1206 : decode cL_law 1206 = .ok (.dcmp .l, 1) := dk_151 (dk_at dksL_law_46 17 rfl rfl)
theorem dL_law_1207 : decode cL_law 1207 = .ok (.ifCond .eq 21, 3) := dk_153 0 21 (dk_at dksL_law_46 18 rfl rfl)
theorem dL_law_1210 : decode cL_law 1210 = .ok (.dload 5, 2) := dk_24 5 (dk_at dksL_law_46 21 rfl rfl)
theorem dL_law_1212 : decode cL_law 1212 = .ok (.dload 5, 2) := dk_24 5 (dk_at dksL_law_47 0 rfl rfl)
theorem dL_law_1214 : decode cL_law 1214 = .ok (.dcmp .l, 1) := dk_151 (dk_at dksL_law_47 2 rfl rfl)
theorem dL_law_1215 : decode cL_law 1215 = .ok (.ifCond .eq 11, 3) := dk_153 0 11 (dk_at dksL_law_47 3 rfl rfl)
theorem dL_law_1218 : decode cL_law 1218 = .ok (.dload 7, 2) := dk_24 7 (dk_at dksL_law_47 6 rfl rfl)
theorem dL_law_1220 : decode cL_law 1220 = .ok (.dload 7, 2) := dk_24 7 (dk_at dksL_law_47 8 rfl rfl)
theorem dL_law_1222 : decode cL_law 1222 = .ok (.dcmp .l, 1) := dk_151 (dk_at dksL_law_47 10 rfl rfl)
theorem dL_law_1223 : decode cL_law 1223 = .ok (.ifCond .ne 5, 3) := dk_154 0 5 (dk_at dksL_law_47 11 rfl rfl)
theorem dL_law_1226 : decode cL_law 1226 = .ok (.iconst 0, 1) := dk_3 (dk_at dksL_law_47 14 rfl rfl)
theorem dL_law_1227 : decode cL_law 1227 = .ok (.ireturn, 1) := dk_172 (dk_at dksL_law_47 15 rfl rfl)
theorem dL_law_1228 : decode cL_law 1228 = .ok (.goto 564, 3) := dk_167 2 52 (dk_at dksL_law_47 16 rfl rfl)
theorem dL_law_1231 : decode cL_law 1231 = .ok (.aload_n 1, 1) := dk_43 (dk_at dksL_law_47 19 rfl rfl)
theorem dL_law_1232 : decode cL_law 1232 = .ok (.aload_n 0, 1) := dk_42 (dk_at dksL_law_47 20 rfl rfl)
theorem dL_law_1233 : decode cL_law 1233 = .ok (.iload 4, 2) := dk_21 4 (dk_at dksL_law_47 21 rfl rfl)
theorem dL_law_1235 : decode cL_law 1235 = .ok (.iconst 1, 1) := dk_4 (dk_at dksL_law_47 23 rfl rfl)
theorem dL_law_1236 : decode cL_law 1236 = .ok (.iadd, 1) := dk_96 (dk_at dksL_law_48 0 rfl rfl)
theorem dL_law_1237 : decode cL_law 1237 = .ok (.iaload, 1) := dk_46 (dk_at dksL_law_48 1 rfl rfl)
theorem dL_law_1238 : decode cL_law 1238 = .ok (.aload_n 3, 1) := dk_45 (dk_at dksL_law_48 2 rfl rfl)
theorem dL_law_1239 : decode cL_law 1239 = .ok (.invokestatic 157, 3) := dk_184 0 157 (dk_at dksL_law_48 3 rfl rfl)
theorem dL_law_1242 : decode cL_law 1242 = .ok (.istore 5, 2) := dk_54 5 (dk_at dksL_law_48 6 rfl rfl)
theorem dL_law_1244 : decode cL_law 1244 = .ok (.aload_n 2, 1) := dk_44 (dk_at dksL_law_48 8 rfl rfl)
theorem dL_law_1245 : decode cL_law 1245 = .ok (.aload_n 0, 1) := dk_42 (dk_at dksL_law_48 9 rfl rfl)
theorem dL_law_1246 : decode cL_law 1246 = .ok (.iload 4, 2) := dk_21 4 (dk_at dksL_law_48 10 rfl rfl)
theorem dL_law_1248 : decode cL_law 1248 = .ok (.iconst 1, 1) := dk_4 (dk_at dksL_law_48 12 rfl rfl)
theorem dL_law_1249 : decode cL_law 1249 = .ok (.iadd, 1) := dk_96 (dk_at dksL_law_48 13 rfl rfl)
theorem dL_law_1250 : decode cL_law 1250 = .ok (.iaload, 1) := dk_46 (dk_at dksL_law_48 14 rfl rfl)
theorem dL_law_1251 : decode cL_law 1251 = .ok (.invokevirtual 159, 3) := dk_182 0 159 (dk_at dksL_law_48 15 rfl rfl)
theorem dL_law_1254 : decode cL_law 1254 = .ok (.istore 6, 2) := dk_54 6 (dk_at dksL_law_48 18 rfl rfl)
theorem dL_law_1256 : decode cL_law 1256 = .ok (.aload_n 2, 1) := dk_44 (dk_at dksL_law_48 20 rfl rfl)
theorem dL_law_1257 : decode cL_law 1257 = .ok (.invokevirtual 94, 3) := dk_182 0 94 (dk_at dksL_law_48 21 rfl rfl)
theorem dL_law_1260 : decode cL_law 1260 = .ok (.iload 5, 2) := dk_21 5 (dk_at dksL_law_49 0 rfl rfl)
theorem dL_law_1262 : decode cL_law 1262 = .ok (.if_icmp .eq 5, 3) := dk_159 0 5 (dk_at dksL_law_49 2 rfl rfl)
theorem dL_law_1265 : decode cL_law 1265 = .ok (.iconst 0, 1) := dk_3 (dk_at dksL_law_49 5 rfl rfl)
theorem dL_law_1266 : decode cL_law 1266 = .ok (.ireturn, 1) := dk_172 (dk_at dksL_law_49 6 rfl rfl)
theorem dL_law_1267 : decode cL_law 1267 = .ok (.iload 5, 2) := dk_21 5 (dk_at dksL_law_49 7 rfl rfl)
theorem dL_law_1269 : decode cL_law 1269 = .ok (.ifCond .ne 15, 3) := dk_154 0 15 (dk_at dksL_law_49 9 rfl rfl)
theorem dL_law_1272 : decode cL_law 1272 = .ok (.aload_n 3, 1) := dk_45 (dk_at dksL_law_49 12 rfl rfl)
theorem dL_law_1273 : decode cL_law 1273 = .ok (.iconst 0, 1) := dk_3 (dk_at dksL_law_49 13 rfl rfl)
theorem dL_law_1274 : decode cL_law 1274 = .ok (.laload, 1) := dk_47 (dk_at dksL_law_49 14 rfl rfl)
theorem dL_law_1275 : decode cL_law 1275 = .ok (.iload 6, 2) := dk_21 6 (dk_at dksL_law_49 15 rfl rfl)
theorem dL_law_1277 : decode cL_law 1277 = .ok (.i2l, 1) := dk_133 (dk_at dksL_law_49 17 rfl rfl)
theorem dL_law_1278 : decode cL_law 1278 = .ok (.lcmp, 1) := dk_148 (dk_at dksL_law_49 18 rfl rfl)
theorem dL_law_1279 : decode cL_law 1279 = .ok (.ifCond .eq 5, 3) := dk_153 0 5 (dk_at dksL_law_49 19 rfl rfl)
theorem dL_law_1282 : decode cL_law 1282 = .ok (.iconst 0, 1) := dk_3 (dk_at dksL_law_49 22 rfl rfl)
theorem dL_law_1283 : decode cL_law 1283 = .ok (.ireturn, 1) := dk_172 (dk_at dksL_law_49 23 rfl rfl)
theorem dL_law_1284 : decode cL_law 1284 = .ok (.goto 508, 3) := dk_167 1 252 (dk_at dksL_law_50 0 rfl rfl)
theorem dL_law_1287 : decode cL_law 1287 = .ok (.aload_n 1, 1) := dk_43 (dk_at dksL_law_50 3 rfl rfl)
theorem dL_law_1288 : decode cL_law 1288 = .ok (.invokevirtual 160, 3) := dk_182 0 160 (dk_at dksL_law_50 4 rfl rfl)
theorem dL_law_1291 : decode cL_law 1291 = .ok (.aload_n 2, 1) := dk_44 (dk_at dksL_law_50 7 rfl rfl)
theorem dL_law_1292 : decode cL_law 1292 = .ok (.invokevirtual 163, 3) := dk_182 0 163 (dk_at dksL_law_50 8 rfl rfl)
theorem dL_law_1295 : decode cL_law 1295 = .ok (.if_icmp .eq 497, 3) := dk_159 1 241 (dk_at dksL_law_50 11 rfl rfl)
theorem dL_law_1298 : decode cL_law 1298 = .ok (.iconst 0, 1) := dk_3 (dk_at dksL_law_50 14 rfl rfl)
theorem dL_law_1299 : decode cL_law 1299 = .ok (.ireturn, 1) := dk_172 (dk_at dksL_law_50 15 rfl rfl)
theorem dL_law_1300 : decode cL_law 1300 = .ok (.aload_n 1, 1) := dk_43 (dk_at dksL_law_50 16 rfl rfl)
theorem dL_law_1301 : decode cL_law 1301 = .ok (.aload_n 0, 1) := dk_42 (dk_at dksL_law_50 17 rfl rfl)
theorem dL_law_1302 : decode cL_law 1302 = .ok (.iload 4, 2) := dk_21 4 (dk_at dksL_law_50 18 rfl rfl)
theorem dL_law_1304 : decode cL_law 1304 = .ok (.iconst 1, 1) := dk_4 (dk_at dksL_law_50 20 rfl rfl)
theorem dL_law_1305 : decode cL_law 1305 = .ok (.iadd, 1) := dk_96 (dk_at dksL_law_50 21 rfl rfl)
theorem dL_law_1306 : decode cL_law 1306 = .ok (.iaload, 1) := dk_46 (dk_at dksL_law_50 22 rfl rfl)
theorem dL_law_1307 : decode cL_law 1307 = .ok (.aload_n 3, 1) := dk_45 (dk_at dksL_law_50 23 rfl rfl)
theorem dL_law_1308 : decode cL_law 1308 = .ok (.invokestatic 164, 3) := dk_184 0 164 (dk_at dksL_law_51 0 rfl rfl)
theorem dL_law_1311 : decode cL_law 1311 = .ok (.istore 5, 2) := dk_54 5 (dk_at dksL_law_51 3 rfl rfl)
theorem dL_law_1313 : decode cL_law 1313 = .ok (.aload_n 2, 1) := dk_44 (dk_at dksL_law_51 5 rfl rfl)
theorem dL_law_1314 : decode cL_law 1314 = .ok (.aload_n 0, 1) := dk_42 (dk_at dksL_law_51 6 rfl rfl)
theorem dL_law_1315 : decode cL_law 1315 = .ok (.iload 4, 2) := dk_21 4 (dk_at dksL_law_51 7 rfl rfl)
theorem dL_law_1317 : decode cL_law 1317 = .ok (.iconst 1, 1) := dk_4 (dk_at dksL_law_51 9 rfl rfl)
theorem dL_law_1318 : decode cL_law 1318 = .ok (.iadd, 1) := dk_96 (dk_at dksL_law_51 10 rfl rfl)
theorem dL_law_1319 : decode cL_law 1319 = .ok (.iaload, 1) := dk_46 (dk_at dksL_law_51 11 rfl rfl)
theorem dL_law_1320 : decode cL_law 1320 = .ok (.invokevirtual 166, 3) := dk_182 0 166 (dk_at dksL_law_51 12 rfl rfl)
theorem dL_law_1323 : decode cL_law 1323 = .ok (.istore 6, 2) := dk_54 6 (dk_at dksL_law_51 15 rfl rfl)
theorem dL_law_1325 : decode cL_law 1325 = .ok (.aload_n 2, 1) := dk_44 (dk_at dksL_law_51 17 rfl rfl)
theorem dL_law_1326 : decode cL_law 1326 = .ok (.invokevirtual 94, 3) := dk_182 0 94 (dk_at dksL_law_51 18 rfl rfl)
theorem dL_law_1329 : decode cL_law 1329 = .ok (.iload 5, 2) := dk_21 5 (dk_at dksL_law_51 21 rfl rfl)
theorem dL_law_1331 : decode cL_law 1331 = .ok (.if_icmp .eq 5, 3) := dk_159 0 5 (dk_at dksL_law_52 0 rfl rfl)
theorem dL_law_1334 : decode cL_law 1334 = .ok (.iconst 0, 1) := dk_3 (dk_at dksL_law_52 3 rfl rfl)
theorem dL_law_1335 : decode cL_law 1335 = .ok (.ireturn, 1) := dk_172 (dk_at dksL_law_52 4 rfl rfl)
theorem dL_law_1336 : decode cL_law 1336 = .ok (.iload 5, 2) := dk_21 5 (dk_at dksL_law_52 5 rfl rfl)
theorem dL_law_1338 : decode cL_law 1338 = .ok (.ifCond .ne 15, 3) := dk_154 0 15 (dk_at dksL_law_52 7 rfl rfl)
theorem dL_law_1341 : decode cL_law 1341 = .ok (.aload_n 3, 1) := dk_45 (dk_at dksL_law_52 10 rfl rfl)
theorem dL_law_1342 : decode cL_law 1342 = .ok (.iconst 0, 1) := dk_3 (dk_at dksL_law_52 11 rfl rfl)
theorem dL_law_1343 : decode cL_law 1343 = .ok (.laload, 1) := dk_47 (dk_at dksL_law_52 12 rfl rfl)
theorem dL_law_1344 : decode cL_law 1344 = .ok (.iload 6, 2) := dk_21 6 (dk_at dksL_law_52 13 rfl rfl)
theorem dL_law_1346 : decode cL_law 1346 = .ok (.i2l, 1) := dk_133 (dk_at dksL_law_52 15 rfl rfl)
theorem dL_law_1347 : decode cL_law 1347 = .ok (.lcmp, 1) := dk_148 (dk_at dksL_law_52 16 rfl rfl)
theorem dL_law_1348 : decode cL_law 1348 = .ok (.ifCond .eq 5, 3) := dk_153 0 5 (dk_at dksL_law_52 17 rfl rfl)
theorem dL_law_1351 : decode cL_law 1351 = .ok (.iconst 0, 1) := dk_3 (dk_at dksL_law_52 20 rfl rfl)
theorem dL_law_1352 : decode cL_law 1352 = .ok (.ireturn, 1) := dk_172 (dk_at dksL_law_52 21 rfl rfl)
theorem dL_law_1353 : decode cL_law 1353 = .ok (.goto 439, 3) := dk_167 1 183 (dk_at dksL_law_53 0 rfl rfl)
theorem dL_law_1356 : decode cL_law 1356 = .ok (.aload_n 1, 1) := dk_43 (dk_at dksL_law_53 3 rfl rfl)
theorem dL_law_1357 : decode cL_law 1357 = .ok (.invokevirtual 167, 3) := dk_182 0 167 (dk_at dksL_law_53 4 rfl rfl)
theorem dL_law_1360 : decode cL_law 1360 = .ok (.aload_n 2, 1) := dk_44 (dk_at dksL_law_53 7 rfl rfl)
theorem dL_law_1361 : decode cL_law 1361 = .ok (.invokevirtual 170, 3) := dk_182 0 170 (dk_at dksL_law_53 8 rfl rfl)
theorem dL_law_1364 : decode cL_law 1364 = .ok (.if_icmp .eq 428, 3) := dk_159 1 172 (dk_at dksL_law_53 11 rfl rfl)
theorem dL_law_1367 : decode cL_law 1367 = .ok (.iconst 0, 1) := dk_3 (dk_at dksL_law_53 14 rfl rfl)
theorem dL_law_1368 : decode cL_law 1368 = .ok (.ireturn, 1) := dk_172 (dk_at dksL_law_53 15 rfl rfl)
theorem dL_law_1369 : decode cL_law 1369 = .ok (.aload_n 1, 1) := dk_43 (dk_at dksL_law_53 16 rfl rfl)
theorem dL_law_1370 : decode cL_law 1370 = .ok (.aload_n 0, 1) := dk_42 (dk_at dksL_law_53 17 rfl rfl)
theorem dL_law_1371 : decode cL_law 1371 = .ok (.iload 4, 2) := dk_21 4 (dk_at dksL_law_53 18 rfl rfl)
theorem dL_law_1373 : decode cL_law 1373 = .ok (.iconst 1, 1) := dk_4 (dk_at dksL_law_53 20 rfl rfl)
theorem dL_law_1374 : decode cL_law 1374 = .ok (.iadd, 1) := dk_96 (dk_at dksL_law_53 21 rfl rfl)
theorem dL_law_1375 : decode cL_law 1375 = .ok (.iaload, 1) := dk_46 (dk_at dksL_law_53 22 rfl rfl)
theorem dL_law_1376 : decode cL_law 1376 = .ok (.aload_n 3, 1) := dk_45 (dk_at dksL_law_53 23 rfl rfl)
theorem dL_law_1377 : decode cL_law 1377 = .ok (.invokestatic 171, 3) := dk_184 0 171 (dk_at dksL_law_54 0 rfl rfl)
theorem dL_law_1380 : decode cL_law 1380 = .ok (.istore 5, 2) := dk_54 5 (dk_at dksL_law_54 3 rfl rfl)
theorem dL_law_1382 : decode cL_law 1382 = .ok (.aload_n 2, 1) := dk_44 (dk_at dksL_law_54 5 rfl rfl)
theorem dL_law_1383 : decode cL_law 1383 = .ok (.aload_n 0, 1) := dk_42 (dk_at dksL_law_54 6 rfl rfl)
theorem dL_law_1384 : decode cL_law 1384 = .ok (.iload 4, 2) := dk_21 4 (dk_at dksL_law_54 7 rfl rfl)
theorem dL_law_1386 : decode cL_law 1386 = .ok (.iconst 1, 1) := dk_4 (dk_at dksL_law_54 9 rfl rfl)
theorem dL_law_1387 : decode cL_law 1387 = .ok (.iadd, 1) := dk_96 (dk_at dksL_law_54 10 rfl rfl)
theorem dL_law_1388 : decode cL_law 1388 = .ok (.iaload, 1) := dk_46 (dk_at dksL_law_54 11 rfl rfl)
theorem dL_law_1389 : decode cL_law 1389 = .ok (.invokevirtual 173, 3) := dk_182 0 173 (dk_at dksL_law_54 12 rfl rfl)
theorem dL_law_1392 : decode cL_law 1392 = .ok (.istore 6, 2) := dk_54 6 (dk_at dksL_law_54 15 rfl rfl)
theorem dL_law_1394 : decode cL_law 1394 = .ok (.aload_n 2, 1) := dk_44 (dk_at dksL_law_54 17 rfl rfl)
theorem dL_law_1395 : decode cL_law 1395 = .ok (.invokevirtual 94, 3) := dk_182 0 94 (dk_at dksL_law_54 18 rfl rfl)
theorem dL_law_1398 : decode cL_law 1398 = .ok (.iload 5, 2) := dk_21 5 (dk_at dksL_law_54 21 rfl rfl)
theorem dL_law_1400 : decode cL_law 1400 = .ok (.if_icmp .eq 5, 3) := dk_159 0 5 (dk_at dksL_law_55 0 rfl rfl)
theorem dL_law_1403 : decode cL_law 1403 = .ok (.iconst 0, 1) := dk_3 (dk_at dksL_law_55 3 rfl rfl)
theorem dL_law_1404 : decode cL_law 1404 = .ok (.ireturn, 1) := dk_172 (dk_at dksL_law_55 4 rfl rfl)
theorem dL_law_1405 : decode cL_law 1405 = .ok (.iload 5, 2) := dk_21 5 (dk_at dksL_law_55 5 rfl rfl)
theorem dL_law_1407 : decode cL_law 1407 = .ok (.ifCond .ne 15, 3) := dk_154 0 15 (dk_at dksL_law_55 7 rfl rfl)
theorem dL_law_1410 : decode cL_law 1410 = .ok (.aload_n 3, 1) := dk_45 (dk_at dksL_law_55 10 rfl rfl)
theorem dL_law_1411 : decode cL_law 1411 = .ok (.iconst 0, 1) := dk_3 (dk_at dksL_law_55 11 rfl rfl)
theorem dL_law_1412 : decode cL_law 1412 = .ok (.laload, 1) := dk_47 (dk_at dksL_law_55 12 rfl rfl)
theorem dL_law_1413 : decode cL_law 1413 = .ok (.iload 6, 2) := dk_21 6 (dk_at dksL_law_55 13 rfl rfl)
theorem dL_law_1415 : decode cL_law 1415 = .ok (.i2l, 1) := dk_133 (dk_at dksL_law_55 15 rfl rfl)
theorem dL_law_1416 : decode cL_law 1416 = .ok (.lcmp, 1) := dk_148 (dk_at dksL_law_55 16 rfl rfl)
theorem dL_law_1417 : decode cL_law 1417 = .ok (.ifCond .eq 5, 3) := dk_153 0 5 (dk_at dksL_law_55 17 rfl rfl)
theorem dL_law_1420 : decode cL_law 1420 = .ok (.iconst 0, 1) := dk_3 (dk_at dksL_law_55 20 rfl rfl)
theorem dL_law_1421 : decode cL_law 1421 = .ok (.ireturn, 1) := dk_172 (dk_at dksL_law_55 21 rfl rfl)
theorem dL_law_1422 : decode cL_law 1422 = .ok (.goto 370, 3) := dk_167 1 114 (dk_at dksL_law_56 0 rfl rfl)
theorem dL_law_1425 : decode cL_law 1425 = .ok (.aload_n 1, 1) := dk_43 (dk_at dksL_law_56 3 rfl rfl)
theorem dL_law_1426 : decode cL_law 1426 = .ok (.aload_n 0, 1) := dk_42 (dk_at dksL_law_56 4 rfl rfl)
theorem dL_law_1427 : decode cL_law 1427 = .ok (.iload 4, 2) := dk_21 4 (dk_at dksL_law_56 5 rfl rfl)
theorem dL_law_1429 : decode cL_law 1429 = .ok (.iconst 1, 1) := dk_4 (dk_at dksL_law_56 7 rfl rfl)
theorem dL_law_1430 : decode cL_law 1430 = .ok (.iadd, 1) := dk_96 (dk_at dksL_law_56 8 rfl rfl)
theorem dL_law_1431 : decode cL_law 1431 = .ok (.iaload, 1) := dk_46 (dk_at dksL_law_56 9 rfl rfl)
theorem dL_law_1432 : decode cL_law 1432 = .ok (.aload_n 3, 1) := dk_45 (dk_at dksL_law_56 10 rfl rfl)
theorem dL_law_1433 : decode cL_law 1433 = .ok (.invokestatic 174, 3) := dk_184 0 174 (dk_at dksL_law_56 11 rfl rfl)
theorem dL_law_1436 : decode cL_law 1436 = .ok (.istore 5, 2) := dk_54 5 (dk_at dksL_law_56 14 rfl rfl)
theorem dL_law_1438 : decode cL_law 1438 = .ok (.aload_n 2, 1) := dk_44 (dk_at dksL_law_56 16 rfl rfl)
theorem dL_law_1439 : decode cL_law 1439 = .ok (.aload_n 0, 1) := dk_42 (dk_at dksL_law_56 17 rfl rfl)
theorem dL_law_1440 : decode cL_law 1440 = .ok (.iload 4, 2) := dk_21 4 (dk_at dksL_law_56 18 rfl rfl)
theorem dL_law_1442 : decode cL_law 1442 = .ok (.iconst 1, 1) := dk_4 (dk_at dksL_law_56 20 rfl rfl)
theorem dL_law_1443 : decode cL_law 1443 = .ok (.iadd, 1) := dk_96 (dk_at dksL_law_56 21 rfl rfl)
theorem dL_law_1444 : decode cL_law 1444 = .ok (.iaload, 1) := dk_46 (dk_at dksL_law_56 22 rfl rfl)
theorem dL_law_1445 : decode cL_law 1445 = .ok (.invokevirtual 176, 3) := dk_182 0 176 (dk_at dksL_law_57 0 rfl rfl)
theorem dL_law_1448 : decode cL_law 1448 = .ok (.istore 6, 2) := dk_54 6 (dk_at dksL_law_57 3 rfl rfl)
theorem dL_law_1450 : decode cL_law 1450 = .ok (.aload_n 2, 1) := dk_44 (dk_at dksL_law_57 5 rfl rfl)
theorem dL_law_1451 : decode cL_law 1451 = .ok (.invokevirtual 94, 3) := dk_182 0 94 (dk_at dksL_law_57 6 rfl rfl)
theorem dL_law_1454 : decode cL_law 1454 = .ok (.iload 5, 2) := dk_21 5 (dk_at dksL_law_57 9 rfl rfl)
theorem dL_law_1456 : decode cL_law 1456 = .ok (.if_icmp .eq 5, 3) := dk_159 0 5 (dk_at dksL_law_57 11 rfl rfl)
theorem dL_law_1459 : decode cL_law 1459 = .ok (.iconst 0, 1) := dk_3 (dk_at dksL_law_57 14 rfl rfl)
theorem dL_law_1460 : decode cL_law 1460 = .ok (.ireturn, 1) := dk_172 (dk_at dksL_law_57 15 rfl rfl)
theorem dL_law_1461 : decode cL_law 1461 = .ok (.iload 5, 2) := dk_21 5 (dk_at dksL_law_57 16 rfl rfl)
theorem dL_law_1463 : decode cL_law 1463 = .ok (.ifCond .ne 15, 3) := dk_154 0 15 (dk_at dksL_law_57 18 rfl rfl)
theorem dL_law_1466 : decode cL_law 1466 = .ok (.aload_n 3, 1) := dk_45 (dk_at dksL_law_57 21 rfl rfl)
theorem dL_law_1467 : decode cL_law 1467 = .ok (.iconst 0, 1) := dk_3 (dk_at dksL_law_57 22 rfl rfl)
theorem dL_law_1468 : decode cL_law 1468 = .ok (.laload, 1) := dk_47 (dk_at dksL_law_57 23 rfl rfl)
theorem dL_law_1469 : decode cL_law 1469 = .ok (.iload 6, 2) := dk_21 6 (dk_at dksL_law_58 0 rfl rfl)
theorem dL_law_1471 : decode cL_law 1471 = .ok (.i2l, 1) := dk_133 (dk_at dksL_law_58 2 rfl rfl)
theorem dL_law_1472 : decode cL_law 1472 = .ok (.lcmp, 1) := dk_148 (dk_at dksL_law_58 3 rfl rfl)
theorem dL_law_1473 : decode cL_law 1473 = .ok (.ifCond .eq 5, 3) := dk_153 0 5 (dk_at dksL_law_58 4 rfl rfl)
theorem dL_law_1476 : decode cL_law 1476 = .ok (.iconst 0, 1) := dk_3 (dk_at dksL_law_58 7 rfl rfl)
theorem dL_law_1477 : decode cL_law 1477 = .ok (.ireturn, 1) := dk_172 (dk_at dksL_law_58 8 rfl rfl)
theorem dL_law_1478 : decode cL_law 1478 = .ok (.goto 314, 3) := dk_167 1 58 (dk_at dksL_law_58 9 rfl rfl)
theorem dL_law_1481 : decode cL_law 1481 = .ok (.aload_n 1, 1) := dk_43 (dk_at dksL_law_58 12 rfl rfl)
theorem dL_law_1482 : decode cL_law 1482 = .ok (.aload_n 0, 1) := dk_42 (dk_at dksL_law_58 13 rfl rfl)
theorem dL_law_1483 : decode cL_law 1483 = .ok (.iload 4, 2) := dk_21 4 (dk_at dksL_law_58 14 rfl rfl)
theorem dL_law_1485 : decode cL_law 1485 = .ok (.iconst 1, 1) := dk_4 (dk_at dksL_law_58 16 rfl rfl)
theorem dL_law_1486 : decode cL_law 1486 = .ok (.iadd, 1) := dk_96 (dk_at dksL_law_58 17 rfl rfl)
theorem dL_law_1487 : decode cL_law 1487 = .ok (.iaload, 1) := dk_46 (dk_at dksL_law_58 18 rfl rfl)
theorem dL_law_1488 : decode cL_law 1488 = .ok (.aload_n 0, 1) := dk_42 (dk_at dksL_law_58 19 rfl rfl)
theorem dL_law_1489 : decode cL_law 1489 = .ok (.iload 4, 2) := dk_21 4 (dk_at dksL_law_58 20 rfl rfl)
theorem dL_law_1491 : decode cL_law 1491 = .ok (.iconst 2, 1) := dk_5 (dk_at dksL_law_58 22 rfl rfl)
theorem dL_law_1492 : decode cL_law 1492 = .ok (.iadd, 1) := dk_96 (dk_at dksL_law_58 23 rfl rfl)
theorem dL_law_1493 : decode cL_law 1493 = .ok (.iaload, 1) := dk_46 (dk_at dksL_law_59 0 rfl rfl)
theorem dL_law_1494 : decode cL_law 1494 = .ok (.aload_n 3, 1) := dk_45 (dk_at dksL_law_59 1 rfl rfl)
theorem dL_law_1495 : decode cL_law 1495 = .ok (.invokestatic 177, 3) := dk_184 0 177 (dk_at dksL_law_59 2 rfl rfl)
theorem dL_law_1498 : decode cL_law 1498 = .ok (.istore 5, 2) := dk_54 5 (dk_at dksL_law_59 5 rfl rfl)
theorem dL_law_1500 : decode cL_law 1500 = .ok (.aload_n 2, 1) := dk_44 (dk_at dksL_law_59 7 rfl rfl)
theorem dL_law_1501 : decode cL_law 1501 = .ok (.aload_n 0, 1) := dk_42 (dk_at dksL_law_59 8 rfl rfl)
theorem dL_law_1502 : decode cL_law 1502 = .ok (.iload 4, 2) := dk_21 4 (dk_at dksL_law_59 9 rfl rfl)
theorem dL_law_1504 : decode cL_law 1504 = .ok (.iconst 1, 1) := dk_4 (dk_at dksL_law_59 11 rfl rfl)
theorem dL_law_1505 : decode cL_law 1505 = .ok (.iadd, 1) := dk_96 (dk_at dksL_law_59 12 rfl rfl)
theorem dL_law_1506 : decode cL_law 1506 = .ok (.iaload, 1) := dk_46 (dk_at dksL_law_59 13 rfl rfl)
theorem dL_law_1507 : decode cL_law 1507 = .ok (.aload_n 0, 1) := dk_42 (dk_at dksL_law_59 14 rfl rfl)
theorem dL_law_1508 : decode cL_law 1508 = .ok (.iload 4, 2) := dk_21 4 (dk_at dksL_law_59 15 rfl rfl)
theorem dL_law_1510 : decode cL_law 1510 = .ok (.iconst 2, 1) := dk_5 (dk_at dksL_law_59 17 rfl rfl)
theorem dL_law_1511 : decode cL_law 1511 = .ok (.iadd, 1) := dk_96 (dk_at dksL_law_59 18 rfl rfl)
theorem dL_law_1512 : decode cL_law 1512 = .ok (.iaload, 1) := dk_46 (dk_at dksL_law_59 19 rfl rfl)
theorem dL_law_1513 : decode cL_law 1513 = .ok (.invokevirtual 179, 3) := dk_182 0 179 (dk_at dksL_law_59 20 rfl rfl)
theorem dL_law_1516 : decode cL_law 1516 = .ok (.istore 6, 2) := dk_54 6 (dk_at dksL_law_60 0 rfl rfl)
theorem dL_law_1518 : decode cL_law 1518 = .ok (.aload_n 2, 1) := dk_44 (dk_at dksL_law_60 2 rfl rfl)
theorem dL_law_1519 : decode cL_law 1519 = .ok (.invokevirtual 94, 3) := dk_182 0 94 (dk_at dksL_law_60 3 rfl rfl)
theorem dL_law_1522 : decode cL_law 1522 = .ok (.iload 5, 2) := dk_21 5 (dk_at dksL_law_60 6 rfl rfl)
theorem dL_law_1524 : decode cL_law 1524 = .ok (.if_icmp .eq 5, 3) := dk_159 0 5 (dk_at dksL_law_60 8 rfl rfl)
theorem dL_law_1527 : decode cL_law 1527 = .ok (.iconst 0, 1) := dk_3 (dk_at dksL_law_60 11 rfl rfl)
theorem dL_law_1528 : decode cL_law 1528 = .ok (.ireturn, 1) := dk_172 (dk_at dksL_law_60 12 rfl rfl)
theorem dL_law_1529 : decode cL_law 1529 = .ok (.iload 5, 2) := dk_21 5 (dk_at dksL_law_60 13 rfl rfl)
theorem dL_law_1531 : decode cL_law 1531 = .ok (.ifCond .ne 15, 3) := dk_154 0 15 (dk_at dksL_law_60 15 rfl rfl)
theorem dL_law_1534 : decode cL_law 1534 = .ok (.aload_n 3, 1) := dk_45 (dk_at dksL_law_60 18 rfl rfl)
theorem dL_law_1535 : decode cL_law 1535 = .ok (.iconst 0, 1) := dk_3 (dk_at dksL_law_60 19 rfl rfl)
theorem dL_law_1536 : decode cL_law 1536 = .ok (.laload, 1) := dk_47 (dk_at dksL_law_60 20 rfl rfl)
theorem dL_law_1537 : decode cL_law 1537 = .ok (.iload 6, 2) := dk_21 6 (dk_at dksL_law_60 21 rfl rfl)
theorem dL_law_1539 : decode cL_law 1539 = .ok (.i2l, 1) := dk_133 (dk_at dksL_law_60 23 rfl rfl)
theorem dL_law_1540 : decode cL_law 1540 = .ok (.lcmp, 1) := dk_148 (dk_at dksL_law_61 0 rfl rfl)
theorem dL_law_1541 : decode cL_law 1541 = .ok (.ifCond .eq 5, 3) := dk_153 0 5 (dk_at dksL_law_61 1 rfl rfl)
theorem dL_law_1544 : decode cL_law 1544 = .ok (.iconst 0, 1) := dk_3 (dk_at dksL_law_61 4 rfl rfl)
theorem dL_law_1545 : decode cL_law 1545 = .ok (.ireturn, 1) := dk_172 (dk_at dksL_law_61 5 rfl rfl)
theorem dL_law_1546 : decode cL_law 1546 = .ok (.goto 246, 3) := dk_167 0 246 (dk_at dksL_law_61 6 rfl rfl)
theorem dL_law_1549 : decode cL_law 1549 = .ok (.aload_n 1, 1) := dk_43 (dk_at dksL_law_61 9 rfl rfl)
theorem dL_law_1550 : decode cL_law 1550 = .ok (.aload_n 0, 1) := dk_42 (dk_at dksL_law_61 10 rfl rfl)
theorem dL_law_1551 : decode cL_law 1551 = .ok (.iload 4, 2) := dk_21 4 (dk_at dksL_law_61 11 rfl rfl)
theorem dL_law_1553 : decode cL_law 1553 = .ok (.iconst 1, 1) := dk_4 (dk_at dksL_law_61 13 rfl rfl)
theorem dL_law_1554 : decode cL_law 1554 = .ok (.iadd, 1) := dk_96 (dk_at dksL_law_61 14 rfl rfl)
theorem dL_law_1555 : decode cL_law 1555 = .ok (.iaload, 1) := dk_46 (dk_at dksL_law_61 15 rfl rfl)
theorem dL_law_1556 : decode cL_law 1556 = .ok (.aload_n 3, 1) := dk_45 (dk_at dksL_law_61 16 rfl rfl)
theorem dL_law_1557 : decode cL_law 1557 = .ok (.invokestatic 180, 3) := dk_184 0 180 (dk_at dksL_law_61 17 rfl rfl)
theorem dL_law_1560 : decode cL_law 1560 = .ok (.istore 5, 2) := dk_54 5 (dk_at dksL_law_61 20 rfl rfl)
theorem dL_law_1562 : decode cL_law 1562 = .ok (.aload_n 2, 1) := dk_44 (dk_at dksL_law_61 22 rfl rfl)
theorem dL_law_1563 : decode cL_law 1563 = .ok (.aload_n 0, 1) := dk_42 (dk_at dksL_law_61 23 rfl rfl)
theorem dL_law_1564 : decode cL_law 1564 = .ok (.iload 4, 2) := dk_21 4 (dk_at dksL_law_62 0 rfl rfl)
theorem dL_law_1566 : decode cL_law 1566 = .ok (.iconst 1, 1) := dk_4 (dk_at dksL_law_62 2 rfl rfl)
theorem dL_law_1567 : decode cL_law 1567 = .ok (.iadd, 1) := dk_96 (dk_at dksL_law_62 3 rfl rfl)
theorem dL_law_1568 : decode cL_law 1568 = .ok (.iaload, 1) := dk_46 (dk_at dksL_law_62 4 rfl rfl)
theorem dL_law_1569 : decode cL_law 1569 = .ok (.invokevirtual 182, 3) := dk_182 0 182 (dk_at dksL_law_62 5 rfl rfl)
theorem dL_law_1572 : decode cL_law 1572 = .ok (.istore 6, 2) := dk_54 6 (dk_at dksL_law_62 8 rfl rfl)
theorem dL_law_1574 : decode cL_law 1574 = .ok (.aload_n 2, 1) := dk_44 (dk_at dksL_law_62 10 rfl rfl)
theorem dL_law_1575 : decode cL_law 1575 = .ok (.invokevirtual 94, 3) := dk_182 0 94 (dk_at dksL_law_62 11 rfl rfl)
theorem dL_law_1578 : decode cL_law 1578 = .ok (.iload 5, 2) := dk_21 5 (dk_at dksL_law_62 14 rfl rfl)
theorem dL_law_1580 : decode cL_law 1580 = .ok (.if_icmp .eq 5, 3) := dk_159 0 5 (dk_at dksL_law_62 16 rfl rfl)
theorem dL_law_1583 : decode cL_law 1583 = .ok (.iconst 0, 1) := dk_3 (dk_at dksL_law_62 19 rfl rfl)
theorem dL_law_1584 : decode cL_law 1584 = .ok (.ireturn, 1) := dk_172 (dk_at dksL_law_62 20 rfl rfl)
theorem dL_law_1585 : decode cL_law 1585 = .ok (.iload 5, 2) := dk_21 5 (dk_at dksL_law_62 21 rfl rfl)
theorem dL_law_1587 : decode cL_law 1587 = .ok (.ifCond .ne 15, 3) := dk_154 0 15 (dk_at dksL_law_63 0 rfl rfl)
theorem dL_law_1590 : decode cL_law 1590 = .ok (.aload_n 3, 1) := dk_45 (dk_at dksL_law_63 3 rfl rfl)
theorem dL_law_1591 : decode cL_law 1591 = .ok (.iconst 0, 1) := dk_3 (dk_at dksL_law_63 4 rfl rfl)
theorem dL_law_1592 : decode cL_law 1592 = .ok (.laload, 1) := dk_47 (dk_at dksL_law_63 5 rfl rfl)
theorem dL_law_1593 : decode cL_law 1593 = .ok (.iload 6, 2) := dk_21 6 (dk_at dksL_law_63 6 rfl rfl)
theorem dL_law_1595 : decode cL_law 1595 = .ok (.i2l, 1) := dk_133 (dk_at dksL_law_63 8 rfl rfl)
theorem dL_law_1596 : decode cL_law 1596 = .ok (.lcmp, 1) := dk_148 (dk_at dksL_law_63 9 rfl rfl)
theorem dL_law_1597 : decode cL_law 1597 = .ok (.ifCond .eq 5, 3) := dk_153 0 5 (dk_at dksL_law_63 10 rfl rfl)
theorem dL_law_1600 : decode cL_law 1600 = .ok (.iconst 0, 1) := dk_3 (dk_at dksL_law_63 13 rfl rfl)
theorem dL_law_1601 : decode cL_law 1601 = .ok (.ireturn, 1) := dk_172 (dk_at dksL_law_63 14 rfl rfl)
theorem dL_law_1602 : decode cL_law 1602 = .ok (.goto 190, 3) := dk_167 0 190 (dk_at dksL_law_63 15 rfl rfl)
theorem dL_law_1605 : decode cL_law 1605 = .ok (.aload_n 1, 1) := dk_43 (dk_at dksL_law_63 18 rfl rfl)
theorem dL_law_1606 : decode cL_law 1606 = .ok (.aload_n 0, 1) := dk_42 (dk_at dksL_law_63 19 rfl rfl)
theorem dL_law_1607 : decode cL_law 1607 = .ok (.iload 4, 2) := dk_21 4 (dk_at dksL_law_63 20 rfl rfl)
theorem dL_law_1609 : decode cL_law 1609 = .ok (.iconst 1, 1) := dk_4 (dk_at dksL_law_63 22 rfl rfl)
theorem dL_law_1610 : decode cL_law 1610 = .ok (.iadd, 1) := dk_96 (dk_at dksL_law_63 23 rfl rfl)
theorem dL_law_1611 : decode cL_law 1611 = .ok (.iaload, 1) := dk_46 (dk_at dksL_law_64 0 rfl rfl)
theorem dL_law_1612 : decode cL_law 1612 = .ok (.aload_n 3, 1) := dk_45 (dk_at dksL_law_64 1 rfl rfl)
theorem dL_law_1613 : decode cL_law 1613 = .ok (.invokestatic 183, 3) := dk_184 0 183 (dk_at dksL_law_64 2 rfl rfl)
theorem dL_law_1616 : decode cL_law 1616 = .ok (.istore 5, 2) := dk_54 5 (dk_at dksL_law_64 5 rfl rfl)
theorem dL_law_1618 : decode cL_law 1618 = .ok (.aload_n 2, 1) := dk_44 (dk_at dksL_law_64 7 rfl rfl)
theorem dL_law_1619 : decode cL_law 1619 = .ok (.aload_n 0, 1) := dk_42 (dk_at dksL_law_64 8 rfl rfl)
theorem dL_law_1620 : decode cL_law 1620 = .ok (.iload 4, 2) := dk_21 4 (dk_at dksL_law_64 9 rfl rfl)
theorem dL_law_1622 : decode cL_law 1622 = .ok (.iconst 1, 1) := dk_4 (dk_at dksL_law_64 11 rfl rfl)
theorem dL_law_1623 : decode cL_law 1623 = .ok (.iadd, 1) := dk_96 (dk_at dksL_law_64 12 rfl rfl)
theorem dL_law_1624 : decode cL_law 1624 = .ok (.iaload, 1) := dk_46 (dk_at dksL_law_64 13 rfl rfl)
theorem dL_law_1625 : decode cL_law 1625 = .ok (.invokevirtual 185, 3) := dk_182 0 185 (dk_at dksL_law_64 14 rfl rfl)
theorem dL_law_1628 : decode cL_law 1628 = .ok (.istore 6, 2) := dk_54 6 (dk_at dksL_law_64 17 rfl rfl)
theorem dL_law_1630 : decode cL_law 1630 = .ok (.aload_n 2, 1) := dk_44 (dk_at dksL_law_64 19 rfl rfl)
theorem dL_law_1631 : decode cL_law 1631 = .ok (.invokevirtual 94, 3) := dk_182 0 94 (dk_at dksL_law_64 20 rfl rfl)
theorem dL_law_1634 : decode cL_law 1634 = .ok (.iload 5, 2) := dk_21 5 (dk_at dksL_law_65 0 rfl rfl)
theorem dL_law_1636 : decode cL_law 1636 = .ok (.if_icmp .eq 5, 3) := dk_159 0 5 (dk_at dksL_law_65 2 rfl rfl)
theorem dL_law_1639 : decode cL_law 1639 = .ok (.iconst 0, 1) := dk_3 (dk_at dksL_law_65 5 rfl rfl)
theorem dL_law_1640 : decode cL_law 1640 = .ok (.ireturn, 1) := dk_172 (dk_at dksL_law_65 6 rfl rfl)
theorem dL_law_1641 : decode cL_law 1641 = .ok (.iload 5, 2) := dk_21 5 (dk_at dksL_law_65 7 rfl rfl)
theorem dL_law_1643 : decode cL_law 1643 = .ok (.ifCond .ne 15, 3) := dk_154 0 15 (dk_at dksL_law_65 9 rfl rfl)
theorem dL_law_1646 : decode cL_law 1646 = .ok (.aload_n 3, 1) := dk_45 (dk_at dksL_law_65 12 rfl rfl)
theorem dL_law_1647 : decode cL_law 1647 = .ok (.iconst 0, 1) := dk_3 (dk_at dksL_law_65 13 rfl rfl)
theorem dL_law_1648 : decode cL_law 1648 = .ok (.laload, 1) := dk_47 (dk_at dksL_law_65 14 rfl rfl)
theorem dL_law_1649 : decode cL_law 1649 = .ok (.iload 6, 2) := dk_21 6 (dk_at dksL_law_65 15 rfl rfl)
theorem dL_law_1651 : decode cL_law 1651 = .ok (.i2l, 1) := dk_133 (dk_at dksL_law_65 17 rfl rfl)
theorem dL_law_1652 : decode cL_law 1652 = .ok (.lcmp, 1) := dk_148 (dk_at dksL_law_65 18 rfl rfl)
theorem dL_law_1653 : decode cL_law 1653 = .ok (.ifCond .eq 5, 3) := dk_153 0 5 (dk_at dksL_law_65 19 rfl rfl)
theorem dL_law_1656 : decode cL_law 1656 = .ok (.iconst 0, 1) := dk_3 (dk_at dksL_law_65 22 rfl rfl)
theorem dL_law_1657 : decode cL_law 1657 = .ok (.ireturn, 1) := dk_172 (dk_at dksL_law_65 23 rfl rfl)
theorem dL_law_1658 : decode cL_law 1658 = .ok (.goto 134, 3) := dk_167 0 134 (dk_at dksL_law_66 0 rfl rfl)
theorem dL_law_1661 : decode cL_law 1661 = .ok (.aload_n 1, 1) := dk_43 (dk_at dksL_law_66 3 rfl rfl)
theorem dL_law_1662 : decode cL_law 1662 = .ok (.aload_n 0, 1) := dk_42 (dk_at dksL_law_66 4 rfl rfl)
theorem dL_law_1663 : decode cL_law 1663 = .ok (.iload 4, 2) := dk_21 4 (dk_at dksL_law_66 5 rfl rfl)
theorem dL_law_1665 : decode cL_law 1665 = .ok (.iconst 1, 1) := dk_4 (dk_at dksL_law_66 7 rfl rfl)
theorem dL_law_1666 : decode cL_law 1666 = .ok (.iadd, 1) := dk_96 (dk_at dksL_law_66 8 rfl rfl)
theorem dL_law_1667 : decode cL_law 1667 = .ok (.iaload, 1) := dk_46 (dk_at dksL_law_66 9 rfl rfl)
theorem dL_law_1668 : decode cL_law 1668 = .ok (.invokevirtual 186, 3) := dk_182 0 186 (dk_at dksL_law_66 10 rfl rfl)
theorem dL_law_1671 : decode cL_law 1671 = .ok (.aload_n 2, 1) := dk_44 (dk_at dksL_law_66 13 rfl rfl)
theorem dL_law_1672 : decode cL_law 1672 = .ok (.aload_n 0, 1) := dk_42 (dk_at dksL_law_66 14 rfl rfl)
theorem dL_law_1673 : decode cL_law 1673 = .ok (.iload 4, 2) := dk_21 4 (dk_at dksL_law_66 15 rfl rfl)
theorem dL_law_1675 : decode cL_law 1675 = .ok (.iconst 1, 1) := dk_4 (dk_at dksL_law_66 17 rfl rfl)
theorem dL_law_1676 : decode cL_law 1676 = .ok (.iadd, 1) := dk_96 (dk_at dksL_law_66 18 rfl rfl)
theorem dL_law_1677 : decode cL_law 1677 = .ok (.iaload, 1) := dk_46 (dk_at dksL_law_66 19 rfl rfl)
theorem dL_law_1678 : decode cL_law 1678 = .ok (.invokevirtual 189, 3) := dk_182 0 189 (dk_at dksL_law_66 20 rfl rfl)
theorem dL_law_1681 : decode cL_law 1681 = .ok (.if_icmp .eq 111, 3) := dk_159 0 111 (dk_at dksL_law_67 0 rfl rfl)
theorem dL_law_1684 : decode cL_law 1684 = .ok (.iconst 0, 1) := dk_3 (dk_at dksL_law_67 3 rfl rfl)
theorem dL_law_1685 : decode cL_law 1685 = .ok (.ireturn, 1) := dk_172 (dk_at dksL_law_67 4 rfl rfl)
theorem dL_law_1686 : decode cL_law 1686 = .ok (.aload_n 1, 1) := dk_43 (dk_at dksL_law_67 5 rfl rfl)
theorem dL_law_1687 : decode cL_law 1687 = .ok (.invokevirtual 190, 3) := dk_182 0 190 (dk_at dksL_law_67 6 rfl rfl)
theorem dL_law_1690 : decode cL_law 1690 = .ok (.aload_n 2, 1) := dk_44 (dk_at dksL_law_67 9 rfl rfl)
theorem dL_law_1691 : decode cL_law 1691 = .ok (.invokevirtual 193, 3) := dk_182 0 193 (dk_at dksL_law_67 10 rfl rfl)
theorem dL_law_1694 : decode cL_law 1694 = .ok (.if_icmp .eq 98, 3) := dk_159 0 98 (dk_at dksL_law_67 13 rfl rfl)
theorem dL_law_1697 : decode cL_law 1697 = .ok (.iconst 0, 1) := dk_3 (dk_at dksL_law_67 16 rfl rfl)
theorem dL_law_1698 : decode cL_law 1698 = .ok (.ireturn, 1) := dk_172 (dk_at dksL_law_67 17 rfl rfl)
theorem dL_law_1699 : decode cL_law 1699 = .ok (.aload_n 1, 1) := dk_43 (dk_at dksL_law_67 18 rfl rfl)
theorem dL_law_1700 : decode cL_law 1700 = .ok (.invokevirtual 194, 3) := dk_182 0 194 (dk_at dksL_law_67 19 rfl rfl)
theorem dL_law_1703 : decode cL_law 1703 = .ok (.aload_n 2, 1) := dk_44 (dk_at dksL_law_67 22 rfl rfl)
theorem dL_law_1704 : decode cL_law 1704 = .ok (.invokevirtual 197, 3) := dk_182 0 197 (dk_at dksL_law_68 0 rfl rfl)
theorem dL_law_1707 : decode cL_law 1707 = .ok (.if_icmp .eq 85, 3) := dk_159 0 85 (dk_at dksL_law_68 3 rfl rfl)
theorem dL_law_1710 : decode cL_law 1710 = .ok (.iconst 0, 1) := dk_3 (dk_at dksL_law_68 6 rfl rfl)
theorem dL_law_1711 : decode cL_law 1711 = .ok (.ireturn, 1) := dk_172 (dk_at dksL_law_68 7 rfl rfl)
theorem dL_law_1712 : decode cL_law 1712 = .ok (.aload_n 1, 1) := dk_43 (dk_at dksL_law_68 8 rfl rfl)
theorem dL_law_1713 : decode cL_law 1713 = .ok (.invokevirtual 198, 3) := dk_182 0 198 (dk_at dksL_law_68 9 rfl rfl)
theorem dL_law_1716 : decode cL_law 1716 = .ok (.aload_n 2, 1) := dk_44 (dk_at dksL_law_68 12 rfl rfl)
theorem dL_law_1717 : decode cL_law 1717 = .ok (.invokevirtual 201, 3) := dk_182 0 201 (dk_at dksL_law_68 13 rfl rfl)
theorem dL_law_1720 : decode cL_law 1720 = .ok (.goto 72, 3) := dk_167 0 72 (dk_at dksL_law_68 16 rfl rfl)
theorem dL_law_1723 : decode cL_law 1723 = .ok (.aload_n 1, 1) := dk_43 (dk_at dksL_law_68 19 rfl rfl)
theorem dL_law_1724 : decode cL_law 1724 = .ok (.invokevirtual 202, 3) := dk_182 0 202 (dk_at dksL_law_68 20 rfl rfl)
theorem dL_law_1727 : decode cL_law 1727 = .ok (.aload_n 2, 1) := dk_44 (dk_at dksL_law_68 23 rfl rfl)
theorem dL_law_1728 : decode cL_law 1728 = .ok (.invokevirtual 206, 3) := dk_182 0 206 (dk_at dksL_law_69 0 rfl rfl)
theorem dL_law_1731 : decode cL_law 1731 = .ok (.if_icmp .eq 61, 3) := dk_159 0 61 (dk_at dksL_law_69 3 rfl rfl)
theorem dL_law_1734 : decode cL_law 1734 = .ok (.iconst 0, 1) := dk_3 (dk_at dksL_law_69 6 rfl rfl)
theorem dL_law_1735 : decode cL_law 1735 = .ok (.ireturn, 1) := dk_172 (dk_at dksL_law_69 7 rfl rfl)
theorem dL_law_1736 : decode cL_law 1736 = .ok (.aload_n 1, 1) := dk_43 (dk_at dksL_law_69 8 rfl rfl)
theorem dL_law_1737 : decode cL_law 1737 = .ok (.aload_n 0, 1) := dk_42 (dk_at dksL_law_69 9 rfl rfl)
theorem dL_law_1738 : decode cL_law 1738 = .ok (.iload 4, 2) := dk_21 4 (dk_at dksL_law_69 10 rfl rfl)
theorem dL_law_1740 : decode cL_law 1740 = .ok (.iconst 1, 1) := dk_4 (dk_at dksL_law_69 12 rfl rfl)
theorem dL_law_1741 : decode cL_law 1741 = .ok (.iadd, 1) := dk_96 (dk_at dksL_law_69 13 rfl rfl)
theorem dL_law_1742 : decode cL_law 1742 = .ok (.iaload, 1) := dk_46 (dk_at dksL_law_69 14 rfl rfl)
theorem dL_law_1743 : decode cL_law 1743 = .ok (.aload_n 3, 1) := dk_45 (dk_at dksL_law_69 15 rfl rfl)
theorem dL_law_1744 : decode cL_law 1744 = .ok (.invokestatic 207, 3) := dk_184 0 207 (dk_at dksL_law_69 16 rfl rfl)
theorem dL_law_1747 : decode cL_law 1747 = .ok (.istore 5, 2) := dk_54 5 (dk_at dksL_law_69 19 rfl rfl)
theorem dL_law_1749 : decode cL_law 1749 = .ok (.aload_n 2, 1) := dk_44 (dk_at dksL_law_69 21 rfl rfl)
theorem dL_law_1750 : decode cL_law 1750 = .ok (.aload_n 0, 1) := dk_42 (dk_at dksL_law_69 22 rfl rfl)
theorem dL_law_1751 : decode cL_law 1751 = .ok (.iload 4, 2) := dk_21 4 (dk_at dksL_law_70 0 rfl rfl)
theorem dL_law_1753 : decode cL_law 1753 = .ok (.iconst 1, 1) := dk_4 (dk_at dksL_law_70 2 rfl rfl)
theorem dL_law_1754 : decode cL_law 1754 = .ok (.iadd, 1) := dk_96 (dk_at dksL_law_70 3 rfl rfl)
theorem dL_law_1755 : decode cL_law 1755 = .ok (.iaload, 1) := dk_46 (dk_at dksL_law_70 4 rfl rfl)
theorem dL_law_1756 : decode cL_law 1756 = .ok (.invokevirtual 209, 3) := dk_182 0 209 (dk_at dksL_law_70 5 rfl rfl)
theorem dL_law_1759 : decode cL_law 1759 = .ok (.istore 6, 2) := dk_54 6 (dk_at dksL_law_70 8 rfl rfl)
theorem dL_law_1761 : decode cL_law 1761 = .ok (.aload_n 2, 1) := dk_44 (dk_at dksL_law_70 10 rfl rfl)
theorem dL_law_1762 : decode cL_law 1762 = .ok (.invokevirtual 94, 3) := dk_182 0 94 (dk_at dksL_law_70 11 rfl rfl)
theorem dL_law_1765 : decode cL_law 1765 = .ok (.iload 5, 2) := dk_21 5 (dk_at dksL_law_70 14 rfl rfl)
theorem dL_law_1767 : decode cL_law 1767 = .ok (.if_icmp .eq 5, 3) := dk_159 0 5 (dk_at dksL_law_70 16 rfl rfl)
theorem dL_law_1770 : decode cL_law 1770 = .ok (.iconst 0, 1) := dk_3 (dk_at dksL_law_70 19 rfl rfl)
theorem dL_law_1771 : decode cL_law 1771 = .ok (.ireturn, 1) := dk_172 (dk_at dksL_law_70 20 rfl rfl)
theorem dL_law_1772 : decode cL_law 1772 = .ok (.iload 5, 2) := dk_21 5 (dk_at dksL_law_70 21 rfl rfl)
theorem dL_law_1774 : decode cL_law 1774 = .ok (.ifCond .ne 15, 3) := dk_154 0 15 (dk_at dksL_law_71 0 rfl rfl)
theorem dL_law_1777 : decode cL_law 1777 = .ok (.aload_n 3, 1) := dk_45 (dk_at dksL_law_71 3 rfl rfl)
theorem dL_law_1778 : decode cL_law 1778 = .ok (.iconst 0, 1) := dk_3 (dk_at dksL_law_71 4 rfl rfl)
theorem dL_law_1779 : decode cL_law 1779 = .ok (.laload, 1) := dk_47 (dk_at dksL_law_71 5 rfl rfl)
theorem dL_law_1780 : decode cL_law 1780 = .ok (.iload 6, 2) := dk_21 6 (dk_at dksL_law_71 6 rfl rfl)
theorem dL_law_1782 : decode cL_law 1782 = .ok (.i2l, 1) := dk_133 (dk_at dksL_law_71 8 rfl rfl)
theorem dL_law_1783 : decode cL_law 1783 = .ok (.lcmp, 1) := dk_148 (dk_at dksL_law_71 9 rfl rfl)
theorem dL_law_1784 : decode cL_law 1784 = .ok (.ifCond .eq 5, 3) := dk_153 0 5 (dk_at dksL_law_71 10 rfl rfl)
theorem dL_law_1787 : decode cL_law 1787 = .ok (.iconst 0, 1) := dk_3 (dk_at dksL_law_71 13 rfl rfl)
theorem dL_law_1788 : decode cL_law 1788 = .ok (.ireturn, 1) := dk_172 (dk_at dksL_law_71 14 rfl rfl)
theorem dL_law_1789 : decode cL_law 1789 = .ok (.goto 3, 3) := dk_167 0 3 (dk_at dksL_law_71 15 rfl rfl)
theorem dL_law_1792 : decode cL_law 1792 = .ok (.iinc 4 6, 3) := dk_132 4 6 (dk_at dksL_law_71 18 rfl rfl)
theorem dL_law_1795 : decode cL_law 1795 = .ok (.goto (-1772), 3) := dk_167 249 20 (dk_at dksL_law_71 21 rfl rfl)
theorem dL_law_1798 : decode cL_law 1798 = .ok (.iconst 1, 1) := dk_4 (dk_at dksL_law_72 0 rfl rfl)
theorem dL_law_1799 : decode cL_law 1799 = .ok (.ireturn, 1) := dk_172 (dk_at dksL_law_72 1 rfl rfl)
