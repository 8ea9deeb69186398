/-! decode rows: out of claim/names -/
set_option maxRecDepth 100000
theorem dJ0_init_0 : decode cJ0_init 0 = .ok (.aload_n 0, 1) := by decide +kernel
theorem dJ0_init_1 : decode cJ0_init 1 = .ok (.invokespecial 1, 3) := by decide +kernel
theorem dJ0_init_4 : decode cJ0_init 4 = .ok (.return_, 1) := by decide +kernel
def dkwJ1_init_0 : List UInt8 := [42, 183, 0, 42, 42, 16, 17, 189, 0, 47, 181, 0, 3, 177]
abbrev dktJ1_init_0 : List UInt8 := dkwJ1_init_0 ++ []
theorem dksJ1_init_0 : cJ1_init.data.toList.drop 0 = dktJ1_init_0 := by decide +kernel
theorem dJ1_init_0 : decode cJ1_init 0 = .ok (.aload_n 0, 1) := dk_42 (dk_at dksJ1_init_0 0 rfl rfl)
theorem dJ1_init_1 : decode cJ1_init 1 = .ok (.invokespecial 42, 3) := dk_183 0 42 (dk_at dksJ1_init_0 1 rfl rfl)
theorem dJ1_init_4 : decode cJ1_init 4 = .ok (.aload_n 0, 1) := dk_42 (dk_at dksJ1_init_0 4 rfl rfl)
theorem dJ1_init_5 : decode cJ1_init 5 = .ok (.bipush 17, 2) := dk_16 17 (dk_at dksJ1_init_0 5 rfl rfl)
theorem dJ1_init_7 : decode cJ1_init 7 = .ok (.anewarray 47, 3) := dk_189 0 47 (dk_at dksJ1_init_0 7 rfl rfl)
theorem dJ1_init_10 : decode cJ1_init 10 = .ok (.putfield 3, 3) := dk_181 0 3 (dk_at dksJ1_init_0 10 rfl rfl)
theorem dJ1_init_13 : decode cJ1_init 13 = .ok (.return_, 1) := dk_177 (dk_at dksJ1_init_0 13 rfl rfl)
def dkwJ1_size_0 : List UInt8 := [42, 180, 0, 20, 42, 180, 0, 24, 42, 180, 0, 3, 190, 184, 0, 127, 172]
abbrev dktJ1_size_0 : List UInt8 := dkwJ1_size_0 ++ []
theorem dksJ1_size_0 : cJ1_size.data.toList.drop 0 = dktJ1_size_0 := by decide +kernel
theorem dJ1_size_0 : decode cJ1_size 0 = .ok (.aload_n 0, 1) := dk_42 (dk_at dksJ1_size_0 0 rfl rfl)
theorem dJ1_size_1 : decode cJ1_size 1 = .ok (.getfield 20, 3) := dk_180 0 20 (dk_at dksJ1_size_0 1 rfl rfl)
theorem dJ1_size_4 : decode cJ1_size 4 = .ok (.aload_n 0, 1) := dk_42 (dk_at dksJ1_size_0 4 rfl rfl)
theorem dJ1_size_5 : decode cJ1_size 5 = .ok (.getfield 24, 3) := dk_180 0 24 (dk_at dksJ1_size_0 5 rfl rfl)
theorem dJ1_size_8 : decode cJ1_size 8 = .ok (.aload_n 0, 1) := dk_42 (dk_at dksJ1_size_0 8 rfl rfl)
theorem dJ1_size_9 : decode cJ1_size 9 = .ok (.getfield 3, 3) := dk_180 0 3 (dk_at dksJ1_size_0 9 rfl rfl)
theorem dJ1_size_12 : decode cJ1_size 12 = .ok (.arraylength, 1) := dk_190 (dk_at dksJ1_size_0 12 rfl rfl)
theorem dJ1_size_13 : decode cJ1_size 13 = .ok (.invokestatic 127, 3) := dk_184 0 127 (dk_at dksJ1_size_0 13 rfl rfl)
theorem dJ1_size_16 : decode cJ1_size 16 = .ok (.ireturn, 1) := dk_172 (dk_at dksJ1_size_0 16 rfl rfl)
def dkwJ1_sub_0 : List UInt8 := [26, 27, 100, 89, 59, 156, 0, 7, 26, 28, 96, 59, 26, 172]
abbrev dktJ1_sub_0 : List UInt8 := dkwJ1_sub_0 ++ []
theorem dksJ1_sub_0 : cJ1_sub.data.toList.drop 0 = dktJ1_sub_0 := by decide +kernel
theorem dJ1_sub_0 : decode cJ1_sub 0 = .ok (.iload_n 0, 1) := dk_26 (dk_at dksJ1_sub_0 0 rfl rfl)
theorem dJ1_sub_1 : decode cJ1_sub 1 = .ok (.iload_n 1, 1) := dk_27 (dk_at dksJ1_sub_0 1 rfl rfl)
theorem dJ1_sub_2 : decode cJ1_sub 2 = .ok (.isub, 1) := dk_100 (dk_at dksJ1_sub_0 2 rfl rfl)
theorem dJ1_sub_3 : decode cJ1_sub 3 = .ok (.dup, 1) := dk_89 (dk_at dksJ1_sub_0 3 rfl rfl)
theorem dJ1_sub_4 : decode cJ1_sub 4 = .ok (.istore_n 0, 1) := dk_59 (dk_at dksJ1_sub_0 4 rfl rfl)
theorem dJ1_sub_5 : decode cJ1_sub 5 = .ok (.ifCond .ge 7, 3) := dk_156 0 7 (dk_at dksJ1_sub_0 5 rfl rfl)
theorem dJ1_sub_8 : decode cJ1_sub 8 = .ok (.iload_n 0, 1) := dk_26 (dk_at dksJ1_sub_0 8 rfl rfl)
theorem dJ1_sub_9 : decode cJ1_sub 9 = .ok (.iload_n 2, 1) := dk_28 (dk_at dksJ1_sub_0 9 rfl rfl)
theorem dJ1_sub_10 : decode cJ1_sub 10 = .ok (.iadd, 1) := dk_96 (dk_at dksJ1_sub_0 10 rfl rfl)
theorem dJ1_sub_11 : decode cJ1_sub 11 = .ok (.istore_n 0, 1) := dk_59 (dk_at dksJ1_sub_0 11 rfl rfl)
theorem dJ1_sub_12 : decode cJ1_sub 12 = .ok (.iload_n 0, 1) := dk_26 (dk_at dksJ1_sub_0 12 rfl rfl)
theorem dJ1_sub_13 : decode cJ1_sub 13 = .ok (.ireturn, 1) := dk_172 (dk_at dksJ1_sub_0 13 rfl rfl)
def dkwJ1_removeFirst_0 : List UInt8 := [42, 182, 0, 93, 76, 43, 199, 0, 11, 187, 0, 97, 89, 183, 0, 99, 191, 43, 176]
abbrev dktJ1_removeFirst_0 : List UInt8 := dkwJ1_removeFirst_0 ++ []
theorem dksJ1_removeFirst_0 : cJ1_removeFirst.data.toList.drop 0 = dktJ1_removeFirst_0 := by decide +kernel
theorem dJ1_removeFirst_0 : decode cJ1_removeFirst 0 = .ok (.aload_n 0, 1) := dk_42 (dk_at dksJ1_removeFirst_0 0 rfl rfl)
theorem dJ1_removeFirst_1 : decode cJ1_removeFirst 1 = .ok (.invokevirtual 93, 3) := dk_182 0 93 (dk_at dksJ1_removeFirst_0 1 rfl rfl)
theorem dJ1_removeFirst_4 : decode cJ1_removeFirst 4 = .ok (.astore_n 1, 1) := dk_76 (dk_at dksJ1_removeFirst_0 4 rfl rfl)
theorem dJ1_removeFirst_5 : decode cJ1_removeFirst 5 = .ok (.aload_n 1, 1) := dk_43 (dk_at dksJ1_removeFirst_0 5 rfl rfl)
theorem dJ1_removeFirst_6 : decode cJ1_removeFirst 6 = .ok (.ifnonnull 11, 3) := dk_199 0 11 (dk_at dksJ1_removeFirst_0 6 rfl rfl)
theorem dJ1_removeFirst_9 : decode cJ1_removeFirst 9 = .ok (.new 97, 3) := dk_187 0 97 (dk_at dksJ1_removeFirst_0 9 rfl rfl)
theorem dJ1_removeFirst_12 : decode cJ1_removeFirst 12 = .ok (.dup, 1) := dk_89 (dk_at dksJ1_removeFirst_0 12 rfl rfl)
theorem dJ1_removeFirst_13 : decode cJ1_removeFirst 13 = .ok (.invokespecial 99, 3) := dk_183 0 99 (dk_at dksJ1_removeFirst_0 13 rfl rfl)
theorem dJ1_removeFirst_16 : decode cJ1_removeFirst 16 = .ok (.athrow, 1) := dk_191 (dk_at dksJ1_removeFirst_0 16 rfl rfl)
theorem dJ1_removeFirst_17 : decode cJ1_removeFirst 17 = .ok (.aload_n 1, 1) := dk_43 (dk_at dksJ1_removeFirst_0 17 rfl rfl)
theorem dJ1_removeFirst_18 : decode cJ1_removeFirst 18 = .ok (.areturn, 1) := dk_176 (dk_at dksJ1_removeFirst_0 18 rfl rfl)
def dkwJ1_pollFirst_1 : List UInt8 := [42, 28, 43, 190, 184, 0, 74, 181, 0, 24, 45, 176]
abbrev dktJ1_pollFirst_1 : List UInt8 := dkwJ1_pollFirst_1 ++ []
def dkwJ1_pollFirst_0 : List UInt8 := [42, 180, 0, 3, 89, 76, 42, 180, 0, 24, 89, 61, 184, 0, 103, 78, 45, 198, 0, 17, 43, 28, 1, 83]
abbrev dktJ1_pollFirst_0 : List UInt8 := dkwJ1_pollFirst_0 ++ dktJ1_pollFirst_1
theorem dksJ1_pollFirst_0 : cJ1_pollFirst.data.toList.drop 0 = dktJ1_pollFirst_0 := by decide +kernel
theorem dksJ1_pollFirst_1 : cJ1_pollFirst.data.toList.drop 24 = dktJ1_pollFirst_1 := dk_seg dksJ1_pollFirst_0 24 rfl rfl
theorem dJ1_pollFirst_0 : decode cJ1_pollFirst 0 = .ok (.aload_n 0, 1) := dk_42 (dk_at dksJ1_pollFirst_0 0 rfl rfl)
theorem dJ1_pollFirst_1 : decode cJ1_pollFirst 1 = .ok (.getfield 3, 3) := dk_180 0 3 (dk_at dksJ1_pollFirst_0 1 rfl rfl)
theorem dJ1_pollFirst_4 : decode cJ1_pollFirst 4 = .ok (.dup, 1) := dk_89 (dk_at dksJ1_pollFirst_0 4 rfl rfl)
theorem dJ1_pollFirst_5 : decode cJ1_pollFirst 5 = .ok (.astore_n 1, 1) := dk_76 (dk_at dksJ1_pollFirst_0 5 rfl rfl)
theorem dJ1_pollFirst_6 : decode cJ1_pollFirst 6 = .ok (.aload_n 0, 1) := dk_42 (dk_at dksJ1_pollFirst_0 6 rfl rfl)
theorem dJ1_pollFirst_7 : decode cJ1_pollFirst 7 = .ok (.getfield 24, 3) := dk_180 0 24 (dk_at dksJ1_pollFirst_0 7 rfl rfl)
theorem dJ1_pollFirst_10 : decode cJ1_pollFirst 10 = .ok (.dup, 1) := dk_89 (dk_at dksJ1_pollFirst_0 10 rfl rfl)
theorem dJ1_pollFirst_11 : decode cJ1_pollFirst 11 = .ok (.istore_n 2, 1) := dk_61 (dk_at dksJ1_pollFirst_0 11 rfl rfl)
theorem dJ1_pollFirst_12 : decode cJ1_pollFirst 12 = .ok (.invokestatic 103, 3) := dk_184 0 103 (dk_at dksJ1_pollFirst_0 12 rfl rfl)
theorem dJ1_pollFirst_15 : decode cJ1_pollFirst 15 = .ok (.astore_n 3, 1) := dk_78 (dk_at dksJ1_pollFirst_0 15 rfl rfl)
theorem dJ1_pollFirst_16 : decode cJ1_pollFirst 16 = .ok (.aload_n 3, 1) := dk_45 (dk_at dksJ1_pollFirst_0 16 rfl rfl)
theorem dJ1_pollFirst_17 : decode cJ1_pollFirst 17 = .ok (.ifnull 17, 3) := dk_198 0 17 (dk_at dksJ1_pollFirst_0 17 rfl rfl)
theorem dJ1_pollFirst_20 : decode cJ1_pollFirst 20 = .ok (.aload_n 1, 1) := dk_43 (dk_at dksJ1_pollFirst_0 20 rfl rfl)
theorem dJ1_pollFirst_21 : decode cJ1_pollFirst 21 = .ok (.iload_n 2, 1) := dk_28 (dk_at dksJ1_pollFirst_0 21 rfl rfl)
theorem dJ1_pollFirst_22 : decode cJ1_pollFirst 22 = .ok (.aconst_null, 1) := dk_1 (dk_at dksJ1_pollFirst_0 22 rfl rfl)
theorem dJ1_pollFirst_23 : decode cJ1_pollFirst 23 = .ok (.aastore, 1) := dk_83 (dk_at dksJ1_pollFirst_0 23 rfl rfl)
theorem dJ1_pollFirst_24 : decode cJ1_pollFirst 24 = .ok (.aload_n 0, 1) := dk_42 (dk_at dksJ1_pollFirst_1 0 rfl rfl)
theorem dJ1_pollFirst_25 : decode cJ1_pollFirst 25 = .ok (.iload_n 2, 1) := dk_28 (dk_at dksJ1_pollFirst_1 1 rfl rfl)
theorem dJ1_pollFirst_26 : decode cJ1_pollFirst 26 = .ok (.aload_n 1, 1) := dk_43 (dk_at dksJ1_pollFirst_1 2 rfl rfl)
theorem dJ1_pollFirst_27 : decode cJ1_pollFirst 27 = .ok (.arraylength, 1) := dk_190 (dk_at dksJ1_pollFirst_1 3 rfl rfl)
theorem dJ1_pollFirst_28 : decode cJ1_pollFirst 28 = .ok (.invokestatic 74, 3) := dk_184 0 74 (dk_at dksJ1_pollFirst_1 4 rfl rfl)
theorem dJ1_pollFirst_31 : decode cJ1_pollFirst 31 = .ok (.putfield 24, 3) := dk_181 0 24 (dk_at dksJ1_pollFirst_1 7 rfl rfl)
theorem dJ1_pollFirst_34 : decode cJ1_pollFirst 34 = .ok (.aload_n 3, 1) := dk_45 (dk_at dksJ1_pollFirst_1 10 rfl rfl)
theorem dJ1_pollFirst_35 : decode cJ1_pollFirst 35 = .ok (.areturn, 1) := dk_176 (dk_at dksJ1_pollFirst_1 11 rfl rfl)
def dkwJ1_elementAt_0 : List UInt8 := [42, 27, 50, 176]
abbrev dktJ1_elementAt_0 : List UInt8 := dkwJ1_elementAt_0 ++ []
theorem dksJ1_elementAt_0 : cJ1_elementAt.data.toList.drop 0 = dktJ1_elementAt_0 := by decide +kernel
theorem dJ1_elementAt_0 : decode cJ1_elementAt 0 = .ok (.aload_n 0, 1) := dk_42 (dk_at dksJ1_elementAt_0 0 rfl rfl)
theorem dJ1_elementAt_1 : decode cJ1_elementAt 1 = .ok (.iload_n 1, 1) := dk_27 (dk_at dksJ1_elementAt_0 1 rfl rfl)
theorem dJ1_elementAt_2 : decode cJ1_elementAt 2 = .ok (.aaload, 1) := dk_50 (dk_at dksJ1_elementAt_0 2 rfl rfl)
theorem dJ1_elementAt_3 : decode cJ1_elementAt 3 = .ok (.areturn, 1) := dk_176 (dk_at dksJ1_elementAt_0 3 rfl rfl)
def dkwJ1_inc_0 : List UInt8 := [132, 0, 1, 26, 27, 161, 0, 5, 3, 59, 26, 172]
abbrev dktJ1_inc_0 : List UInt8 := dkwJ1_inc_0 ++ []
theorem dksJ1_inc_0 : cJ1_inc.data.toList.drop 0 = dktJ1_inc_0 := by decide +kernel
theorem dJ1_inc_0 : decode cJ1_inc 0 = .ok (.iinc 0 1, 3) := dk_132 0 1 (dk_at dksJ1_inc_0 0 rfl rfl)
theorem dJ1_inc_3 : decode cJ1_inc 3 = .ok (.iload_n 0, 1) := dk_26 (dk_at dksJ1_inc_0 3 rfl rfl)
theorem dJ1_inc_4 : decode cJ1_inc 4 = .ok (.iload_n 1, 1) := dk_27 (dk_at dksJ1_inc_0 4 rfl rfl)
theorem dJ1_inc_5 : decode cJ1_inc 5 = .ok (.if_icmp .lt 5, 3) := dk_161 0 5 (dk_at dksJ1_inc_0 5 rfl rfl)
theorem dJ1_inc_8 : decode cJ1_inc 8 = .ok (.iconst 0, 1) := dk_3 (dk_at dksJ1_inc_0 8 rfl rfl)
theorem dJ1_inc_9 : decode cJ1_inc 9 = .ok (.istore_n 0, 1) := dk_59 (dk_at dksJ1_inc_0 9 rfl rfl)
theorem dJ1_inc_10 : decode cJ1_inc 10 = .ok (.iload_n 0, 1) := dk_26 (dk_at dksJ1_inc_0 10 rfl rfl)
theorem dJ1_inc_11 : decode cJ1_inc 11 = .ok (.ireturn, 1) := dk_172 (dk_at dksJ1_inc_0 11 rfl rfl)
def dkwJ1_addLast_2 : List UInt8 := [182, 0, 71, 177]
abbrev dktJ1_addLast_2 : List UInt8 := dkwJ1_addLast_2 ++ []
def dkwJ1_addLast_1 : List UInt8 := [42, 180, 0, 24, 42, 42, 180, 0, 20, 44, 190, 184, 0, 74, 90, 181, 0, 20, 160, 0, 8, 42, 4]
abbrev dktJ1_addLast_1 : List UInt8 := dkwJ1_addLast_1 ++ dktJ1_addLast_2
def dkwJ1_addLast_0 : List UInt8 := [43, 199, 0, 11, 187, 0, 65, 89, 183, 0, 67, 191, 42, 180, 0, 3, 77, 44, 42, 180, 0, 20, 43, 83]
abbrev dktJ1_addLast_0 : List UInt8 := dkwJ1_addLast_0 ++ dktJ1_addLast_1
theorem dksJ1_addLast_0 : cJ1_addLast.data.toList.drop 0 = dktJ1_addLast_0 := by decide +kernel
theorem dksJ1_addLast_1 : cJ1_addLast.data.toList.drop 24 = dktJ1_addLast_1 := dk_seg dksJ1_addLast_0 24 rfl rfl
theorem dksJ1_addLast_2 : cJ1_addLast.data.toList.drop 47 = dktJ1_addLast_2 := dk_seg dksJ1_addLast_1 23 rfl rfl
theorem dJ1_addLast_0 : decode cJ1_addLast 0 = .ok (.aload_n 1, 1) := dk_43 (dk_at dksJ1_addLast_0 0 rfl rfl)
theorem dJ1_addLast_1 : decode cJ1_addLast 1 = .ok (.ifnonnull 11, 3) := dk_199 0 11 (dk_at dksJ1_addLast_0 1 rfl rfl)
theorem dJ1_addLast_4 : decode cJ1_addLast 4 = .ok (.new 65, 3) := dk_187 0 65 (dk_at dksJ1_addLast_0 4 rfl rfl)
theorem dJ1_addLast_7 : decode cJ1_addLast 7 = .ok (.dup, 1) := dk_89 (dk_at dksJ1_addLast_0 7 rfl rfl)
theorem dJ1_addLast_8 : decode cJ1_addLast 8 = .ok (.invokespecial 67, 3) := dk_183 0 67 (dk_at dksJ1_addLast_0 8 rfl rfl)
theorem dJ1_addLast_11 : decode cJ1_addLast 11 = .ok (.athrow, 1) := dk_191 (dk_at dksJ1_addLast_0 11 rfl rfl)
theorem dJ1_addLast_12 : decode cJ1_addLast 12 = .ok (.aload_n 0, 1) := dk_42 (dk_at dksJ1_addLast_0 12 rfl rfl)
theorem dJ1_addLast_13 : decode cJ1_addLast 13 = .ok (.getfield 3, 3) := dk_180 0 3 (dk_at dksJ1_addLast_0 13 rfl rfl)
theorem dJ1_addLast_16 : decode cJ1_addLast 16 = .ok (.astore_n 2, 1) := dk_77 (dk_at dksJ1_addLast_0 16 rfl rfl)
theorem dJ1_addLast_17 : decode cJ1_addLast 17 = .ok (.aload_n 2, 1) := dk_44 (dk_at dksJ1_addLast_0 17 rfl rfl)
theorem dJ1_addLast_18 : decode cJ1_addLast 18 = .ok (.aload_n 0, 1) := dk_42 (dk_at dksJ1_addLast_0 18 rfl rfl)
theorem dJ1_addLast_19 : decode cJ1_addLast 19 = .ok (.getfield 20, 3) := dk_180 0 20 (dk_at dksJ1_addLast_0 19 rfl rfl)
theorem dJ1_addLast_22 : decode cJ1_addLast 22 = .ok (.aload_n 1, 1) := dk_43 (dk_at dksJ1_addLast_0 22 rfl rfl)
theorem dJ1_addLast_23 : decode cJ1_addLast 23 = .ok (.aastore, 1) := dk_83 (dk_at dksJ1_addLast_0 23 rfl rfl)
theorem dJ1_addLast_24 : decode cJ1_addLast 24 = .ok (.aload_n 0, 1) := dk_42 (dk_at dksJ1_addLast_1 0 rfl rfl)
theorem dJ1_addLast_25 : decode cJ1_addLast 25 = .ok (.getfield 24, 3) := dk_180 0 24 (dk_at dksJ1_addLast_1 1 rfl rfl)
theorem dJ1_addLast_28 : decode cJ1_addLast 28 = .ok (.aload_n 0, 1) := dk_42 (dk_at dksJ1_addLast_1 4 rfl rfl)
theorem dJ1_addLast_29 : decode cJ1_addLast 29 = .ok (.aload_n 0, 1) := dk_42 (dk_at dksJ1_addLast_1 5 rfl rfl)
theorem dJ1_addLast_30 : decode cJ1_addLast 30 = .ok (.getfield 20, 3) := dk_180 0 20 (dk_at dksJ1_addLast_1 6 rfl rfl)
theorem dJ1_addLast_33 : decode cJ1_addLast 33 = .ok (.aload_n 2, 1) := dk_44 (dk_at dksJ1_addLast_1 9 rfl rfl)
theorem dJ1_addLast_34 : decode cJ1_addLast 34 = .ok (.arraylength, 1) := dk_190 (dk_at dksJ1_addLast_1 10 rfl rfl)
theorem dJ1_addLast_35 : decode cJ1_addLast 35 = .ok (.invokestatic 74, 3) := dk_184 0 74 (dk_at dksJ1_addLast_1 11 rfl rfl)
theorem dJ1_addLast_38 : decode cJ1_addLast 38 = .ok (.dup_x1, 1) := dk_90 (dk_at dksJ1_addLast_1 14 rfl rfl)
theorem dJ1_addLast_39 : decode cJ1_addLast 39 = .ok (.putfield 20, 3) := dk_181 0 20 (dk_at dksJ1_addLast_1 15 rfl rfl)
theorem dJ1_addLast_42 : decode cJ1_addLast 42 = .ok (.if_icmp .ne 8, 3) := dk_160 0 8 (dk_at dksJ1_addLast_1 18 rfl rfl)
theorem dJ1_addLast_45 : decode cJ1_addLast 45 = .ok (.aload_n 0, 1) := dk_42 (dk_at dksJ1_addLast_1 21 rfl rfl)
theorem dJ1_addLast_46 : decode cJ1_addLast 46 = .ok (.iconst 1, 1) := dk_4 (dk_at dksJ1_addLast_1 22 rfl rfl)
theorem dJ1_addLast_47 : decode cJ1_addLast 47 = .ok (.invokevirtual 71, 3) := dk_182 0 71 (dk_at dksJ1_addLast_2 0 rfl rfl)
theorem dJ1_addLast_50 : decode cJ1_addLast 50 = .ok (.return_, 1) := dk_177 (dk_at dksJ1_addLast_2 3 rfl rfl)
def dkwJ1_grow_7 : List UInt8 := [177]
abbrev dktJ1_grow_7 : List UInt8 := dkwJ1_grow_7 ++ []
def dkwJ1_grow_6 : List UInt8 := [181, 0, 24, 54, 8, 21, 7, 21, 8, 162, 0, 15, 25, 5, 21, 7, 1, 83, 132, 7, 1, 167, 255, 240]
abbrev dktJ1_grow_6 : List UInt8 := dkwJ1_grow_6 ++ dktJ1_grow_7
def dkwJ1_grow_5 : List UInt8 := [42, 180, 0, 24, 100, 184, 0, 27, 42, 180, 0, 24, 54, 7, 42, 89, 180, 0, 24, 21, 6, 96, 90]
abbrev dktJ1_grow_5 : List UInt8 := dkwJ1_grow_5 ++ dktJ1_grow_6
def dkwJ1_grow_4 : List UInt8 := [198, 0, 71, 29, 28, 100, 54, 6, 25, 5, 42, 180, 0, 24, 25, 5, 42, 180, 0, 24, 21, 6, 96, 28]
abbrev dktJ1_grow_4 : List UInt8 := dkwJ1_grow_4 ++ dktJ1_grow_5
def dkwJ1_grow_3 : List UInt8 := [180, 0, 24, 161, 0, 24, 42, 180, 0, 20, 42, 180, 0, 24, 160, 0, 81, 25, 5, 42, 180, 0, 24, 50]
abbrev dktJ1_grow_3 : List UInt8 := dkwJ1_grow_3 ++ dktJ1_grow_4
def dkwJ1_grow_2 : List UInt8 := [182, 0, 10, 62, 42, 42, 180, 0, 3, 29, 184, 0, 14, 90, 181, 0, 3, 58, 5, 42, 180, 0, 20, 42]
abbrev dktJ1_grow_2 : List UInt8 := dkwJ1_grow_2 ++ dktJ1_grow_3
def dkwJ1_grow_1 : List UInt8 := [21, 4, 27, 161, 0, 15, 28, 21, 4, 96, 89, 62, 18, 9, 100, 158, 0, 11, 42, 27, 21, 4]
abbrev dktJ1_grow_1 : List UInt8 := dkwJ1_grow_1 ++ dktJ1_grow_2
def dkwJ1_grow_0 : List UInt8 := [42, 180, 0, 3, 190, 61, 28, 16, 64, 162, 0, 9, 28, 5, 96, 167, 0, 6, 28, 4, 122, 54, 4]
abbrev dktJ1_grow_0 : List UInt8 := dkwJ1_grow_0 ++ dktJ1_grow_1
theorem dksJ1_grow_0 : cJ1_grow.data.toList.drop 0 = dktJ1_grow_0 := by decide +kernel
theorem dksJ1_grow_1 : cJ1_grow.data.toList.drop 23 = dktJ1_grow_1 := dk_seg dksJ1_grow_0 23 rfl rfl
theorem dksJ1_grow_2 : cJ1_grow.data.toList.drop 45 = dktJ1_grow_2 := dk_seg dksJ1_grow_1 22 rfl rfl
theorem dksJ1_grow_3 : cJ1_grow.data.toList.drop 69 = dktJ1_grow_3 := dk_seg dksJ1_grow_2 24 rfl rfl
theorem dksJ1_grow_4 : cJ1_grow.data.toList.drop 93 = dktJ1_grow_4 := dk_seg dksJ1_grow_3 24 rfl rfl
theorem dksJ1_grow_5 : cJ1_grow.data.toList.drop 117 = dktJ1_grow_5 := dk_seg dksJ1_grow_4 24 rfl rfl
theorem dksJ1_grow_6 : cJ1_grow.data.toList.drop 140 = dktJ1_grow_6 := dk_seg dksJ1_grow_5 23 rfl rfl
theorem dksJ1_grow_7 : cJ1_grow.data.toList.drop 164 = dktJ1_grow_7 := dk_seg dksJ1_grow_6 24 rfl rfl
theorem dJ1_grow_0 : decode cJ1_grow 0 = .ok (.aload_n 0, 1) := dk_42 (dk_at dksJ1_grow_0 0 rfl rfl)
theorem dJ1_grow_1 : decode cJ1_grow 1 = .ok (.getfield 3, 3) := dk_180 0 3 (dk_at dksJ1_grow_0 1 rfl rfl)
theorem dJ1_grow_4 : decode cJ1_grow 4 = .ok (.arraylength, 1) := dk_190 (dk_at dksJ1_grow_0 4 rfl rfl)
theorem dJ1_grow_5 : decode cJ1_grow 5 = .ok (.istore_n 2, 1) := dk_61 (dk_at dksJ1_grow_0 5 rfl rfl)
theorem dJ1_grow_6 : decode cJ1_grow 6 = .ok (.iload_n 2, 1) := dk_28 (dk_at dksJ1_grow_0 6 rfl rfl)
theorem dJ1_grow_7 : decode cJ1_grow 7 = .ok (.bipush 64, 2) := dk_16 64 (dk_at dksJ1_grow_0 7 rfl rfl)
theorem dJ1_grow_9 : decode cJ1_grow 9 = .ok (.if_icmp .ge 9, 3) := dk_162 0 9 (dk_at dksJ1_grow_0 9 rfl rfl)
theorem dJ1_grow_12 : decode cJ1_grow 12 = .ok (.iload_n 2, 1) := dk_28 (dk_at dksJ1_grow_0 12 rfl rfl)
theorem dJ1_grow_13 : decode cJ1_grow 13 = .ok (.iconst 2, 1) := dk_5 (dk_at dksJ1_grow_0 13 rfl rfl)
theorem dJ1_grow_14 : decode cJ1_grow 14 = .ok (.iadd, 1) := dk_96 (dk_at dksJ1_grow_0 14 rfl rfl)
theorem dJ1_grow_15 : decode cJ1_grow 15 = .ok (.goto 6, 3) := dk_167 0 6 (dk_at dksJ1_grow_0 15 rfl rfl)
theorem dJ1_grow_18 : decode cJ1_grow 18 = .ok (.iload_n 2, 1) := dk_28 (dk_at dksJ1_grow_0 18 rfl rfl)
theorem dJ1_grow_19 : decode cJ1_grow 19 = .ok (.iconst 1, 1) := dk_4 (dk_at dksJ1_grow_0 19 rfl rfl)
theorem dJ1_grow_20 : decode cJ1_grow 20 = .ok (.ishr, 1) := dk_122 (dk_at dksJ1_grow_0 20 rfl rfl)
theorem dJ1_grow_21 : decode cJ1_grow 21 = .ok (.istore 4, 2) := dk_54 4 (dk_at dksJ1_grow_0 21 rfl rfl)
theorem dJ1_grow_23 : decode cJ1_grow 23 = .ok (.iload 4, 2) := dk_21 4 (dk_at dksJ1_grow_1 0 rfl rfl)
theorem dJ1_grow_25 : decode cJ1_grow 25 = .ok (.iload_n 1, 1) := dk_27 (dk_at dksJ1_grow_1 2 rfl rfl)
theorem dJ1_grow_26 : decode cJ1_grow 26 = .ok (.if_icmp .lt 15, 3) := dk_161 0 15 (dk_at dksJ1_grow_1 3 rfl rfl)
theorem dJ1_grow_29 : decode cJ1_grow 29 = .ok (.iload_n 2, 1) := dk_28 (dk_at dksJ1_grow_1 6 rfl rfl)
theorem dJ1_grow_30 : decode cJ1_grow 30 = .ok (.iload 4, 2) := dk_21 4 (dk_at dksJ1_grow_1 7 rfl rfl)
theorem dJ1_grow_32 : decode cJ1_grow 32 = .ok (.iadd, 1) := dk_96 (dk_at dksJ1_grow_1 9 rfl rfl)
theorem dJ1_grow_33 : decode cJ1_grow 33 = .ok (.dup, 1) := dk_89 (dk_at dksJ1_grow_1 10 rfl rfl)
theorem dJ1_grow_34 : decode cJ1_grow 34 = .ok (.istore_n 3, 1) := dk_62 (dk_at dksJ1_grow_1 11 rfl rfl)
theorem dJ1_grow_35 : decode cJ1_grow 35 = .ok (.ldc 9, 2) := dk_18 9 (dk_at dksJ1_grow_1 12 rfl rfl)
theorem dJ1_grow_37 : decode cJ1_grow 37 = .ok (.isub, 1) := dk_100 (dk_at dksJ1_grow_1 14 rfl rfl)
theorem dJ1_grow_38 : decode cJ1_grow 38 = .ok (.ifCond .le 11, 3) := dk_158 0 11 (dk_at dksJ1_grow_1 15 rfl rfl)
theorem dJ1_grow_41 : decode cJ1_grow 41 = .ok (.aload_n 0, 1) := dk_42 (dk_at dksJ1_grow_1 18 rfl rfl)
theorem dJ1_grow_42 : decode cJ1_grow 42 = .ok (.iload_n 1, 1) := dk_27 (dk_at dksJ1_grow_1 19 rfl rfl)
theorem dJ1_grow_43 : decode cJ1_grow 43 = .ok (.iload 4, 2) := dk_21 4 (dk_at dksJ1_grow_1 20 rfl rfl)
theorem dJ1_grow_45 : decode cJ1_grow 45 = .ok (.invokevirtual 10, 3) := dk_182 0 10 (dk_at dksJ1_grow_2 0 rfl rfl)
theorem dJ1_grow_48 : decode cJ1_grow 48 = .ok (.istore_n 3, 1) := dk_62 (dk_at dksJ1_grow_2 3 rfl rfl)
theorem dJ1_grow_49 : decode cJ1_grow 49 = .ok (.aload_n 0, 1) := dk_42 (dk_at dksJ1_grow_2 4 rfl rfl)
theorem dJ1_grow_50 : decode cJ1_grow 50 = .ok (.aload_n 0, 1) := dk_42 (dk_at dksJ1_grow_2 5 rfl rfl)
theorem dJ1_grow_51 : decode cJ1_grow 51 = .ok (.getfield 3, 3) := dk_180 0 3 (dk_at dksJ1_grow_2 6 rfl rfl)
theorem dJ1_grow_54 : decode cJ1_grow 54 = .ok (.iload_n 3, 1) := dk_29 (dk_at dksJ1_grow_2 9 rfl rfl)
theorem dJ1_grow_55 : decode cJ1_grow 55 = .ok (.invokestatic 14, 3) := dk_184 0 14 (dk_at dksJ1_grow_2 10 rfl rfl)
theorem dJ1_grow_58 : decode cJ1_grow 58 = .ok (.dup_x1, 1) := dk_90 (dk_at dksJ1_grow_2 13 rfl rfl)
theorem dJ1_grow_59 : decode cJ1_grow 59 = .ok (.putfield 3, 3) := dk_181 0 3 (dk_at dksJ1_grow_2 14 rfl rfl)
theorem dJ1_grow_62 : decode cJ1_grow 62 = .ok (.astore 5, 2) := dk_58 5 (dk_at dksJ1_grow_2 17 rfl rfl)
theorem dJ1_grow_64 : decode cJ1_grow 64 = .ok (.aload_n 0, 1) := dk_42 (dk_at dksJ1_grow_2 19 rfl rfl)
theorem dJ1_grow_65 : decode cJ1_grow 65 = .ok (.getfield 20, 3) := dk_180 0 20 (dk_at dksJ1_grow_2 20 rfl rfl)
theorem dJ1_grow_68 : decode cJ1_grow 68 = .ok (.aload_n 0, 1) := dk_42 (dk_at dksJ1_grow_2 23 rfl rfl)
theorem dJ1_grow_69 : decode cJ1_grow 69 = .ok (.getfield 24, 3) := dk_180 0 24 (dk_at dksJ1_grow_3 0 rfl rfl)
theorem dJ1_grow_72 : decode cJ1_grow 72 = .ok (.if_icmp .lt 24, 3) := dk_161 0 24 (dk_at dksJ1_grow_3 3 rfl rfl)
theorem dJ1_grow_75 : decode cJ1_grow 75 = .ok (.aload_n 0, 1) := dk_42 (dk_at dksJ1_grow_3 6 rfl rfl)
theorem dJ1_grow_76 : decode cJ1_grow 76 = .ok (.getfield 20, 3) := dk_180 0 20 (dk_at dksJ1_grow_3 7 rfl rfl)
theorem dJ1_grow_79 : decode cJ1_grow 79 = .ok (.aload_n 0, 1) := dk_42 (dk_at dksJ1_grow_3 10 rfl rfl)
theorem dJ1_grow_80 : decode cJ1_grow 80 = .ok (.getfield 24, 3) := dk_180 0 24 (dk_at dksJ1_grow_3 11 rfl rfl)
theorem dJ1_grow_83 : decode cJ1_grow 83 = .ok (.if_icmp .ne 81, 3) := dk_160 0 81 (dk_at dksJ1_grow_3 14 rfl rfl)
theorem dJ1_grow_86 : decode cJ1_grow 86 = .ok (.aload 5, 2) := dk_25 5 (dk_at dksJ1_grow_3 17 rfl rfl)
theorem dJ1_grow_88 : decode cJ1_grow 88 = .ok (.aload_n 0, 1) := dk_42 (dk_at dksJ1_grow_3 19 rfl rfl)
theorem dJ1_grow_89 : decode cJ1_grow 89 = .ok (.getfield 24, 3) := dk_180 0 24 (dk_at dksJ1_grow_3 20 rfl rfl)
theorem dJ1_grow_92 : decode cJ1_grow 92 = .ok (.aaload, 1) := dk_50 (dk_at dksJ1_grow_3 23 rfl rfl)
theorem dJ1_grow_93 : decode cJ1_grow 93 = .ok (.ifnull 71, 3) := dk_198 0 71 (dk_at dksJ1_grow_4 0 rfl rfl)
theorem dJ1_grow_96 : decode cJ1_grow 96 = .ok (.iload_n 3, 1) := dk_29 (dk_at dksJ1_grow_4 3 rfl rfl)
theorem dJ1_grow_97 : decode cJ1_grow 97 = .ok (.iload_n 2, 1) := dk_28 (dk_at dksJ1_grow_4 4 rfl rfl)
theorem dJ1_grow_98 : decode cJ1_grow 98 = .ok (.isub, 1) := dk_100 (dk_at dksJ1_grow_4 5 rfl rfl)
theorem dJ1_grow_99 : decode cJ1_grow 99 = .ok (.istore 6, 2) := dk_54 6 (dk_at dksJ1_grow_4 6 rfl rfl)
theorem dJ1_grow_101 : decode cJ1_grow 101 = .ok (.aload 5, 2) := dk_25 5 (dk_at dksJ1_grow_4 8 rfl rfl)
theorem dJ1_grow_103 : decode cJ1_grow 103 = .ok (.aload_n 0, 1) := dk_42 (dk_at dksJ1_grow_4 10 rfl rfl)
theorem dJ1_grow_104 : decode cJ1_grow 104 = .ok (.getfield 24, 3) := dk_180 0 24 (dk_at dksJ1_grow_4 11 rfl rfl)
theorem dJ1_grow_107 : decode cJ1_grow 107 = .ok (.aload 5, 2) := dk_25 5 (dk_at dksJ1_grow_4 14 rfl rfl)
theorem dJ1_grow_109 : decode cJ1_grow 109 = .ok (.aload_n 0, 1) := dk_42 (dk_at dksJ1_grow_4 16 rfl rfl)
theorem dJ1_grow_110 : decode cJ1_grow 110 = .ok (.getfield 24, 3) := dk_180 0 24 (dk_at dksJ1_grow_4 17 rfl rfl)
theorem dJ1_grow_113 : decode cJ1_grow 113 = .ok (.iload 6, 2) := dk_21 6 (dk_at dksJ1_grow_4 20 rfl rfl)
theorem dJ1_grow_115 : decode cJ1_grow 115 = .ok (.iadd, 1) := dk_96 (dk_at dksJ1_grow_4 22 rfl rfl)
theorem dJ1_grow_116 : decode cJ1_grow 116 = .ok (.iload_n 2, 1) := dk_28 (dk_at dksJ1_grow_4 23 rfl rfl)
theorem dJ1_grow_117 : decode cJ1_grow 117 = .ok (.aload_n 0, 1) := dk_42 (dk_at dksJ1_grow_5 0 rfl rfl)
theorem dJ1_grow_118 : decode cJ1_grow 118 = .ok (.getfield 24, 3) := dk_180 0 24 (dk_at dksJ1_grow_5 1 rfl rfl)
theorem dJ1_grow_121 : decode cJ1_grow 121 = .ok (.isub, 1) := dk_100 (dk_at dksJ1_grow_5 4 rfl rfl)
theorem dJ1_grow_122 : decode cJ1_grow 122 = .ok (.invokestatic 27, 3) := dk_184 0 27 (dk_at dksJ1_grow_5 5 rfl rfl)
theorem dJ1_grow_125 : decode cJ1_grow 125 = .ok (.aload_n 0, 1) := dk_42 (dk_at dksJ1_grow_5 8 rfl rfl)
theorem dJ1_grow_126 : decode cJ1_grow 126 = .ok (.getfield 24, 3) := dk_180 0 24 (dk_at dksJ1_grow_5 9 rfl rfl)
theorem dJ1_grow_129 : decode cJ1_grow 129 = .ok (.istore 7, 2) := dk_54 7 (dk_at dksJ1_grow_5 12 rfl rfl)
theorem dJ1_grow_131 : decode cJ1_grow 131 = .ok (.aload_n 0, 1) := dk_42 (dk_at dksJ1_grow_5 14 rfl rfl)
theorem dJ1_grow_132 : decode cJ1_grow 132 = .ok (.dup, 1) := dk_89 (dk_at dksJ1_grow_5 15 rfl rfl)
theorem dJ1_grow_133 : decode cJ1_grow 133 = .ok (.getfield 24, 3) := dk_180 0 24 (dk_at dksJ1_grow_5 16 rfl rfl)
theorem dJ1_grow_136 : decode cJ1_grow 136 = .ok (.iload 6, 2) := dk_21 6 (dk_at dksJ1_grow_5 19 rfl rfl)
theorem dJ1_grow_138 : decode cJ1_grow 138 = .ok (.iadd, 1) := dk_96 (dk_at dksJ1_grow_5 21 rfl rfl)
theorem dJ1_grow_139 : decode cJ1_grow 139 = .ok (.dup_x1, 1) := dk_90 (dk_at dksJ1_grow_5 22 rfl rfl)
theorem dJ1_grow_140 : decode cJ1_grow 140 = .ok (.putfield 24, 3) := dk_181 0 24 (dk_at dksJ1_grow_6 0 rfl rfl)
theorem dJ1_grow_143 : decode cJ1_grow 143 = .ok (.istore 8, 2) := dk_54 8 (dk_at dksJ1_grow_6 3 rfl rfl)
theorem dJ1_grow_145 : decode cJ1_grow 145 = .ok (.iload 7, 2) := dk_21 7 (dk_at dksJ1_grow_6 5 rfl rfl)
theorem dJ1_grow_147 : decode cJ1_grow 147 = .ok (.iload 8, 2) := dk_21 8 (dk_at dksJ1_grow_6 7 rfl rfl)
theorem dJ1_grow_149 : decode cJ1_grow 149 = .ok (.if_icmp .ge 15, 3) := dk_162 0 15 (dk_at dksJ1_grow_6 9 rfl rfl)
theorem dJ1_grow_152 : decode cJ1_grow 152 = .ok (.aload 5, 2) := dk_25 5 (dk_at dksJ1_grow_6 12 rfl rfl)
theorem dJ1_grow_154 : decode cJ1_grow 154 = .ok (.iload 7, 2) := dk_21 7 (dk_at dksJ1_grow_6 14 rfl rfl)
theorem dJ1_grow_156 : decode cJ1_grow 156 = .ok (.aconst_null, 1) := dk_1 (dk_at dksJ1_grow_6 16 rfl rfl)
theorem dJ1_grow_157 : decode cJ1_grow 157 = .ok (.aastore, 1) := dk_83 (dk_at dksJ1_grow_6 17 rfl rfl)
theorem dJ1_grow_158 : decode cJ1_grow 158 = .ok (.iinc 7 1, 3) := dk_132 7 1 (dk_at dksJ1_grow_6 18 rfl rfl)
theorem dJ1_grow_161 : decode cJ1_grow 161 = .ok (.goto (-16), 3) := dk_167 255 240 (dk_at dksJ1_grow_6 21 rfl rfl)
theorem dJ1_grow_164 : decode cJ1_grow 164 = .ok (.return_, 1) := dk_177 (dk_at dksJ1_grow_7 0 rfl rfl)
def dkwJ1_newCapacity_2 : List UInt8 := [18, 9, 100, 156, 0, 9, 29, 28, 96, 167, 0, 5, 18, 9, 172]
abbrev dktJ1_newCapacity_2 : List UInt8 := dkwJ1_newCapacity_2 ++ []
def dkwJ1_newCapacity_1 : List UInt8 := [187, 0, 33, 89, 18, 35, 183, 0, 37, 191, 18, 41, 172, 27, 28, 164, 0, 6, 21, 4, 172, 29, 28, 96]
abbrev dktJ1_newCapacity_1 : List UInt8 := dkwJ1_newCapacity_1 ++ dktJ1_newCapacity_2
def dkwJ1_newCapacity_0 : List UInt8 := [42, 180, 0, 3, 190, 62, 29, 27, 96, 89, 54, 4, 18, 9, 100, 158, 0, 21, 21, 4, 156, 0, 13]
abbrev dktJ1_newCapacity_0 : List UInt8 := dkwJ1_newCapacity_0 ++ dktJ1_newCapacity_1
theorem dksJ1_newCapacity_0 : cJ1_newCapacity.data.toList.drop 0 = dktJ1_newCapacity_0 := by decide +kernel
theorem dksJ1_newCapacity_1 : cJ1_newCapacity.data.toList.drop 23 = dktJ1_newCapacity_1 := dk_seg dksJ1_newCapacity_0 23 rfl rfl
theorem dksJ1_newCapacity_2 : cJ1_newCapacity.data.toList.drop 47 = dktJ1_newCapacity_2 := dk_seg dksJ1_newCapacity_1 24 rfl rfl
theorem dJ1_newCapacity_0 : decode cJ1_newCapacity 0 = .ok (.aload_n 0, 1) := dk_42 (dk_at dksJ1_newCapacity_0 0 rfl rfl)
theorem dJ1_newCapacity_1 : decode cJ1_newCapacity 1 = .ok (.getfield 3, 3) := dk_180 0 3 (dk_at dksJ1_newCapacity_0 1 rfl rfl)
theorem dJ1_newCapacity_4 : decode cJ1_newCapacity 4 = .ok (.arraylength, 1) := dk_190 (dk_at dksJ1_newCapacity_0 4 rfl rfl)
theorem dJ1_newCapacity_5 : decode cJ1_newCapacity 5 = .ok (.istore_n 3, 1) := dk_62 (dk_at dksJ1_newCapacity_0 5 rfl rfl)
theorem dJ1_newCapacity_6 : decode cJ1_newCapacity 6 = .ok (.iload_n 3, 1) := dk_29 (dk_at dksJ1_newCapacity_0 6 rfl rfl)
theorem dJ1_newCapacity_7 : decode cJ1_newCapacity 7 = .ok (.iload_n 1, 1) := dk_27 (dk_at dksJ1_newCapacity_0 7 rfl rfl)
theorem dJ1_newCapacity_8 : decode cJ1_newCapacity 8 = .ok (.iadd, 1) := dk_96 (dk_at dksJ1_newCapacity_0 8 rfl rfl)
theorem dJ1_newCapacity_9 : decode cJ1_newCapacity 9 = .ok (.dup, 1) := dk_89 (dk_at dksJ1_newCapacity_0 9 rfl rfl)
theorem dJ1_newCapacity_10 : decode cJ1_newCapacity 10 = .ok (.istore 4, 2) := dk_54 4 (dk_at dksJ1_newCapacity_0 10 rfl rfl)
theorem dJ1_newCapacity_12 : decode cJ1_newCapacity 12 = .ok (.ldc 9, 2) := dk_18 9 (dk_at dksJ1_newCapacity_0 12 rfl rfl)
theorem dJ1_newCapacity_14 : decode cJ1_newCapacity 14 = .ok (.isub, 1) := dk_100 (dk_at dksJ1_newCapacity_0 14 rfl rfl)
theorem dJ1_newCapacity_15 : decode cJ1_newCapacity 15 = .ok (.ifCond .le 21, 3) := dk_158 0 21 (dk_at dksJ1_newCapacity_0 15 rfl rfl)
theorem dJ1_newCapacity_18 : decode cJ1_newCapacity 18 = .ok (.iload 4, 2) := dk_21 4 (dk_at dksJ1_newCapacity_0 18 rfl rfl)
theorem dJ1_newCapacity_20 : decode cJ1_newCapacity 20 = .ok (.ifCond .ge 13, 3) := dk_156 0 13 (dk_at dksJ1_newCapacity_0 20 rfl rfl)
theorem dJ1_newCapacity_23 : decode cJ1_newCapacity 23 = .ok (.new 33, 3) := dk_187 0 33 (dk_at dksJ1_newCapacity_1 0 rfl rfl)
theorem dJ1_newCapacity_26 : decode cJ1_newCapacity 26 = .ok (.dup, 1) := dk_89 (dk_at dksJ1_newCapacity_1 3 rfl rfl)
theorem dJ1_newCapacity_27 : decode cJ1_newCapacity 27 = .ok (.ldc 35, 2) := dk_18 35 (dk_at dksJ1_newCapacity_1 4 rfl rfl)
theorem dJ1_newCapacity_29 : decode cJ1_newCapacity 29 = .ok (.invokespecial 37, 3) := dk_183 0 37 (dk_at dksJ1_newCapacity_1 6 rfl rfl)
theorem dJ1_newCapacity_32 : decode cJ1_newCapacity 32 = .ok (.athrow, 1) := dk_191 (dk_at dksJ1_newCapacity_1 9 rfl rfl)
theorem dJ1_newCapacity_33 : decode cJ1_newCapacity 33 = .ok (.ldc 41, 2) := dk_18 41 (dk_at dksJ1_newCapacity_1 10 rfl rfl)
theorem dJ1_newCapacity_35 : decode cJ1_newCapacity 35 = .ok (.ireturn, 1) := dk_172 (dk_at dksJ1_newCapacity_1 12 rfl rfl)
theorem dJ1_newCapacity_36 : decode cJ1_newCapacity 36 = .ok (.iload_n 1, 1) := dk_27 (dk_at dksJ1_newCapacity_1 13 rfl rfl)
theorem dJ1_newCapacity_37 : decode cJ1_newCapacity 37 = .ok (.iload_n 2, 1) := dk_28 (dk_at dksJ1_newCapacity_1 14 rfl rfl)
theorem dJ1_newCapacity_38 : decode cJ1_newCapacity 38 = .ok (.if_icmp .le 6, 3) := dk_164 0 6 (dk_at dksJ1_newCapacity_1 15 rfl rfl)
theorem dJ1_newCapacity_41 : decode cJ1_newCapacity 41 = .ok (.iload 4, 2) := dk_21 4 (dk_at dksJ1_newCapacity_1 18 rfl rfl)
theorem dJ1_newCapacity_43 : decode cJ1_newCapacity 43 = .ok (.ireturn, 1) := dk_172 (dk_at dksJ1_newCapacity_1 20 rfl rfl)
theorem dJ1_newCapacity_44 : decode cJ1_newCapacity 44 = .ok (.iload_n 3, 1) := dk_29 (dk_at dksJ1_newCapacity_1 21 rfl rfl)
theorem dJ1_newCapacity_45 : decode cJ1_newCapacity 45 = .ok (.iload_n 2, 1) := dk_28 (dk_at dksJ1_newCapacity_1 22 rfl rfl)
theorem dJ1_newCapacity_46 : decode cJ1_newCapacity 46 = .ok (.iadd, 1) := dk_96 (dk_at dksJ1_newCapacity_1 23 rfl rfl)
theorem dJ1_newCapacity_47 : decode cJ1_newCapacity 47 = .ok (.ldc 9, 2) := dk_18 9 (dk_at dksJ1_newCapacity_2 0 rfl rfl)
theorem dJ1_newCapacity_49 : decode cJ1_newCapacity 49 = .ok (.isub, 1) := dk_100 (dk_at dksJ1_newCapacity_2 2 rfl rfl)
theorem dJ1_newCapacity_50 : decode cJ1_newCapacity 50 = .ok (.ifCond .ge 9, 3) := dk_156 0 9 (dk_at dksJ1_newCapacity_2 3 rfl rfl)
theorem dJ1_newCapacity_53 : decode cJ1_newCapacity 53 = .ok (.iload_n 3, 1) := dk_29 (dk_at dksJ1_newCapacity_2 6 rfl rfl)
theorem dJ1_newCapacity_54 : decode cJ1_newCapacity 54 = .ok (.iload_n 2, 1) := dk_28 (dk_at dksJ1_newCapacity_2 7 rfl rfl)
theorem dJ1_newCapacity_55 : decode cJ1_newCapacity 55 = .ok (.iadd, 1) := dk_96 (dk_at dksJ1_newCapacity_2 8 rfl rfl)
theorem dJ1_newCapacity_56 : decode cJ1_newCapacity 56 = .ok (.goto 5, 3) := dk_167 0 5 (dk_at dksJ1_newCapacity_2 9 rfl rfl)
theorem dJ1_newCapacity_59 : decode cJ1_newCapacity 59 = .ok (.ldc 9, 2) := dk_18 9 (dk_at dksJ1_newCapacity_2 12 rfl rfl)
theorem dJ1_newCapacity_61 : decode cJ1_newCapacity 61 = .ok (.ireturn, 1) := dk_172 (dk_at dksJ1_newCapacity_2 14 rfl rfl)
def dkwJ1_isEmpty_0 : List UInt8 := [42, 180, 0, 24, 42, 180, 0, 20, 160, 0, 7, 4, 167, 0, 4, 3, 172]
abbrev dktJ1_isEmpty_0 : List UInt8 := dkwJ1_isEmpty_0 ++ []
theorem dksJ1_isEmpty_0 : cJ1_isEmpty.data.toList.drop 0 = dktJ1_isEmpty_0 := by decide +kernel
theorem dJ1_isEmpty_0 : decode cJ1_isEmpty 0 = .ok (.aload_n 0, 1) := dk_42 (dk_at dksJ1_isEmpty_0 0 rfl rfl)
theorem dJ1_isEmpty_1 : decode cJ1_isEmpty 1 = .ok (.getfield 24, 3) := dk_180 0 24 (dk_at dksJ1_isEmpty_0 1 rfl rfl)
theorem dJ1_isEmpty_4 : decode cJ1_isEmpty 4 = .ok (.aload_n 0, 1) := dk_42 (dk_at dksJ1_isEmpty_0 4 rfl rfl)
theorem dJ1_isEmpty_5 : decode cJ1_isEmpty 5 = .ok (.getfield 20, 3) := dk_180 0 20 (dk_at dksJ1_isEmpty_0 5 rfl rfl)
theorem dJ1_isEmpty_8 : decode cJ1_isEmpty 8 = .ok (.if_icmp .ne 7, 3) := dk_160 0 7 (dk_at dksJ1_isEmpty_0 8 rfl rfl)
theorem dJ1_isEmpty_11 : decode cJ1_isEmpty 11 = .ok (.iconst 1, 1) := dk_4 (dk_at dksJ1_isEmpty_0 11 rfl rfl)
theorem dJ1_isEmpty_12 : decode cJ1_isEmpty 12 = .ok (.goto 4, 3) := dk_167 0 4 (dk_at dksJ1_isEmpty_0 12 rfl rfl)
theorem dJ1_isEmpty_15 : decode cJ1_isEmpty 15 = .ok (.iconst 0, 1) := dk_3 (dk_at dksJ1_isEmpty_0 15 rfl rfl)
theorem dJ1_isEmpty_16 : decode cJ1_isEmpty 16 = .ok (.ireturn, 1) := dk_172 (dk_at dksJ1_isEmpty_0 16 rfl rfl)
def dkwJ1_removeLast_0 : List UInt8 := [42, 182, 0, 100, 76, 43, 199, 0, 11, 187, 0, 97, 89, 183, 0, 99, 191, 43, 176]
abbrev dktJ1_removeLast_0 : List UInt8 := dkwJ1_removeLast_0 ++ []
theorem dksJ1_removeLast_0 : cJ1_removeLast.data.toList.drop 0 = dktJ1_removeLast_0 := by decide +kernel
theorem dJ1_removeLast_0 : decode cJ1_removeLast 0 = .ok (.aload_n 0, 1) := dk_42 (dk_at dksJ1_removeLast_0 0 rfl rfl)
theorem dJ1_removeLast_1 : decode cJ1_removeLast 1 = .ok (.invokevirtual 100, 3) := dk_182 0 100 (dk_at dksJ1_removeLast_0 1 rfl rfl)
theorem dJ1_removeLast_4 : decode cJ1_removeLast 4 = .ok (.astore_n 1, 1) := dk_76 (dk_at dksJ1_removeLast_0 4 rfl rfl)
theorem dJ1_removeLast_5 : decode cJ1_removeLast 5 = .ok (.aload_n 1, 1) := dk_43 (dk_at dksJ1_removeLast_0 5 rfl rfl)
theorem dJ1_removeLast_6 : decode cJ1_removeLast 6 = .ok (.ifnonnull 11, 3) := dk_199 0 11 (dk_at dksJ1_removeLast_0 6 rfl rfl)
theorem dJ1_removeLast_9 : decode cJ1_removeLast 9 = .ok (.new 97, 3) := dk_187 0 97 (dk_at dksJ1_removeLast_0 9 rfl rfl)
theorem dJ1_removeLast_12 : decode cJ1_removeLast 12 = .ok (.dup, 1) := dk_89 (dk_at dksJ1_removeLast_0 12 rfl rfl)
theorem dJ1_removeLast_13 : decode cJ1_removeLast 13 = .ok (.invokespecial 99, 3) := dk_183 0 99 (dk_at dksJ1_removeLast_0 13 rfl rfl)
theorem dJ1_removeLast_16 : decode cJ1_removeLast 16 = .ok (.athrow, 1) := dk_191 (dk_at dksJ1_removeLast_0 16 rfl rfl)
theorem dJ1_removeLast_17 : decode cJ1_removeLast 17 = .ok (.aload_n 1, 1) := dk_43 (dk_at dksJ1_removeLast_0 17 rfl rfl)
theorem dJ1_removeLast_18 : decode cJ1_removeLast 18 = .ok (.areturn, 1) := dk_176 (dk_at dksJ1_removeLast_0 18 rfl rfl)
def dkwJ1_pollLast_1 : List UInt8 := [198, 0, 12, 43, 42, 28, 90, 181, 0, 20, 1, 83, 45, 176]
abbrev dktJ1_pollLast_1 : List UInt8 := dkwJ1_pollLast_1 ++ []
def dkwJ1_pollLast_0 : List UInt8 := [42, 180, 0, 3, 89, 76, 42, 180, 0, 20, 43, 190, 184, 0, 68, 89, 61, 184, 0, 103, 78, 45]
abbrev dktJ1_pollLast_0 : List UInt8 := dkwJ1_pollLast_0 ++ dktJ1_pollLast_1
theorem dksJ1_pollLast_0 : cJ1_pollLast.data.toList.drop 0 = dktJ1_pollLast_0 := by decide +kernel
theorem dksJ1_pollLast_1 : cJ1_pollLast.data.toList.drop 22 = dktJ1_pollLast_1 := dk_seg dksJ1_pollLast_0 22 rfl rfl
theorem dJ1_pollLast_0 : decode cJ1_pollLast 0 = .ok (.aload_n 0, 1) := dk_42 (dk_at dksJ1_pollLast_0 0 rfl rfl)
theorem dJ1_pollLast_1 : decode cJ1_pollLast 1 = .ok (.getfield 3, 3) := dk_180 0 3 (dk_at dksJ1_pollLast_0 1 rfl rfl)
theorem dJ1_pollLast_4 : decode cJ1_pollLast 4 = .ok (.dup, 1) := dk_89 (dk_at dksJ1_pollLast_0 4 rfl rfl)
theorem dJ1_pollLast_5 : decode cJ1_pollLast 5 = .ok (.astore_n 1, 1) := dk_76 (dk_at dksJ1_pollLast_0 5 rfl rfl)
theorem dJ1_pollLast_6 : decode cJ1_pollLast 6 = .ok (.aload_n 0, 1) := dk_42 (dk_at dksJ1_pollLast_0 6 rfl rfl)
theorem dJ1_pollLast_7 : decode cJ1_pollLast 7 = .ok (.getfield 20, 3) := dk_180 0 20 (dk_at dksJ1_pollLast_0 7 rfl rfl)
theorem dJ1_pollLast_10 : decode cJ1_pollLast 10 = .ok (.aload_n 1, 1) := dk_43 (dk_at dksJ1_pollLast_0 10 rfl rfl)
theorem dJ1_pollLast_11 : decode cJ1_pollLast 11 = .ok (.arraylength, 1) := dk_190 (dk_at dksJ1_pollLast_0 11 rfl rfl)
theorem dJ1_pollLast_12 : decode cJ1_pollLast 12 = .ok (.invokestatic 68, 3) := dk_184 0 68 (dk_at dksJ1_pollLast_0 12 rfl rfl)
theorem dJ1_pollLast_15 : decode cJ1_pollLast 15 = .ok (.dup, 1) := dk_89 (dk_at dksJ1_pollLast_0 15 rfl rfl)
theorem dJ1_pollLast_16 : decode cJ1_pollLast 16 = .ok (.istore_n 2, 1) := dk_61 (dk_at dksJ1_pollLast_0 16 rfl rfl)
theorem dJ1_pollLast_17 : decode cJ1_pollLast 17 = .ok (.invokestatic 103, 3) := dk_184 0 103 (dk_at dksJ1_pollLast_0 17 rfl rfl)
theorem dJ1_pollLast_20 : decode cJ1_pollLast 20 = .ok (.astore_n 3, 1) := dk_78 (dk_at dksJ1_pollLast_0 20 rfl rfl)
theorem dJ1_pollLast_21 : decode cJ1_pollLast 21 = .ok (.aload_n 3, 1) := dk_45 (dk_at dksJ1_pollLast_0 21 rfl rfl)
theorem dJ1_pollLast_22 : decode cJ1_pollLast 22 = .ok (.ifnull 12, 3) := dk_198 0 12 (dk_at dksJ1_pollLast_1 0 rfl rfl)
theorem dJ1_pollLast_25 : decode cJ1_pollLast 25 = .ok (.aload_n 1, 1) := dk_43 (dk_at dksJ1_pollLast_1 3 rfl rfl)
theorem dJ1_pollLast_26 : decode cJ1_pollLast 26 = .ok (.aload_n 0, 1) := dk_42 (dk_at dksJ1_pollLast_1 4 rfl rfl)
theorem dJ1_pollLast_27 : decode cJ1_pollLast 27 = .ok (.iload_n 2, 1) := dk_28 (dk_at dksJ1_pollLast_1 5 rfl rfl)
theorem dJ1_pollLast_28 : decode cJ1_pollLast 28 = .ok (.dup_x1, 1) := dk_90 (dk_at dksJ1_pollLast_1 6 rfl rfl)
theorem dJ1_pollLast_29 : decode cJ1_pollLast 29 = .ok (.putfield 20, 3) := dk_181 0 20 (dk_at dksJ1_pollLast_1 7 rfl rfl)
theorem dJ1_pollLast_32 : decode cJ1_pollLast 32 = .ok (.aconst_null, 1) := dk_1 (dk_at dksJ1_pollLast_1 10 rfl rfl)
theorem dJ1_pollLast_33 : decode cJ1_pollLast 33 = .ok (.aastore, 1) := dk_83 (dk_at dksJ1_pollLast_1 11 rfl rfl)
theorem dJ1_pollLast_34 : decode cJ1_pollLast 34 = .ok (.aload_n 3, 1) := dk_45 (dk_at dksJ1_pollLast_1 12 rfl rfl)
theorem dJ1_pollLast_35 : decode cJ1_pollLast 35 = .ok (.areturn, 1) := dk_176 (dk_at dksJ1_pollLast_1 13 rfl rfl)
def dkwJ1_dec_0 : List UInt8 := [132, 0, 255, 26, 156, 0, 7, 27, 4, 100, 59, 26, 172]
abbrev dktJ1_dec_0 : List UInt8 := dkwJ1_dec_0 ++ []
theorem dksJ1_dec_0 : cJ1_dec.data.toList.drop 0 = dktJ1_dec_0 := by decide +kernel
theorem dJ1_dec_0 : decode cJ1_dec 0 = .ok (.iinc 0 (-1), 3) := dk_132 0 255 (dk_at dksJ1_dec_0 0 rfl rfl)
theorem dJ1_dec_3 : decode cJ1_dec 3 = .ok (.iload_n 0, 1) := dk_26 (dk_at dksJ1_dec_0 3 rfl rfl)
theorem dJ1_dec_4 : decode cJ1_dec 4 = .ok (.ifCond .ge 7, 3) := dk_156 0 7 (dk_at dksJ1_dec_0 4 rfl rfl)
theorem dJ1_dec_7 : decode cJ1_dec 7 = .ok (.iload_n 1, 1) := dk_27 (dk_at dksJ1_dec_0 7 rfl rfl)
theorem dJ1_dec_8 : decode cJ1_dec 8 = .ok (.iconst 1, 1) := dk_4 (dk_at dksJ1_dec_0 8 rfl rfl)
theorem dJ1_dec_9 : decode cJ1_dec 9 = .ok (.isub, 1) := dk_100 (dk_at dksJ1_dec_0 9 rfl rfl)
theorem dJ1_dec_10 : decode cJ1_dec 10 = .ok (.istore_n 0, 1) := dk_59 (dk_at dksJ1_dec_0 10 rfl rfl)
theorem dJ1_dec_11 : decode cJ1_dec 11 = .ok (.iload_n 0, 1) := dk_26 (dk_at dksJ1_dec_0 11 rfl rfl)
theorem dJ1_dec_12 : decode cJ1_dec 12 = .ok (.ireturn, 1) := dk_172 (dk_at dksJ1_dec_0 12 rfl rfl)
def dkwJ1_clear_1 : List UInt8 := [181, 0, 24, 177]
abbrev dktJ1_clear_1 : List UInt8 := dkwJ1_clear_1 ++ []
def dkwJ1_clear_0 : List UInt8 := [42, 180, 0, 3, 42, 180, 0, 24, 42, 180, 0, 20, 184, 0, 181, 42, 42, 3, 90, 181, 0, 20]
abbrev dktJ1_clear_0 : List UInt8 := dkwJ1_clear_0 ++ dktJ1_clear_1
theorem dksJ1_clear_0 : cJ1_clear.data.toList.drop 0 = dktJ1_clear_0 := by decide +kernel
theorem dksJ1_clear_1 : cJ1_clear.data.toList.drop 22 = dktJ1_clear_1 := dk_seg dksJ1_clear_0 22 rfl rfl
theorem dJ1_clear_0 : decode cJ1_clear 0 = .ok (.aload_n 0, 1) := dk_42 (dk_at dksJ1_clear_0 0 rfl rfl)
theorem dJ1_clear_1 : decode cJ1_clear 1 = .ok (.getfield 3, 3) := dk_180 0 3 (dk_at dksJ1_clear_0 1 rfl rfl)
theorem dJ1_clear_4 : decode cJ1_clear 4 = .ok (.aload_n 0, 1) := dk_42 (dk_at dksJ1_clear_0 4 rfl rfl)
theorem dJ1_clear_5 : decode cJ1_clear 5 = .ok (.getfield 24, 3) := dk_180 0 24 (dk_at dksJ1_clear_0 5 rfl rfl)
theorem dJ1_clear_8 : decode cJ1_clear 8 = .ok (.aload_n 0, 1) := dk_42 (dk_at dksJ1_clear_0 8 rfl rfl)
theorem dJ1_clear_9 : decode cJ1_clear 9 = .ok (.getfield 20, 3) := dk_180 0 20 (dk_at dksJ1_clear_0 9 rfl rfl)
theorem dJ1_clear_12 : decode cJ1_clear 12 = .ok (.invokestatic 181, 3) := dk_184 0 181 (dk_at dksJ1_clear_0 12 rfl rfl)
theorem dJ1_clear_15 : decode cJ1_clear 15 = .ok (.aload_n 0, 1) := dk_42 (dk_at dksJ1_clear_0 15 rfl rfl)
theorem dJ1_clear_16 : decode cJ1_clear 16 = .ok (.aload_n 0, 1) := dk_42 (dk_at dksJ1_clear_0 16 rfl rfl)
theorem dJ1_clear_17 : decode cJ1_clear 17 = .ok (.iconst 0, 1) := dk_3 (dk_at dksJ1_clear_0 17 rfl rfl)
theorem dJ1_clear_18 : decode cJ1_clear 18 = .ok (.dup_x1, 1) := dk_90 (dk_at dksJ1_clear_0 18 rfl rfl)
theorem dJ1_clear_19 : decode cJ1_clear 19 = .ok (.putfield 20, 3) := dk_181 0 20 (dk_at dksJ1_clear_0 19 rfl rfl)
theorem dJ1_clear_22 : decode cJ1_clear 22 = .ok (.putfield 24, 3) := dk_181 0 24 (dk_at dksJ1_clear_1 0 rfl rfl)
theorem dJ1_clear_25 : decode cJ1_clear 25 = .ok (.return_, 1) := dk_177 (dk_at dksJ1_clear_1 3 rfl rfl)
def dkwJ1_circularClear_1 : List UInt8 := [167, 255, 244, 29, 28, 160, 0, 6, 167, 0, 10, 3, 60, 28, 62, 167, 255, 229, 177]
abbrev dktJ1_circularClear_1 : List UInt8 := dkwJ1_circularClear_1 ++ []
def dkwJ1_circularClear_0 : List UInt8 := [27, 28, 163, 0, 7, 28, 167, 0, 5, 42, 190, 62, 27, 29, 162, 0, 13, 42, 27, 1, 83, 132, 1, 1]
abbrev dktJ1_circularClear_0 : List UInt8 := dkwJ1_circularClear_0 ++ dktJ1_circularClear_1
theorem dksJ1_circularClear_0 : cJ1_circularClear.data.toList.drop 0 = dktJ1_circularClear_0 := by decide +kernel
theorem dksJ1_circularClear_1 : cJ1_circularClear.data.toList.drop 24 = dktJ1_circularClear_1 := dk_seg dksJ1_circularClear_0 24 rfl rfl
theorem dJ1_circularClear_0 : decode cJ1_circularClear 0 = .ok (.iload_n 1, 1) := dk_27 (dk_at dksJ1_circularClear_0 0 rfl rfl)
theorem dJ1_circularClear_1 : decode cJ1_circularClear 1 = .ok (.iload_n 2, 1) := dk_28 (dk_at dksJ1_circularClear_0 1 rfl rfl)
theorem dJ1_circularClear_2 : decode cJ1_circularClear 2 = .ok (.if_icmp .gt 7, 3) := dk_163 0 7 (dk_at dksJ1_circularClear_0 2 rfl rfl)
theorem dJ1_circularClear_5 : decode cJ1_circularClear 5 = .ok (.iload_n 2, 1) := dk_28 (dk_at dksJ1_circularClear_0 5 rfl rfl)
theorem dJ1_circularClear_6 : decode cJ1_circularClear 6 = .ok (.goto 5, 3) := dk_167 0 5 (dk_at dksJ1_circularClear_0 6 rfl rfl)
theorem dJ1_circularClear_9 : decode cJ1_circularClear 9 = .ok (.aload_n 0, 1) := dk_42 (dk_at dksJ1_circularClear_0 9 rfl rfl)
theorem dJ1_circularClear_10 : decode cJ1_circularClear 10 = .ok (.arraylength, 1) := dk_190 (dk_at dksJ1_circularClear_0 10 rfl rfl)
theorem dJ1_circularClear_11 : decode cJ1_circularClear 11 = .ok (.istore_n 3, 1) := dk_62 (dk_at dksJ1_circularClear_0 11 rfl rfl)
theorem dJ1_circularClear_12 : decode cJ1_circularClear 12 = .ok (.iload_n 1, 1) := dk_27 (dk_at dksJ1_circularClear_0 12 rfl rfl)
theorem dJ1_circularClear_13 : decode cJ1_circularClear 13 = .ok (.iload_n 3, 1) := dk_29 (dk_at dksJ1_circularClear_0 13 rfl rfl)
theorem dJ1_circularClear_14 : decode cJ1_circularClear 14 = .ok (.if_icmp .ge 13, 3) := dk_162 0 13 (dk_at dksJ1_circularClear_0 14 rfl rfl)
theorem dJ1_circularClear_17 : decode cJ1_circularClear 17 = .ok (.aload_n 0, 1) := dk_42 (dk_at dksJ1_circularClear_0 17 rfl rfl)
theorem dJ1_circularClear_18 : decode cJ1_circularClear 18 = .ok (.iload_n 1, 1) := dk_27 (dk_at dksJ1_circularClear_0 18 rfl rfl)
theorem dJ1_circularClear_19 : decode cJ1_circularClear 19 = .ok (.aconst_null, 1) := dk_1 (dk_at dksJ1_circularClear_0 19 rfl rfl)
theorem dJ1_circularClear_20 : decode cJ1_circularClear 20 = .ok (.aastore, 1) := dk_83 (dk_at dksJ1_circularClear_0 20 rfl rfl)
theorem dJ1_circularClear_21 : decode cJ1_circularClear 21 = .ok (.iinc 1 1, 3) := dk_132 1 1 (dk_at dksJ1_circularClear_0 21 rfl rfl)
theorem dJ1_circularClear_24 : decode cJ1_circularClear 24 = .ok (.goto (-12), 3) := dk_167 255 244 (dk_at dksJ1_circularClear_1 0 rfl rfl)
theorem dJ1_circularClear_27 : decode cJ1_circularClear 27 = .ok (.iload_n 3, 1) := dk_29 (dk_at dksJ1_circularClear_1 3 rfl rfl)
theorem dJ1_circularClear_28 : decode cJ1_circularClear 28 = .ok (.iload_n 2, 1) := dk_28 (dk_at dksJ1_circularClear_1 4 rfl rfl)
theorem dJ1_circularClear_29 : decode cJ1_circularClear 29 = .ok (.if_icmp .ne 6, 3) := dk_160 0 6 (dk_at dksJ1_circularClear_1 5 rfl rfl)
theorem dJ1_circularClear_32 : decode cJ1_circularClear 32 = .ok (.goto 10, 3) := dk_167 0 10 (dk_at dksJ1_circularClear_1 8 rfl rfl)
theorem dJ1_circularClear_35 : decode cJ1_circularClear 35 = .ok (.iconst 0, 1) := dk_3 (dk_at dksJ1_circularClear_1 11 rfl rfl)
theorem dJ1_circularClear_36 : decode cJ1_circularClear 36 = .ok (.istore_n 1, 1) := dk_60 (dk_at dksJ1_circularClear_1 12 rfl rfl)
theorem dJ1_circularClear_37 : decode cJ1_circularClear 37 = .ok (.iload_n 2, 1) := dk_28 (dk_at dksJ1_circularClear_1 13 rfl rfl)
theorem dJ1_circularClear_38 : decode cJ1_circularClear 38 = .ok (.istore_n 3, 1) := dk_62 (dk_at dksJ1_circularClear_1 14 rfl rfl)
theorem dJ1_circularClear_39 : decode cJ1_circularClear 39 = .ok (.goto (-27), 3) := dk_167 255 229 (dk_at dksJ1_circularClear_1 15 rfl rfl)
theorem dJ1_circularClear_42 : decode cJ1_circularClear 42 = .ok (.return_, 1) := dk_177 (dk_at dksJ1_circularClear_1 18 rfl rfl)
def dkwJ2_init_0 : List UInt8 := [42, 183, 0, 1, 42, 3, 181, 0, 7, 177]
abbrev dktJ2_init_0 : List UInt8 := dkwJ2_init_0 ++ []
theorem dksJ2_init_0 : cJ2_init.data.toList.drop 0 = dktJ2_init_0 := by decide +kernel
theorem dJ2_init_0 : decode cJ2_init 0 = .ok (.aload_n 0, 1) := dk_42 (dk_at dksJ2_init_0 0 rfl rfl)
theorem dJ2_init_1 : decode cJ2_init 1 = .ok (.invokespecial 1, 3) := dk_183 0 1 (dk_at dksJ2_init_0 1 rfl rfl)
theorem dJ2_init_4 : decode cJ2_init 4 = .ok (.aload_n 0, 1) := dk_42 (dk_at dksJ2_init_0 4 rfl rfl)
theorem dJ2_init_5 : decode cJ2_init 5 = .ok (.iconst 0, 1) := dk_3 (dk_at dksJ2_init_0 5 rfl rfl)
theorem dJ2_init_6 : decode cJ2_init 6 = .ok (.putfield 7, 3) := dk_181 0 7 (dk_at dksJ2_init_0 6 rfl rfl)
theorem dJ2_init_9 : decode cJ2_init 9 = .ok (.return_, 1) := dk_177 (dk_at dksJ2_init_0 9 rfl rfl)
def dkwJ2_listIterator_0 : List UInt8 := [42, 3, 182, 0, 47, 176]
abbrev dktJ2_listIterator_0 : List UInt8 := dkwJ2_listIterator_0 ++ []
theorem dksJ2_listIterator_0 : cJ2_listIterator.data.toList.drop 0 = dktJ2_listIterator_0 := by decide +kernel
theorem dJ2_listIterator_0 : decode cJ2_listIterator 0 = .ok (.aload_n 0, 1) := dk_42 (dk_at dksJ2_listIterator_0 0 rfl rfl)
theorem dJ2_listIterator_1 : decode cJ2_listIterator 1 = .ok (.iconst 0, 1) := dk_3 (dk_at dksJ2_listIterator_0 1 rfl rfl)
theorem dJ2_listIterator_2 : decode cJ2_listIterator 2 = .ok (.invokevirtual 47, 3) := dk_182 0 47 (dk_at dksJ2_listIterator_0 2 rfl rfl)
theorem dJ2_listIterator_5 : decode cJ2_listIterator 5 = .ok (.areturn, 1) := dk_176 (dk_at dksJ2_listIterator_0 5 rfl rfl)
def dkwJ3_init_0 : List UInt8 := [42, 183, 0, 1, 42, 178, 0, 39, 181, 0, 9, 177]
abbrev dktJ3_init_0 : List UInt8 := dkwJ3_init_0 ++ []
theorem dksJ3_init_0 : cJ3_init.data.toList.drop 0 = dktJ3_init_0 := by decide +kernel
theorem dJ3_init_0 : decode cJ3_init 0 = .ok (.aload_n 0, 1) := dk_42 (dk_at dksJ3_init_0 0 rfl rfl)
theorem dJ3_init_1 : decode cJ3_init 1 = .ok (.invokespecial 1, 3) := dk_183 0 1 (dk_at dksJ3_init_0 1 rfl rfl)
theorem dJ3_init_4 : decode cJ3_init 4 = .ok (.aload_n 0, 1) := dk_42 (dk_at dksJ3_init_0 4 rfl rfl)
theorem dJ3_init_5 : decode cJ3_init 5 = .ok (.getstatic 39, 3) := dk_178 0 39 (dk_at dksJ3_init_0 5 rfl rfl)
theorem dJ3_init_8 : decode cJ3_init 8 = .ok (.putfield 9, 3) := dk_181 0 9 (dk_at dksJ3_init_0 8 rfl rfl)
theorem dJ3_init_11 : decode cJ3_init 11 = .ok (.return_, 1) := dk_177 (dk_at dksJ3_init_0 11 rfl rfl)
def dkwJ3_add_1 : List UInt8 := [172]
abbrev dktJ3_add_1 : List UInt8 := dkwJ3_add_1 ++ []
def dkwJ3_add_0 : List UInt8 := [42, 89, 180, 0, 63, 4, 96, 181, 0, 63, 42, 43, 42, 180, 0, 9, 42, 180, 0, 48, 182, 0, 131, 4]
abbrev dktJ3_add_0 : List UInt8 := dkwJ3_add_0 ++ dktJ3_add_1
theorem dksJ3_add_0 : cJ3_add.data.toList.drop 0 = dktJ3_add_0 := by decide +kernel
theorem dksJ3_add_1 : cJ3_add.data.toList.drop 24 = dktJ3_add_1 := dk_seg dksJ3_add_0 24 rfl rfl
theorem dJ3_add_0 : decode cJ3_add 0 = .ok (.aload_n 0, 1) := dk_42 (dk_at dksJ3_add_0 0 rfl rfl)
theorem dJ3_add_1 : decode cJ3_add 1 = .ok (.dup, 1) := dk_89 (dk_at dksJ3_add_0 1 rfl rfl)
theorem dJ3_add_2 : decode cJ3_add 2 = .ok (.getfield 63, 3) := dk_180 0 63 (dk_at dksJ3_add_0 2 rfl rfl)
theorem dJ3_add_5 : decode cJ3_add 5 = .ok (.iconst 1, 1) := dk_4 (dk_at dksJ3_add_0 5 rfl rfl)
theorem dJ3_add_6 : decode cJ3_add 6 = .ok (.iadd, 1) := dk_96 (dk_at dksJ3_add_0 6 rfl rfl)
theorem dJ3_add_7 : decode cJ3_add 7 = .ok (.putfield 63, 3) := dk_181 0 63 (dk_at dksJ3_add_0 7 rfl rfl)
theorem dJ3_add_10 : decode cJ3_add 10 = .ok (.aload_n 0, 1) := dk_42 (dk_at dksJ3_add_0 10 rfl rfl)
theorem dJ3_add_11 : decode cJ3_add 11 = .ok (.aload_n 1, 1) := dk_43 (dk_at dksJ3_add_0 11 rfl rfl)
theorem dJ3_add_12 : decode cJ3_add 12 = .ok (.aload_n 0, 1) := dk_42 (dk_at dksJ3_add_0 12 rfl rfl)
theorem dJ3_add_13 : decode cJ3_add 13 = .ok (.getfield 9, 3) := dk_180 0 9 (dk_at dksJ3_add_0 13 rfl rfl)
theorem dJ3_add_16 : decode cJ3_add 16 = .ok (.aload_n 0, 1) := dk_42 (dk_at dksJ3_add_0 16 rfl rfl)
theorem dJ3_add_17 : decode cJ3_add 17 = .ok (.getfield 48, 3) := dk_180 0 48 (dk_at dksJ3_add_0 17 rfl rfl)
theorem dJ3_add_20 : decode cJ3_add 20 = .ok (.invokevirtual 131, 3) := dk_182 0 131 (dk_at dksJ3_add_0 20 rfl rfl)
theorem dJ3_add_23 : decode cJ3_add 23 = .ok (.iconst 1, 1) := dk_4 (dk_at dksJ3_add_0 23 rfl rfl)
theorem dJ3_add_24 : decode cJ3_add 24 = .ok (.ireturn, 1) := dk_172 (dk_at dksJ3_add_1 0 rfl rfl)
def dkwJ3_add_2_0 : List UInt8 := [29, 44, 190, 160, 0, 8, 42, 182, 0, 129, 77, 44, 29, 43, 83, 42, 29, 4, 96, 181, 0, 48, 177]
abbrev dktJ3_add_2_0 : List UInt8 := dkwJ3_add_2_0 ++ []
theorem dksJ3_add_2_0 : cJ3_add_2.data.toList.drop 0 = dktJ3_add_2_0 := by decide +kernel
theorem dJ3_add_2_0 : decode cJ3_add_2 0 = .ok (.iload_n 3, 1) := dk_29 (dk_at dksJ3_add_2_0 0 rfl rfl)
theorem dJ3_add_2_1 : decode cJ3_add_2 1 = .ok (.aload_n 2, 1) := dk_44 (dk_at dksJ3_add_2_0 1 rfl rfl)
theorem dJ3_add_2_2 : decode cJ3_add_2 2 = .ok (.arraylength, 1) := dk_190 (dk_at dksJ3_add_2_0 2 rfl rfl)
theorem dJ3_add_2_3 : decode cJ3_add_2 3 = .ok (.if_icmp .ne 8, 3) := dk_160 0 8 (dk_at dksJ3_add_2_0 3 rfl rfl)
theorem dJ3_add_2_6 : decode cJ3_add_2 6 = .ok (.aload_n 0, 1) := dk_42 (dk_at dksJ3_add_2_0 6 rfl rfl)
theorem dJ3_add_2_7 : decode cJ3_add_2 7 = .ok (.invokevirtual 129, 3) := dk_182 0 129 (dk_at dksJ3_add_2_0 7 rfl rfl)
theorem dJ3_add_2_10 : decode cJ3_add_2 10 = .ok (.astore_n 2, 1) := dk_77 (dk_at dksJ3_add_2_0 10 rfl rfl)
theorem dJ3_add_2_11 : decode cJ3_add_2 11 = .ok (.aload_n 2, 1) := dk_44 (dk_at dksJ3_add_2_0 11 rfl rfl)
theorem dJ3_add_2_12 : decode cJ3_add_2 12 = .ok (.iload_n 3, 1) := dk_29 (dk_at dksJ3_add_2_0 12 rfl rfl)
theorem dJ3_add_2_13 : decode cJ3_add_2 13 = .ok (.aload_n 1, 1) := dk_43 (dk_at dksJ3_add_2_0 13 rfl rfl)
theorem dJ3_add_2_14 : decode cJ3_add_2 14 = .ok (.aastore, 1) := dk_83 (dk_at dksJ3_add_2_0 14 rfl rfl)
theorem dJ3_add_2_15 : decode cJ3_add_2 15 = .ok (.aload_n 0, 1) := dk_42 (dk_at dksJ3_add_2_0 15 rfl rfl)
theorem dJ3_add_2_16 : decode cJ3_add_2 16 = .ok (.iload_n 3, 1) := dk_29 (dk_at dksJ3_add_2_0 16 rfl rfl)
theorem dJ3_add_2_17 : decode cJ3_add_2 17 = .ok (.iconst 1, 1) := dk_4 (dk_at dksJ3_add_2_0 17 rfl rfl)
theorem dJ3_add_2_18 : decode cJ3_add_2 18 = .ok (.iadd, 1) := dk_96 (dk_at dksJ3_add_2_0 18 rfl rfl)
theorem dJ3_add_2_19 : decode cJ3_add_2 19 = .ok (.putfield 48, 3) := dk_181 0 48 (dk_at dksJ3_add_2_0 19 rfl rfl)
theorem dJ3_add_2_22 : decode cJ3_add_2 22 = .ok (.return_, 1) := dk_177 (dk_at dksJ3_add_2_0 22 rfl rfl)
def dkwJ3_grow_0 : List UInt8 := [42, 42, 180, 0, 48, 4, 96, 182, 0, 69, 176]
abbrev dktJ3_grow_0 : List UInt8 := dkwJ3_grow_0 ++ []
theorem dksJ3_grow_0 : cJ3_grow.data.toList.drop 0 = dktJ3_grow_0 := by decide +kernel
theorem dJ3_grow_0 : decode cJ3_grow 0 = .ok (.aload_n 0, 1) := dk_42 (dk_at dksJ3_grow_0 0 rfl rfl)
theorem dJ3_grow_1 : decode cJ3_grow 1 = .ok (.aload_n 0, 1) := dk_42 (dk_at dksJ3_grow_0 1 rfl rfl)
theorem dJ3_grow_2 : decode cJ3_grow 2 = .ok (.getfield 48, 3) := dk_180 0 48 (dk_at dksJ3_grow_0 2 rfl rfl)
theorem dJ3_grow_5 : decode cJ3_grow 5 = .ok (.iconst 1, 1) := dk_4 (dk_at dksJ3_grow_0 5 rfl rfl)
theorem dJ3_grow_6 : decode cJ3_grow 6 = .ok (.iadd, 1) := dk_96 (dk_at dksJ3_grow_0 6 rfl rfl)
theorem dJ3_grow_7 : decode cJ3_grow 7 = .ok (.invokevirtual 69, 3) := dk_182 0 69 (dk_at dksJ3_grow_0 7 rfl rfl)
theorem dJ3_grow_10 : decode cJ3_grow 10 = .ok (.areturn, 1) := dk_176 (dk_at dksJ3_grow_0 10 rfl rfl)
def dkwJ3_grow_2_2 : List UInt8 := [27, 184, 0, 79, 189, 0, 7, 90, 181, 0, 9, 176]
abbrev dktJ3_grow_2_2 : List UInt8 := dkwJ3_grow_2_2 ++ []
def dkwJ3_grow_2_1 : List UInt8 := [28, 4, 122, 184, 0, 73, 62, 42, 42, 180, 0, 9, 29, 184, 0, 66, 90, 181, 0, 9, 176, 42, 16, 10]
abbrev dktJ3_grow_2_1 : List UInt8 := dkwJ3_grow_2_1 ++ dktJ3_grow_2_2
def dkwJ3_grow_2_0 : List UInt8 := [42, 180, 0, 9, 190, 61, 28, 157, 0, 13, 42, 180, 0, 9, 178, 0, 39, 165, 0, 28, 28, 27, 28, 100]
abbrev dktJ3_grow_2_0 : List UInt8 := dkwJ3_grow_2_0 ++ dktJ3_grow_2_1
theorem dksJ3_grow_2_0 : cJ3_grow_2.data.toList.drop 0 = dktJ3_grow_2_0 := by decide +kernel
theorem dksJ3_grow_2_1 : cJ3_grow_2.data.toList.drop 24 = dktJ3_grow_2_1 := dk_seg dksJ3_grow_2_0 24 rfl rfl
theorem dksJ3_grow_2_2 : cJ3_grow_2.data.toList.drop 48 = dktJ3_grow_2_2 := dk_seg dksJ3_grow_2_1 24 rfl rfl
theorem dJ3_grow_2_0 : decode cJ3_grow_2 0 = .ok (.aload_n 0, 1) := dk_42 (dk_at dksJ3_grow_2_0 0 rfl rfl)
theorem dJ3_grow_2_1 : decode cJ3_grow_2 1 = .ok (.getfield 9, 3) := dk_180 0 9 (dk_at dksJ3_grow_2_0 1 rfl rfl)
theorem dJ3_grow_2_4 : decode cJ3_grow_2 4 = .ok (.arraylength, 1) := dk_190 (dk_at dksJ3_grow_2_0 4 rfl rfl)
theorem dJ3_grow_2_5 : decode cJ3_grow_2 5 = .ok (.istore_n 2, 1) := dk_61 (dk_at dksJ3_grow_2_0 5 rfl rfl)
theorem dJ3_grow_2_6 : decode cJ3_grow_2 6 = .ok (.iload_n 2, 1) := dk_28 (dk_at dksJ3_grow_2_0 6 rfl rfl)
theorem dJ3_grow_2_7 : decode cJ3_grow_2 7 = .ok (.ifCond .gt 13, 3) := dk_157 0 13 (dk_at dksJ3_grow_2_0 7 rfl rfl)
theorem dJ3_grow_2_10 : decode cJ3_grow_2 10 = .ok (.aload_n 0, 1) := dk_42 (dk_at dksJ3_grow_2_0 10 rfl rfl)
theorem dJ3_grow_2_11 : decode cJ3_grow_2 11 = .ok (.getfield 9, 3) := dk_180 0 9 (dk_at dksJ3_grow_2_0 11 rfl rfl)
theorem dJ3_grow_2_14 : decode cJ3_grow_2 14 = .ok (.getstatic 39, 3) := dk_178 0 39 (dk_at dksJ3_grow_2_0 14 rfl rfl)
theorem dJ3_grow_2_17 : decode cJ3_grow_2 17 = .ok (.if_acmp .eq 28, 3) := dk_165 0 28 (dk_at dksJ3_grow_2_0 17 rfl rfl)
theorem dJ3_grow_2_20 : decode cJ3_grow_2 20 = .ok (.iload_n 2, 1) := dk_28 (dk_at dksJ3_grow_2_0 20 rfl rfl)
theorem dJ3_grow_2_21 : decode cJ3_grow_2 21 = .ok (.iload_n 1, 1) := dk_27 (dk_at dksJ3_grow_2_0 21 rfl rfl)
theorem dJ3_grow_2_22 : decode cJ3_grow_2 22 = .ok (.iload_n 2, 1) := dk_28 (dk_at dksJ3_grow_2_0 22 rfl rfl)
theorem dJ3_grow_2_23 : decode cJ3_grow_2 23 = .ok (.isub, 1) := dk_100 (dk_at dksJ3_grow_2_0 23 rfl rfl)
theorem dJ3_grow_2_24 : decode cJ3_grow_2 24 = .ok (.iload_n 2, 1) := dk_28 (dk_at dksJ3_grow_2_1 0 rfl rfl)
theorem dJ3_grow_2_25 : decode cJ3_grow_2 25 = .ok (.iconst 1, 1) := dk_4 (dk_at dksJ3_grow_2_1 1 rfl rfl)
theorem dJ3_grow_2_26 : decode cJ3_grow_2 26 = .ok (.ishr, 1) := dk_122 (dk_at dksJ3_grow_2_1 2 rfl rfl)
theorem dJ3_grow_2_27 : decode cJ3_grow_2 27 = .ok (.invokestatic 73, 3) := dk_184 0 73 (dk_at dksJ3_grow_2_1 3 rfl rfl)
theorem dJ3_grow_2_30 : decode cJ3_grow_2 30 = .ok (.istore_n 3, 1) := dk_62 (dk_at dksJ3_grow_2_1 6 rfl rfl)
theorem dJ3_grow_2_31 : decode cJ3_grow_2 31 = .ok (.aload_n 0, 1) := dk_42 (dk_at dksJ3_grow_2_1 7 rfl rfl)
theorem dJ3_grow_2_32 : decode cJ3_grow_2 32 = .ok (.aload_n 0, 1) := dk_42 (dk_at dksJ3_grow_2_1 8 rfl rfl)
theorem dJ3_grow_2_33 : decode cJ3_grow_2 33 = .ok (.getfield 9, 3) := dk_180 0 9 (dk_at dksJ3_grow_2_1 9 rfl rfl)
theorem dJ3_grow_2_36 : decode cJ3_grow_2 36 = .ok (.iload_n 3, 1) := dk_29 (dk_at dksJ3_grow_2_1 12 rfl rfl)
theorem dJ3_grow_2_37 : decode cJ3_grow_2 37 = .ok (.invokestatic 66, 3) := dk_184 0 66 (dk_at dksJ3_grow_2_1 13 rfl rfl)
theorem dJ3_grow_2_40 : decode cJ3_grow_2 40 = .ok (.dup_x1, 1) := dk_90 (dk_at dksJ3_grow_2_1 16 rfl rfl)
theorem dJ3_grow_2_41 : decode cJ3_grow_2 41 = .ok (.putfield 9, 3) := dk_181 0 9 (dk_at dksJ3_grow_2_1 17 rfl rfl)
theorem dJ3_grow_2_44 : decode cJ3_grow_2 44 = .ok (.areturn, 1) := dk_176 (dk_at dksJ3_grow_2_1 20 rfl rfl)
theorem dJ3_grow_2_45 : decode cJ3_grow_2 45 = .ok (.aload_n 0, 1) := dk_42 (dk_at dksJ3_grow_2_1 21 rfl rfl)
theorem dJ3_grow_2_46 : decode cJ3_grow_2 46 = .ok (.bipush 10, 2) := dk_16 10 (dk_at dksJ3_grow_2_1 22 rfl rfl)
theorem dJ3_grow_2_48 : decode cJ3_grow_2 48 = .ok (.iload_n 1, 1) := dk_27 (dk_at dksJ3_grow_2_2 0 rfl rfl)
theorem dJ3_grow_2_49 : decode cJ3_grow_2 49 = .ok (.invokestatic 79, 3) := dk_184 0 79 (dk_at dksJ3_grow_2_2 1 rfl rfl)
theorem dJ3_grow_2_52 : decode cJ3_grow_2 52 = .ok (.anewarray 7, 3) := dk_189 0 7 (dk_at dksJ3_grow_2_2 4 rfl rfl)
theorem dJ3_grow_2_55 : decode cJ3_grow_2 55 = .ok (.dup_x1, 1) := dk_90 (dk_at dksJ3_grow_2_2 7 rfl rfl)
theorem dJ3_grow_2_56 : decode cJ3_grow_2 56 = .ok (.putfield 9, 3) := dk_181 0 9 (dk_at dksJ3_grow_2_2 8 rfl rfl)
theorem dJ3_grow_2_59 : decode cJ3_grow_2 59 = .ok (.areturn, 1) := dk_176 (dk_at dksJ3_grow_2_2 11 rfl rfl)
theorem dJ3_size_0 : decode cJ3_size 0 = .ok (.aload_n 0, 1) := by decide +kernel
theorem dJ3_size_1 : decode cJ3_size 1 = .ok (.getfield 48, 3) := by decide +kernel
theorem dJ3_size_4 : decode cJ3_size 4 = .ok (.ireturn, 1) := by decide +kernel
def dkwJ3_get_0 : List UInt8 := [27, 42, 180, 0, 48, 184, 0, 118, 87, 42, 27, 182, 0, 123, 176]
abbrev dktJ3_get_0 : List UInt8 := dkwJ3_get_0 ++ []
theorem dksJ3_get_0 : cJ3_get.data.toList.drop 0 = dktJ3_get_0 := by decide +kernel
theorem dJ3_get_0 : decode cJ3_get 0 = .ok (.iload_n 1, 1) := dk_27 (dk_at dksJ3_get_0 0 rfl rfl)
theorem dJ3_get_1 : decode cJ3_get 1 = .ok (.aload_n 0, 1) := dk_42 (dk_at dksJ3_get_0 1 rfl rfl)
theorem dJ3_get_2 : decode cJ3_get 2 = .ok (.getfield 48, 3) := dk_180 0 48 (dk_at dksJ3_get_0 2 rfl rfl)
theorem dJ3_get_5 : decode cJ3_get 5 = .ok (.invokestatic 118, 3) := dk_184 0 118 (dk_at dksJ3_get_0 5 rfl rfl)
theorem dJ3_get_8 : decode cJ3_get 8 = .ok (.pop, 1) := dk_87 (dk_at dksJ3_get_0 8 rfl rfl)
theorem dJ3_get_9 : decode cJ3_get 9 = .ok (.aload_n 0, 1) := dk_42 (dk_at dksJ3_get_0 9 rfl rfl)
theorem dJ3_get_10 : decode cJ3_get 10 = .ok (.iload_n 1, 1) := dk_27 (dk_at dksJ3_get_0 10 rfl rfl)
theorem dJ3_get_11 : decode cJ3_get 11 = .ok (.invokevirtual 123, 3) := dk_182 0 123 (dk_at dksJ3_get_0 11 rfl rfl)
theorem dJ3_get_14 : decode cJ3_get 14 = .ok (.areturn, 1) := dk_176 (dk_at dksJ3_get_0 14 rfl rfl)
def dkwJ3_elementData_0 : List UInt8 := [42, 180, 0, 9, 27, 50, 176]
abbrev dktJ3_elementData_0 : List UInt8 := dkwJ3_elementData_0 ++ []
theorem dksJ3_elementData_0 : cJ3_elementData.data.toList.drop 0 = dktJ3_elementData_0 := by decide +kernel
theorem dJ3_elementData_0 : decode cJ3_elementData 0 = .ok (.aload_n 0, 1) := dk_42 (dk_at dksJ3_elementData_0 0 rfl rfl)
theorem dJ3_elementData_1 : decode cJ3_elementData 1 = .ok (.getfield 9, 3) := dk_180 0 9 (dk_at dksJ3_elementData_0 1 rfl rfl)
theorem dJ3_elementData_4 : decode cJ3_elementData 4 = .ok (.iload_n 1, 1) := dk_27 (dk_at dksJ3_elementData_0 4 rfl rfl)
theorem dJ3_elementData_5 : decode cJ3_elementData 5 = .ok (.aaload, 1) := dk_50 (dk_at dksJ3_elementData_0 5 rfl rfl)
theorem dJ3_elementData_6 : decode cJ3_elementData 6 = .ok (.areturn, 1) := dk_176 (dk_at dksJ3_elementData_0 6 rfl rfl)
def dkwJ3_listIterator_0 : List UInt8 := [42, 27, 182, 0, 135, 187, 1, 6, 89, 42, 27, 183, 1, 8, 176]
abbrev dktJ3_listIterator_0 : List UInt8 := dkwJ3_listIterator_0 ++ []
theorem dksJ3_listIterator_0 : cJ3_listIterator.data.toList.drop 0 = dktJ3_listIterator_0 := by decide +kernel
theorem dJ3_listIterator_0 : decode cJ3_listIterator 0 = .ok (.aload_n 0, 1) := dk_42 (dk_at dksJ3_listIterator_0 0 rfl rfl)
theorem dJ3_listIterator_1 : decode cJ3_listIterator 1 = .ok (.iload_n 1, 1) := dk_27 (dk_at dksJ3_listIterator_0 1 rfl rfl)
theorem dJ3_listIterator_2 : decode cJ3_listIterator 2 = .ok (.invokevirtual 135, 3) := dk_182 0 135 (dk_at dksJ3_listIterator_0 2 rfl rfl)
theorem dJ3_listIterator_5 : decode cJ3_listIterator 5 = .ok (.new 262, 3) := dk_187 1 6 (dk_at dksJ3_listIterator_0 5 rfl rfl)
theorem dJ3_listIterator_8 : decode cJ3_listIterator 8 = .ok (.dup, 1) := dk_89 (dk_at dksJ3_listIterator_0 8 rfl rfl)
theorem dJ3_listIterator_9 : decode cJ3_listIterator 9 = .ok (.aload_n 0, 1) := dk_42 (dk_at dksJ3_listIterator_0 9 rfl rfl)
theorem dJ3_listIterator_10 : decode cJ3_listIterator 10 = .ok (.iload_n 1, 1) := dk_27 (dk_at dksJ3_listIterator_0 10 rfl rfl)
theorem dJ3_listIterator_11 : decode cJ3_listIterator 11 = .ok (.invokespecial 264, 3) := dk_183 1 8 (dk_at dksJ3_listIterator_0 11 rfl rfl)
theorem dJ3_listIterator_14 : decode cJ3_listIterator 14 = .ok (.areturn, 1) := dk_176 (dk_at dksJ3_listIterator_0 14 rfl rfl)
def dkwJ3_rangeCheckForAdd_1 : List UInt8 := [191, 177]
abbrev dktJ3_rangeCheckForAdd_1 : List UInt8 := dkwJ3_rangeCheckForAdd_1 ++ []
def dkwJ3_rangeCheckForAdd_0 : List UInt8 := [27, 42, 180, 0, 48, 163, 0, 7, 27, 156, 0, 16, 187, 0, 187, 89, 42, 27, 182, 0, 198, 183, 0, 193]
abbrev dktJ3_rangeCheckForAdd_0 : List UInt8 := dkwJ3_rangeCheckForAdd_0 ++ dktJ3_rangeCheckForAdd_1
theorem dksJ3_rangeCheckForAdd_0 : cJ3_rangeCheckForAdd.data.toList.drop 0 = dktJ3_rangeCheckForAdd_0 := by decide +kernel
theorem dksJ3_rangeCheckForAdd_1 : cJ3_rangeCheckForAdd.data.toList.drop 24 = dktJ3_rangeCheckForAdd_1 := dk_seg dksJ3_rangeCheckForAdd_0 24 rfl rfl
theorem dJ3_rangeCheckForAdd_0 : decode cJ3_rangeCheckForAdd 0 = .ok (.iload_n 1, 1) := dk_27 (dk_at dksJ3_rangeCheckForAdd_0 0 rfl rfl)
theorem dJ3_rangeCheckForAdd_1 : decode cJ3_rangeCheckForAdd 1 = .ok (.aload_n 0, 1) := dk_42 (dk_at dksJ3_rangeCheckForAdd_0 1 rfl rfl)
theorem dJ3_rangeCheckForAdd_2 : decode cJ3_rangeCheckForAdd 2 = .ok (.getfield 48, 3) := dk_180 0 48 (dk_at dksJ3_rangeCheckForAdd_0 2 rfl rfl)
theorem dJ3_rangeCheckForAdd_5 : decode cJ3_rangeCheckForAdd 5 = .ok (.if_icmp .gt 7, 3) := dk_163 0 7 (dk_at dksJ3_rangeCheckForAdd_0 5 rfl rfl)
theorem dJ3_rangeCheckForAdd_8 : decode cJ3_rangeCheckForAdd 8 = .ok (.iload_n 1, 1) := dk_27 (dk_at dksJ3_rangeCheckForAdd_0 8 rfl rfl)
theorem dJ3_rangeCheckForAdd_9 : decode cJ3_rangeCheckForAdd 9 = .ok (.ifCond .ge 16, 3) := dk_156 0 16 (dk_at dksJ3_rangeCheckForAdd_0 9 rfl rfl)
theorem dJ3_rangeCheckForAdd_12 : decode cJ3_rangeCheckForAdd 12 = .ok (.new 187, 3) := dk_187 0 187 (dk_at dksJ3_rangeCheckForAdd_0 12 rfl rfl)
theorem dJ3_rangeCheckForAdd_15 : decode cJ3_rangeCheckForAdd 15 = .ok (.dup, 1) := dk_89 (dk_at dksJ3_rangeCheckForAdd_0 15 rfl rfl)
theorem dJ3_rangeCheckForAdd_16 : decode cJ3_rangeCheckForAdd 16 = .ok (.aload_n 0, 1) := dk_42 (dk_at dksJ3_rangeCheckForAdd_0 16 rfl rfl)
theorem dJ3_rangeCheckForAdd_17 : decode cJ3_rangeCheckForAdd 17 = .ok (.iload_n 1, 1) := dk_27 (dk_at dksJ3_rangeCheckForAdd_0 17 rfl rfl)
theorem dJ3_rangeCheckForAdd_18 : decode cJ3_rangeCheckForAdd 18 = .ok (.invokevirtual 198, 3) := dk_182 0 198 (dk_at dksJ3_rangeCheckForAdd_0 18 rfl rfl)
theorem dJ3_rangeCheckForAdd_21 : decode cJ3_rangeCheckForAdd 21 = .ok (.invokespecial 193, 3) := dk_183 0 193 (dk_at dksJ3_rangeCheckForAdd_0 21 rfl rfl)
theorem dJ3_rangeCheckForAdd_24 : decode cJ3_rangeCheckForAdd 24 = .ok (.athrow, 1) := dk_191 (dk_at dksJ3_rangeCheckForAdd_1 0 rfl rfl)
theorem dJ3_rangeCheckForAdd_25 : decode cJ3_rangeCheckForAdd 25 = .ok (.return_, 1) := dk_177 (dk_at dksJ3_rangeCheckForAdd_1 1 rfl rfl)
def dkwJ3_set_0 : List UInt8 := [27, 42, 180, 0, 48, 184, 0, 118, 87, 42, 27, 182, 0, 123, 78, 42, 180, 0, 9, 27, 44, 83, 45, 176]
abbrev dktJ3_set_0 : List UInt8 := dkwJ3_set_0 ++ []
theorem dksJ3_set_0 : cJ3_set.data.toList.drop 0 = dktJ3_set_0 := by decide +kernel
theorem dJ3_set_0 : decode cJ3_set 0 = .ok (.iload_n 1, 1) := dk_27 (dk_at dksJ3_set_0 0 rfl rfl)
theorem dJ3_set_1 : decode cJ3_set 1 = .ok (.aload_n 0, 1) := dk_42 (dk_at dksJ3_set_0 1 rfl rfl)
theorem dJ3_set_2 : decode cJ3_set 2 = .ok (.getfield 48, 3) := dk_180 0 48 (dk_at dksJ3_set_0 2 rfl rfl)
theorem dJ3_set_5 : decode cJ3_set 5 = .ok (.invokestatic 118, 3) := dk_184 0 118 (dk_at dksJ3_set_0 5 rfl rfl)
theorem dJ3_set_8 : decode cJ3_set 8 = .ok (.pop, 1) := dk_87 (dk_at dksJ3_set_0 8 rfl rfl)
theorem dJ3_set_9 : decode cJ3_set 9 = .ok (.aload_n 0, 1) := dk_42 (dk_at dksJ3_set_0 9 rfl rfl)
theorem dJ3_set_10 : decode cJ3_set 10 = .ok (.iload_n 1, 1) := dk_27 (dk_at dksJ3_set_0 10 rfl rfl)
theorem dJ3_set_11 : decode cJ3_set 11 = .ok (.invokevirtual 123, 3) := dk_182 0 123 (dk_at dksJ3_set_0 11 rfl rfl)
theorem dJ3_set_14 : decode cJ3_set 14 = .ok (.astore_n 3, 1) := dk_78 (dk_at dksJ3_set_0 14 rfl rfl)
theorem dJ3_set_15 : decode cJ3_set 15 = .ok (.aload_n 0, 1) := dk_42 (dk_at dksJ3_set_0 15 rfl rfl)
theorem dJ3_set_16 : decode cJ3_set 16 = .ok (.getfield 9, 3) := dk_180 0 9 (dk_at dksJ3_set_0 16 rfl rfl)
theorem dJ3_set_19 : decode cJ3_set 19 = .ok (.iload_n 1, 1) := dk_27 (dk_at dksJ3_set_0 19 rfl rfl)
theorem dJ3_set_20 : decode cJ3_set 20 = .ok (.aload_n 2, 1) := dk_44 (dk_at dksJ3_set_0 20 rfl rfl)
theorem dJ3_set_21 : decode cJ3_set 21 = .ok (.aastore, 1) := dk_83 (dk_at dksJ3_set_0 21 rfl rfl)
theorem dJ3_set_22 : decode cJ3_set 22 = .ok (.aload_n 3, 1) := dk_45 (dk_at dksJ3_set_0 22 rfl rfl)
theorem dJ3_set_23 : decode cJ3_set 23 = .ok (.areturn, 1) := dk_176 (dk_at dksJ3_set_0 23 rfl rfl)
def dkwJ3_indexOf_0 : List UInt8 := [42, 43, 3, 42, 180, 0, 48, 182, 0, 89, 172]
abbrev dktJ3_indexOf_0 : List UInt8 := dkwJ3_indexOf_0 ++ []
theorem dksJ3_indexOf_0 : cJ3_indexOf.data.toList.drop 0 = dktJ3_indexOf_0 := by decide +kernel
theorem dJ3_indexOf_0 : decode cJ3_indexOf 0 = .ok (.aload_n 0, 1) := dk_42 (dk_at dksJ3_indexOf_0 0 rfl rfl)
theorem dJ3_indexOf_1 : decode cJ3_indexOf 1 = .ok (.aload_n 1, 1) := dk_43 (dk_at dksJ3_indexOf_0 1 rfl rfl)
theorem dJ3_indexOf_2 : decode cJ3_indexOf 2 = .ok (.iconst 0, 1) := dk_3 (dk_at dksJ3_indexOf_0 2 rfl rfl)
theorem dJ3_indexOf_3 : decode cJ3_indexOf 3 = .ok (.aload_n 0, 1) := dk_42 (dk_at dksJ3_indexOf_0 3 rfl rfl)
theorem dJ3_indexOf_4 : decode cJ3_indexOf 4 = .ok (.getfield 48, 3) := dk_180 0 48 (dk_at dksJ3_indexOf_0 4 rfl rfl)
theorem dJ3_indexOf_7 : decode cJ3_indexOf 7 = .ok (.invokevirtual 89, 3) := dk_182 0 89 (dk_at dksJ3_indexOf_0 7 rfl rfl)
theorem dJ3_indexOf_10 : decode cJ3_indexOf 10 = .ok (.ireturn, 1) := dk_172 (dk_at dksJ3_indexOf_0 10 rfl rfl)
def dkwJ3_indexOfRange_2 : List UInt8 := [43, 25, 4, 21, 5, 50, 182, 0, 93, 153, 0, 6, 21, 5, 172, 132, 5, 1, 167, 255, 232, 2, 172]
abbrev dktJ3_indexOfRange_2 : List UInt8 := dkwJ3_indexOfRange_2 ++ []
def dkwJ3_indexOfRange_1 : List UInt8 := [199, 0, 6, 21, 5, 172, 132, 5, 1, 167, 255, 236, 167, 0, 33, 28, 54, 5, 21, 5, 29, 162, 0, 24]
abbrev dktJ3_indexOfRange_1 : List UInt8 := dkwJ3_indexOfRange_1 ++ dktJ3_indexOfRange_2
def dkwJ3_indexOfRange_0 : List UInt8 := [42, 180, 0, 9, 58, 4, 43, 199, 0, 32, 28, 54, 5, 21, 5, 29, 162, 0, 20, 25, 4, 21, 5, 50]
abbrev dktJ3_indexOfRange_0 : List UInt8 := dkwJ3_indexOfRange_0 ++ dktJ3_indexOfRange_1
theorem dksJ3_indexOfRange_0 : cJ3_indexOfRange.data.toList.drop 0 = dktJ3_indexOfRange_0 := by decide +kernel
theorem dksJ3_indexOfRange_1 : cJ3_indexOfRange.data.toList.drop 24 = dktJ3_indexOfRange_1 := dk_seg dksJ3_indexOfRange_0 24 rfl rfl
theorem dksJ3_indexOfRange_2 : cJ3_indexOfRange.data.toList.drop 48 = dktJ3_indexOfRange_2 := dk_seg dksJ3_indexOfRange_1 24 rfl rfl
theorem dJ3_indexOfRange_0 : decode cJ3_indexOfRange 0 = .ok (.aload_n 0, 1) := dk_42 (dk_at dksJ3_indexOfRange_0 0 rfl rfl)
theorem dJ3_indexOfRange_1 : decode cJ3_indexOfRange 1 = .ok (.getfield 9, 3) := dk_180 0 9 (dk_at dksJ3_indexOfRange_0 1 rfl rfl)
theorem dJ3_indexOfRange_4 : decode cJ3_indexOfRange 4 = .ok (.astore 4, 2) := dk_58 4 (dk_at dksJ3_indexOfRange_0 4 rfl rfl)
theorem dJ3_indexOfRange_6 : decode cJ3_indexOfRange 6 = .ok (.aload_n 1, 1) := dk_43 (dk_at dksJ3_indexOfRange_0 6 rfl rfl)
theorem dJ3_indexOfRange_7 : decode cJ3_indexOfRange 7 = .ok (.ifnonnull 32, 3) := dk_199 0 32 (dk_at dksJ3_indexOfRange_0 7 rfl rfl)
theorem dJ3_indexOfRange_10 : decode cJ3_indexOfRange 10 = .ok (.iload_n 2, 1) := dk_28 (dk_at dksJ3_indexOfRange_0 10 rfl rfl)
theorem dJ3_indexOfRange_11 : decode cJ3_indexOfRange 11 = .ok (.istore 5, 2) := dk_54 5 (dk_at dksJ3_indexOfRange_0 11 rfl rfl)
theorem dJ3_indexOfRange_13 : decode cJ3_indexOfRange 13 = .ok (.iload 5, 2) := dk_21 5 (dk_at dksJ3_indexOfRange_0 13 rfl rfl)
theorem dJ3_indexOfRange_15 : decode cJ3_indexOfRange 15 = .ok (.iload_n 3, 1) := dk_29 (dk_at dksJ3_indexOfRange_0 15 rfl rfl)
theorem dJ3_indexOfRange_16 : decode cJ3_indexOfRange 16 = .ok (.if_icmp .ge 20, 3) := dk_162 0 20 (dk_at dksJ3_indexOfRange_0 16 rfl rfl)
theorem dJ3_indexOfRange_19 : decode cJ3_indexOfRange 19 = .ok (.aload 4, 2) := dk_25 4 (dk_at dksJ3_indexOfRange_0 19 rfl rfl)
theorem dJ3_indexOfRange_21 : decode cJ3_indexOfRange 21 = .ok (.iload 5, 2) := dk_21 5 (dk_at dksJ3_indexOfRange_0 21 rfl rfl)
theorem dJ3_indexOfRange_23 : decode cJ3_indexOfRange 23 = .ok (.aaload, 1) := dk_50 (dk_at dksJ3_indexOfRange_0 23 rfl rfl)
theorem dJ3_indexOfRange_24 : decode cJ3_indexOfRange 24 = .ok (.ifnonnull 6, 3) := dk_199 0 6 (dk_at dksJ3_indexOfRange_1 0 rfl rfl)
theorem dJ3_indexOfRange_27 : decode cJ3_indexOfRange 27 = .ok (.iload 5, 2) := dk_21 5 (dk_at dksJ3_indexOfRange_1 3 rfl rfl)
theorem dJ3_indexOfRange_29 : decode cJ3_indexOfRange 29 = .ok (.ireturn, 1) := dk_172 (dk_at dksJ3_indexOfRange_1 5 rfl rfl)
theorem dJ3_indexOfRange_30 : decode cJ3_indexOfRange 30 = .ok (.iinc 5 1, 3) := dk_132 5 1 (dk_at dksJ3_indexOfRange_1 6 rfl rfl)
theorem dJ3_indexOfRange_33 : decode cJ3_indexOfRange 33 = .ok (.goto (-20), 3) := dk_167 255 236 (dk_at dksJ3_indexOfRange_1 9 rfl rfl)
theorem dJ3_indexOfRange_36 : decode cJ3_indexOfRange 36 = .ok (.goto 33, 3) := dk_167 0 33 (dk_at dksJ3_indexOfRange_1 12 rfl rfl)
theorem dJ3_indexOfRange_39 : decode cJ3_indexOfRange 39 = .ok (.iload_n 2, 1) := dk_28 (dk_at dksJ3_indexOfRange_1 15 rfl rfl)
theorem dJ3_indexOfRange_40 : decode cJ3_indexOfRange 40 = .ok (.istore 5, 2) := dk_54 5 (dk_at dksJ3_indexOfRange_1 16 rfl rfl)
theorem dJ3_indexOfRange_42 : decode cJ3_indexOfRange 42 = .ok (.iload 5, 2) := dk_21 5 (dk_at dksJ3_indexOfRange_1 18 rfl rfl)
theorem dJ3_indexOfRange_44 : decode cJ3_indexOfRange 44 = .ok (.iload_n 3, 1) := dk_29 (dk_at dksJ3_indexOfRange_1 20 rfl rfl)
theorem dJ3_indexOfRange_45 : decode cJ3_indexOfRange 45 = .ok (.if_icmp .ge 24, 3) := dk_162 0 24 (dk_at dksJ3_indexOfRange_1 21 rfl rfl)
theorem dJ3_indexOfRange_48 : decode cJ3_indexOfRange 48 = .ok (.aload_n 1, 1) := dk_43 (dk_at dksJ3_indexOfRange_2 0 rfl rfl)
theorem dJ3_indexOfRange_49 : decode cJ3_indexOfRange 49 = .ok (.aload 4, 2) := dk_25 4 (dk_at dksJ3_indexOfRange_2 1 rfl rfl)
theorem dJ3_indexOfRange_51 : decode cJ3_indexOfRange 51 = .ok (.iload 5, 2) := dk_21 5 (dk_at dksJ3_indexOfRange_2 3 rfl rfl)
theorem dJ3_indexOfRange_53 : decode cJ3_indexOfRange 53 = .ok (.aaload, 1) := dk_50 (dk_at dksJ3_indexOfRange_2 5 rfl rfl)
theorem dJ3_indexOfRange_54 : decode cJ3_indexOfRange 54 = .ok (.invokevirtual 93, 3) := dk_182 0 93 (dk_at dksJ3_indexOfRange_2 6 rfl rfl)
theorem dJ3_indexOfRange_57 : decode cJ3_indexOfRange 57 = .ok (.ifCond .eq 6, 3) := dk_153 0 6 (dk_at dksJ3_indexOfRange_2 9 rfl rfl)
theorem dJ3_indexOfRange_60 : decode cJ3_indexOfRange 60 = .ok (.iload 5, 2) := dk_21 5 (dk_at dksJ3_indexOfRange_2 12 rfl rfl)
theorem dJ3_indexOfRange_62 : decode cJ3_indexOfRange 62 = .ok (.ireturn, 1) := dk_172 (dk_at dksJ3_indexOfRange_2 14 rfl rfl)
theorem dJ3_indexOfRange_63 : decode cJ3_indexOfRange 63 = .ok (.iinc 5 1, 3) := dk_132 5 1 (dk_at dksJ3_indexOfRange_2 15 rfl rfl)
theorem dJ3_indexOfRange_66 : decode cJ3_indexOfRange 66 = .ok (.goto (-24), 3) := dk_167 255 232 (dk_at dksJ3_indexOfRange_2 18 rfl rfl)
theorem dJ3_indexOfRange_69 : decode cJ3_indexOfRange 69 = .ok (.iconst (-1), 1) := dk_2 (dk_at dksJ3_indexOfRange_2 21 rfl rfl)
theorem dJ3_indexOfRange_70 : decode cJ3_indexOfRange 70 = .ok (.ireturn, 1) := dk_172 (dk_at dksJ3_indexOfRange_2 22 rfl rfl)
theorem dJ4_init_0 : decode cJ4_init 0 = .ok (.aload_n 0, 1) := by decide +kernel
theorem dJ4_init_1 : decode cJ4_init 1 = .ok (.invokespecial 1, 3) := by decide +kernel
theorem dJ4_init_4 : decode cJ4_init 4 = .ok (.return_, 1) := by decide +kernel
theorem dJ4_iterator_0 : decode cJ4_iterator 0 = .ok (.aload_n 0, 1) := by decide +kernel
theorem dJ4_iterator_1 : decode cJ4_iterator 1 = .ok (.invokevirtual 65, 3) := by decide +kernel
theorem dJ4_iterator_4 : decode cJ4_iterator 4 = .ok (.areturn, 1) := by decide +kernel
def dkwJ5_init_0 : List UInt8 := [42, 183, 0, 1, 42, 3, 181, 0, 7, 177]
abbrev dktJ5_init_0 : List UInt8 := dkwJ5_init_0 ++ []
theorem dksJ5_init_0 : cJ5_init.data.toList.drop 0 = dktJ5_init_0 := by decide +kernel
theorem dJ5_init_0 : decode cJ5_init 0 = .ok (.aload_n 0, 1) := dk_42 (dk_at dksJ5_init_0 0 rfl rfl)
theorem dJ5_init_1 : decode cJ5_init 1 = .ok (.invokespecial 1, 3) := dk_183 0 1 (dk_at dksJ5_init_0 1 rfl rfl)
theorem dJ5_init_4 : decode cJ5_init 4 = .ok (.aload_n 0, 1) := dk_42 (dk_at dksJ5_init_0 4 rfl rfl)
theorem dJ5_init_5 : decode cJ5_init 5 = .ok (.iconst 0, 1) := dk_3 (dk_at dksJ5_init_0 5 rfl rfl)
theorem dJ5_init_6 : decode cJ5_init 6 = .ok (.putfield 7, 3) := dk_181 0 7 (dk_at dksJ5_init_0 6 rfl rfl)
theorem dJ5_init_9 : decode cJ5_init 9 = .ok (.return_, 1) := dk_177 (dk_at dksJ5_init_0 9 rfl rfl)
def dkwJ5_listIterator_0 : List UInt8 := [42, 27, 182, 0, 76, 187, 0, 150, 89, 42, 27, 183, 0, 152, 176]
abbrev dktJ5_listIterator_0 : List UInt8 := dkwJ5_listIterator_0 ++ []
theorem dksJ5_listIterator_0 : cJ5_listIterator.data.toList.drop 0 = dktJ5_listIterator_0 := by decide +kernel
theorem dJ5_listIterator_0 : decode cJ5_listIterator 0 = .ok (.aload_n 0, 1) := dk_42 (dk_at dksJ5_listIterator_0 0 rfl rfl)
theorem dJ5_listIterator_1 : decode cJ5_listIterator 1 = .ok (.iload_n 1, 1) := dk_27 (dk_at dksJ5_listIterator_0 1 rfl rfl)
theorem dJ5_listIterator_2 : decode cJ5_listIterator 2 = .ok (.invokevirtual 76, 3) := dk_182 0 76 (dk_at dksJ5_listIterator_0 2 rfl rfl)
theorem dJ5_listIterator_5 : decode cJ5_listIterator 5 = .ok (.new 150, 3) := dk_187 0 150 (dk_at dksJ5_listIterator_0 5 rfl rfl)
theorem dJ5_listIterator_8 : decode cJ5_listIterator 8 = .ok (.dup, 1) := dk_89 (dk_at dksJ5_listIterator_0 8 rfl rfl)
theorem dJ5_listIterator_9 : decode cJ5_listIterator 9 = .ok (.aload_n 0, 1) := dk_42 (dk_at dksJ5_listIterator_0 9 rfl rfl)
theorem dJ5_listIterator_10 : decode cJ5_listIterator 10 = .ok (.iload_n 1, 1) := dk_27 (dk_at dksJ5_listIterator_0 10 rfl rfl)
theorem dJ5_listIterator_11 : decode cJ5_listIterator 11 = .ok (.invokespecial 152, 3) := dk_183 0 152 (dk_at dksJ5_listIterator_0 11 rfl rfl)
theorem dJ5_listIterator_14 : decode cJ5_listIterator 14 = .ok (.areturn, 1) := dk_176 (dk_at dksJ5_listIterator_0 14 rfl rfl)
def dkwJ5_checkPositionIndex_0 : List UInt8 := [42, 27, 182, 0, 128, 154, 0, 16, 187, 0, 119, 89, 42, 27, 182, 0, 121, 183, 0, 125, 191, 177]
abbrev dktJ5_checkPositionIndex_0 : List UInt8 := dkwJ5_checkPositionIndex_0 ++ []
theorem dksJ5_checkPositionIndex_0 : cJ5_checkPositionIndex.data.toList.drop 0 = dktJ5_checkPositionIndex_0 := by decide +kernel
theorem dJ5_checkPositionIndex_0 : decode cJ5_checkPositionIndex 0 = .ok (.aload_n 0, 1) := dk_42 (dk_at dksJ5_checkPositionIndex_0 0 rfl rfl)
theorem dJ5_checkPositionIndex_1 : decode cJ5_checkPositionIndex 1 = .ok (.iload_n 1, 1) := dk_27 (dk_at dksJ5_checkPositionIndex_0 1 rfl rfl)
theorem dJ5_checkPositionIndex_2 : decode cJ5_checkPositionIndex 2 = .ok (.invokevirtual 128, 3) := dk_182 0 128 (dk_at dksJ5_checkPositionIndex_0 2 rfl rfl)
theorem dJ5_checkPositionIndex_5 : decode cJ5_checkPositionIndex 5 = .ok (.ifCond .ne 16, 3) := dk_154 0 16 (dk_at dksJ5_checkPositionIndex_0 5 rfl rfl)
theorem dJ5_checkPositionIndex_8 : decode cJ5_checkPositionIndex 8 = .ok (.new 119, 3) := dk_187 0 119 (dk_at dksJ5_checkPositionIndex_0 8 rfl rfl)
theorem dJ5_checkPositionIndex_11 : decode cJ5_checkPositionIndex 11 = .ok (.dup, 1) := dk_89 (dk_at dksJ5_checkPositionIndex_0 11 rfl rfl)
theorem dJ5_checkPositionIndex_12 : decode cJ5_checkPositionIndex 12 = .ok (.aload_n 0, 1) := dk_42 (dk_at dksJ5_checkPositionIndex_0 12 rfl rfl)
theorem dJ5_checkPositionIndex_13 : decode cJ5_checkPositionIndex 13 = .ok (.iload_n 1, 1) := dk_27 (dk_at dksJ5_checkPositionIndex_0 13 rfl rfl)
theorem dJ5_checkPositionIndex_14 : decode cJ5_checkPositionIndex 14 = .ok (.invokevirtual 121, 3) := dk_182 0 121 (dk_at dksJ5_checkPositionIndex_0 14 rfl rfl)
theorem dJ5_checkPositionIndex_17 : decode cJ5_checkPositionIndex 17 = .ok (.invokespecial 125, 3) := dk_183 0 125 (dk_at dksJ5_checkPositionIndex_0 17 rfl rfl)
theorem dJ5_checkPositionIndex_20 : decode cJ5_checkPositionIndex 20 = .ok (.athrow, 1) := dk_191 (dk_at dksJ5_checkPositionIndex_0 20 rfl rfl)
theorem dJ5_checkPositionIndex_21 : decode cJ5_checkPositionIndex 21 = .ok (.return_, 1) := dk_177 (dk_at dksJ5_checkPositionIndex_0 21 rfl rfl)
def dkwJ5_isPositionIndex_0 : List UInt8 := [27, 155, 0, 15, 27, 42, 180, 0, 7, 163, 0, 7, 4, 167, 0, 4, 3, 172]
abbrev dktJ5_isPositionIndex_0 : List UInt8 := dkwJ5_isPositionIndex_0 ++ []
theorem dksJ5_isPositionIndex_0 : cJ5_isPositionIndex.data.toList.drop 0 = dktJ5_isPositionIndex_0 := by decide +kernel
theorem dJ5_isPositionIndex_0 : decode cJ5_isPositionIndex 0 = .ok (.iload_n 1, 1) := dk_27 (dk_at dksJ5_isPositionIndex_0 0 rfl rfl)
theorem dJ5_isPositionIndex_1 : decode cJ5_isPositionIndex 1 = .ok (.ifCond .lt 15, 3) := dk_155 0 15 (dk_at dksJ5_isPositionIndex_0 1 rfl rfl)
theorem dJ5_isPositionIndex_4 : decode cJ5_isPositionIndex 4 = .ok (.iload_n 1, 1) := dk_27 (dk_at dksJ5_isPositionIndex_0 4 rfl rfl)
theorem dJ5_isPositionIndex_5 : decode cJ5_isPositionIndex 5 = .ok (.aload_n 0, 1) := dk_42 (dk_at dksJ5_isPositionIndex_0 5 rfl rfl)
theorem dJ5_isPositionIndex_6 : decode cJ5_isPositionIndex 6 = .ok (.getfield 7, 3) := dk_180 0 7 (dk_at dksJ5_isPositionIndex_0 6 rfl rfl)
theorem dJ5_isPositionIndex_9 : decode cJ5_isPositionIndex 9 = .ok (.if_icmp .gt 7, 3) := dk_163 0 7 (dk_at dksJ5_isPositionIndex_0 9 rfl rfl)
theorem dJ5_isPositionIndex_12 : decode cJ5_isPositionIndex 12 = .ok (.iconst 1, 1) := dk_4 (dk_at dksJ5_isPositionIndex_0 12 rfl rfl)
theorem dJ5_isPositionIndex_13 : decode cJ5_isPositionIndex 13 = .ok (.goto 4, 3) := dk_167 0 4 (dk_at dksJ5_isPositionIndex_0 13 rfl rfl)
theorem dJ5_isPositionIndex_16 : decode cJ5_isPositionIndex 16 = .ok (.iconst 0, 1) := dk_3 (dk_at dksJ5_isPositionIndex_0 16 rfl rfl)
theorem dJ5_isPositionIndex_17 : decode cJ5_isPositionIndex 17 = .ok (.ireturn, 1) := dk_172 (dk_at dksJ5_isPositionIndex_0 17 rfl rfl)
def dkwJ5_node_2 : List UInt8 := [29, 27, 164, 0, 14, 44, 180, 0, 30, 77, 132, 3, 255, 167, 255, 243, 44, 176]
abbrev dktJ5_node_2 : List UInt8 := dkwJ5_node_2 ++ []
def dkwJ5_node_1 : List UInt8 := [180, 0, 36, 77, 132, 3, 1, 167, 255, 243, 44, 176, 42, 180, 0, 27, 77, 42, 180, 0, 7, 4, 100, 62]
abbrev dktJ5_node_1 : List UInt8 := dkwJ5_node_1 ++ dktJ5_node_2
def dkwJ5_node_0 : List UInt8 := [27, 42, 180, 0, 7, 4, 122, 162, 0, 28, 42, 180, 0, 18, 77, 3, 62, 29, 27, 162, 0, 14, 44]
abbrev dktJ5_node_0 : List UInt8 := dkwJ5_node_0 ++ dktJ5_node_1
theorem dksJ5_node_0 : cJ5_node.data.toList.drop 0 = dktJ5_node_0 := by decide +kernel
theorem dksJ5_node_1 : cJ5_node.data.toList.drop 23 = dktJ5_node_1 := dk_seg dksJ5_node_0 23 rfl rfl
theorem dksJ5_node_2 : cJ5_node.data.toList.drop 47 = dktJ5_node_2 := dk_seg dksJ5_node_1 24 rfl rfl
theorem dJ5_node_0 : decode cJ5_node 0 = .ok (.iload_n 1, 1) := dk_27 (dk_at dksJ5_node_0 0 rfl rfl)
theorem dJ5_node_1 : decode cJ5_node 1 = .ok (.aload_n 0, 1) := dk_42 (dk_at dksJ5_node_0 1 rfl rfl)
theorem dJ5_node_2 : decode cJ5_node 2 = .ok (.getfield 7, 3) := dk_180 0 7 (dk_at dksJ5_node_0 2 rfl rfl)
theorem dJ5_node_5 : decode cJ5_node 5 = .ok (.iconst 1, 1) := dk_4 (dk_at dksJ5_node_0 5 rfl rfl)
theorem dJ5_node_6 : decode cJ5_node 6 = .ok (.ishr, 1) := dk_122 (dk_at dksJ5_node_0 6 rfl rfl)
theorem dJ5_node_7 : decode cJ5_node 7 = .ok (.if_icmp .ge 28, 3) := dk_162 0 28 (dk_at dksJ5_node_0 7 rfl rfl)
theorem dJ5_node_10 : decode cJ5_node 10 = .ok (.aload_n 0, 1) := dk_42 (dk_at dksJ5_node_0 10 rfl rfl)
theorem dJ5_node_11 : decode cJ5_node 11 = .ok (.getfield 18, 3) := dk_180 0 18 (dk_at dksJ5_node_0 11 rfl rfl)
theorem dJ5_node_14 : decode cJ5_node 14 = .ok (.astore_n 2, 1) := dk_77 (dk_at dksJ5_node_0 14 rfl rfl)
theorem dJ5_node_15 : decode cJ5_node 15 = .ok (.iconst 0, 1) := dk_3 (dk_at dksJ5_node_0 15 rfl rfl)
theorem dJ5_node_16 : decode cJ5_node 16 = .ok (.istore_n 3, 1) := dk_62 (dk_at dksJ5_node_0 16 rfl rfl)
theorem dJ5_node_17 : decode cJ5_node 17 = .ok (.iload_n 3, 1) := dk_29 (dk_at dksJ5_node_0 17 rfl rfl)
theorem dJ5_node_18 : decode cJ5_node 18 = .ok (.iload_n 1, 1) := dk_27 (dk_at dksJ5_node_0 18 rfl rfl)
theorem dJ5_node_19 : decode cJ5_node 19 = .ok (.if_icmp .ge 14, 3) := dk_162 0 14 (dk_at dksJ5_node_0 19 rfl rfl)
theorem dJ5_node_22 : decode cJ5_node 22 = .ok (.aload_n 2, 1) := dk_44 (dk_at dksJ5_node_0 22 rfl rfl)
theorem dJ5_node_23 : decode cJ5_node 23 = .ok (.getfield 36, 3) := dk_180 0 36 (dk_at dksJ5_node_1 0 rfl rfl)
theorem dJ5_node_26 : decode cJ5_node 26 = .ok (.astore_n 2, 1) := dk_77 (dk_at dksJ5_node_1 3 rfl rfl)
theorem dJ5_node_27 : decode cJ5_node 27 = .ok (.iinc 3 1, 3) := dk_132 3 1 (dk_at dksJ5_node_1 4 rfl rfl)
theorem dJ5_node_30 : decode cJ5_node 30 = .ok (.goto (-13), 3) := dk_167 255 243 (dk_at dksJ5_node_1 7 rfl rfl)
theorem dJ5_node_33 : decode cJ5_node 33 = .ok (.aload_n 2, 1) := dk_44 (dk_at dksJ5_node_1 10 rfl rfl)
theorem dJ5_node_34 : decode cJ5_node 34 = .ok (.areturn, 1) := dk_176 (dk_at dksJ5_node_1 11 rfl rfl)
theorem dJ5_node_35 : decode cJ5_node 35 = .ok (.aload_n 0, 1) := dk_42 (dk_at dksJ5_node_1 12 rfl rfl)
theorem dJ5_node_36 : decode cJ5_node 36 = .ok (.getfield 27, 3) := dk_180 0 27 (dk_at dksJ5_node_1 13 rfl rfl)
theorem dJ5_node_39 : decode cJ5_node 39 = .ok (.astore_n 2, 1) := dk_77 (dk_at dksJ5_node_1 16 rfl rfl)
theorem dJ5_node_40 : decode cJ5_node 40 = .ok (.aload_n 0, 1) := dk_42 (dk_at dksJ5_node_1 17 rfl rfl)
theorem dJ5_node_41 : decode cJ5_node 41 = .ok (.getfield 7, 3) := dk_180 0 7 (dk_at dksJ5_node_1 18 rfl rfl)
theorem dJ5_node_44 : decode cJ5_node 44 = .ok (.iconst 1, 1) := dk_4 (dk_at dksJ5_node_1 21 rfl rfl)
theorem dJ5_node_45 : decode cJ5_node 45 = .ok (.isub, 1) := dk_100 (dk_at dksJ5_node_1 22 rfl rfl)
theorem dJ5_node_46 : decode cJ5_node 46 = .ok (.istore_n 3, 1) := dk_62 (dk_at dksJ5_node_1 23 rfl rfl)
theorem dJ5_node_47 : decode cJ5_node 47 = .ok (.iload_n 3, 1) := dk_29 (dk_at dksJ5_node_2 0 rfl rfl)
theorem dJ5_node_48 : decode cJ5_node 48 = .ok (.iload_n 1, 1) := dk_27 (dk_at dksJ5_node_2 1 rfl rfl)
theorem dJ5_node_49 : decode cJ5_node 49 = .ok (.if_icmp .le 14, 3) := dk_164 0 14 (dk_at dksJ5_node_2 2 rfl rfl)
theorem dJ5_node_52 : decode cJ5_node 52 = .ok (.aload_n 2, 1) := dk_44 (dk_at dksJ5_node_2 5 rfl rfl)
theorem dJ5_node_53 : decode cJ5_node 53 = .ok (.getfield 30, 3) := dk_180 0 30 (dk_at dksJ5_node_2 6 rfl rfl)
theorem dJ5_node_56 : decode cJ5_node 56 = .ok (.astore_n 2, 1) := dk_77 (dk_at dksJ5_node_2 9 rfl rfl)
theorem dJ5_node_57 : decode cJ5_node 57 = .ok (.iinc 3 (-1), 3) := dk_132 3 255 (dk_at dksJ5_node_2 10 rfl rfl)
theorem dJ5_node_60 : decode cJ5_node 60 = .ok (.goto (-13), 3) := dk_167 255 243 (dk_at dksJ5_node_2 13 rfl rfl)
theorem dJ5_node_63 : decode cJ5_node 63 = .ok (.aload_n 2, 1) := dk_44 (dk_at dksJ5_node_2 16 rfl rfl)
theorem dJ5_node_64 : decode cJ5_node 64 = .ok (.areturn, 1) := dk_176 (dk_at dksJ5_node_2 17 rfl rfl)
theorem dJ5_size_0 : decode cJ5_size 0 = .ok (.aload_n 0, 1) := by decide +kernel
theorem dJ5_size_1 : decode cJ5_size 1 = .ok (.getfield 7, 3) := by decide +kernel
theorem dJ5_size_4 : decode cJ5_size 4 = .ok (.ireturn, 1) := by decide +kernel
def dkwJ5_get_0 : List UInt8 := [42, 27, 182, 0, 90, 42, 27, 182, 0, 86, 180, 0, 39, 176]
abbrev dktJ5_get_0 : List UInt8 := dkwJ5_get_0 ++ []
theorem dksJ5_get_0 : cJ5_get.data.toList.drop 0 = dktJ5_get_0 := by decide +kernel
theorem dJ5_get_0 : decode cJ5_get 0 = .ok (.aload_n 0, 1) := dk_42 (dk_at dksJ5_get_0 0 rfl rfl)
theorem dJ5_get_1 : decode cJ5_get 1 = .ok (.iload_n 1, 1) := dk_27 (dk_at dksJ5_get_0 1 rfl rfl)
theorem dJ5_get_2 : decode cJ5_get 2 = .ok (.invokevirtual 90, 3) := dk_182 0 90 (dk_at dksJ5_get_0 2 rfl rfl)
theorem dJ5_get_5 : decode cJ5_get 5 = .ok (.aload_n 0, 1) := dk_42 (dk_at dksJ5_get_0 5 rfl rfl)
theorem dJ5_get_6 : decode cJ5_get 6 = .ok (.iload_n 1, 1) := dk_27 (dk_at dksJ5_get_0 6 rfl rfl)
theorem dJ5_get_7 : decode cJ5_get 7 = .ok (.invokevirtual 86, 3) := dk_182 0 86 (dk_at dksJ5_get_0 7 rfl rfl)
theorem dJ5_get_10 : decode cJ5_get 10 = .ok (.getfield 39, 3) := dk_180 0 39 (dk_at dksJ5_get_0 10 rfl rfl)
theorem dJ5_get_13 : decode cJ5_get 13 = .ok (.areturn, 1) := dk_176 (dk_at dksJ5_get_0 13 rfl rfl)
def dkwJ5_checkElementIndex_0 : List UInt8 := [42, 27, 182, 0, 115, 154, 0, 16, 187, 0, 119, 89, 42, 27, 182, 0, 121, 183, 0, 125, 191, 177]
abbrev dktJ5_checkElementIndex_0 : List UInt8 := dkwJ5_checkElementIndex_0 ++ []
theorem dksJ5_checkElementIndex_0 : cJ5_checkElementIndex.data.toList.drop 0 = dktJ5_checkElementIndex_0 := by decide +kernel
theorem dJ5_checkElementIndex_0 : decode cJ5_checkElementIndex 0 = .ok (.aload_n 0, 1) := dk_42 (dk_at dksJ5_checkElementIndex_0 0 rfl rfl)
theorem dJ5_checkElementIndex_1 : decode cJ5_checkElementIndex 1 = .ok (.iload_n 1, 1) := dk_27 (dk_at dksJ5_checkElementIndex_0 1 rfl rfl)
theorem dJ5_checkElementIndex_2 : decode cJ5_checkElementIndex 2 = .ok (.invokevirtual 115, 3) := dk_182 0 115 (dk_at dksJ5_checkElementIndex_0 2 rfl rfl)
theorem dJ5_checkElementIndex_5 : decode cJ5_checkElementIndex 5 = .ok (.ifCond .ne 16, 3) := dk_154 0 16 (dk_at dksJ5_checkElementIndex_0 5 rfl rfl)
theorem dJ5_checkElementIndex_8 : decode cJ5_checkElementIndex 8 = .ok (.new 119, 3) := dk_187 0 119 (dk_at dksJ5_checkElementIndex_0 8 rfl rfl)
theorem dJ5_checkElementIndex_11 : decode cJ5_checkElementIndex 11 = .ok (.dup, 1) := dk_89 (dk_at dksJ5_checkElementIndex_0 11 rfl rfl)
theorem dJ5_checkElementIndex_12 : decode cJ5_checkElementIndex 12 = .ok (.aload_n 0, 1) := dk_42 (dk_at dksJ5_checkElementIndex_0 12 rfl rfl)
theorem dJ5_checkElementIndex_13 : decode cJ5_checkElementIndex 13 = .ok (.iload_n 1, 1) := dk_27 (dk_at dksJ5_checkElementIndex_0 13 rfl rfl)
theorem dJ5_checkElementIndex_14 : decode cJ5_checkElementIndex 14 = .ok (.invokevirtual 121, 3) := dk_182 0 121 (dk_at dksJ5_checkElementIndex_0 14 rfl rfl)
theorem dJ5_checkElementIndex_17 : decode cJ5_checkElementIndex 17 = .ok (.invokespecial 125, 3) := dk_183 0 125 (dk_at dksJ5_checkElementIndex_0 17 rfl rfl)
theorem dJ5_checkElementIndex_20 : decode cJ5_checkElementIndex 20 = .ok (.athrow, 1) := dk_191 (dk_at dksJ5_checkElementIndex_0 20 rfl rfl)
theorem dJ5_checkElementIndex_21 : decode cJ5_checkElementIndex 21 = .ok (.return_, 1) := dk_177 (dk_at dksJ5_checkElementIndex_0 21 rfl rfl)
def dkwJ5_isElementIndex_0 : List UInt8 := [27, 155, 0, 15, 27, 42, 180, 0, 7, 162, 0, 7, 4, 167, 0, 4, 3, 172]
abbrev dktJ5_isElementIndex_0 : List UInt8 := dkwJ5_isElementIndex_0 ++ []
theorem dksJ5_isElementIndex_0 : cJ5_isElementIndex.data.toList.drop 0 = dktJ5_isElementIndex_0 := by decide +kernel
theorem dJ5_isElementIndex_0 : decode cJ5_isElementIndex 0 = .ok (.iload_n 1, 1) := dk_27 (dk_at dksJ5_isElementIndex_0 0 rfl rfl)
theorem dJ5_isElementIndex_1 : decode cJ5_isElementIndex 1 = .ok (.ifCond .lt 15, 3) := dk_155 0 15 (dk_at dksJ5_isElementIndex_0 1 rfl rfl)
theorem dJ5_isElementIndex_4 : decode cJ5_isElementIndex 4 = .ok (.iload_n 1, 1) := dk_27 (dk_at dksJ5_isElementIndex_0 4 rfl rfl)
theorem dJ5_isElementIndex_5 : decode cJ5_isElementIndex 5 = .ok (.aload_n 0, 1) := dk_42 (dk_at dksJ5_isElementIndex_0 5 rfl rfl)
theorem dJ5_isElementIndex_6 : decode cJ5_isElementIndex 6 = .ok (.getfield 7, 3) := dk_180 0 7 (dk_at dksJ5_isElementIndex_0 6 rfl rfl)
theorem dJ5_isElementIndex_9 : decode cJ5_isElementIndex 9 = .ok (.if_icmp .ge 7, 3) := dk_162 0 7 (dk_at dksJ5_isElementIndex_0 9 rfl rfl)
theorem dJ5_isElementIndex_12 : decode cJ5_isElementIndex 12 = .ok (.iconst 1, 1) := dk_4 (dk_at dksJ5_isElementIndex_0 12 rfl rfl)
theorem dJ5_isElementIndex_13 : decode cJ5_isElementIndex 13 = .ok (.goto 4, 3) := dk_167 0 4 (dk_at dksJ5_isElementIndex_0 13 rfl rfl)
theorem dJ5_isElementIndex_16 : decode cJ5_isElementIndex 16 = .ok (.iconst 0, 1) := dk_3 (dk_at dksJ5_isElementIndex_0 16 rfl rfl)
theorem dJ5_isElementIndex_17 : decode cJ5_isElementIndex 17 = .ok (.ireturn, 1) := dk_172 (dk_at dksJ5_isElementIndex_0 17 rfl rfl)
def dkwJ5_addLast_0 : List UInt8 := [42, 43, 182, 0, 57, 177]
abbrev dktJ5_addLast_0 : List UInt8 := dkwJ5_addLast_0 ++ []
theorem dksJ5_addLast_0 : cJ5_addLast.data.toList.drop 0 = dktJ5_addLast_0 := by decide +kernel
theorem dJ5_addLast_0 : decode cJ5_addLast 0 = .ok (.aload_n 0, 1) := dk_42 (dk_at dksJ5_addLast_0 0 rfl rfl)
theorem dJ5_addLast_1 : decode cJ5_addLast 1 = .ok (.aload_n 1, 1) := dk_43 (dk_at dksJ5_addLast_0 1 rfl rfl)
theorem dJ5_addLast_2 : decode cJ5_addLast 2 = .ok (.invokevirtual 57, 3) := dk_182 0 57 (dk_at dksJ5_addLast_0 2 rfl rfl)
theorem dJ5_addLast_5 : decode cJ5_addLast 5 = .ok (.return_, 1) := dk_177 (dk_at dksJ5_addLast_0 5 rfl rfl)
def dkwJ5_linkLast_2 : List UInt8 := [181, 0, 7, 42, 89, 180, 0, 33, 4, 96, 181, 0, 33, 177]
abbrev dktJ5_linkLast_2 : List UInt8 := dkwJ5_linkLast_2 ++ []
def dkwJ5_linkLast_1 : List UInt8 := [199, 0, 11, 42, 45, 181, 0, 18, 167, 0, 8, 44, 45, 181, 0, 36, 42, 89, 180, 0, 7, 4, 96]
abbrev dktJ5_linkLast_1 : List UInt8 := dkwJ5_linkLast_1 ++ dktJ5_linkLast_2
def dkwJ5_linkLast_0 : List UInt8 := [42, 180, 0, 27, 77, 187, 0, 22, 89, 44, 43, 1, 183, 0, 24, 78, 42, 45, 181, 0, 27, 44]
abbrev dktJ5_linkLast_0 : List UInt8 := dkwJ5_linkLast_0 ++ dktJ5_linkLast_1
theorem dksJ5_linkLast_0 : cJ5_linkLast.data.toList.drop 0 = dktJ5_linkLast_0 := by decide +kernel
theorem dksJ5_linkLast_1 : cJ5_linkLast.data.toList.drop 22 = dktJ5_linkLast_1 := dk_seg dksJ5_linkLast_0 22 rfl rfl
theorem dksJ5_linkLast_2 : cJ5_linkLast.data.toList.drop 45 = dktJ5_linkLast_2 := dk_seg dksJ5_linkLast_1 23 rfl rfl
theorem dJ5_linkLast_0 : decode cJ5_linkLast 0 = .ok (.aload_n 0, 1) := dk_42 (dk_at dksJ5_linkLast_0 0 rfl rfl)
theorem dJ5_linkLast_1 : decode cJ5_linkLast 1 = .ok (.getfield 27, 3) := dk_180 0 27 (dk_at dksJ5_linkLast_0 1 rfl rfl)
theorem dJ5_linkLast_4 : decode cJ5_linkLast 4 = .ok (.astore_n 2, 1) := dk_77 (dk_at dksJ5_linkLast_0 4 rfl rfl)
theorem dJ5_linkLast_5 : decode cJ5_linkLast 5 = .ok (.new 22, 3) := dk_187 0 22 (dk_at dksJ5_linkLast_0 5 rfl rfl)
theorem dJ5_linkLast_8 : decode cJ5_linkLast 8 = .ok (.dup, 1) := dk_89 (dk_at dksJ5_linkLast_0 8 rfl rfl)
theorem dJ5_linkLast_9 : decode cJ5_linkLast 9 = .ok (.aload_n 2, 1) := dk_44 (dk_at dksJ5_linkLast_0 9 rfl rfl)
theorem dJ5_linkLast_10 : decode cJ5_linkLast 10 = .ok (.aload_n 1, 1) := dk_43 (dk_at dksJ5_linkLast_0 10 rfl rfl)
theorem dJ5_linkLast_11 : decode cJ5_linkLast 11 = .ok (.aconst_null, 1) := dk_1 (dk_at dksJ5_linkLast_0 11 rfl rfl)
theorem dJ5_linkLast_12 : decode cJ5_linkLast 12 = .ok (.invokespecial 24, 3) := dk_183 0 24 (dk_at dksJ5_linkLast_0 12 rfl rfl)
theorem dJ5_linkLast_15 : decode cJ5_linkLast 15 = .ok (.astore_n 3, 1) := dk_78 (dk_at dksJ5_linkLast_0 15 rfl rfl)
theorem dJ5_linkLast_16 : decode cJ5_linkLast 16 = .ok (.aload_n 0, 1) := dk_42 (dk_at dksJ5_linkLast_0 16 rfl rfl)
theorem dJ5_linkLast_17 : decode cJ5_linkLast 17 = .ok (.aload_n 3, 1) := dk_45 (dk_at dksJ5_linkLast_0 17 rfl rfl)
theorem dJ5_linkLast_18 : decode cJ5_linkLast 18 = .ok (.putfield 27, 3) := dk_181 0 27 (dk_at dksJ5_linkLast_0 18 rfl rfl)
theorem dJ5_linkLast_21 : decode cJ5_linkLast 21 = .ok (.aload_n 2, 1) := dk_44 (dk_at dksJ5_linkLast_0 21 rfl rfl)
theorem dJ5_linkLast_22 : decode cJ5_linkLast 22 = .ok (.ifnonnull 11, 3) := dk_199 0 11 (dk_at dksJ5_linkLast_1 0 rfl rfl)
theorem dJ5_linkLast_25 : decode cJ5_linkLast 25 = .ok (.aload_n 0, 1) := dk_42 (dk_at dksJ5_linkLast_1 3 rfl rfl)
theorem dJ5_linkLast_26 : decode cJ5_linkLast 26 = .ok (.aload_n 3, 1) := dk_45 (dk_at dksJ5_linkLast_1 4 rfl rfl)
theorem dJ5_linkLast_27 : decode cJ5_linkLast 27 = .ok (.putfield 18, 3) := dk_181 0 18 (dk_at dksJ5_linkLast_1 5 rfl rfl)
theorem dJ5_linkLast_30 : decode cJ5_linkLast 30 = .ok (.goto 8, 3) := dk_167 0 8 (dk_at dksJ5_linkLast_1 8 rfl rfl)
theorem dJ5_linkLast_33 : decode cJ5_linkLast 33 = .ok (.aload_n 2, 1) := dk_44 (dk_at dksJ5_linkLast_1 11 rfl rfl)
theorem dJ5_linkLast_34 : decode cJ5_linkLast 34 = .ok (.aload_n 3, 1) := dk_45 (dk_at dksJ5_linkLast_1 12 rfl rfl)
theorem dJ5_linkLast_35 : decode cJ5_linkLast 35 = .ok (.putfield 36, 3) := dk_181 0 36 (dk_at dksJ5_linkLast_1 13 rfl rfl)
theorem dJ5_linkLast_38 : decode cJ5_linkLast 38 = .ok (.aload_n 0, 1) := dk_42 (dk_at dksJ5_linkLast_1 16 rfl rfl)
theorem dJ5_linkLast_39 : decode cJ5_linkLast 39 = .ok (.dup, 1) := dk_89 (dk_at dksJ5_linkLast_1 17 rfl rfl)
theorem dJ5_linkLast_40 : decode cJ5_linkLast 40 = .ok (.getfield 7, 3) := dk_180 0 7 (dk_at dksJ5_linkLast_1 18 rfl rfl)
theorem dJ5_linkLast_43 : decode cJ5_linkLast 43 = .ok (.iconst 1, 1) := dk_4 (dk_at dksJ5_linkLast_1 21 rfl rfl)
theorem dJ5_linkLast_44 : decode cJ5_linkLast 44 = .ok (.iadd, 1) := dk_96 (dk_at dksJ5_linkLast_1 22 rfl rfl)
theorem dJ5_linkLast_45 : decode cJ5_linkLast 45 = .ok (.putfield 7, 3) := dk_181 0 7 (dk_at dksJ5_linkLast_2 0 rfl rfl)
theorem dJ5_linkLast_48 : decode cJ5_linkLast 48 = .ok (.aload_n 0, 1) := dk_42 (dk_at dksJ5_linkLast_2 3 rfl rfl)
theorem dJ5_linkLast_49 : decode cJ5_linkLast 49 = .ok (.dup, 1) := dk_89 (dk_at dksJ5_linkLast_2 4 rfl rfl)
theorem dJ5_linkLast_50 : decode cJ5_linkLast 50 = .ok (.getfield 33, 3) := dk_180 0 33 (dk_at dksJ5_linkLast_2 5 rfl rfl)
theorem dJ5_linkLast_53 : decode cJ5_linkLast 53 = .ok (.iconst 1, 1) := dk_4 (dk_at dksJ5_linkLast_2 8 rfl rfl)
theorem dJ5_linkLast_54 : decode cJ5_linkLast 54 = .ok (.iadd, 1) := dk_96 (dk_at dksJ5_linkLast_2 9 rfl rfl)
theorem dJ5_linkLast_55 : decode cJ5_linkLast 55 = .ok (.putfield 33, 3) := dk_181 0 33 (dk_at dksJ5_linkLast_2 10 rfl rfl)
theorem dJ5_linkLast_58 : decode cJ5_linkLast 58 = .ok (.return_, 1) := dk_177 (dk_at dksJ5_linkLast_2 13 rfl rfl)
def dkwJ5_removeFirst_0 : List UInt8 := [42, 180, 0, 18, 76, 43, 199, 0, 11, 187, 0, 43, 89, 183, 0, 45, 191, 42, 43, 182, 0, 46, 176]
abbrev dktJ5_removeFirst_0 : List UInt8 := dkwJ5_removeFirst_0 ++ []
theorem dksJ5_removeFirst_0 : cJ5_removeFirst.data.toList.drop 0 = dktJ5_removeFirst_0 := by decide +kernel
theorem dJ5_removeFirst_0 : decode cJ5_removeFirst 0 = .ok (.aload_n 0, 1) := dk_42 (dk_at dksJ5_removeFirst_0 0 rfl rfl)
theorem dJ5_removeFirst_1 : decode cJ5_removeFirst 1 = .ok (.getfield 18, 3) := dk_180 0 18 (dk_at dksJ5_removeFirst_0 1 rfl rfl)
theorem dJ5_removeFirst_4 : decode cJ5_removeFirst 4 = .ok (.astore_n 1, 1) := dk_76 (dk_at dksJ5_removeFirst_0 4 rfl rfl)
theorem dJ5_removeFirst_5 : decode cJ5_removeFirst 5 = .ok (.aload_n 1, 1) := dk_43 (dk_at dksJ5_removeFirst_0 5 rfl rfl)
theorem dJ5_removeFirst_6 : decode cJ5_removeFirst 6 = .ok (.ifnonnull 11, 3) := dk_199 0 11 (dk_at dksJ5_removeFirst_0 6 rfl rfl)
theorem dJ5_removeFirst_9 : decode cJ5_removeFirst 9 = .ok (.new 43, 3) := dk_187 0 43 (dk_at dksJ5_removeFirst_0 9 rfl rfl)
theorem dJ5_removeFirst_12 : decode cJ5_removeFirst 12 = .ok (.dup, 1) := dk_89 (dk_at dksJ5_removeFirst_0 12 rfl rfl)
theorem dJ5_removeFirst_13 : decode cJ5_removeFirst 13 = .ok (.invokespecial 45, 3) := dk_183 0 45 (dk_at dksJ5_removeFirst_0 13 rfl rfl)
theorem dJ5_removeFirst_16 : decode cJ5_removeFirst 16 = .ok (.athrow, 1) := dk_191 (dk_at dksJ5_removeFirst_0 16 rfl rfl)
theorem dJ5_removeFirst_17 : decode cJ5_removeFirst 17 = .ok (.aload_n 0, 1) := dk_42 (dk_at dksJ5_removeFirst_0 17 rfl rfl)
theorem dJ5_removeFirst_18 : decode cJ5_removeFirst 18 = .ok (.aload_n 1, 1) := dk_43 (dk_at dksJ5_removeFirst_0 18 rfl rfl)
theorem dJ5_removeFirst_19 : decode cJ5_removeFirst 19 = .ok (.invokevirtual 46, 3) := dk_182 0 46 (dk_at dksJ5_removeFirst_0 19 rfl rfl)
theorem dJ5_removeFirst_22 : decode cJ5_removeFirst 22 = .ok (.areturn, 1) := dk_176 (dk_at dksJ5_removeFirst_0 22 rfl rfl)
def dkwJ5_unlinkFirst_2 : List UInt8 := [180, 0, 7, 4, 100, 181, 0, 7, 42, 89, 180, 0, 33, 4, 96, 181, 0, 33, 44, 176]
abbrev dktJ5_unlinkFirst_2 : List UInt8 := dkwJ5_unlinkFirst_2 ++ []
def dkwJ5_unlinkFirst_1 : List UInt8 := [181, 0, 18, 45, 199, 0, 11, 42, 1, 181, 0, 27, 167, 0, 8, 45, 1, 181, 0, 30, 42, 89]
abbrev dktJ5_unlinkFirst_1 : List UInt8 := dkwJ5_unlinkFirst_1 ++ dktJ5_unlinkFirst_2
def dkwJ5_unlinkFirst_0 : List UInt8 := [43, 180, 0, 39, 77, 43, 180, 0, 36, 78, 43, 1, 181, 0, 39, 43, 1, 181, 0, 36, 42, 45]
abbrev dktJ5_unlinkFirst_0 : List UInt8 := dkwJ5_unlinkFirst_0 ++ dktJ5_unlinkFirst_1
theorem dksJ5_unlinkFirst_0 : cJ5_unlinkFirst.data.toList.drop 0 = dktJ5_unlinkFirst_0 := by decide +kernel
theorem dksJ5_unlinkFirst_1 : cJ5_unlinkFirst.data.toList.drop 22 = dktJ5_unlinkFirst_1 := dk_seg dksJ5_unlinkFirst_0 22 rfl rfl
theorem dksJ5_unlinkFirst_2 : cJ5_unlinkFirst.data.toList.drop 44 = dktJ5_unlinkFirst_2 := dk_seg dksJ5_unlinkFirst_1 22 rfl rfl
theorem dJ5_unlinkFirst_0 : decode cJ5_unlinkFirst 0 = .ok (.aload_n 1, 1) := dk_43 (dk_at dksJ5_unlinkFirst_0 0 rfl rfl)
theorem dJ5_unlinkFirst_1 : decode cJ5_unlinkFirst 1 = .ok (.getfield 39, 3) := dk_180 0 39 (dk_at dksJ5_unlinkFirst_0 1 rfl rfl)
theorem dJ5_unlinkFirst_4 : decode cJ5_unlinkFirst 4 = .ok (.astore_n 2, 1) := dk_77 (dk_at dksJ5_unlinkFirst_0 4 rfl rfl)
theorem dJ5_unlinkFirst_5 : decode cJ5_unlinkFirst 5 = .ok (.aload_n 1, 1) := dk_43 (dk_at dksJ5_unlinkFirst_0 5 rfl rfl)
theorem dJ5_unlinkFirst_6 : decode cJ5_unlinkFirst 6 = .ok (.getfield 36, 3) := dk_180 0 36 (dk_at dksJ5_unlinkFirst_0 6 rfl rfl)
theorem dJ5_unlinkFirst_9 : decode cJ5_unlinkFirst 9 = .ok (.astore_n 3, 1) := dk_78 (dk_at dksJ5_unlinkFirst_0 9 rfl rfl)
theorem dJ5_unlinkFirst_10 : decode cJ5_unlinkFirst 10 = .ok (.aload_n 1, 1) := dk_43 (dk_at dksJ5_unlinkFirst_0 10 rfl rfl)
theorem dJ5_unlinkFirst_11 : decode cJ5_unlinkFirst 11 = .ok (.aconst_null, 1) := dk_1 (dk_at dksJ5_unlinkFirst_0 11 rfl rfl)
theorem dJ5_unlinkFirst_12 : decode cJ5_unlinkFirst 12 = .ok (.putfield 39, 3) := dk_181 0 39 (dk_at dksJ5_unlinkFirst_0 12 rfl rfl)
theorem dJ5_unlinkFirst_15 : decode cJ5_unlinkFirst 15 = .ok (.aload_n 1, 1) := dk_43 (dk_at dksJ5_unlinkFirst_0 15 rfl rfl)
theorem dJ5_unlinkFirst_16 : decode cJ5_unlinkFirst 16 = .ok (.aconst_null, 1) := dk_1 (dk_at dksJ5_unlinkFirst_0 16 rfl rfl)
theorem dJ5_unlinkFirst_17 : decode cJ5_unlinkFirst 17 = .ok (.putfield 36, 3) := dk_181 0 36 (dk_at dksJ5_unlinkFirst_0 17 rfl rfl)
theorem dJ5_unlinkFirst_20 : decode cJ5_unlinkFirst 20 = .ok (.aload_n 0, 1) := dk_42 (dk_at dksJ5_unlinkFirst_0 20 rfl rfl)
theorem dJ5_unlinkFirst_21 : decode cJ5_unlinkFirst 21 = .ok (.aload_n 3, 1) := dk_45 (dk_at dksJ5_unlinkFirst_0 21 rfl rfl)
theorem dJ5_unlinkFirst_22 : decode cJ5_unlinkFirst 22 = .ok (.putfield 18, 3) := dk_181 0 18 (dk_at dksJ5_unlinkFirst_1 0 rfl rfl)
theorem dJ5_unlinkFirst_25 : decode cJ5_unlinkFirst 25 = .ok (.aload_n 3, 1) := dk_45 (dk_at dksJ5_unlinkFirst_1 3 rfl rfl)
theorem dJ5_unlinkFirst_26 : decode cJ5_unlinkFirst 26 = .ok (.ifnonnull 11, 3) := dk_199 0 11 (dk_at dksJ5_unlinkFirst_1 4 rfl rfl)
theorem dJ5_unlinkFirst_29 : decode cJ5_unlinkFirst 29 = .ok (.aload_n 0, 1) := dk_42 (dk_at dksJ5_unlinkFirst_1 7 rfl rfl)
theorem dJ5_unlinkFirst_30 : decode cJ5_unlinkFirst 30 = .ok (.aconst_null, 1) := dk_1 (dk_at dksJ5_unlinkFirst_1 8 rfl rfl)
theorem dJ5_unlinkFirst_31 : decode cJ5_unlinkFirst 31 = .ok (.putfield 27, 3) := dk_181 0 27 (dk_at dksJ5_unlinkFirst_1 9 rfl rfl)
theorem dJ5_unlinkFirst_34 : decode cJ5_unlinkFirst 34 = .ok (.goto 8, 3) := dk_167 0 8 (dk_at dksJ5_unlinkFirst_1 12 rfl rfl)
theorem dJ5_unlinkFirst_37 : decode cJ5_unlinkFirst 37 = .ok (.aload_n 3, 1) := dk_45 (dk_at dksJ5_unlinkFirst_1 15 rfl rfl)
theorem dJ5_unlinkFirst_38 : decode cJ5_unlinkFirst 38 = .ok (.aconst_null, 1) := dk_1 (dk_at dksJ5_unlinkFirst_1 16 rfl rfl)
theorem dJ5_unlinkFirst_39 : decode cJ5_unlinkFirst 39 = .ok (.putfield 30, 3) := dk_181 0 30 (dk_at dksJ5_unlinkFirst_1 17 rfl rfl)
theorem dJ5_unlinkFirst_42 : decode cJ5_unlinkFirst 42 = .ok (.aload_n 0, 1) := dk_42 (dk_at dksJ5_unlinkFirst_1 20 rfl rfl)
theorem dJ5_unlinkFirst_43 : decode cJ5_unlinkFirst 43 = .ok (.dup, 1) := dk_89 (dk_at dksJ5_unlinkFirst_1 21 rfl rfl)
theorem dJ5_unlinkFirst_44 : decode cJ5_unlinkFirst 44 = .ok (.getfield 7, 3) := dk_180 0 7 (dk_at dksJ5_unlinkFirst_2 0 rfl rfl)
theorem dJ5_unlinkFirst_47 : decode cJ5_unlinkFirst 47 = .ok (.iconst 1, 1) := dk_4 (dk_at dksJ5_unlinkFirst_2 3 rfl rfl)
theorem dJ5_unlinkFirst_48 : decode cJ5_unlinkFirst 48 = .ok (.isub, 1) := dk_100 (dk_at dksJ5_unlinkFirst_2 4 rfl rfl)
theorem dJ5_unlinkFirst_49 : decode cJ5_unlinkFirst 49 = .ok (.putfield 7, 3) := dk_181 0 7 (dk_at dksJ5_unlinkFirst_2 5 rfl rfl)
theorem dJ5_unlinkFirst_52 : decode cJ5_unlinkFirst 52 = .ok (.aload_n 0, 1) := dk_42 (dk_at dksJ5_unlinkFirst_2 8 rfl rfl)
theorem dJ5_unlinkFirst_53 : decode cJ5_unlinkFirst 53 = .ok (.dup, 1) := dk_89 (dk_at dksJ5_unlinkFirst_2 9 rfl rfl)
theorem dJ5_unlinkFirst_54 : decode cJ5_unlinkFirst 54 = .ok (.getfield 33, 3) := dk_180 0 33 (dk_at dksJ5_unlinkFirst_2 10 rfl rfl)
theorem dJ5_unlinkFirst_57 : decode cJ5_unlinkFirst 57 = .ok (.iconst 1, 1) := dk_4 (dk_at dksJ5_unlinkFirst_2 13 rfl rfl)
theorem dJ5_unlinkFirst_58 : decode cJ5_unlinkFirst 58 = .ok (.iadd, 1) := dk_96 (dk_at dksJ5_unlinkFirst_2 14 rfl rfl)
theorem dJ5_unlinkFirst_59 : decode cJ5_unlinkFirst 59 = .ok (.putfield 33, 3) := dk_181 0 33 (dk_at dksJ5_unlinkFirst_2 15 rfl rfl)
theorem dJ5_unlinkFirst_62 : decode cJ5_unlinkFirst 62 = .ok (.aload_n 2, 1) := dk_44 (dk_at dksJ5_unlinkFirst_2 18 rfl rfl)
theorem dJ5_unlinkFirst_63 : decode cJ5_unlinkFirst 63 = .ok (.areturn, 1) := dk_176 (dk_at dksJ5_unlinkFirst_2 19 rfl rfl)
def dkwJ5_indexOf_3 : List UInt8 := [172]
abbrev dktJ5_indexOf_3 : List UInt8 := dkwJ5_indexOf_3 ++ []
def dkwJ5_indexOf_2 : List UInt8 := [45, 180, 0, 39, 182, 0, 67, 153, 0, 5, 28, 172, 132, 2, 1, 45, 180, 0, 36, 78, 167, 255, 231, 2]
abbrev dktJ5_indexOf_2 : List UInt8 := dkwJ5_indexOf_2 ++ dktJ5_indexOf_3
def dkwJ5_indexOf_1 : List UInt8 := [132, 2, 1, 45, 180, 0, 36, 78, 167, 255, 235, 167, 0, 36, 42, 180, 0, 18, 78, 45, 198, 0, 27, 43]
abbrev dktJ5_indexOf_1 : List UInt8 := dkwJ5_indexOf_1 ++ dktJ5_indexOf_2
def dkwJ5_indexOf_0 : List UInt8 := [3, 61, 43, 199, 0, 35, 42, 180, 0, 18, 78, 45, 198, 0, 23, 45, 180, 0, 39, 199, 0, 5, 28, 172]
abbrev dktJ5_indexOf_0 : List UInt8 := dkwJ5_indexOf_0 ++ dktJ5_indexOf_1
theorem dksJ5_indexOf_0 : cJ5_indexOf.data.toList.drop 0 = dktJ5_indexOf_0 := by decide +kernel
theorem dksJ5_indexOf_1 : cJ5_indexOf.data.toList.drop 24 = dktJ5_indexOf_1 := dk_seg dksJ5_indexOf_0 24 rfl rfl
theorem dksJ5_indexOf_2 : cJ5_indexOf.data.toList.drop 48 = dktJ5_indexOf_2 := dk_seg dksJ5_indexOf_1 24 rfl rfl
theorem dksJ5_indexOf_3 : cJ5_indexOf.data.toList.drop 72 = dktJ5_indexOf_3 := dk_seg dksJ5_indexOf_2 24 rfl rfl
theorem dJ5_indexOf_0 : decode cJ5_indexOf 0 = .ok (.iconst 0, 1) := dk_3 (dk_at dksJ5_indexOf_0 0 rfl rfl)
theorem dJ5_indexOf_1 : decode cJ5_indexOf 1 = .ok (.istore_n 2, 1) := dk_61 (dk_at dksJ5_indexOf_0 1 rfl rfl)
theorem dJ5_indexOf_2 : decode cJ5_indexOf 2 = .ok (.aload_n 1, 1) := dk_43 (dk_at dksJ5_indexOf_0 2 rfl rfl)
theorem dJ5_indexOf_3 : decode cJ5_indexOf 3 = .ok (.ifnonnull 35, 3) := dk_199 0 35 (dk_at dksJ5_indexOf_0 3 rfl rfl)
theorem dJ5_indexOf_6 : decode cJ5_indexOf 6 = .ok (.aload_n 0, 1) := dk_42 (dk_at dksJ5_indexOf_0 6 rfl rfl)
theorem dJ5_indexOf_7 : decode cJ5_indexOf 7 = .ok (.getfield 18, 3) := dk_180 0 18 (dk_at dksJ5_indexOf_0 7 rfl rfl)
theorem dJ5_indexOf_10 : decode cJ5_indexOf 10 = .ok (.astore_n 3, 1) := dk_78 (dk_at dksJ5_indexOf_0 10 rfl rfl)
theorem dJ5_indexOf_11 : decode cJ5_indexOf 11 = .ok (.aload_n 3, 1) := dk_45 (dk_at dksJ5_indexOf_0 11 rfl rfl)
theorem dJ5_indexOf_12 : decode cJ5_indexOf 12 = .ok (.ifnull 23, 3) := dk_198 0 23 (dk_at dksJ5_indexOf_0 12 rfl rfl)
theorem dJ5_indexOf_15 : decode cJ5_indexOf 15 = .ok (.aload_n 3, 1) := dk_45 (dk_at dksJ5_indexOf_0 15 rfl rfl)
theorem dJ5_indexOf_16 : decode cJ5_indexOf 16 = .ok (.getfield 39, 3) := dk_180 0 39 (dk_at dksJ5_indexOf_0 16 rfl rfl)
theorem dJ5_indexOf_19 : decode cJ5_indexOf 19 = .ok (.ifnonnull 5, 3) := dk_199 0 5 (dk_at dksJ5_indexOf_0 19 rfl rfl)
theorem dJ5_indexOf_22 : decode cJ5_indexOf 22 = .ok (.iload_n 2, 1) := dk_28 (dk_at dksJ5_indexOf_0 22 rfl rfl)
theorem dJ5_indexOf_23 : decode cJ5_indexOf 23 = .ok (.ireturn, 1) := dk_172 (dk_at dksJ5_indexOf_0 23 rfl rfl)
theorem dJ5_indexOf_24 : decode cJ5_indexOf 24 = .ok (.iinc 2 1, 3) := dk_132 2 1 (dk_at dksJ5_indexOf_1 0 rfl rfl)
theorem dJ5_indexOf_27 : decode cJ5_indexOf 27 = .ok (.aload_n 3, 1) := dk_45 (dk_at dksJ5_indexOf_1 3 rfl rfl)
theorem dJ5_indexOf_28 : decode cJ5_indexOf 28 = .ok (.getfield 36, 3) := dk_180 0 36 (dk_at dksJ5_indexOf_1 4 rfl rfl)
theorem dJ5_indexOf_31 : decode cJ5_indexOf 31 = .ok (.astore_n 3, 1) := dk_78 (dk_at dksJ5_indexOf_1 7 rfl rfl)
theorem dJ5_indexOf_32 : decode cJ5_indexOf 32 = .ok (.goto (-21), 3) := dk_167 255 235 (dk_at dksJ5_indexOf_1 8 rfl rfl)
theorem dJ5_indexOf_35 : decode cJ5_indexOf 35 = .ok (.goto 36, 3) := dk_167 0 36 (dk_at dksJ5_indexOf_1 11 rfl rfl)
theorem dJ5_indexOf_38 : decode cJ5_indexOf 38 = .ok (.aload_n 0, 1) := dk_42 (dk_at dksJ5_indexOf_1 14 rfl rfl)
theorem dJ5_indexOf_39 : decode cJ5_indexOf 39 = .ok (.getfield 18, 3) := dk_180 0 18 (dk_at dksJ5_indexOf_1 15 rfl rfl)
theorem dJ5_indexOf_42 : decode cJ5_indexOf 42 = .ok (.astore_n 3, 1) := dk_78 (dk_at dksJ5_indexOf_1 18 rfl rfl)
theorem dJ5_indexOf_43 : decode cJ5_indexOf 43 = .ok (.aload_n 3, 1) := dk_45 (dk_at dksJ5_indexOf_1 19 rfl rfl)
theorem dJ5_indexOf_44 : decode cJ5_indexOf 44 = .ok (.ifnull 27, 3) := dk_198 0 27 (dk_at dksJ5_indexOf_1 20 rfl rfl)
theorem dJ5_indexOf_47 : decode cJ5_indexOf 47 = .ok (.aload_n 1, 1) := dk_43 (dk_at dksJ5_indexOf_1 23 rfl rfl)
theorem dJ5_indexOf_48 : decode cJ5_indexOf 48 = .ok (.aload_n 3, 1) := dk_45 (dk_at dksJ5_indexOf_2 0 rfl rfl)
theorem dJ5_indexOf_49 : decode cJ5_indexOf 49 = .ok (.getfield 39, 3) := dk_180 0 39 (dk_at dksJ5_indexOf_2 1 rfl rfl)
theorem dJ5_indexOf_52 : decode cJ5_indexOf 52 = .ok (.invokevirtual 67, 3) := dk_182 0 67 (dk_at dksJ5_indexOf_2 4 rfl rfl)
theorem dJ5_indexOf_55 : decode cJ5_indexOf 55 = .ok (.ifCond .eq 5, 3) := dk_153 0 5 (dk_at dksJ5_indexOf_2 7 rfl rfl)
theorem dJ5_indexOf_58 : decode cJ5_indexOf 58 = .ok (.iload_n 2, 1) := dk_28 (dk_at dksJ5_indexOf_2 10 rfl rfl)
theorem dJ5_indexOf_59 : decode cJ5_indexOf 59 = .ok (.ireturn, 1) := dk_172 (dk_at dksJ5_indexOf_2 11 rfl rfl)
theorem dJ5_indexOf_60 : decode cJ5_indexOf 60 = .ok (.iinc 2 1, 3) := dk_132 2 1 (dk_at dksJ5_indexOf_2 12 rfl rfl)
theorem dJ5_indexOf_63 : decode cJ5_indexOf 63 = .ok (.aload_n 3, 1) := dk_45 (dk_at dksJ5_indexOf_2 15 rfl rfl)
theorem dJ5_indexOf_64 : decode cJ5_indexOf 64 = .ok (.getfield 36, 3) := dk_180 0 36 (dk_at dksJ5_indexOf_2 16 rfl rfl)
theorem dJ5_indexOf_67 : decode cJ5_indexOf 67 = .ok (.astore_n 3, 1) := dk_78 (dk_at dksJ5_indexOf_2 19 rfl rfl)
theorem dJ5_indexOf_68 : decode cJ5_indexOf 68 = .ok (.goto (-25), 3) := dk_167 255 231 (dk_at dksJ5_indexOf_2 20 rfl rfl)
theorem dJ5_indexOf_71 : decode cJ5_indexOf 71 = .ok (.iconst (-1), 1) := dk_2 (dk_at dksJ5_indexOf_2 23 rfl rfl)
theorem dJ5_indexOf_72 : decode cJ5_indexOf 72 = .ok (.ireturn, 1) := dk_172 (dk_at dksJ5_indexOf_3 0 rfl rfl)
def dkwJ6_newLength_1 : List UInt8 := [184, 0, 201, 172]
abbrev dktJ6_newLength_1 : List UInt8 := dkwJ6_newLength_1 ++ []
def dkwJ6_newLength_0 : List UInt8 := [26, 27, 28, 184, 0, 194, 96, 62, 3, 29, 162, 0, 11, 29, 18, 200, 163, 0, 5, 29, 172, 26, 27]
abbrev dktJ6_newLength_0 : List UInt8 := dkwJ6_newLength_0 ++ dktJ6_newLength_1
theorem dksJ6_newLength_0 : cJ6_newLength.data.toList.drop 0 = dktJ6_newLength_0 := by decide +kernel
theorem dksJ6_newLength_1 : cJ6_newLength.data.toList.drop 23 = dktJ6_newLength_1 := dk_seg dksJ6_newLength_0 23 rfl rfl
theorem dJ6_newLength_0 : decode cJ6_newLength 0 = .ok (.iload_n 0, 1) := dk_26 (dk_at dksJ6_newLength_0 0 rfl rfl)
theorem dJ6_newLength_1 : decode cJ6_newLength 1 = .ok (.iload_n 1, 1) := dk_27 (dk_at dksJ6_newLength_0 1 rfl rfl)
theorem dJ6_newLength_2 : decode cJ6_newLength 2 = .ok (.iload_n 2, 1) := dk_28 (dk_at dksJ6_newLength_0 2 rfl rfl)
theorem dJ6_newLength_3 : decode cJ6_newLength 3 = .ok (.invokestatic 194, 3) := dk_184 0 194 (dk_at dksJ6_newLength_0 3 rfl rfl)
theorem dJ6_newLength_6 : decode cJ6_newLength 6 = .ok (.iadd, 1) := dk_96 (dk_at dksJ6_newLength_0 6 rfl rfl)
theorem dJ6_newLength_7 : decode cJ6_newLength 7 = .ok (.istore_n 3, 1) := dk_62 (dk_at dksJ6_newLength_0 7 rfl rfl)
theorem dJ6_newLength_8 : decode cJ6_newLength 8 = .ok (.iconst 0, 1) := dk_3 (dk_at dksJ6_newLength_0 8 rfl rfl)
theorem dJ6_newLength_9 : decode cJ6_newLength 9 = .ok (.iload_n 3, 1) := dk_29 (dk_at dksJ6_newLength_0 9 rfl rfl)
theorem dJ6_newLength_10 : decode cJ6_newLength 10 = .ok (.if_icmp .ge 11, 3) := dk_162 0 11 (dk_at dksJ6_newLength_0 10 rfl rfl)
theorem dJ6_newLength_13 : decode cJ6_newLength 13 = .ok (.iload_n 3, 1) := dk_29 (dk_at dksJ6_newLength_0 13 rfl rfl)
theorem dJ6_newLength_14 : decode cJ6_newLength 14 = .ok (.ldc 200, 2) := dk_18 200 (dk_at dksJ6_newLength_0 14 rfl rfl)
theorem dJ6_newLength_16 : decode cJ6_newLength 16 = .ok (.if_icmp .gt 5, 3) := dk_163 0 5 (dk_at dksJ6_newLength_0 16 rfl rfl)
theorem dJ6_newLength_19 : decode cJ6_newLength 19 = .ok (.iload_n 3, 1) := dk_29 (dk_at dksJ6_newLength_0 19 rfl rfl)
theorem dJ6_newLength_20 : decode cJ6_newLength 20 = .ok (.ireturn, 1) := dk_172 (dk_at dksJ6_newLength_0 20 rfl rfl)
theorem dJ6_newLength_21 : decode cJ6_newLength 21 = .ok (.iload_n 0, 1) := dk_26 (dk_at dksJ6_newLength_0 21 rfl rfl)
theorem dJ6_newLength_22 : decode cJ6_newLength 22 = .ok (.iload_n 1, 1) := dk_27 (dk_at dksJ6_newLength_0 22 rfl rfl)
theorem dJ6_newLength_23 : decode cJ6_newLength 23 = .ok (.invokestatic 201, 3) := dk_184 0 201 (dk_at dksJ6_newLength_1 0 rfl rfl)
theorem dJ6_newLength_26 : decode cJ6_newLength 26 = .ok (.ireturn, 1) := dk_172 (dk_at dksJ6_newLength_1 3 rfl rfl)
def dkwJ6_hugeLength_2 : List UInt8 := [191, 28, 18, 200, 163, 0, 6, 18, 200, 172, 28, 172]
abbrev dktJ6_hugeLength_2 : List UInt8 := dkwJ6_hugeLength_2 ++ []
def dkwJ6_hugeLength_1 : List UInt8 := [26, 182, 0, 98, 18, 208, 182, 0, 94, 27, 182, 0, 98, 18, 210, 182, 0, 94, 182, 0, 101, 183, 0, 212]
abbrev dktJ6_hugeLength_1 : List UInt8 := dkwJ6_hugeLength_1 ++ dktJ6_hugeLength_2
def dkwJ6_hugeLength_0 : List UInt8 := [26, 27, 96, 61, 28, 156, 0, 44, 187, 0, 204, 89, 187, 0, 89, 89, 183, 0, 91, 18, 206, 182, 0, 94]
abbrev dktJ6_hugeLength_0 : List UInt8 := dkwJ6_hugeLength_0 ++ dktJ6_hugeLength_1
theorem dksJ6_hugeLength_0 : cJ6_hugeLength.data.toList.drop 0 = dktJ6_hugeLength_0 := by decide +kernel
theorem dksJ6_hugeLength_1 : cJ6_hugeLength.data.toList.drop 24 = dktJ6_hugeLength_1 := dk_seg dksJ6_hugeLength_0 24 rfl rfl
theorem dksJ6_hugeLength_2 : cJ6_hugeLength.data.toList.drop 48 = dktJ6_hugeLength_2 := dk_seg dksJ6_hugeLength_1 24 rfl rfl
theorem dJ6_hugeLength_0 : decode cJ6_hugeLength 0 = .ok (.iload_n 0, 1) := dk_26 (dk_at dksJ6_hugeLength_0 0 rfl rfl)
theorem dJ6_hugeLength_1 : decode cJ6_hugeLength 1 = .ok (.iload_n 1, 1) := dk_27 (dk_at dksJ6_hugeLength_0 1 rfl rfl)
theorem dJ6_hugeLength_2 : decode cJ6_hugeLength 2 = .ok (.iadd, 1) := dk_96 (dk_at dksJ6_hugeLength_0 2 rfl rfl)
theorem dJ6_hugeLength_3 : decode cJ6_hugeLength 3 = .ok (.istore_n 2, 1) := dk_61 (dk_at dksJ6_hugeLength_0 3 rfl rfl)
theorem dJ6_hugeLength_4 : decode cJ6_hugeLength 4 = .ok (.iload_n 2, 1) := dk_28 (dk_at dksJ6_hugeLength_0 4 rfl rfl)
theorem dJ6_hugeLength_5 : decode cJ6_hugeLength 5 = .ok (.ifCond .ge 44, 3) := dk_156 0 44 (dk_at dksJ6_hugeLength_0 5 rfl rfl)
theorem dJ6_hugeLength_8 : decode cJ6_hugeLength 8 = .ok (.new 204, 3) := dk_187 0 204 (dk_at dksJ6_hugeLength_0 8 rfl rfl)
theorem dJ6_hugeLength_11 : decode cJ6_hugeLength 11 = .ok (.dup, 1) := dk_89 (dk_at dksJ6_hugeLength_0 11 rfl rfl)
theorem dJ6_hugeLength_12 : decode cJ6_hugeLength 12 = .ok (.new 89, 3) := dk_187 0 89 (dk_at dksJ6_hugeLength_0 12 rfl rfl)
theorem dJ6_hugeLength_15 : decode cJ6_hugeLength 15 = .ok (.dup, 1) := dk_89 (dk_at dksJ6_hugeLength_0 15 rfl rfl)
theorem dJ6_hugeLength_16 : decode cJ6_hugeLength 16 = .ok (.invokespecial 91, 3) := dk_183 0 91 (dk_at dksJ6_hugeLength_0 16 rfl rfl)
theorem dJ6_hugeLength_19 : decode cJ6_hugeLength 19 = .ok (.ldc 206, 2) := dk_18 206 (dk_at dksJ6_hugeLength_0 19 rfl rfl)
theorem dJ6_hugeLength_21 : decode cJ6_hugeLength 21 = .ok (.invokevirtual 94, 3) := dk_182 0 94 (dk_at dksJ6_hugeLength_0 21 rfl rfl)
theorem dJ6_hugeLength_24 : decode cJ6_hugeLength 24 = .ok (.iload_n 0, 1) := dk_26 (dk_at dksJ6_hugeLength_1 0 rfl rfl)
theorem dJ6_hugeLength_25 : decode cJ6_hugeLength 25 = .ok (.invokevirtual 98, 3) := dk_182 0 98 (dk_at dksJ6_hugeLength_1 1 rfl rfl)
theorem dJ6_hugeLength_28 : decode cJ6_hugeLength 28 = .ok (.ldc 208, 2) := dk_18 208 (dk_at dksJ6_hugeLength_1 4 rfl rfl)
theorem dJ6_hugeLength_30 : decode cJ6_hugeLength 30 = .ok (.invokevirtual 94, 3) := dk_182 0 94 (dk_at dksJ6_hugeLength_1 6 rfl rfl)
theorem dJ6_hugeLength_33 : decode cJ6_hugeLength 33 = .ok (.iload_n 1, 1) := dk_27 (dk_at dksJ6_hugeLength_1 9 rfl rfl)
theorem dJ6_hugeLength_34 : decode cJ6_hugeLength 34 = .ok (.invokevirtual 98, 3) := dk_182 0 98 (dk_at dksJ6_hugeLength_1 10 rfl rfl)
theorem dJ6_hugeLength_37 : decode cJ6_hugeLength 37 = .ok (.ldc 210, 2) := dk_18 210 (dk_at dksJ6_hugeLength_1 13 rfl rfl)
theorem dJ6_hugeLength_39 : decode cJ6_hugeLength 39 = .ok (.invokevirtual 94, 3) := dk_182 0 94 (dk_at dksJ6_hugeLength_1 15 rfl rfl)
theorem dJ6_hugeLength_42 : decode cJ6_hugeLength 42 = .ok (.invokevirtual 101, 3) := dk_182 0 101 (dk_at dksJ6_hugeLength_1 18 rfl rfl)
theorem dJ6_hugeLength_45 : decode cJ6_hugeLength 45 = .ok (.invokespecial 212, 3) := dk_183 0 212 (dk_at dksJ6_hugeLength_1 21 rfl rfl)
theorem dJ6_hugeLength_48 : decode cJ6_hugeLength 48 = .ok (.athrow, 1) := dk_191 (dk_at dksJ6_hugeLength_2 0 rfl rfl)
theorem dJ6_hugeLength_49 : decode cJ6_hugeLength 49 = .ok (.iload_n 2, 1) := dk_28 (dk_at dksJ6_hugeLength_2 1 rfl rfl)
theorem dJ6_hugeLength_50 : decode cJ6_hugeLength 50 = .ok (.ldc 200, 2) := dk_18 200 (dk_at dksJ6_hugeLength_2 2 rfl rfl)
theorem dJ6_hugeLength_52 : decode cJ6_hugeLength 52 = .ok (.if_icmp .gt 6, 3) := dk_163 0 6 (dk_at dksJ6_hugeLength_2 4 rfl rfl)
theorem dJ6_hugeLength_55 : decode cJ6_hugeLength 55 = .ok (.ldc 200, 2) := dk_18 200 (dk_at dksJ6_hugeLength_2 7 rfl rfl)
theorem dJ6_hugeLength_57 : decode cJ6_hugeLength 57 = .ok (.ireturn, 1) := dk_172 (dk_at dksJ6_hugeLength_2 9 rfl rfl)
theorem dJ6_hugeLength_58 : decode cJ6_hugeLength 58 = .ok (.iload_n 2, 1) := dk_28 (dk_at dksJ6_hugeLength_2 10 rfl rfl)
theorem dJ6_hugeLength_59 : decode cJ6_hugeLength 59 = .ok (.ireturn, 1) := dk_172 (dk_at dksJ6_hugeLength_2 11 rfl rfl)
def dkwJ6_vectorizedHashCode_6 : List UInt8 := [183, 0, 91, 18, 92, 182, 0, 94, 21, 4, 182, 0, 98, 182, 0, 101, 183, 0, 105, 191, 172]
abbrev dktJ6_vectorizedHashCode_6 : List UInt8 := dkwJ6_vectorizedHashCode_6 ++ []
def dkwJ6_vectorizedHashCode_5 : List UInt8 := [167, 0, 44, 29, 42, 192, 0, 82, 27, 28, 184, 0, 84, 167, 0, 31, 187, 0, 87, 89, 187, 0, 89, 89]
abbrev dktJ6_vectorizedHashCode_5 : List UInt8 := dkwJ6_vectorizedHashCode_5 ++ dktJ6_vectorizedHashCode_6
def dkwJ6_vectorizedHashCode_4 : List UInt8 := [29, 42, 192, 0, 60, 27, 28, 184, 0, 75, 167, 0, 57, 29, 42, 192, 0, 77, 27, 28, 184, 0, 79]
abbrev dktJ6_vectorizedHashCode_4 : List UInt8 := dkwJ6_vectorizedHashCode_4 ++ dktJ6_vectorizedHashCode_5
def dkwJ6_vectorizedHashCode_3 : List UInt8 := [192, 0, 60, 27, 28, 184, 0, 66, 167, 0, 83, 29, 42, 192, 0, 69, 27, 28, 184, 0, 71, 167, 0, 70]
abbrev dktJ6_vectorizedHashCode_3 : List UInt8 := dkwJ6_vectorizedHashCode_3 ++ dktJ6_vectorizedHashCode_4
def dkwJ6_vectorizedHashCode_2 : List UInt8 := [29, 42, 192, 0, 60, 27, 28, 184, 0, 62, 167, 0, 103, 42, 193, 0, 60, 153, 0, 16, 29, 42]
abbrev dktJ6_vectorizedHashCode_2 : List UInt8 := dkwJ6_vectorizedHashCode_2 ++ dktJ6_vectorizedHashCode_3
def dkwJ6_vectorizedHashCode_1 : List UInt8 := [170, 0, 0, 0, 0, 127, 0, 0, 0, 4, 0, 0, 0, 10, 0, 0, 0, 42, 0, 0, 0, 55, 0, 0, 0, 127, 0, 0, 0, 127, 0, 0, 0, 88, 0, 0, 0, 101, 0, 0, 0, 114]
abbrev dktJ6_vectorizedHashCode_1 : List UInt8 := dkwJ6_vectorizedHashCode_1 ++ dktJ6_vectorizedHashCode_2
def dkwJ6_vectorizedHashCode_0 : List UInt8 := [21, 4]
abbrev dktJ6_vectorizedHashCode_0 : List UInt8 := dkwJ6_vectorizedHashCode_0 ++ dktJ6_vectorizedHashCode_1
theorem dksJ6_vectorizedHashCode_0 : cJ6_vectorizedHashCode.data.toList.drop 0 = dktJ6_vectorizedHashCode_0 := by decide +kernel
theorem dksJ6_vectorizedHashCode_1 : cJ6_vectorizedHashCode.data.toList.drop 2 = dktJ6_vectorizedHashCode_1 := dk_seg dksJ6_vectorizedHashCode_0 2 rfl rfl
theorem dksJ6_vectorizedHashCode_2 : cJ6_vectorizedHashCode.data.toList.drop 44 = dktJ6_vectorizedHashCode_2 := dk_seg dksJ6_vectorizedHashCode_1 42 rfl rfl
theorem dksJ6_vectorizedHashCode_3 : cJ6_vectorizedHashCode.data.toList.drop 66 = dktJ6_vectorizedHashCode_3 := dk_seg dksJ6_vectorizedHashCode_2 22 rfl rfl
theorem dksJ6_vectorizedHashCode_4 : cJ6_vectorizedHashCode.data.toList.drop 90 = dktJ6_vectorizedHashCode_4 := dk_seg dksJ6_vectorizedHashCode_3 24 rfl rfl
theorem dksJ6_vectorizedHashCode_5 : cJ6_vectorizedHashCode.data.toList.drop 113 = dktJ6_vectorizedHashCode_5 := dk_seg dksJ6_vectorizedHashCode_4 23 rfl rfl
theorem dksJ6_vectorizedHashCode_6 : cJ6_vectorizedHashCode.data.toList.drop 137 = dktJ6_vectorizedHashCode_6 := dk_seg dksJ6_vectorizedHashCode_5 24 rfl rfl
theorem dJ6_vectorizedHashCode_0 : decode cJ6_vectorizedHashCode 0 = .ok (.iload 4, 2) := dk_21 4 (dk_at dksJ6_vectorizedHashCode_0 0 rfl rfl)
theorem dJ6_vectorizedHashCode_2 : decode cJ6_vectorizedHashCode 2 = .ok (.tableswitch 127 4 10 #[42, 55, 127, 127, 88, 101, 114], 42) := by decide +kernel
theorem dJ6_vectorizedHashCode_44 : decode cJ6_vectorizedHashCode 44 = .ok (.iload_n 3, 1) := dk_29 (dk_at dksJ6_vectorizedHashCode_2 0 rfl rfl)
theorem dJ6_vectorizedHashCode_45 : decode cJ6_vectorizedHashCode 45 = .ok (.aload_n 0, 1) := dk_42 (dk_at dksJ6_vectorizedHashCode_2 1 rfl rfl)
theorem dJ6_vectorizedHashCode_46 : decode cJ6_vectorizedHashCode 46 = .ok (.checkcast 60, 3) := dk_192 0 60 (dk_at dksJ6_vectorizedHashCode_2 2 rfl rfl)
theorem dJ6_vectorizedHashCode_49 : decode cJ6_vectorizedHashCode 49 = .ok (.iload_n 1, 1) := dk_27 (dk_at dksJ6_vectorizedHashCode_2 5 rfl rfl)
theorem dJ6_vectorizedHashCode_50 : decode cJ6_vectorizedHashCode 50 = .ok (.iload_n 2, 1) := dk_28 (dk_at dksJ6_vectorizedHashCode_2 6 rfl rfl)
theorem dJ6_vectorizedHashCode_51 : decode cJ6_vectorizedHashCode 51 = .ok (.invokestatic 62, 3) := dk_184 0 62 (dk_at dksJ6_vectorizedHashCode_2 7 rfl rfl)
theorem dJ6_vectorizedHashCode_54 : decode cJ6_vectorizedHashCode 54 = .ok (.goto 103, 3) := dk_167 0 103 (dk_at dksJ6_vectorizedHashCode_2 10 rfl rfl)
theorem dJ6_vectorizedHashCode_57 : decode cJ6_vectorizedHashCode 57 = .ok (.aload_n 0, 1) := dk_42 (dk_at dksJ6_vectorizedHashCode_2 13 rfl rfl)
theorem dJ6_vectorizedHashCode_58 : decode cJ6_vectorizedHashCode 58 = .ok (.instanceof 60, 3) := dk_193 0 60 (dk_at dksJ6_vectorizedHashCode_2 14 rfl rfl)
theorem dJ6_vectorizedHashCode_61 : decode cJ6_vectorizedHashCode 61 = .ok (.ifCond .eq 16, 3) := dk_153 0 16 (dk_at dksJ6_vectorizedHashCode_2 17 rfl rfl)
theorem dJ6_vectorizedHashCode_64 : decode cJ6_vectorizedHashCode 64 = .ok (.iload_n 3, 1) := dk_29 (dk_at dksJ6_vectorizedHashCode_2 20 rfl rfl)
theorem dJ6_vectorizedHashCode_65 : decode cJ6_vectorizedHashCode 65 = .ok (.aload_n 0, 1) := dk_42 (dk_at dksJ6_vectorizedHashCode_2 21 rfl rfl)
theorem dJ6_vectorizedHashCode_66 : decode cJ6_vectorizedHashCode 66 = .ok (.checkcast 60, 3) := dk_192 0 60 (dk_at dksJ6_vectorizedHashCode_3 0 rfl rfl)
theorem dJ6_vectorizedHashCode_69 : decode cJ6_vectorizedHashCode 69 = .ok (.iload_n 1, 1) := dk_27 (dk_at dksJ6_vectorizedHashCode_3 3 rfl rfl)
theorem dJ6_vectorizedHashCode_70 : decode cJ6_vectorizedHashCode 70 = .ok (.iload_n 2, 1) := dk_28 (dk_at dksJ6_vectorizedHashCode_3 4 rfl rfl)
theorem dJ6_vectorizedHashCode_71 : decode cJ6_vectorizedHashCode 71 = .ok (.invokestatic 66, 3) := dk_184 0 66 (dk_at dksJ6_vectorizedHashCode_3 5 rfl rfl)
theorem dJ6_vectorizedHashCode_74 : decode cJ6_vectorizedHashCode 74 = .ok (.goto 83, 3) := dk_167 0 83 (dk_at dksJ6_vectorizedHashCode_3 8 rfl rfl)
theorem dJ6_vectorizedHashCode_77 : decode cJ6_vectorizedHashCode 77 = .ok (.iload_n 3, 1) := dk_29 (dk_at dksJ6_vectorizedHashCode_3 11 rfl rfl)
theorem dJ6_vectorizedHashCode_78 : decode cJ6_vectorizedHashCode 78 = .ok (.aload_n 0, 1) := dk_42 (dk_at dksJ6_vectorizedHashCode_3 12 rfl rfl)
theorem dJ6_vectorizedHashCode_79 : decode cJ6_vectorizedHashCode 79 = .ok (.checkcast 69, 3) := dk_192 0 69 (dk_at dksJ6_vectorizedHashCode_3 13 rfl rfl)
theorem dJ6_vectorizedHashCode_82 : decode cJ6_vectorizedHashCode 82 = .ok (.iload_n 1, 1) := dk_27 (dk_at dksJ6_vectorizedHashCode_3 16 rfl rfl)
theorem dJ6_vectorizedHashCode_83 : decode cJ6_vectorizedHashCode 83 = .ok (.iload_n 2, 1) := dk_28 (dk_at dksJ6_vectorizedHashCode_3 17 rfl rfl)
theorem dJ6_vectorizedHashCode_84 : decode cJ6_vectorizedHashCode 84 = .ok (.invokestatic 71, 3) := dk_184 0 71 (dk_at dksJ6_vectorizedHashCode_3 18 rfl rfl)
theorem dJ6_vectorizedHashCode_87 : decode cJ6_vectorizedHashCode 87 = .ok (.goto 70, 3) := dk_167 0 70 (dk_at dksJ6_vectorizedHashCode_3 21 rfl rfl)
theorem dJ6_vectorizedHashCode_90 : decode cJ6_vectorizedHashCode 90 = .ok (.iload_n 3, 1) := dk_29 (dk_at dksJ6_vectorizedHashCode_4 0 rfl rfl)
theorem dJ6_vectorizedHashCode_91 : decode cJ6_vectorizedHashCode 91 = .ok (.aload_n 0, 1) := dk_42 (dk_at dksJ6_vectorizedHashCode_4 1 rfl rfl)
theorem dJ6_vectorizedHashCode_92 : decode cJ6_vectorizedHashCode 92 = .ok (.checkcast 60, 3) := dk_192 0 60 (dk_at dksJ6_vectorizedHashCode_4 2 rfl rfl)
theorem dJ6_vectorizedHashCode_95 : decode cJ6_vectorizedHashCode 95 = .ok (.iload_n 1, 1) := dk_27 (dk_at dksJ6_vectorizedHashCode_4 5 rfl rfl)
theorem dJ6_vectorizedHashCode_96 : decode cJ6_vectorizedHashCode 96 = .ok (.iload_n 2, 1) := dk_28 (dk_at dksJ6_vectorizedHashCode_4 6 rfl rfl)
theorem dJ6_vectorizedHashCode_97 : decode cJ6_vectorizedHashCode 97 = .ok (.invokestatic 75, 3) := dk_184 0 75 (dk_at dksJ6_vectorizedHashCode_4 7 rfl rfl)
theorem dJ6_vectorizedHashCode_100 : decode cJ6_vectorizedHashCode 100 = .ok (.goto 57, 3) := dk_167 0 57 (dk_at dksJ6_vectorizedHashCode_4 10 rfl rfl)
theorem dJ6_vectorizedHashCode_103 : decode cJ6_vectorizedHashCode 103 = .ok (.iload_n 3, 1) := dk_29 (dk_at dksJ6_vectorizedHashCode_4 13 rfl rfl)
theorem dJ6_vectorizedHashCode_104 : decode cJ6_vectorizedHashCode 104 = .ok (.aload_n 0, 1) := dk_42 (dk_at dksJ6_vectorizedHashCode_4 14 rfl rfl)
theorem dJ6_vectorizedHashCode_105 : decode cJ6_vectorizedHashCode 105 = .ok (.checkcast 77, 3) := dk_192 0 77 (dk_at dksJ6_vectorizedHashCode_4 15 rfl rfl)
theorem dJ6_vectorizedHashCode_108 : decode cJ6_vectorizedHashCode 108 = .ok (.iload_n 1, 1) := dk_27 (dk_at dksJ6_vectorizedHashCode_4 18 rfl rfl)
theorem dJ6_vectorizedHashCode_109 : decode cJ6_vectorizedHashCode 109 = .ok (.iload_n 2, 1) := dk_28 (dk_at dksJ6_vectorizedHashCode_4 19 rfl rfl)
theorem dJ6_vectorizedHashCode_110 : decode cJ6_vectorizedHashCode 110 = .ok (.invokestatic 79, 3) := dk_184 0 79 (dk_at dksJ6_vectorizedHashCode_4 20 rfl rfl)
theorem dJ6_vectorizedHashCode_113 : decode cJ6_vectorizedHashCode 113 = .ok (.goto 44, 3) := dk_167 0 44 (dk_at dksJ6_vectorizedHashCode_5 0 rfl rfl)
theorem dJ6_vectorizedHashCode_116 : decode cJ6_vectorizedHashCode 116 = .ok (.iload_n 3, 1) := dk_29 (dk_at dksJ6_vectorizedHashCode_5 3 rfl rfl)
theorem dJ6_vectorizedHashCode_117 : decode cJ6_vectorizedHashCode 117 = .ok (.aload_n 0, 1) := dk_42 (dk_at dksJ6_vectorizedHashCode_5 4 rfl rfl)
theorem dJ6_vectorizedHashCode_118 : decode cJ6_vectorizedHashCode 118 = .ok (.checkcast 82, 3) := dk_192 0 82 (dk_at dksJ6_vectorizedHashCode_5 5 rfl rfl)
theorem dJ6_vectorizedHashCode_121 : decode cJ6_vectorizedHashCode 121 = .ok (.iload_n 1, 1) := dk_27 (dk_at dksJ6_vectorizedHashCode_5 8 rfl rfl)
theorem dJ6_vectorizedHashCode_122 : decode cJ6_vectorizedHashCode 122 = .ok (.iload_n 2, 1) := dk_28 (dk_at dksJ6_vectorizedHashCode_5 9 rfl rfl)
theorem dJ6_vectorizedHashCode_123 : decode cJ6_vectorizedHashCode 123 = .ok (.invokestatic 84, 3) := dk_184 0 84 (dk_at dksJ6_vectorizedHashCode_5 10 rfl rfl)
theorem dJ6_vectorizedHashCode_126 : decode cJ6_vectorizedHashCode 126 = .ok (.goto 31, 3) := dk_167 0 31 (dk_at dksJ6_vectorizedHashCode_5 13 rfl rfl)
theorem dJ6_vectorizedHashCode_129 : decode cJ6_vectorizedHashCode 129 = .ok (.new 87, 3) := dk_187 0 87 (dk_at dksJ6_vectorizedHashCode_5 16 rfl rfl)
theorem dJ6_vectorizedHashCode_132 : decode cJ6_vectorizedHashCode 132 = .ok (.dup, 1) := dk_89 (dk_at dksJ6_vectorizedHashCode_5 19 rfl rfl)
theorem dJ6_vectorizedHashCode_133 : decode cJ6_vectorizedHashCode 133 = .ok (.new 89, 3) := dk_187 0 89 (dk_at dksJ6_vectorizedHashCode_5 20 rfl rfl)
theorem dJ6_vectorizedHashCode_136 : decode cJ6_vectorizedHashCode 136 = .ok (.dup, 1) := dk_89 (dk_at dksJ6_vectorizedHashCode_5 23 rfl rfl)
theorem dJ6_vectorizedHashCode_137 : decode cJ6_vectorizedHashCode 137 = .ok (.invokespecial 91, 3) := dk_183 0 91 (dk_at dksJ6_vectorizedHashCode_6 0 rfl rfl)
theorem dJ6_vectorizedHashCode_140 : decode cJ6_vectorizedHashCode 140 = .ok (.ldc 92, 2) := dk_18 92 (dk_at dksJ6_vectorizedHashCode_6 3 rfl rfl)
theorem dJ6_vectorizedHashCode_142 : decode cJ6_vectorizedHashCode 142 = .ok (.invokevirtual 94, 3) := dk_182 0 94 (dk_at dksJ6_vectorizedHashCode_6 5 rfl rfl)
theorem dJ6_vectorizedHashCode_145 : decode cJ6_vectorizedHashCode 145 = .ok (.iload 4, 2) := dk_21 4 (dk_at dksJ6_vectorizedHashCode_6 8 rfl rfl)
theorem dJ6_vectorizedHashCode_147 : decode cJ6_vectorizedHashCode 147 = .ok (.invokevirtual 98, 3) := dk_182 0 98 (dk_at dksJ6_vectorizedHashCode_6 10 rfl rfl)
theorem dJ6_vectorizedHashCode_150 : decode cJ6_vectorizedHashCode 150 = .ok (.invokevirtual 101, 3) := dk_182 0 101 (dk_at dksJ6_vectorizedHashCode_6 13 rfl rfl)
theorem dJ6_vectorizedHashCode_153 : decode cJ6_vectorizedHashCode 153 = .ok (.invokespecial 105, 3) := dk_183 0 105 (dk_at dksJ6_vectorizedHashCode_6 16 rfl rfl)
theorem dJ6_vectorizedHashCode_156 : decode cJ6_vectorizedHashCode 156 = .ok (.athrow, 1) := dk_191 (dk_at dksJ6_vectorizedHashCode_6 19 rfl rfl)
theorem dJ6_vectorizedHashCode_157 : decode cJ6_vectorizedHashCode 157 = .ok (.ireturn, 1) := dk_172 (dk_at dksJ6_vectorizedHashCode_6 20 rfl rfl)
def dkwJ6_signedHashCode_1 : List UInt8 := [17, 0, 255, 126, 96, 59, 132, 5, 1, 167, 255, 232, 26, 172]
abbrev dktJ6_signedHashCode_1 : List UInt8 := dkwJ6_signedHashCode_1 ++ []
def dkwJ6_signedHashCode_0 : List UInt8 := [28, 29, 96, 54, 4, 28, 54, 5, 21, 5, 21, 4, 162, 0, 23, 16, 31, 26, 104, 43, 21, 5, 51]
abbrev dktJ6_signedHashCode_0 : List UInt8 := dkwJ6_signedHashCode_0 ++ dktJ6_signedHashCode_1
theorem dksJ6_signedHashCode_0 : cJ6_signedHashCode.data.toList.drop 0 = dktJ6_signedHashCode_0 := by decide +kernel
theorem dksJ6_signedHashCode_1 : cJ6_signedHashCode.data.toList.drop 23 = dktJ6_signedHashCode_1 := dk_seg dksJ6_signedHashCode_0 23 rfl rfl
theorem dJ6_signedHashCode_0 : decode cJ6_signedHashCode 0 = .ok (.iload_n 2, 1) := dk_28 (dk_at dksJ6_signedHashCode_0 0 rfl rfl)
theorem dJ6_signedHashCode_1 : decode cJ6_signedHashCode 1 = .ok (.iload_n 3, 1) := dk_29 (dk_at dksJ6_signedHashCode_0 1 rfl rfl)
theorem dJ6_signedHashCode_2 : decode cJ6_signedHashCode 2 = .ok (.iadd, 1) := dk_96 (dk_at dksJ6_signedHashCode_0 2 rfl rfl)
theorem dJ6_signedHashCode_3 : decode cJ6_signedHashCode 3 = .ok (.istore 4, 2) := dk_54 4 (dk_at dksJ6_signedHashCode_0 3 rfl rfl)
theorem dJ6_signedHashCode_5 : decode cJ6_signedHashCode 5 = .ok (.iload_n 2, 1) := dk_28 (dk_at dksJ6_signedHashCode_0 5 rfl rfl)
theorem dJ6_signedHashCode_6 : decode cJ6_signedHashCode 6 = .ok (.istore 5, 2) := dk_54 5 (dk_at dksJ6_signedHashCode_0 6 rfl rfl)
theorem dJ6_signedHashCode_8 : decode cJ6_signedHashCode 8 = .ok (.iload 5, 2) := dk_21 5 (dk_at dksJ6_signedHashCode_0 8 rfl rfl)
theorem dJ6_signedHashCode_10 : decode cJ6_signedHashCode 10 = .ok (.iload 4, 2) := dk_21 4 (dk_at dksJ6_signedHashCode_0 10 rfl rfl)
theorem dJ6_signedHashCode_12 : decode cJ6_signedHashCode 12 = .ok (.if_icmp .ge 23, 3) := dk_162 0 23 (dk_at dksJ6_signedHashCode_0 12 rfl rfl)
theorem dJ6_signedHashCode_15 : decode cJ6_signedHashCode 15 = .ok (.bipush 31, 2) := dk_16 31 (dk_at dksJ6_signedHashCode_0 15 rfl rfl)
theorem dJ6_signedHashCode_17 : decode cJ6_signedHashCode 17 = .ok (.iload_n 0, 1) := dk_26 (dk_at dksJ6_signedHashCode_0 17 rfl rfl)
theorem dJ6_signedHashCode_18 : decode cJ6_signedHashCode 18 = .ok (.imul, 1) := dk_104 (dk_at dksJ6_signedHashCode_0 18 rfl rfl)
theorem dJ6_signedHashCode_19 : decode cJ6_signedHashCode 19 = .ok (.aload_n 1, 1) := dk_43 (dk_at dksJ6_signedHashCode_0 19 rfl rfl)
theorem dJ6_signedHashCode_20 : decode cJ6_signedHashCode 20 = .ok (.iload 5, 2) := dk_21 5 (dk_at dksJ6_signedHashCode_0 20 rfl rfl)
theorem dJ6_signedHashCode_22 : decode cJ6_signedHashCode 22 = .ok (.baload, 1) := dk_51 (dk_at dksJ6_signedHashCode_0 22 rfl rfl)
theorem dJ6_signedHashCode_23 : decode cJ6_signedHashCode 23 = .ok (.sipush 255, 3) := dk_17 0 255 (dk_at dksJ6_signedHashCode_1 0 rfl rfl)
theorem dJ6_signedHashCode_26 : decode cJ6_signedHashCode 26 = .ok (.iand, 1) := dk_126 (dk_at dksJ6_signedHashCode_1 3 rfl rfl)
theorem dJ6_signedHashCode_27 : decode cJ6_signedHashCode 27 = .ok (.iadd, 1) := dk_96 (dk_at dksJ6_signedHashCode_1 4 rfl rfl)
theorem dJ6_signedHashCode_28 : decode cJ6_signedHashCode 28 = .ok (.istore_n 0, 1) := dk_59 (dk_at dksJ6_signedHashCode_1 5 rfl rfl)
theorem dJ6_signedHashCode_29 : decode cJ6_signedHashCode 29 = .ok (.iinc 5 1, 3) := dk_132 5 1 (dk_at dksJ6_signedHashCode_1 6 rfl rfl)
theorem dJ6_signedHashCode_32 : decode cJ6_signedHashCode 32 = .ok (.goto (-24), 3) := dk_167 255 232 (dk_at dksJ6_signedHashCode_1 9 rfl rfl)
theorem dJ6_signedHashCode_35 : decode cJ6_signedHashCode 35 = .ok (.iload_n 0, 1) := dk_26 (dk_at dksJ6_signedHashCode_1 12 rfl rfl)
theorem dJ6_signedHashCode_36 : decode cJ6_signedHashCode 36 = .ok (.ireturn, 1) := dk_172 (dk_at dksJ6_signedHashCode_1 13 rfl rfl)
def dkwJ6_utf16hashCode_1 : List UInt8 := [21, 5, 185, 0, 110, 3, 0, 96, 59, 132, 5, 1, 167, 255, 229, 26, 172]
abbrev dktJ6_utf16hashCode_1 : List UInt8 := dkwJ6_utf16hashCode_1 ++ []
def dkwJ6_utf16hashCode_0 : List UInt8 := [28, 29, 96, 54, 4, 28, 54, 5, 21, 5, 21, 4, 162, 0, 26, 16, 31, 26, 104, 178, 0, 106, 43]
abbrev dktJ6_utf16hashCode_0 : List UInt8 := dkwJ6_utf16hashCode_0 ++ dktJ6_utf16hashCode_1
theorem dksJ6_utf16hashCode_0 : cJ6_utf16hashCode.data.toList.drop 0 = dktJ6_utf16hashCode_0 := by decide +kernel
theorem dksJ6_utf16hashCode_1 : cJ6_utf16hashCode.data.toList.drop 23 = dktJ6_utf16hashCode_1 := dk_seg dksJ6_utf16hashCode_0 23 rfl rfl
theorem dJ6_utf16hashCode_0 : decode cJ6_utf16hashCode 0 = .ok (.iload_n 2, 1) := dk_28 (dk_at dksJ6_utf16hashCode_0 0 rfl rfl)
theorem dJ6_utf16hashCode_1 : decode cJ6_utf16hashCode 1 = .ok (.iload_n 3, 1) := dk_29 (dk_at dksJ6_utf16hashCode_0 1 rfl rfl)
theorem dJ6_utf16hashCode_2 : decode cJ6_utf16hashCode 2 = .ok (.iadd, 1) := dk_96 (dk_at dksJ6_utf16hashCode_0 2 rfl rfl)
theorem dJ6_utf16hashCode_3 : decode cJ6_utf16hashCode 3 = .ok (.istore 4, 2) := dk_54 4 (dk_at dksJ6_utf16hashCode_0 3 rfl rfl)
theorem dJ6_utf16hashCode_5 : decode cJ6_utf16hashCode 5 = .ok (.iload_n 2, 1) := dk_28 (dk_at dksJ6_utf16hashCode_0 5 rfl rfl)
theorem dJ6_utf16hashCode_6 : decode cJ6_utf16hashCode 6 = .ok (.istore 5, 2) := dk_54 5 (dk_at dksJ6_utf16hashCode_0 6 rfl rfl)
theorem dJ6_utf16hashCode_8 : decode cJ6_utf16hashCode 8 = .ok (.iload 5, 2) := dk_21 5 (dk_at dksJ6_utf16hashCode_0 8 rfl rfl)
theorem dJ6_utf16hashCode_10 : decode cJ6_utf16hashCode 10 = .ok (.iload 4, 2) := dk_21 4 (dk_at dksJ6_utf16hashCode_0 10 rfl rfl)
theorem dJ6_utf16hashCode_12 : decode cJ6_utf16hashCode 12 = .ok (.if_icmp .ge 26, 3) := dk_162 0 26 (dk_at dksJ6_utf16hashCode_0 12 rfl rfl)
theorem dJ6_utf16hashCode_15 : decode cJ6_utf16hashCode 15 = .ok (.bipush 31, 2) := dk_16 31 (dk_at dksJ6_utf16hashCode_0 15 rfl rfl)
theorem dJ6_utf16hashCode_17 : decode cJ6_utf16hashCode 17 = .ok (.iload_n 0, 1) := dk_26 (dk_at dksJ6_utf16hashCode_0 17 rfl rfl)
theorem dJ6_utf16hashCode_18 : decode cJ6_utf16hashCode 18 = .ok (.imul, 1) := dk_104 (dk_at dksJ6_utf16hashCode_0 18 rfl rfl)
theorem dJ6_utf16hashCode_19 : decode cJ6_utf16hashCode 19 = .ok (.getstatic 106, 3) := dk_178 0 106 (dk_at dksJ6_utf16hashCode_0 19 rfl rfl)
theorem dJ6_utf16hashCode_22 : decode cJ6_utf16hashCode 22 = .ok (.aload_n 1, 1) := dk_43 (dk_at dksJ6_utf16hashCode_0 22 rfl rfl)
theorem dJ6_utf16hashCode_23 : decode cJ6_utf16hashCode 23 = .ok (.iload 5, 2) := dk_21 5 (dk_at dksJ6_utf16hashCode_1 0 rfl rfl)
theorem dJ6_utf16hashCode_25 : decode cJ6_utf16hashCode 25 = .ok (.invokeinterface 110 3, 5) := by decide +kernel
theorem dJ6_utf16hashCode_30 : decode cJ6_utf16hashCode 30 = .ok (.iadd, 1) := dk_96 (dk_at dksJ6_utf16hashCode_1 7 rfl rfl)
theorem dJ6_utf16hashCode_31 : decode cJ6_utf16hashCode 31 = .ok (.istore_n 0, 1) := dk_59 (dk_at dksJ6_utf16hashCode_1 8 rfl rfl)
theorem dJ6_utf16hashCode_32 : decode cJ6_utf16hashCode 32 = .ok (.iinc 5 1, 3) := dk_132 5 1 (dk_at dksJ6_utf16hashCode_1 9 rfl rfl)
theorem dJ6_utf16hashCode_35 : decode cJ6_utf16hashCode 35 = .ok (.goto (-27), 3) := dk_167 255 229 (dk_at dksJ6_utf16hashCode_1 12 rfl rfl)
theorem dJ6_utf16hashCode_38 : decode cJ6_utf16hashCode 38 = .ok (.iload_n 0, 1) := dk_26 (dk_at dksJ6_utf16hashCode_1 15 rfl rfl)
theorem dJ6_utf16hashCode_39 : decode cJ6_utf16hashCode 39 = .ok (.ireturn, 1) := dk_172 (dk_at dksJ6_utf16hashCode_1 16 rfl rfl)
def dkwJ6_hashCode_1 : List UInt8 := [59, 132, 5, 1, 167, 255, 236, 26, 172]
abbrev dktJ6_hashCode_1 : List UInt8 := dkwJ6_hashCode_1 ++ []
def dkwJ6_hashCode_0 : List UInt8 := [28, 29, 96, 54, 4, 28, 54, 5, 21, 5, 21, 4, 162, 0, 19, 16, 31, 26, 104, 43, 21, 5, 52, 96]
abbrev dktJ6_hashCode_0 : List UInt8 := dkwJ6_hashCode_0 ++ dktJ6_hashCode_1
theorem dksJ6_hashCode_0 : cJ6_hashCode.data.toList.drop 0 = dktJ6_hashCode_0 := by decide +kernel
theorem dksJ6_hashCode_1 : cJ6_hashCode.data.toList.drop 24 = dktJ6_hashCode_1 := dk_seg dksJ6_hashCode_0 24 rfl rfl
theorem dJ6_hashCode_0 : decode cJ6_hashCode 0 = .ok (.iload_n 2, 1) := dk_28 (dk_at dksJ6_hashCode_0 0 rfl rfl)
theorem dJ6_hashCode_1 : decode cJ6_hashCode 1 = .ok (.iload_n 3, 1) := dk_29 (dk_at dksJ6_hashCode_0 1 rfl rfl)
theorem dJ6_hashCode_2 : decode cJ6_hashCode 2 = .ok (.iadd, 1) := dk_96 (dk_at dksJ6_hashCode_0 2 rfl rfl)
theorem dJ6_hashCode_3 : decode cJ6_hashCode 3 = .ok (.istore 4, 2) := dk_54 4 (dk_at dksJ6_hashCode_0 3 rfl rfl)
theorem dJ6_hashCode_5 : decode cJ6_hashCode 5 = .ok (.iload_n 2, 1) := dk_28 (dk_at dksJ6_hashCode_0 5 rfl rfl)
theorem dJ6_hashCode_6 : decode cJ6_hashCode 6 = .ok (.istore 5, 2) := dk_54 5 (dk_at dksJ6_hashCode_0 6 rfl rfl)
theorem dJ6_hashCode_8 : decode cJ6_hashCode 8 = .ok (.iload 5, 2) := dk_21 5 (dk_at dksJ6_hashCode_0 8 rfl rfl)
theorem dJ6_hashCode_10 : decode cJ6_hashCode 10 = .ok (.iload 4, 2) := dk_21 4 (dk_at dksJ6_hashCode_0 10 rfl rfl)
theorem dJ6_hashCode_12 : decode cJ6_hashCode 12 = .ok (.if_icmp .ge 19, 3) := dk_162 0 19 (dk_at dksJ6_hashCode_0 12 rfl rfl)
theorem dJ6_hashCode_15 : decode cJ6_hashCode 15 = .ok (.bipush 31, 2) := dk_16 31 (dk_at dksJ6_hashCode_0 15 rfl rfl)
theorem dJ6_hashCode_17 : decode cJ6_hashCode 17 = .ok (.iload_n 0, 1) := dk_26 (dk_at dksJ6_hashCode_0 17 rfl rfl)
theorem dJ6_hashCode_18 : decode cJ6_hashCode 18 = .ok (.imul, 1) := dk_104 (dk_at dksJ6_hashCode_0 18 rfl rfl)
theorem dJ6_hashCode_19 : decode cJ6_hashCode 19 = .ok (.aload_n 1, 1) := dk_43 (dk_at dksJ6_hashCode_0 19 rfl rfl)
theorem dJ6_hashCode_20 : decode cJ6_hashCode 20 = .ok (.iload 5, 2) := dk_21 5 (dk_at dksJ6_hashCode_0 20 rfl rfl)
theorem dJ6_hashCode_22 : decode cJ6_hashCode 22 = .ok (.caload, 1) := dk_52 (dk_at dksJ6_hashCode_0 22 rfl rfl)
theorem dJ6_hashCode_23 : decode cJ6_hashCode 23 = .ok (.iadd, 1) := dk_96 (dk_at dksJ6_hashCode_0 23 rfl rfl)
theorem dJ6_hashCode_24 : decode cJ6_hashCode 24 = .ok (.istore_n 0, 1) := dk_59 (dk_at dksJ6_hashCode_1 0 rfl rfl)
theorem dJ6_hashCode_25 : decode cJ6_hashCode 25 = .ok (.iinc 5 1, 3) := dk_132 5 1 (dk_at dksJ6_hashCode_1 1 rfl rfl)
theorem dJ6_hashCode_28 : decode cJ6_hashCode 28 = .ok (.goto (-20), 3) := dk_167 255 236 (dk_at dksJ6_hashCode_1 4 rfl rfl)
theorem dJ6_hashCode_31 : decode cJ6_hashCode 31 = .ok (.iload_n 0, 1) := dk_26 (dk_at dksJ6_hashCode_1 7 rfl rfl)
theorem dJ6_hashCode_32 : decode cJ6_hashCode 32 = .ok (.ireturn, 1) := dk_172 (dk_at dksJ6_hashCode_1 8 rfl rfl)
def dkwJ6_hashCode_2_1 : List UInt8 := [59, 132, 5, 1, 167, 255, 236, 26, 172]
abbrev dktJ6_hashCode_2_1 : List UInt8 := dkwJ6_hashCode_2_1 ++ []
def dkwJ6_hashCode_2_0 : List UInt8 := [28, 29, 96, 54, 4, 28, 54, 5, 21, 5, 21, 4, 162, 0, 19, 16, 31, 26, 104, 43, 21, 5, 51, 96]
abbrev dktJ6_hashCode_2_0 : List UInt8 := dkwJ6_hashCode_2_0 ++ dktJ6_hashCode_2_1
theorem dksJ6_hashCode_2_0 : cJ6_hashCode_2.data.toList.drop 0 = dktJ6_hashCode_2_0 := by decide +kernel
theorem dksJ6_hashCode_2_1 : cJ6_hashCode_2.data.toList.drop 24 = dktJ6_hashCode_2_1 := dk_seg dksJ6_hashCode_2_0 24 rfl rfl
theorem dJ6_hashCode_2_0 : decode cJ6_hashCode_2 0 = .ok (.iload_n 2, 1) := dk_28 (dk_at dksJ6_hashCode_2_0 0 rfl rfl)
theorem dJ6_hashCode_2_1 : decode cJ6_hashCode_2 1 = .ok (.iload_n 3, 1) := dk_29 (dk_at dksJ6_hashCode_2_0 1 rfl rfl)
theorem dJ6_hashCode_2_2 : decode cJ6_hashCode_2 2 = .ok (.iadd, 1) := dk_96 (dk_at dksJ6_hashCode_2_0 2 rfl rfl)
theorem dJ6_hashCode_2_3 : decode cJ6_hashCode_2 3 = .ok (.istore 4, 2) := dk_54 4 (dk_at dksJ6_hashCode_2_0 3 rfl rfl)
theorem dJ6_hashCode_2_5 : decode cJ6_hashCode_2 5 = .ok (.iload_n 2, 1) := dk_28 (dk_at dksJ6_hashCode_2_0 5 rfl rfl)
theorem dJ6_hashCode_2_6 : decode cJ6_hashCode_2 6 = .ok (.istore 5, 2) := dk_54 5 (dk_at dksJ6_hashCode_2_0 6 rfl rfl)
theorem dJ6_hashCode_2_8 : decode cJ6_hashCode_2 8 = .ok (.iload 5, 2) := dk_21 5 (dk_at dksJ6_hashCode_2_0 8 rfl rfl)
theorem dJ6_hashCode_2_10 : decode cJ6_hashCode_2 10 = .ok (.iload 4, 2) := dk_21 4 (dk_at dksJ6_hashCode_2_0 10 rfl rfl)
theorem dJ6_hashCode_2_12 : decode cJ6_hashCode_2 12 = .ok (.if_icmp .ge 19, 3) := dk_162 0 19 (dk_at dksJ6_hashCode_2_0 12 rfl rfl)
theorem dJ6_hashCode_2_15 : decode cJ6_hashCode_2 15 = .ok (.bipush 31, 2) := dk_16 31 (dk_at dksJ6_hashCode_2_0 15 rfl rfl)
theorem dJ6_hashCode_2_17 : decode cJ6_hashCode_2 17 = .ok (.iload_n 0, 1) := dk_26 (dk_at dksJ6_hashCode_2_0 17 rfl rfl)
theorem dJ6_hashCode_2_18 : decode cJ6_hashCode_2 18 = .ok (.imul, 1) := dk_104 (dk_at dksJ6_hashCode_2_0 18 rfl rfl)
theorem dJ6_hashCode_2_19 : decode cJ6_hashCode_2 19 = .ok (.aload_n 1, 1) := dk_43 (dk_at dksJ6_hashCode_2_0 19 rfl rfl)
theorem dJ6_hashCode_2_20 : decode cJ6_hashCode_2 20 = .ok (.iload 5, 2) := dk_21 5 (dk_at dksJ6_hashCode_2_0 20 rfl rfl)
theorem dJ6_hashCode_2_22 : decode cJ6_hashCode_2 22 = .ok (.baload, 1) := dk_51 (dk_at dksJ6_hashCode_2_0 22 rfl rfl)
theorem dJ6_hashCode_2_23 : decode cJ6_hashCode_2 23 = .ok (.iadd, 1) := dk_96 (dk_at dksJ6_hashCode_2_0 23 rfl rfl)
theorem dJ6_hashCode_2_24 : decode cJ6_hashCode_2 24 = .ok (.istore_n 0, 1) := dk_59 (dk_at dksJ6_hashCode_2_1 0 rfl rfl)
theorem dJ6_hashCode_2_25 : decode cJ6_hashCode_2 25 = .ok (.iinc 5 1, 3) := dk_132 5 1 (dk_at dksJ6_hashCode_2_1 1 rfl rfl)
theorem dJ6_hashCode_2_28 : decode cJ6_hashCode_2 28 = .ok (.goto (-20), 3) := dk_167 255 236 (dk_at dksJ6_hashCode_2_1 4 rfl rfl)
theorem dJ6_hashCode_2_31 : decode cJ6_hashCode_2 31 = .ok (.iload_n 0, 1) := dk_26 (dk_at dksJ6_hashCode_2_1 7 rfl rfl)
theorem dJ6_hashCode_2_32 : decode cJ6_hashCode_2 32 = .ok (.ireturn, 1) := dk_172 (dk_at dksJ6_hashCode_2_1 8 rfl rfl)
def dkwJ6_hashCode_3_1 : List UInt8 := [59, 132, 5, 1, 167, 255, 236, 26, 172]
abbrev dktJ6_hashCode_3_1 : List UInt8 := dkwJ6_hashCode_3_1 ++ []
def dkwJ6_hashCode_3_0 : List UInt8 := [28, 29, 96, 54, 4, 28, 54, 5, 21, 5, 21, 4, 162, 0, 19, 16, 31, 26, 104, 43, 21, 5, 53, 96]
abbrev dktJ6_hashCode_3_0 : List UInt8 := dkwJ6_hashCode_3_0 ++ dktJ6_hashCode_3_1
theorem dksJ6_hashCode_3_0 : cJ6_hashCode_3.data.toList.drop 0 = dktJ6_hashCode_3_0 := by decide +kernel
theorem dksJ6_hashCode_3_1 : cJ6_hashCode_3.data.toList.drop 24 = dktJ6_hashCode_3_1 := dk_seg dksJ6_hashCode_3_0 24 rfl rfl
theorem dJ6_hashCode_3_0 : decode cJ6_hashCode_3 0 = .ok (.iload_n 2, 1) := dk_28 (dk_at dksJ6_hashCode_3_0 0 rfl rfl)
theorem dJ6_hashCode_3_1 : decode cJ6_hashCode_3 1 = .ok (.iload_n 3, 1) := dk_29 (dk_at dksJ6_hashCode_3_0 1 rfl rfl)
theorem dJ6_hashCode_3_2 : decode cJ6_hashCode_3 2 = .ok (.iadd, 1) := dk_96 (dk_at dksJ6_hashCode_3_0 2 rfl rfl)
theorem dJ6_hashCode_3_3 : decode cJ6_hashCode_3 3 = .ok (.istore 4, 2) := dk_54 4 (dk_at dksJ6_hashCode_3_0 3 rfl rfl)
theorem dJ6_hashCode_3_5 : decode cJ6_hashCode_3 5 = .ok (.iload_n 2, 1) := dk_28 (dk_at dksJ6_hashCode_3_0 5 rfl rfl)
theorem dJ6_hashCode_3_6 : decode cJ6_hashCode_3 6 = .ok (.istore 5, 2) := dk_54 5 (dk_at dksJ6_hashCode_3_0 6 rfl rfl)
theorem dJ6_hashCode_3_8 : decode cJ6_hashCode_3 8 = .ok (.iload 5, 2) := dk_21 5 (dk_at dksJ6_hashCode_3_0 8 rfl rfl)
theorem dJ6_hashCode_3_10 : decode cJ6_hashCode_3 10 = .ok (.iload 4, 2) := dk_21 4 (dk_at dksJ6_hashCode_3_0 10 rfl rfl)
theorem dJ6_hashCode_3_12 : decode cJ6_hashCode_3 12 = .ok (.if_icmp .ge 19, 3) := dk_162 0 19 (dk_at dksJ6_hashCode_3_0 12 rfl rfl)
theorem dJ6_hashCode_3_15 : decode cJ6_hashCode_3 15 = .ok (.bipush 31, 2) := dk_16 31 (dk_at dksJ6_hashCode_3_0 15 rfl rfl)
theorem dJ6_hashCode_3_17 : decode cJ6_hashCode_3 17 = .ok (.iload_n 0, 1) := dk_26 (dk_at dksJ6_hashCode_3_0 17 rfl rfl)
theorem dJ6_hashCode_3_18 : decode cJ6_hashCode_3 18 = .ok (.imul, 1) := dk_104 (dk_at dksJ6_hashCode_3_0 18 rfl rfl)
theorem dJ6_hashCode_3_19 : decode cJ6_hashCode_3 19 = .ok (.aload_n 1, 1) := dk_43 (dk_at dksJ6_hashCode_3_0 19 rfl rfl)
theorem dJ6_hashCode_3_20 : decode cJ6_hashCode_3 20 = .ok (.iload 5, 2) := dk_21 5 (dk_at dksJ6_hashCode_3_0 20 rfl rfl)
theorem dJ6_hashCode_3_22 : decode cJ6_hashCode_3 22 = .ok (.saload, 1) := dk_53 (dk_at dksJ6_hashCode_3_0 22 rfl rfl)
theorem dJ6_hashCode_3_23 : decode cJ6_hashCode_3 23 = .ok (.iadd, 1) := dk_96 (dk_at dksJ6_hashCode_3_0 23 rfl rfl)
theorem dJ6_hashCode_3_24 : decode cJ6_hashCode_3 24 = .ok (.istore_n 0, 1) := dk_59 (dk_at dksJ6_hashCode_3_1 0 rfl rfl)
theorem dJ6_hashCode_3_25 : decode cJ6_hashCode_3 25 = .ok (.iinc 5 1, 3) := dk_132 5 1 (dk_at dksJ6_hashCode_3_1 1 rfl rfl)
theorem dJ6_hashCode_3_28 : decode cJ6_hashCode_3 28 = .ok (.goto (-20), 3) := dk_167 255 236 (dk_at dksJ6_hashCode_3_1 4 rfl rfl)
theorem dJ6_hashCode_3_31 : decode cJ6_hashCode_3 31 = .ok (.iload_n 0, 1) := dk_26 (dk_at dksJ6_hashCode_3_1 7 rfl rfl)
theorem dJ6_hashCode_3_32 : decode cJ6_hashCode_3 32 = .ok (.ireturn, 1) := dk_172 (dk_at dksJ6_hashCode_3_1 8 rfl rfl)
def dkwJ6_hashCode_4_1 : List UInt8 := [59, 132, 5, 1, 167, 255, 236, 26, 172]
abbrev dktJ6_hashCode_4_1 : List UInt8 := dkwJ6_hashCode_4_1 ++ []
def dkwJ6_hashCode_4_0 : List UInt8 := [28, 29, 96, 54, 4, 28, 54, 5, 21, 5, 21, 4, 162, 0, 19, 16, 31, 26, 104, 43, 21, 5, 46, 96]
abbrev dktJ6_hashCode_4_0 : List UInt8 := dkwJ6_hashCode_4_0 ++ dktJ6_hashCode_4_1
theorem dksJ6_hashCode_4_0 : cJ6_hashCode_4.data.toList.drop 0 = dktJ6_hashCode_4_0 := by decide +kernel
theorem dksJ6_hashCode_4_1 : cJ6_hashCode_4.data.toList.drop 24 = dktJ6_hashCode_4_1 := dk_seg dksJ6_hashCode_4_0 24 rfl rfl
theorem dJ6_hashCode_4_0 : decode cJ6_hashCode_4 0 = .ok (.iload_n 2, 1) := dk_28 (dk_at dksJ6_hashCode_4_0 0 rfl rfl)
theorem dJ6_hashCode_4_1 : decode cJ6_hashCode_4 1 = .ok (.iload_n 3, 1) := dk_29 (dk_at dksJ6_hashCode_4_0 1 rfl rfl)
theorem dJ6_hashCode_4_2 : decode cJ6_hashCode_4 2 = .ok (.iadd, 1) := dk_96 (dk_at dksJ6_hashCode_4_0 2 rfl rfl)
theorem dJ6_hashCode_4_3 : decode cJ6_hashCode_4 3 = .ok (.istore 4, 2) := dk_54 4 (dk_at dksJ6_hashCode_4_0 3 rfl rfl)
theorem dJ6_hashCode_4_5 : decode cJ6_hashCode_4 5 = .ok (.iload_n 2, 1) := dk_28 (dk_at dksJ6_hashCode_4_0 5 rfl rfl)
theorem dJ6_hashCode_4_6 : decode cJ6_hashCode_4 6 = .ok (.istore 5, 2) := dk_54 5 (dk_at dksJ6_hashCode_4_0 6 rfl rfl)
theorem dJ6_hashCode_4_8 : decode cJ6_hashCode_4 8 = .ok (.iload 5, 2) := dk_21 5 (dk_at dksJ6_hashCode_4_0 8 rfl rfl)
theorem dJ6_hashCode_4_10 : decode cJ6_hashCode_4 10 = .ok (.iload 4, 2) := dk_21 4 (dk_at dksJ6_hashCode_4_0 10 rfl rfl)
theorem dJ6_hashCode_4_12 : decode cJ6_hashCode_4 12 = .ok (.if_icmp .ge 19, 3) := dk_162 0 19 (dk_at dksJ6_hashCode_4_0 12 rfl rfl)
theorem dJ6_hashCode_4_15 : decode cJ6_hashCode_4 15 = .ok (.bipush 31, 2) := dk_16 31 (dk_at dksJ6_hashCode_4_0 15 rfl rfl)
theorem dJ6_hashCode_4_17 : decode cJ6_hashCode_4 17 = .ok (.iload_n 0, 1) := dk_26 (dk_at dksJ6_hashCode_4_0 17 rfl rfl)
theorem dJ6_hashCode_4_18 : decode cJ6_hashCode_4 18 = .ok (.imul, 1) := dk_104 (dk_at dksJ6_hashCode_4_0 18 rfl rfl)
theorem dJ6_hashCode_4_19 : decode cJ6_hashCode_4 19 = .ok (.aload_n 1, 1) := dk_43 (dk_at dksJ6_hashCode_4_0 19 rfl rfl)
theorem dJ6_hashCode_4_20 : decode cJ6_hashCode_4 20 = .ok (.iload 5, 2) := dk_21 5 (dk_at dksJ6_hashCode_4_0 20 rfl rfl)
theorem dJ6_hashCode_4_22 : decode cJ6_hashCode_4 22 = .ok (.iaload, 1) := dk_46 (dk_at dksJ6_hashCode_4_0 22 rfl rfl)
theorem dJ6_hashCode_4_23 : decode cJ6_hashCode_4 23 = .ok (.iadd, 1) := dk_96 (dk_at dksJ6_hashCode_4_0 23 rfl rfl)
theorem dJ6_hashCode_4_24 : decode cJ6_hashCode_4 24 = .ok (.istore_n 0, 1) := dk_59 (dk_at dksJ6_hashCode_4_1 0 rfl rfl)
theorem dJ6_hashCode_4_25 : decode cJ6_hashCode_4 25 = .ok (.iinc 5 1, 3) := dk_132 5 1 (dk_at dksJ6_hashCode_4_1 1 rfl rfl)
theorem dJ6_hashCode_4_28 : decode cJ6_hashCode_4 28 = .ok (.goto (-20), 3) := dk_167 255 236 (dk_at dksJ6_hashCode_4_1 4 rfl rfl)
theorem dJ6_hashCode_4_31 : decode cJ6_hashCode_4 31 = .ok (.iload_n 0, 1) := dk_26 (dk_at dksJ6_hashCode_4_1 7 rfl rfl)
theorem dJ6_hashCode_4_32 : decode cJ6_hashCode_4 32 = .ok (.ireturn, 1) := dk_172 (dk_at dksJ6_hashCode_4_1 8 rfl rfl)
def dkwJ7_max_0 : List UInt8 := [26, 27, 161, 0, 7, 26, 167, 0, 4, 27, 172]
abbrev dktJ7_max_0 : List UInt8 := dkwJ7_max_0 ++ []
theorem dksJ7_max_0 : cJ7_max.data.toList.drop 0 = dktJ7_max_0 := by decide +kernel
theorem dJ7_max_0 : decode cJ7_max 0 = .ok (.iload_n 0, 1) := dk_26 (dk_at dksJ7_max_0 0 rfl rfl)
theorem dJ7_max_1 : decode cJ7_max 1 = .ok (.iload_n 1, 1) := dk_27 (dk_at dksJ7_max_0 1 rfl rfl)
theorem dJ7_max_2 : decode cJ7_max 2 = .ok (.if_icmp .lt 7, 3) := dk_161 0 7 (dk_at dksJ7_max_0 2 rfl rfl)
theorem dJ7_max_5 : decode cJ7_max 5 = .ok (.iload_n 0, 1) := dk_26 (dk_at dksJ7_max_0 5 rfl rfl)
theorem dJ7_max_6 : decode cJ7_max 6 = .ok (.goto 4, 3) := dk_167 0 4 (dk_at dksJ7_max_0 6 rfl rfl)
theorem dJ7_max_9 : decode cJ7_max 9 = .ok (.iload_n 1, 1) := dk_27 (dk_at dksJ7_max_0 9 rfl rfl)
theorem dJ7_max_10 : decode cJ7_max 10 = .ok (.ireturn, 1) := dk_172 (dk_at dksJ7_max_0 10 rfl rfl)
def dkwJ7_min_0 : List UInt8 := [26, 27, 163, 0, 7, 26, 167, 0, 4, 27, 172]
abbrev dktJ7_min_0 : List UInt8 := dkwJ7_min_0 ++ []
theorem dksJ7_min_0 : cJ7_min.data.toList.drop 0 = dktJ7_min_0 := by decide +kernel
theorem dJ7_min_0 : decode cJ7_min 0 = .ok (.iload_n 0, 1) := dk_26 (dk_at dksJ7_min_0 0 rfl rfl)
theorem dJ7_min_1 : decode cJ7_min 1 = .ok (.iload_n 1, 1) := dk_27 (dk_at dksJ7_min_0 1 rfl rfl)
theorem dJ7_min_2 : decode cJ7_min 2 = .ok (.if_icmp .gt 7, 3) := dk_163 0 7 (dk_at dksJ7_min_0 2 rfl rfl)
theorem dJ7_min_5 : decode cJ7_min 5 = .ok (.iload_n 0, 1) := dk_26 (dk_at dksJ7_min_0 5 rfl rfl)
theorem dJ7_min_6 : decode cJ7_min 6 = .ok (.goto 4, 3) := dk_167 0 4 (dk_at dksJ7_min_0 6 rfl rfl)
theorem dJ7_min_9 : decode cJ7_min 9 = .ok (.iload_n 1, 1) := dk_27 (dk_at dksJ7_min_0 9 rfl rfl)
theorem dJ7_min_10 : decode cJ7_min 10 = .ok (.ireturn, 1) := dk_172 (dk_at dksJ7_min_0 10 rfl rfl)
def dkwJ7_min_2_0 : List UInt8 := [30, 32, 148, 157, 0, 7, 30, 167, 0, 4, 32, 173]
abbrev dktJ7_min_2_0 : List UInt8 := dkwJ7_min_2_0 ++ []
theorem dksJ7_min_2_0 : cJ7_min_2.data.toList.drop 0 = dktJ7_min_2_0 := by decide +kernel
theorem dJ7_min_2_0 : decode cJ7_min_2 0 = .ok (.lload_n 0, 1) := dk_30 (dk_at dksJ7_min_2_0 0 rfl rfl)
theorem dJ7_min_2_1 : decode cJ7_min_2 1 = .ok (.lload_n 2, 1) := dk_32 (dk_at dksJ7_min_2_0 1 rfl rfl)
theorem dJ7_min_2_2 : decode cJ7_min_2 2 = .ok (.lcmp, 1) := dk_148 (dk_at dksJ7_min_2_0 2 rfl rfl)
theorem dJ7_min_2_3 : decode cJ7_min_2 3 = .ok (.ifCond .gt 7, 3) := dk_157 0 7 (dk_at dksJ7_min_2_0 3 rfl rfl)
theorem dJ7_min_2_6 : decode cJ7_min_2 6 = .ok (.lload_n 0, 1) := dk_30 (dk_at dksJ7_min_2_0 6 rfl rfl)
theorem dJ7_min_2_7 : decode cJ7_min_2 7 = .ok (.goto 4, 3) := dk_167 0 4 (dk_at dksJ7_min_2_0 7 rfl rfl)
theorem dJ7_min_2_10 : decode cJ7_min_2 10 = .ok (.lload_n 2, 1) := dk_32 (dk_at dksJ7_min_2_0 10 rfl rfl)
theorem dJ7_min_2_11 : decode cJ7_min_2 11 = .ok (.lreturn, 1) := dk_173 (dk_at dksJ7_min_2_0 11 rfl rfl)
def dkwJ8_copyOf_0 : List UInt8 := [42, 27, 42, 182, 0, 86, 184, 1, 44, 176]
abbrev dktJ8_copyOf_0 : List UInt8 := dkwJ8_copyOf_0 ++ []
theorem dksJ8_copyOf_0 : cJ8_copyOf.data.toList.drop 0 = dktJ8_copyOf_0 := by decide +kernel
theorem dJ8_copyOf_0 : decode cJ8_copyOf 0 = .ok (.aload_n 0, 1) := dk_42 (dk_at dksJ8_copyOf_0 0 rfl rfl)
theorem dJ8_copyOf_1 : decode cJ8_copyOf 1 = .ok (.iload_n 1, 1) := dk_27 (dk_at dksJ8_copyOf_0 1 rfl rfl)
theorem dJ8_copyOf_2 : decode cJ8_copyOf 2 = .ok (.aload_n 0, 1) := dk_42 (dk_at dksJ8_copyOf_0 2 rfl rfl)
theorem dJ8_copyOf_3 : decode cJ8_copyOf 3 = .ok (.invokevirtual 86, 3) := dk_182 0 86 (dk_at dksJ8_copyOf_0 3 rfl rfl)
theorem dJ8_copyOf_6 : decode cJ8_copyOf 6 = .ok (.invokestatic 300, 3) := dk_184 1 44 (dk_at dksJ8_copyOf_0 6 rfl rfl)
theorem dJ8_copyOf_9 : decode cJ8_copyOf 9 = .ok (.areturn, 1) := dk_176 (dk_at dksJ8_copyOf_0 9 rfl rfl)
def dkwJ8_copyOf_2_1 : List UInt8 := [78, 42, 3, 45, 3, 42, 190, 27, 184, 1, 48, 184, 0, 150, 45, 176]
abbrev dktJ8_copyOf_2_1 : List UInt8 := dkwJ8_copyOf_2_1 ++ []
def dkwJ8_copyOf_2_0 : List UInt8 := [44, 18, 110, 166, 0, 10, 27, 189, 0, 2, 167, 0, 14, 44, 182, 0, 90, 27, 184, 0, 95, 192, 0, 110]
abbrev dktJ8_copyOf_2_0 : List UInt8 := dkwJ8_copyOf_2_0 ++ dktJ8_copyOf_2_1
theorem dksJ8_copyOf_2_0 : cJ8_copyOf_2.data.toList.drop 0 = dktJ8_copyOf_2_0 := by decide +kernel
theorem dksJ8_copyOf_2_1 : cJ8_copyOf_2.data.toList.drop 24 = dktJ8_copyOf_2_1 := dk_seg dksJ8_copyOf_2_0 24 rfl rfl
theorem dJ8_copyOf_2_0 : decode cJ8_copyOf_2 0 = .ok (.aload_n 2, 1) := dk_44 (dk_at dksJ8_copyOf_2_0 0 rfl rfl)
theorem dJ8_copyOf_2_1 : decode cJ8_copyOf_2 1 = .ok (.ldc 110, 2) := dk_18 110 (dk_at dksJ8_copyOf_2_0 1 rfl rfl)
theorem dJ8_copyOf_2_3 : decode cJ8_copyOf_2 3 = .ok (.if_acmp .ne 10, 3) := dk_166 0 10 (dk_at dksJ8_copyOf_2_0 3 rfl rfl)
theorem dJ8_copyOf_2_6 : decode cJ8_copyOf_2 6 = .ok (.iload_n 1, 1) := dk_27 (dk_at dksJ8_copyOf_2_0 6 rfl rfl)
theorem dJ8_copyOf_2_7 : decode cJ8_copyOf_2 7 = .ok (.anewarray 2, 3) := dk_189 0 2 (dk_at dksJ8_copyOf_2_0 7 rfl rfl)
theorem dJ8_copyOf_2_10 : decode cJ8_copyOf_2 10 = .ok (.goto 14, 3) := dk_167 0 14 (dk_at dksJ8_copyOf_2_0 10 rfl rfl)
theorem dJ8_copyOf_2_13 : decode cJ8_copyOf_2 13 = .ok (.aload_n 2, 1) := dk_44 (dk_at dksJ8_copyOf_2_0 13 rfl rfl)
theorem dJ8_copyOf_2_14 : decode cJ8_copyOf_2 14 = .ok (.invokevirtual 90, 3) := dk_182 0 90 (dk_at dksJ8_copyOf_2_0 14 rfl rfl)
theorem dJ8_copyOf_2_17 : decode cJ8_copyOf_2 17 = .ok (.iload_n 1, 1) := dk_27 (dk_at dksJ8_copyOf_2_0 17 rfl rfl)
theorem dJ8_copyOf_2_18 : decode cJ8_copyOf_2 18 = .ok (.invokestatic 95, 3) := dk_184 0 95 (dk_at dksJ8_copyOf_2_0 18 rfl rfl)
theorem dJ8_copyOf_2_21 : decode cJ8_copyOf_2 21 = .ok (.checkcast 110, 3) := dk_192 0 110 (dk_at dksJ8_copyOf_2_0 21 rfl rfl)
theorem dJ8_copyOf_2_24 : decode cJ8_copyOf_2 24 = .ok (.astore_n 3, 1) := dk_78 (dk_at dksJ8_copyOf_2_1 0 rfl rfl)
theorem dJ8_copyOf_2_25 : decode cJ8_copyOf_2 25 = .ok (.aload_n 0, 1) := dk_42 (dk_at dksJ8_copyOf_2_1 1 rfl rfl)
theorem dJ8_copyOf_2_26 : decode cJ8_copyOf_2 26 = .ok (.iconst 0, 1) := dk_3 (dk_at dksJ8_copyOf_2_1 2 rfl rfl)
theorem dJ8_copyOf_2_27 : decode cJ8_copyOf_2 27 = .ok (.aload_n 3, 1) := dk_45 (dk_at dksJ8_copyOf_2_1 3 rfl rfl)
theorem dJ8_copyOf_2_28 : decode cJ8_copyOf_2 28 = .ok (.iconst 0, 1) := dk_3 (dk_at dksJ8_copyOf_2_1 4 rfl rfl)
theorem dJ8_copyOf_2_29 : decode cJ8_copyOf_2 29 = .ok (.aload_n 0, 1) := dk_42 (dk_at dksJ8_copyOf_2_1 5 rfl rfl)
theorem dJ8_copyOf_2_30 : decode cJ8_copyOf_2 30 = .ok (.arraylength, 1) := dk_190 (dk_at dksJ8_copyOf_2_1 6 rfl rfl)
theorem dJ8_copyOf_2_31 : decode cJ8_copyOf_2 31 = .ok (.iload_n 1, 1) := dk_27 (dk_at dksJ8_copyOf_2_1 7 rfl rfl)
theorem dJ8_copyOf_2_32 : decode cJ8_copyOf_2 32 = .ok (.invokestatic 304, 3) := dk_184 1 48 (dk_at dksJ8_copyOf_2_1 8 rfl rfl)
theorem dJ8_copyOf_2_35 : decode cJ8_copyOf_2 35 = .ok (.invokestatic 150, 3) := dk_184 0 150 (dk_at dksJ8_copyOf_2_1 11 rfl rfl)
theorem dJ8_copyOf_2_38 : decode cJ8_copyOf_2 38 = .ok (.aload_n 3, 1) := dk_45 (dk_at dksJ8_copyOf_2_1 14 rfl rfl)
theorem dJ8_copyOf_2_39 : decode cJ8_copyOf_2 39 = .ok (.areturn, 1) := dk_176 (dk_at dksJ8_copyOf_2_1 15 rfl rfl)
def dkwJ8_copyOf_3_1 : List UInt8 := [27, 184, 1, 48, 184, 0, 150, 44, 176]
abbrev dktJ8_copyOf_3_1 : List UInt8 := dkwJ8_copyOf_3_1 ++ []
def dkwJ8_copyOf_3_0 : List UInt8 := [27, 42, 190, 160, 0, 11, 42, 182, 1, 63, 192, 1, 64, 176, 27, 188, 11, 77, 42, 3, 44, 3, 42, 190]
abbrev dktJ8_copyOf_3_0 : List UInt8 := dkwJ8_copyOf_3_0 ++ dktJ8_copyOf_3_1
theorem dksJ8_copyOf_3_0 : cJ8_copyOf_3.data.toList.drop 0 = dktJ8_copyOf_3_0 := by decide +kernel
theorem dksJ8_copyOf_3_1 : cJ8_copyOf_3.data.toList.drop 24 = dktJ8_copyOf_3_1 := dk_seg dksJ8_copyOf_3_0 24 rfl rfl
theorem dJ8_copyOf_3_0 : decode cJ8_copyOf_3 0 = .ok (.iload_n 1, 1) := dk_27 (dk_at dksJ8_copyOf_3_0 0 rfl rfl)
theorem dJ8_copyOf_3_1 : decode cJ8_copyOf_3 1 = .ok (.aload_n 0, 1) := dk_42 (dk_at dksJ8_copyOf_3_0 1 rfl rfl)
theorem dJ8_copyOf_3_2 : decode cJ8_copyOf_3 2 = .ok (.arraylength, 1) := dk_190 (dk_at dksJ8_copyOf_3_0 2 rfl rfl)
theorem dJ8_copyOf_3_3 : decode cJ8_copyOf_3 3 = .ok (.if_icmp .ne 11, 3) := dk_160 0 11 (dk_at dksJ8_copyOf_3_0 3 rfl rfl)
theorem dJ8_copyOf_3_6 : decode cJ8_copyOf_3 6 = .ok (.aload_n 0, 1) := dk_42 (dk_at dksJ8_copyOf_3_0 6 rfl rfl)
theorem dJ8_copyOf_3_7 : decode cJ8_copyOf_3 7 = .ok (.invokevirtual 319, 3) := dk_182 1 63 (dk_at dksJ8_copyOf_3_0 7 rfl rfl)
theorem dJ8_copyOf_3_10 : decode cJ8_copyOf_3 10 = .ok (.checkcast 320, 3) := dk_192 1 64 (dk_at dksJ8_copyOf_3_0 10 rfl rfl)
theorem dJ8_copyOf_3_13 : decode cJ8_copyOf_3 13 = .ok (.areturn, 1) := dk_176 (dk_at dksJ8_copyOf_3_0 13 rfl rfl)
theorem dJ8_copyOf_3_14 : decode cJ8_copyOf_3 14 = .ok (.iload_n 1, 1) := dk_27 (dk_at dksJ8_copyOf_3_0 14 rfl rfl)
theorem dJ8_copyOf_3_15 : decode cJ8_copyOf_3 15 = .ok (.newarray .long, 2) := dk_188_11 (dk_at dksJ8_copyOf_3_0 15 rfl rfl)
theorem dJ8_copyOf_3_17 : decode cJ8_copyOf_3 17 = .ok (.astore_n 2, 1) := dk_77 (dk_at dksJ8_copyOf_3_0 17 rfl rfl)
theorem dJ8_copyOf_3_18 : decode cJ8_copyOf_3 18 = .ok (.aload_n 0, 1) := dk_42 (dk_at dksJ8_copyOf_3_0 18 rfl rfl)
theorem dJ8_copyOf_3_19 : decode cJ8_copyOf_3 19 = .ok (.iconst 0, 1) := dk_3 (dk_at dksJ8_copyOf_3_0 19 rfl rfl)
theorem dJ8_copyOf_3_20 : decode cJ8_copyOf_3 20 = .ok (.aload_n 2, 1) := dk_44 (dk_at dksJ8_copyOf_3_0 20 rfl rfl)
theorem dJ8_copyOf_3_21 : decode cJ8_copyOf_3 21 = .ok (.iconst 0, 1) := dk_3 (dk_at dksJ8_copyOf_3_0 21 rfl rfl)
theorem dJ8_copyOf_3_22 : decode cJ8_copyOf_3 22 = .ok (.aload_n 0, 1) := dk_42 (dk_at dksJ8_copyOf_3_0 22 rfl rfl)
theorem dJ8_copyOf_3_23 : decode cJ8_copyOf_3 23 = .ok (.arraylength, 1) := dk_190 (dk_at dksJ8_copyOf_3_0 23 rfl rfl)
theorem dJ8_copyOf_3_24 : decode cJ8_copyOf_3 24 = .ok (.iload_n 1, 1) := dk_27 (dk_at dksJ8_copyOf_3_1 0 rfl rfl)
theorem dJ8_copyOf_3_25 : decode cJ8_copyOf_3 25 = .ok (.invokestatic 304, 3) := dk_184 1 48 (dk_at dksJ8_copyOf_3_1 1 rfl rfl)
theorem dJ8_copyOf_3_28 : decode cJ8_copyOf_3 28 = .ok (.invokestatic 150, 3) := dk_184 0 150 (dk_at dksJ8_copyOf_3_1 4 rfl rfl)
theorem dJ8_copyOf_3_31 : decode cJ8_copyOf_3 31 = .ok (.aload_n 2, 1) := dk_44 (dk_at dksJ8_copyOf_3_1 7 rfl rfl)
theorem dJ8_copyOf_3_32 : decode cJ8_copyOf_3 32 = .ok (.areturn, 1) := dk_176 (dk_at dksJ8_copyOf_3_1 8 rfl rfl)
def dkwJ8_copyOf_4_1 : List UInt8 := [27, 184, 1, 48, 184, 0, 150, 44, 176]
abbrev dktJ8_copyOf_4_1 : List UInt8 := dkwJ8_copyOf_4_1 ++ []
def dkwJ8_copyOf_4_0 : List UInt8 := [27, 42, 190, 160, 0, 11, 42, 182, 1, 54, 192, 1, 55, 176, 27, 188, 8, 77, 42, 3, 44, 3, 42, 190]
abbrev dktJ8_copyOf_4_0 : List UInt8 := dkwJ8_copyOf_4_0 ++ dktJ8_copyOf_4_1
theorem dksJ8_copyOf_4_0 : cJ8_copyOf_4.data.toList.drop 0 = dktJ8_copyOf_4_0 := by decide +kernel
theorem dksJ8_copyOf_4_1 : cJ8_copyOf_4.data.toList.drop 24 = dktJ8_copyOf_4_1 := dk_seg dksJ8_copyOf_4_0 24 rfl rfl
theorem dJ8_copyOf_4_0 : decode cJ8_copyOf_4 0 = .ok (.iload_n 1, 1) := dk_27 (dk_at dksJ8_copyOf_4_0 0 rfl rfl)
theorem dJ8_copyOf_4_1 : decode cJ8_copyOf_4 1 = .ok (.aload_n 0, 1) := dk_42 (dk_at dksJ8_copyOf_4_0 1 rfl rfl)
theorem dJ8_copyOf_4_2 : decode cJ8_copyOf_4 2 = .ok (.arraylength, 1) := dk_190 (dk_at dksJ8_copyOf_4_0 2 rfl rfl)
theorem dJ8_copyOf_4_3 : decode cJ8_copyOf_4 3 = .ok (.if_icmp .ne 11, 3) := dk_160 0 11 (dk_at dksJ8_copyOf_4_0 3 rfl rfl)
theorem dJ8_copyOf_4_6 : decode cJ8_copyOf_4 6 = .ok (.aload_n 0, 1) := dk_42 (dk_at dksJ8_copyOf_4_0 6 rfl rfl)
theorem dJ8_copyOf_4_7 : decode cJ8_copyOf_4 7 = .ok (.invokevirtual 310, 3) := dk_182 1 54 (dk_at dksJ8_copyOf_4_0 7 rfl rfl)
theorem dJ8_copyOf_4_10 : decode cJ8_copyOf_4 10 = .ok (.checkcast 311, 3) := dk_192 1 55 (dk_at dksJ8_copyOf_4_0 10 rfl rfl)
theorem dJ8_copyOf_4_13 : decode cJ8_copyOf_4 13 = .ok (.areturn, 1) := dk_176 (dk_at dksJ8_copyOf_4_0 13 rfl rfl)
theorem dJ8_copyOf_4_14 : decode cJ8_copyOf_4 14 = .ok (.iload_n 1, 1) := dk_27 (dk_at dksJ8_copyOf_4_0 14 rfl rfl)
theorem dJ8_copyOf_4_15 : decode cJ8_copyOf_4 15 = .ok (.newarray .byte, 2) := dk_188_8 (dk_at dksJ8_copyOf_4_0 15 rfl rfl)
theorem dJ8_copyOf_4_17 : decode cJ8_copyOf_4 17 = .ok (.astore_n 2, 1) := dk_77 (dk_at dksJ8_copyOf_4_0 17 rfl rfl)
theorem dJ8_copyOf_4_18 : decode cJ8_copyOf_4 18 = .ok (.aload_n 0, 1) := dk_42 (dk_at dksJ8_copyOf_4_0 18 rfl rfl)
theorem dJ8_copyOf_4_19 : decode cJ8_copyOf_4 19 = .ok (.iconst 0, 1) := dk_3 (dk_at dksJ8_copyOf_4_0 19 rfl rfl)
theorem dJ8_copyOf_4_20 : decode cJ8_copyOf_4 20 = .ok (.aload_n 2, 1) := dk_44 (dk_at dksJ8_copyOf_4_0 20 rfl rfl)
theorem dJ8_copyOf_4_21 : decode cJ8_copyOf_4 21 = .ok (.iconst 0, 1) := dk_3 (dk_at dksJ8_copyOf_4_0 21 rfl rfl)
theorem dJ8_copyOf_4_22 : decode cJ8_copyOf_4 22 = .ok (.aload_n 0, 1) := dk_42 (dk_at dksJ8_copyOf_4_0 22 rfl rfl)
theorem dJ8_copyOf_4_23 : decode cJ8_copyOf_4 23 = .ok (.arraylength, 1) := dk_190 (dk_at dksJ8_copyOf_4_0 23 rfl rfl)
theorem dJ8_copyOf_4_24 : decode cJ8_copyOf_4 24 = .ok (.iload_n 1, 1) := dk_27 (dk_at dksJ8_copyOf_4_1 0 rfl rfl)
theorem dJ8_copyOf_4_25 : decode cJ8_copyOf_4 25 = .ok (.invokestatic 304, 3) := dk_184 1 48 (dk_at dksJ8_copyOf_4_1 1 rfl rfl)
theorem dJ8_copyOf_4_28 : decode cJ8_copyOf_4 28 = .ok (.invokestatic 150, 3) := dk_184 0 150 (dk_at dksJ8_copyOf_4_1 4 rfl rfl)
theorem dJ8_copyOf_4_31 : decode cJ8_copyOf_4 31 = .ok (.aload_n 2, 1) := dk_44 (dk_at dksJ8_copyOf_4_1 7 rfl rfl)
theorem dJ8_copyOf_4_32 : decode cJ8_copyOf_4 32 = .ok (.areturn, 1) := dk_176 (dk_at dksJ8_copyOf_4_1 8 rfl rfl)
def dkwJ8_copyOfRange_1 : List UInt8 := [176]
abbrev dktJ8_copyOfRange_1 : List UInt8 := dkwJ8_copyOfRange_1 ++ []
def dkwJ8_copyOfRange_0 : List UInt8 := [27, 154, 0, 9, 28, 42, 190, 159, 0, 10, 42, 27, 28, 184, 1, 83, 176, 42, 182, 1, 54, 192, 1, 55]
abbrev dktJ8_copyOfRange_0 : List UInt8 := dkwJ8_copyOfRange_0 ++ dktJ8_copyOfRange_1
theorem dksJ8_copyOfRange_0 : cJ8_copyOfRange.data.toList.drop 0 = dktJ8_copyOfRange_0 := by decide +kernel
theorem dksJ8_copyOfRange_1 : cJ8_copyOfRange.data.toList.drop 24 = dktJ8_copyOfRange_1 := dk_seg dksJ8_copyOfRange_0 24 rfl rfl
theorem dJ8_copyOfRange_0 : decode cJ8_copyOfRange 0 = .ok (.iload_n 1, 1) := dk_27 (dk_at dksJ8_copyOfRange_0 0 rfl rfl)
theorem dJ8_copyOfRange_1 : decode cJ8_copyOfRange 1 = .ok (.ifCond .ne 9, 3) := dk_154 0 9 (dk_at dksJ8_copyOfRange_0 1 rfl rfl)
theorem dJ8_copyOfRange_4 : decode cJ8_copyOfRange 4 = .ok (.iload_n 2, 1) := dk_28 (dk_at dksJ8_copyOfRange_0 4 rfl rfl)
theorem dJ8_copyOfRange_5 : decode cJ8_copyOfRange 5 = .ok (.aload_n 0, 1) := dk_42 (dk_at dksJ8_copyOfRange_0 5 rfl rfl)
theorem dJ8_copyOfRange_6 : decode cJ8_copyOfRange 6 = .ok (.arraylength, 1) := dk_190 (dk_at dksJ8_copyOfRange_0 6 rfl rfl)
theorem dJ8_copyOfRange_7 : decode cJ8_copyOfRange 7 = .ok (.if_icmp .eq 10, 3) := dk_159 0 10 (dk_at dksJ8_copyOfRange_0 7 rfl rfl)
theorem dJ8_copyOfRange_10 : decode cJ8_copyOfRange 10 = .ok (.aload_n 0, 1) := dk_42 (dk_at dksJ8_copyOfRange_0 10 rfl rfl)
theorem dJ8_copyOfRange_11 : decode cJ8_copyOfRange 11 = .ok (.iload_n 1, 1) := dk_27 (dk_at dksJ8_copyOfRange_0 11 rfl rfl)
theorem dJ8_copyOfRange_12 : decode cJ8_copyOfRange 12 = .ok (.iload_n 2, 1) := dk_28 (dk_at dksJ8_copyOfRange_0 12 rfl rfl)
theorem dJ8_copyOfRange_13 : decode cJ8_copyOfRange 13 = .ok (.invokestatic 339, 3) := dk_184 1 83 (dk_at dksJ8_copyOfRange_0 13 rfl rfl)
theorem dJ8_copyOfRange_16 : decode cJ8_copyOfRange 16 = .ok (.areturn, 1) := dk_176 (dk_at dksJ8_copyOfRange_0 16 rfl rfl)
theorem dJ8_copyOfRange_17 : decode cJ8_copyOfRange 17 = .ok (.aload_n 0, 1) := dk_42 (dk_at dksJ8_copyOfRange_0 17 rfl rfl)
theorem dJ8_copyOfRange_18 : decode cJ8_copyOfRange 18 = .ok (.invokevirtual 310, 3) := dk_182 1 54 (dk_at dksJ8_copyOfRange_0 18 rfl rfl)
theorem dJ8_copyOfRange_21 : decode cJ8_copyOfRange 21 = .ok (.checkcast 311, 3) := dk_192 1 55 (dk_at dksJ8_copyOfRange_0 21 rfl rfl)
theorem dJ8_copyOfRange_24 : decode cJ8_copyOfRange 24 = .ok (.areturn, 1) := dk_176 (dk_at dksJ8_copyOfRange_1 0 rfl rfl)
def dkwJ8_copyOfRangeByte_1 : List UInt8 := [184, 1, 48, 184, 0, 150, 25, 4, 176]
abbrev dktJ8_copyOfRangeByte_1 : List UInt8 := dkwJ8_copyOfRangeByte_1 ++ []
def dkwJ8_copyOfRangeByte_0 : List UInt8 := [27, 28, 184, 1, 87, 28, 27, 100, 62, 29, 188, 8, 58, 4, 42, 27, 25, 4, 3, 42, 190, 27, 100, 29]
abbrev dktJ8_copyOfRangeByte_0 : List UInt8 := dkwJ8_copyOfRangeByte_0 ++ dktJ8_copyOfRangeByte_1
theorem dksJ8_copyOfRangeByte_0 : cJ8_copyOfRangeByte.data.toList.drop 0 = dktJ8_copyOfRangeByte_0 := by decide +kernel
theorem dksJ8_copyOfRangeByte_1 : cJ8_copyOfRangeByte.data.toList.drop 24 = dktJ8_copyOfRangeByte_1 := dk_seg dksJ8_copyOfRangeByte_0 24 rfl rfl
theorem dJ8_copyOfRangeByte_0 : decode cJ8_copyOfRangeByte 0 = .ok (.iload_n 1, 1) := dk_27 (dk_at dksJ8_copyOfRangeByte_0 0 rfl rfl)
theorem dJ8_copyOfRangeByte_1 : decode cJ8_copyOfRangeByte 1 = .ok (.iload_n 2, 1) := dk_28 (dk_at dksJ8_copyOfRangeByte_0 1 rfl rfl)
theorem dJ8_copyOfRangeByte_2 : decode cJ8_copyOfRangeByte 2 = .ok (.invokestatic 343, 3) := dk_184 1 87 (dk_at dksJ8_copyOfRangeByte_0 2 rfl rfl)
theorem dJ8_copyOfRangeByte_5 : decode cJ8_copyOfRangeByte 5 = .ok (.iload_n 2, 1) := dk_28 (dk_at dksJ8_copyOfRangeByte_0 5 rfl rfl)
theorem dJ8_copyOfRangeByte_6 : decode cJ8_copyOfRangeByte 6 = .ok (.iload_n 1, 1) := dk_27 (dk_at dksJ8_copyOfRangeByte_0 6 rfl rfl)
theorem dJ8_copyOfRangeByte_7 : decode cJ8_copyOfRangeByte 7 = .ok (.isub, 1) := dk_100 (dk_at dksJ8_copyOfRangeByte_0 7 rfl rfl)
theorem dJ8_copyOfRangeByte_8 : decode cJ8_copyOfRangeByte 8 = .ok (.istore_n 3, 1) := dk_62 (dk_at dksJ8_copyOfRangeByte_0 8 rfl rfl)
theorem dJ8_copyOfRangeByte_9 : decode cJ8_copyOfRangeByte 9 = .ok (.iload_n 3, 1) := dk_29 (dk_at dksJ8_copyOfRangeByte_0 9 rfl rfl)
theorem dJ8_copyOfRangeByte_10 : decode cJ8_copyOfRangeByte 10 = .ok (.newarray .byte, 2) := dk_188_8 (dk_at dksJ8_copyOfRangeByte_0 10 rfl rfl)
theorem dJ8_copyOfRangeByte_12 : decode cJ8_copyOfRangeByte 12 = .ok (.astore 4, 2) := dk_58 4 (dk_at dksJ8_copyOfRangeByte_0 12 rfl rfl)
theorem dJ8_copyOfRangeByte_14 : decode cJ8_copyOfRangeByte 14 = .ok (.aload_n 0, 1) := dk_42 (dk_at dksJ8_copyOfRangeByte_0 14 rfl rfl)
theorem dJ8_copyOfRangeByte_15 : decode cJ8_copyOfRangeByte 15 = .ok (.iload_n 1, 1) := dk_27 (dk_at dksJ8_copyOfRangeByte_0 15 rfl rfl)
theorem dJ8_copyOfRangeByte_16 : decode cJ8_copyOfRangeByte 16 = .ok (.aload 4, 2) := dk_25 4 (dk_at dksJ8_copyOfRangeByte_0 16 rfl rfl)
theorem dJ8_copyOfRangeByte_18 : decode cJ8_copyOfRangeByte 18 = .ok (.iconst 0, 1) := dk_3 (dk_at dksJ8_copyOfRangeByte_0 18 rfl rfl)
theorem dJ8_copyOfRangeByte_19 : decode cJ8_copyOfRangeByte 19 = .ok (.aload_n 0, 1) := dk_42 (dk_at dksJ8_copyOfRangeByte_0 19 rfl rfl)
theorem dJ8_copyOfRangeByte_20 : decode cJ8_copyOfRangeByte 20 = .ok (.arraylength, 1) := dk_190 (dk_at dksJ8_copyOfRangeByte_0 20 rfl rfl)
theorem dJ8_copyOfRangeByte_21 : decode cJ8_copyOfRangeByte 21 = .ok (.iload_n 1, 1) := dk_27 (dk_at dksJ8_copyOfRangeByte_0 21 rfl rfl)
theorem dJ8_copyOfRangeByte_22 : decode cJ8_copyOfRangeByte 22 = .ok (.isub, 1) := dk_100 (dk_at dksJ8_copyOfRangeByte_0 22 rfl rfl)
theorem dJ8_copyOfRangeByte_23 : decode cJ8_copyOfRangeByte 23 = .ok (.iload_n 3, 1) := dk_29 (dk_at dksJ8_copyOfRangeByte_0 23 rfl rfl)
theorem dJ8_copyOfRangeByte_24 : decode cJ8_copyOfRangeByte 24 = .ok (.invokestatic 304, 3) := dk_184 1 48 (dk_at dksJ8_copyOfRangeByte_1 0 rfl rfl)
theorem dJ8_copyOfRangeByte_27 : decode cJ8_copyOfRangeByte 27 = .ok (.invokestatic 150, 3) := dk_184 0 150 (dk_at dksJ8_copyOfRangeByte_1 3 rfl rfl)
theorem dJ8_copyOfRangeByte_30 : decode cJ8_copyOfRangeByte 30 = .ok (.aload 4, 2) := dk_25 4 (dk_at dksJ8_copyOfRangeByte_1 6 rfl rfl)
theorem dJ8_copyOfRangeByte_32 : decode cJ8_copyOfRangeByte 32 = .ok (.areturn, 1) := dk_176 (dk_at dksJ8_copyOfRangeByte_1 8 rfl rfl)
def dkwJ8_checkLength_1 : List UInt8 := [182, 0, 50, 27, 182, 0, 54, 182, 0, 61, 183, 0, 65, 191, 177]
abbrev dktJ8_checkLength_1 : List UInt8 := dkwJ8_checkLength_1 ++ []
def dkwJ8_checkLength_0 : List UInt8 := [27, 26, 162, 0, 35, 187, 0, 43, 89, 187, 0, 45, 89, 183, 0, 47, 26, 182, 0, 54, 19, 1, 81]
abbrev dktJ8_checkLength_0 : List UInt8 := dkwJ8_checkLength_0 ++ dktJ8_checkLength_1
theorem dksJ8_checkLength_0 : cJ8_checkLength.data.toList.drop 0 = dktJ8_checkLength_0 := by decide +kernel
theorem dksJ8_checkLength_1 : cJ8_checkLength.data.toList.drop 23 = dktJ8_checkLength_1 := dk_seg dksJ8_checkLength_0 23 rfl rfl
theorem dJ8_checkLength_0 : decode cJ8_checkLength 0 = .ok (.iload_n 1, 1) := dk_27 (dk_at dksJ8_checkLength_0 0 rfl rfl)
theorem dJ8_checkLength_1 : decode cJ8_checkLength 1 = .ok (.iload_n 0, 1) := dk_26 (dk_at dksJ8_checkLength_0 1 rfl rfl)
theorem dJ8_checkLength_2 : decode cJ8_checkLength 2 = .ok (.if_icmp .ge 35, 3) := dk_162 0 35 (dk_at dksJ8_checkLength_0 2 rfl rfl)
theorem dJ8_checkLength_5 : decode cJ8_checkLength 5 = .ok (.new 43, 3) := dk_187 0 43 (dk_at dksJ8_checkLength_0 5 rfl rfl)
theorem dJ8_checkLength_8 : decode cJ8_checkLength 8 = .ok (.dup, 1) := dk_89 (dk_at dksJ8_checkLength_0 8 rfl rfl)
theorem dJ8_checkLength_9 : decode cJ8_checkLength 9 = .ok (.new 45, 3) := dk_187 0 45 (dk_at dksJ8_checkLength_0 9 rfl rfl)
theorem dJ8_checkLength_12 : decode cJ8_checkLength 12 = .ok (.dup, 1) := dk_89 (dk_at dksJ8_checkLength_0 12 rfl rfl)
theorem dJ8_checkLength_13 : decode cJ8_checkLength 13 = .ok (.invokespecial 47, 3) := dk_183 0 47 (dk_at dksJ8_checkLength_0 13 rfl rfl)
theorem dJ8_checkLength_16 : decode cJ8_checkLength 16 = .ok (.iload_n 0, 1) := dk_26 (dk_at dksJ8_checkLength_0 16 rfl rfl)
theorem dJ8_checkLength_17 : decode cJ8_checkLength 17 = .ok (.invokevirtual 54, 3) := dk_182 0 54 (dk_at dksJ8_checkLength_0 17 rfl rfl)
theorem dJ8_checkLength_20 : decode cJ8_checkLength 20 = .ok (.ldc_w 337, 3) := dk_19 1 81 (dk_at dksJ8_checkLength_0 20 rfl rfl)
theorem dJ8_checkLength_23 : decode cJ8_checkLength 23 = .ok (.invokevirtual 50, 3) := dk_182 0 50 (dk_at dksJ8_checkLength_1 0 rfl rfl)
theorem dJ8_checkLength_26 : decode cJ8_checkLength 26 = .ok (.iload_n 1, 1) := dk_27 (dk_at dksJ8_checkLength_1 3 rfl rfl)
theorem dJ8_checkLength_27 : decode cJ8_checkLength 27 = .ok (.invokevirtual 54, 3) := dk_182 0 54 (dk_at dksJ8_checkLength_1 4 rfl rfl)
theorem dJ8_checkLength_30 : decode cJ8_checkLength 30 = .ok (.invokevirtual 61, 3) := dk_182 0 61 (dk_at dksJ8_checkLength_1 7 rfl rfl)
theorem dJ8_checkLength_33 : decode cJ8_checkLength 33 = .ok (.invokespecial 65, 3) := dk_183 0 65 (dk_at dksJ8_checkLength_1 10 rfl rfl)
theorem dJ8_checkLength_36 : decode cJ8_checkLength 36 = .ok (.athrow, 1) := dk_191 (dk_at dksJ8_checkLength_1 13 rfl rfl)
theorem dJ8_checkLength_37 : decode cJ8_checkLength 37 = .ok (.return_, 1) := dk_177 (dk_at dksJ8_checkLength_1 14 rfl rfl)
def dkwJ8_fill_1 : List UInt8 := [167, 255, 242, 177]
abbrev dktJ8_fill_1 : List UInt8 := dkwJ8_fill_1 ++ []
def dkwJ8_fill_0 : List UInt8 := [42, 190, 27, 28, 184, 0, 13, 27, 54, 4, 21, 4, 28, 162, 0, 14, 42, 21, 4, 29, 84, 132, 4, 1]
abbrev dktJ8_fill_0 : List UInt8 := dkwJ8_fill_0 ++ dktJ8_fill_1
theorem dksJ8_fill_0 : cJ8_fill.data.toList.drop 0 = dktJ8_fill_0 := by decide +kernel
theorem dksJ8_fill_1 : cJ8_fill.data.toList.drop 24 = dktJ8_fill_1 := dk_seg dksJ8_fill_0 24 rfl rfl
theorem dJ8_fill_0 : decode cJ8_fill 0 = .ok (.aload_n 0, 1) := dk_42 (dk_at dksJ8_fill_0 0 rfl rfl)
theorem dJ8_fill_1 : decode cJ8_fill 1 = .ok (.arraylength, 1) := dk_190 (dk_at dksJ8_fill_0 1 rfl rfl)
theorem dJ8_fill_2 : decode cJ8_fill 2 = .ok (.iload_n 1, 1) := dk_27 (dk_at dksJ8_fill_0 2 rfl rfl)
theorem dJ8_fill_3 : decode cJ8_fill 3 = .ok (.iload_n 2, 1) := dk_28 (dk_at dksJ8_fill_0 3 rfl rfl)
theorem dJ8_fill_4 : decode cJ8_fill 4 = .ok (.invokestatic 13, 3) := dk_184 0 13 (dk_at dksJ8_fill_0 4 rfl rfl)
theorem dJ8_fill_7 : decode cJ8_fill 7 = .ok (.iload_n 1, 1) := dk_27 (dk_at dksJ8_fill_0 7 rfl rfl)
theorem dJ8_fill_8 : decode cJ8_fill 8 = .ok (.istore 4, 2) := dk_54 4 (dk_at dksJ8_fill_0 8 rfl rfl)
theorem dJ8_fill_10 : decode cJ8_fill 10 = .ok (.iload 4, 2) := dk_21 4 (dk_at dksJ8_fill_0 10 rfl rfl)
theorem dJ8_fill_12 : decode cJ8_fill 12 = .ok (.iload_n 2, 1) := dk_28 (dk_at dksJ8_fill_0 12 rfl rfl)
theorem dJ8_fill_13 : decode cJ8_fill 13 = .ok (.if_icmp .ge 14, 3) := dk_162 0 14 (dk_at dksJ8_fill_0 13 rfl rfl)
theorem dJ8_fill_16 : decode cJ8_fill 16 = .ok (.aload_n 0, 1) := dk_42 (dk_at dksJ8_fill_0 16 rfl rfl)
theorem dJ8_fill_17 : decode cJ8_fill 17 = .ok (.iload 4, 2) := dk_21 4 (dk_at dksJ8_fill_0 17 rfl rfl)
theorem dJ8_fill_19 : decode cJ8_fill 19 = .ok (.iload_n 3, 1) := dk_29 (dk_at dksJ8_fill_0 19 rfl rfl)
theorem dJ8_fill_20 : decode cJ8_fill 20 = .ok (.bastore, 1) := dk_84 (dk_at dksJ8_fill_0 20 rfl rfl)
theorem dJ8_fill_21 : decode cJ8_fill 21 = .ok (.iinc 4 1, 3) := dk_132 4 1 (dk_at dksJ8_fill_0 21 rfl rfl)
theorem dJ8_fill_24 : decode cJ8_fill 24 = .ok (.goto (-14), 3) := dk_167 255 242 (dk_at dksJ8_fill_1 0 rfl rfl)
theorem dJ8_fill_27 : decode cJ8_fill 27 = .ok (.return_, 1) := dk_177 (dk_at dksJ8_fill_1 3 rfl rfl)
def dkwJ8_rangeCheck_3 : List UInt8 := [183, 0, 70, 191, 177]
abbrev dktJ8_rangeCheck_3 : List UInt8 := dkwJ8_rangeCheck_3 ++ []
def dkwJ8_rangeCheck_2 : List UInt8 := [27, 156, 0, 12, 187, 0, 68, 89, 27, 183, 0, 70, 191, 28, 26, 164, 0, 12, 187, 0, 68, 89, 28]
abbrev dktJ8_rangeCheck_2 : List UInt8 := dkwJ8_rangeCheck_2 ++ dktJ8_rangeCheck_3
def dkwJ8_rangeCheck_1 : List UInt8 := [182, 0, 54, 18, 57, 182, 0, 50, 28, 182, 0, 54, 18, 59, 182, 0, 50, 182, 0, 61, 183, 0, 65, 191]
abbrev dktJ8_rangeCheck_1 : List UInt8 := dkwJ8_rangeCheck_1 ++ dktJ8_rangeCheck_2
def dkwJ8_rangeCheck_0 : List UInt8 := [27, 28, 164, 0, 44, 187, 0, 43, 89, 187, 0, 45, 89, 183, 0, 47, 18, 48, 182, 0, 50, 27]
abbrev dktJ8_rangeCheck_0 : List UInt8 := dkwJ8_rangeCheck_0 ++ dktJ8_rangeCheck_1
theorem dksJ8_rangeCheck_0 : cJ8_rangeCheck.data.toList.drop 0 = dktJ8_rangeCheck_0 := by decide +kernel
theorem dksJ8_rangeCheck_1 : cJ8_rangeCheck.data.toList.drop 22 = dktJ8_rangeCheck_1 := dk_seg dksJ8_rangeCheck_0 22 rfl rfl
theorem dksJ8_rangeCheck_2 : cJ8_rangeCheck.data.toList.drop 46 = dktJ8_rangeCheck_2 := dk_seg dksJ8_rangeCheck_1 24 rfl rfl
theorem dksJ8_rangeCheck_3 : cJ8_rangeCheck.data.toList.drop 69 = dktJ8_rangeCheck_3 := dk_seg dksJ8_rangeCheck_2 23 rfl rfl
theorem dJ8_rangeCheck_0 : decode cJ8_rangeCheck 0 = .ok (.iload_n 1, 1) := dk_27 (dk_at dksJ8_rangeCheck_0 0 rfl rfl)
theorem dJ8_rangeCheck_1 : decode cJ8_rangeCheck 1 = .ok (.iload_n 2, 1) := dk_28 (dk_at dksJ8_rangeCheck_0 1 rfl rfl)
theorem dJ8_rangeCheck_2 : decode cJ8_rangeCheck 2 = .ok (.if_icmp .le 44, 3) := dk_164 0 44 (dk_at dksJ8_rangeCheck_0 2 rfl rfl)
theorem dJ8_rangeCheck_5 : decode cJ8_rangeCheck 5 = .ok (.new 43, 3) := dk_187 0 43 (dk_at dksJ8_rangeCheck_0 5 rfl rfl)
theorem dJ8_rangeCheck_8 : decode cJ8_rangeCheck 8 = .ok (.dup, 1) := dk_89 (dk_at dksJ8_rangeCheck_0 8 rfl rfl)
theorem dJ8_rangeCheck_9 : decode cJ8_rangeCheck 9 = .ok (.new 45, 3) := dk_187 0 45 (dk_at dksJ8_rangeCheck_0 9 rfl rfl)
theorem dJ8_rangeCheck_12 : decode cJ8_rangeCheck 12 = .ok (.dup, 1) := dk_89 (dk_at dksJ8_rangeCheck_0 12 rfl rfl)
theorem dJ8_rangeCheck_13 : decode cJ8_rangeCheck 13 = .ok (.invokespecial 47, 3) := dk_183 0 47 (dk_at dksJ8_rangeCheck_0 13 rfl rfl)
theorem dJ8_rangeCheck_16 : decode cJ8_rangeCheck 16 = .ok (.ldc 48, 2) := dk_18 48 (dk_at dksJ8_rangeCheck_0 16 rfl rfl)
theorem dJ8_rangeCheck_18 : decode cJ8_rangeCheck 18 = .ok (.invokevirtual 50, 3) := dk_182 0 50 (dk_at dksJ8_rangeCheck_0 18 rfl rfl)
theorem dJ8_rangeCheck_21 : decode cJ8_rangeCheck 21 = .ok (.iload_n 1, 1) := dk_27 (dk_at dksJ8_rangeCheck_0 21 rfl rfl)
theorem dJ8_rangeCheck_22 : decode cJ8_rangeCheck 22 = .ok (.invokevirtual 54, 3) := dk_182 0 54 (dk_at dksJ8_rangeCheck_1 0 rfl rfl)
theorem dJ8_rangeCheck_25 : decode cJ8_rangeCheck 25 = .ok (.ldc 57, 2) := dk_18 57 (dk_at dksJ8_rangeCheck_1 3 rfl rfl)
theorem dJ8_rangeCheck_27 : decode cJ8_rangeCheck 27 = .ok (.invokevirtual 50, 3) := dk_182 0 50 (dk_at dksJ8_rangeCheck_1 5 rfl rfl)
theorem dJ8_rangeCheck_30 : decode cJ8_rangeCheck 30 = .ok (.iload_n 2, 1) := dk_28 (dk_at dksJ8_rangeCheck_1 8 rfl rfl)
theorem dJ8_rangeCheck_31 : decode cJ8_rangeCheck 31 = .ok (.invokevirtual 54, 3) := dk_182 0 54 (dk_at dksJ8_rangeCheck_1 9 rfl rfl)
theorem dJ8_rangeCheck_34 : decode cJ8_rangeCheck 34 = .ok (.ldc 59, 2) := dk_18 59 (dk_at dksJ8_rangeCheck_1 12 rfl rfl)
theorem dJ8_rangeCheck_36 : decode cJ8_rangeCheck 36 = .ok (.invokevirtual 50, 3) := dk_182 0 50 (dk_at dksJ8_rangeCheck_1 14 rfl rfl)
theorem dJ8_rangeCheck_39 : decode cJ8_rangeCheck 39 = .ok (.invokevirtual 61, 3) := dk_182 0 61 (dk_at dksJ8_rangeCheck_1 17 rfl rfl)
theorem dJ8_rangeCheck_42 : decode cJ8_rangeCheck 42 = .ok (.invokespecial 65, 3) := dk_183 0 65 (dk_at dksJ8_rangeCheck_1 20 rfl rfl)
theorem dJ8_rangeCheck_45 : decode cJ8_rangeCheck 45 = .ok (.athrow, 1) := dk_191 (dk_at dksJ8_rangeCheck_1 23 rfl rfl)
theorem dJ8_rangeCheck_46 : decode cJ8_rangeCheck 46 = .ok (.iload_n 1, 1) := dk_27 (dk_at dksJ8_rangeCheck_2 0 rfl rfl)
theorem dJ8_rangeCheck_47 : decode cJ8_rangeCheck 47 = .ok (.ifCond .ge 12, 3) := dk_156 0 12 (dk_at dksJ8_rangeCheck_2 1 rfl rfl)
theorem dJ8_rangeCheck_50 : decode cJ8_rangeCheck 50 = .ok (.new 68, 3) := dk_187 0 68 (dk_at dksJ8_rangeCheck_2 4 rfl rfl)
theorem dJ8_rangeCheck_53 : decode cJ8_rangeCheck 53 = .ok (.dup, 1) := dk_89 (dk_at dksJ8_rangeCheck_2 7 rfl rfl)
theorem dJ8_rangeCheck_54 : decode cJ8_rangeCheck 54 = .ok (.iload_n 1, 1) := dk_27 (dk_at dksJ8_rangeCheck_2 8 rfl rfl)
theorem dJ8_rangeCheck_55 : decode cJ8_rangeCheck 55 = .ok (.invokespecial 70, 3) := dk_183 0 70 (dk_at dksJ8_rangeCheck_2 9 rfl rfl)
theorem dJ8_rangeCheck_58 : decode cJ8_rangeCheck 58 = .ok (.athrow, 1) := dk_191 (dk_at dksJ8_rangeCheck_2 12 rfl rfl)
theorem dJ8_rangeCheck_59 : decode cJ8_rangeCheck 59 = .ok (.iload_n 2, 1) := dk_28 (dk_at dksJ8_rangeCheck_2 13 rfl rfl)
theorem dJ8_rangeCheck_60 : decode cJ8_rangeCheck 60 = .ok (.iload_n 0, 1) := dk_26 (dk_at dksJ8_rangeCheck_2 14 rfl rfl)
theorem dJ8_rangeCheck_61 : decode cJ8_rangeCheck 61 = .ok (.if_icmp .le 12, 3) := dk_164 0 12 (dk_at dksJ8_rangeCheck_2 15 rfl rfl)
theorem dJ8_rangeCheck_64 : decode cJ8_rangeCheck 64 = .ok (.new 68, 3) := dk_187 0 68 (dk_at dksJ8_rangeCheck_2 18 rfl rfl)
theorem dJ8_rangeCheck_67 : decode cJ8_rangeCheck 67 = .ok (.dup, 1) := dk_89 (dk_at dksJ8_rangeCheck_2 21 rfl rfl)
theorem dJ8_rangeCheck_68 : decode cJ8_rangeCheck 68 = .ok (.iload_n 2, 1) := dk_28 (dk_at dksJ8_rangeCheck_2 22 rfl rfl)
theorem dJ8_rangeCheck_69 : decode cJ8_rangeCheck 69 = .ok (.invokespecial 70, 3) := dk_183 0 70 (dk_at dksJ8_rangeCheck_3 0 rfl rfl)
theorem dJ8_rangeCheck_72 : decode cJ8_rangeCheck 72 = .ok (.athrow, 1) := dk_191 (dk_at dksJ8_rangeCheck_3 3 rfl rfl)
theorem dJ8_rangeCheck_73 : decode cJ8_rangeCheck 73 = .ok (.return_, 1) := dk_177 (dk_at dksJ8_rangeCheck_3 4 rfl rfl)
def dkwJ9_init_1 : List UInt8 := [182, 0, 27, 87, 177]
abbrev dktJ9_init_1 : List UInt8 := dkwJ9_init_1 ++ []
def dkwJ9_init_0 : List UInt8 := [42, 183, 0, 1, 42, 42, 181, 0, 7, 42, 178, 0, 13, 181, 0, 17, 42, 178, 0, 20, 181, 0, 24, 42]
abbrev dktJ9_init_0 : List UInt8 := dkwJ9_init_0 ++ dktJ9_init_1
theorem dksJ9_init_0 : cJ9_init.data.toList.drop 0 = dktJ9_init_0 := by decide +kernel
theorem dksJ9_init_1 : cJ9_init.data.toList.drop 24 = dktJ9_init_1 := dk_seg dksJ9_init_0 24 rfl rfl
theorem dJ9_init_0 : decode cJ9_init 0 = .ok (.aload_n 0, 1) := dk_42 (dk_at dksJ9_init_0 0 rfl rfl)
theorem dJ9_init_1 : decode cJ9_init 1 = .ok (.invokespecial 1, 3) := dk_183 0 1 (dk_at dksJ9_init_0 1 rfl rfl)
theorem dJ9_init_4 : decode cJ9_init 4 = .ok (.aload_n 0, 1) := dk_42 (dk_at dksJ9_init_0 4 rfl rfl)
theorem dJ9_init_5 : decode cJ9_init 5 = .ok (.aload_n 0, 1) := dk_42 (dk_at dksJ9_init_0 5 rfl rfl)
theorem dJ9_init_6 : decode cJ9_init 6 = .ok (.putfield 7, 3) := dk_181 0 7 (dk_at dksJ9_init_0 6 rfl rfl)
theorem dJ9_init_9 : decode cJ9_init 9 = .ok (.aload_n 0, 1) := dk_42 (dk_at dksJ9_init_0 9 rfl rfl)
theorem dJ9_init_10 : decode cJ9_init 10 = .ok (.getstatic 13, 3) := dk_178 0 13 (dk_at dksJ9_init_0 10 rfl rfl)
theorem dJ9_init_13 : decode cJ9_init 13 = .ok (.putfield 17, 3) := dk_181 0 17 (dk_at dksJ9_init_0 13 rfl rfl)
theorem dJ9_init_16 : decode cJ9_init 16 = .ok (.aload_n 0, 1) := dk_42 (dk_at dksJ9_init_0 16 rfl rfl)
theorem dJ9_init_17 : decode cJ9_init 17 = .ok (.getstatic 20, 3) := dk_178 0 20 (dk_at dksJ9_init_0 17 rfl rfl)
theorem dJ9_init_20 : decode cJ9_init 20 = .ok (.putfield 24, 3) := dk_181 0 24 (dk_at dksJ9_init_0 20 rfl rfl)
theorem dJ9_init_23 : decode cJ9_init 23 = .ok (.aload_n 0, 1) := dk_42 (dk_at dksJ9_init_0 23 rfl rfl)
theorem dJ9_init_24 : decode cJ9_init 24 = .ok (.invokevirtual 27, 3) := dk_182 0 27 (dk_at dksJ9_init_1 0 rfl rfl)
theorem dJ9_init_27 : decode cJ9_init 27 = .ok (.pop, 1) := dk_87 (dk_at dksJ9_init_1 3 rfl rfl)
theorem dJ9_init_28 : decode cJ9_init 28 = .ok (.return_, 1) := dk_177 (dk_at dksJ9_init_1 4 rfl rfl)
def dkwJ9_init_2_2 : List UInt8 := [181, 0, 7, 177]
abbrev dktJ9_init_2_2 : List UInt8 := dkwJ9_init_2_2 ++ []
def dkwJ9_init_2_1 : List UInt8 := [182, 0, 27, 87, 42, 43, 199, 0, 7, 1, 167, 0, 7, 43, 182, 0, 35, 181, 0, 31, 42, 43]
abbrev dktJ9_init_2_1 : List UInt8 := dkwJ9_init_2_1 ++ dktJ9_init_2_2
def dkwJ9_init_2_0 : List UInt8 := [42, 183, 0, 1, 42, 42, 181, 0, 7, 42, 178, 0, 13, 181, 0, 17, 42, 178, 0, 20, 181, 0, 24, 42]
abbrev dktJ9_init_2_0 : List UInt8 := dkwJ9_init_2_0 ++ dktJ9_init_2_1
theorem dksJ9_init_2_0 : cJ9_init_2.data.toList.drop 0 = dktJ9_init_2_0 := by decide +kernel
theorem dksJ9_init_2_1 : cJ9_init_2.data.toList.drop 24 = dktJ9_init_2_1 := dk_seg dksJ9_init_2_0 24 rfl rfl
theorem dksJ9_init_2_2 : cJ9_init_2.data.toList.drop 46 = dktJ9_init_2_2 := dk_seg dksJ9_init_2_1 22 rfl rfl
theorem dJ9_init_2_0 : decode cJ9_init_2 0 = .ok (.aload_n 0, 1) := dk_42 (dk_at dksJ9_init_2_0 0 rfl rfl)
theorem dJ9_init_2_1 : decode cJ9_init_2 1 = .ok (.invokespecial 1, 3) := dk_183 0 1 (dk_at dksJ9_init_2_0 1 rfl rfl)
theorem dJ9_init_2_4 : decode cJ9_init_2 4 = .ok (.aload_n 0, 1) := dk_42 (dk_at dksJ9_init_2_0 4 rfl rfl)
theorem dJ9_init_2_5 : decode cJ9_init_2 5 = .ok (.aload_n 0, 1) := dk_42 (dk_at dksJ9_init_2_0 5 rfl rfl)
theorem dJ9_init_2_6 : decode cJ9_init_2 6 = .ok (.putfield 7, 3) := dk_181 0 7 (dk_at dksJ9_init_2_0 6 rfl rfl)
theorem dJ9_init_2_9 : decode cJ9_init_2 9 = .ok (.aload_n 0, 1) := dk_42 (dk_at dksJ9_init_2_0 9 rfl rfl)
theorem dJ9_init_2_10 : decode cJ9_init_2 10 = .ok (.getstatic 13, 3) := dk_178 0 13 (dk_at dksJ9_init_2_0 10 rfl rfl)
theorem dJ9_init_2_13 : decode cJ9_init_2 13 = .ok (.putfield 17, 3) := dk_181 0 17 (dk_at dksJ9_init_2_0 13 rfl rfl)
theorem dJ9_init_2_16 : decode cJ9_init_2 16 = .ok (.aload_n 0, 1) := dk_42 (dk_at dksJ9_init_2_0 16 rfl rfl)
theorem dJ9_init_2_17 : decode cJ9_init_2 17 = .ok (.getstatic 20, 3) := dk_178 0 20 (dk_at dksJ9_init_2_0 17 rfl rfl)
theorem dJ9_init_2_20 : decode cJ9_init_2 20 = .ok (.putfield 24, 3) := dk_181 0 24 (dk_at dksJ9_init_2_0 20 rfl rfl)
theorem dJ9_init_2_23 : decode cJ9_init_2 23 = .ok (.aload_n 0, 1) := dk_42 (dk_at dksJ9_init_2_0 23 rfl rfl)
theorem dJ9_init_2_24 : decode cJ9_init_2 24 = .ok (.invokevirtual 27, 3) := dk_182 0 27 (dk_at dksJ9_init_2_1 0 rfl rfl)
theorem dJ9_init_2_27 : decode cJ9_init_2 27 = .ok (.pop, 1) := dk_87 (dk_at dksJ9_init_2_1 3 rfl rfl)
theorem dJ9_init_2_28 : decode cJ9_init_2 28 = .ok (.aload_n 0, 1) := dk_42 (dk_at dksJ9_init_2_1 4 rfl rfl)
theorem dJ9_init_2_29 : decode cJ9_init_2 29 = .ok (.aload_n 1, 1) := dk_43 (dk_at dksJ9_init_2_1 5 rfl rfl)
theorem dJ9_init_2_30 : decode cJ9_init_2 30 = .ok (.ifnonnull 7, 3) := dk_199 0 7 (dk_at dksJ9_init_2_1 6 rfl rfl)
theorem dJ9_init_2_33 : decode cJ9_init_2 33 = .ok (.aconst_null, 1) := dk_1 (dk_at dksJ9_init_2_1 9 rfl rfl)
theorem dJ9_init_2_34 : decode cJ9_init_2 34 = .ok (.goto 7, 3) := dk_167 0 7 (dk_at dksJ9_init_2_1 10 rfl rfl)
theorem dJ9_init_2_37 : decode cJ9_init_2 37 = .ok (.aload_n 1, 1) := dk_43 (dk_at dksJ9_init_2_1 13 rfl rfl)
theorem dJ9_init_2_38 : decode cJ9_init_2 38 = .ok (.invokevirtual 35, 3) := dk_182 0 35 (dk_at dksJ9_init_2_1 14 rfl rfl)
theorem dJ9_init_2_41 : decode cJ9_init_2 41 = .ok (.putfield 31, 3) := dk_181 0 31 (dk_at dksJ9_init_2_1 17 rfl rfl)
theorem dJ9_init_2_44 : decode cJ9_init_2 44 = .ok (.aload_n 0, 1) := dk_42 (dk_at dksJ9_init_2_1 20 rfl rfl)
theorem dJ9_init_2_45 : decode cJ9_init_2 45 = .ok (.aload_n 1, 1) := dk_43 (dk_at dksJ9_init_2_1 21 rfl rfl)
theorem dJ9_init_2_46 : decode cJ9_init_2 46 = .ok (.putfield 7, 3) := dk_181 0 7 (dk_at dksJ9_init_2_2 0 rfl rfl)
theorem dJ9_init_2_49 : decode cJ9_init_2 49 = .ok (.return_, 1) := dk_177 (dk_at dksJ9_init_2_2 3 rfl rfl)
def dkwJ9_toString_1 : List UInt8 := [43, 182, 0, 49, 18, 81, 182, 0, 49, 44, 182, 0, 49, 182, 0, 60, 167, 0, 4, 43, 176]
abbrev dktJ9_toString_1 : List UInt8 := dkwJ9_toString_1 ++ []
def dkwJ9_toString_0 : List UInt8 := [42, 182, 0, 69, 182, 0, 73, 76, 42, 182, 0, 78, 77, 44, 198, 0, 29, 187, 0, 44, 89, 183, 0, 46]
abbrev dktJ9_toString_0 : List UInt8 := dkwJ9_toString_0 ++ dktJ9_toString_1
theorem dksJ9_toString_0 : cJ9_toString.data.toList.drop 0 = dktJ9_toString_0 := by decide +kernel
theorem dksJ9_toString_1 : cJ9_toString.data.toList.drop 24 = dktJ9_toString_1 := dk_seg dksJ9_toString_0 24 rfl rfl
theorem dJ9_toString_0 : decode cJ9_toString 0 = .ok (.aload_n 0, 1) := dk_42 (dk_at dksJ9_toString_0 0 rfl rfl)
theorem dJ9_toString_1 : decode cJ9_toString 1 = .ok (.invokevirtual 69, 3) := dk_182 0 69 (dk_at dksJ9_toString_0 1 rfl rfl)
theorem dJ9_toString_4 : decode cJ9_toString 4 = .ok (.invokevirtual 73, 3) := dk_182 0 73 (dk_at dksJ9_toString_0 4 rfl rfl)
theorem dJ9_toString_7 : decode cJ9_toString 7 = .ok (.astore_n 1, 1) := dk_76 (dk_at dksJ9_toString_0 7 rfl rfl)
theorem dJ9_toString_8 : decode cJ9_toString 8 = .ok (.aload_n 0, 1) := dk_42 (dk_at dksJ9_toString_0 8 rfl rfl)
theorem dJ9_toString_9 : decode cJ9_toString 9 = .ok (.invokevirtual 78, 3) := dk_182 0 78 (dk_at dksJ9_toString_0 9 rfl rfl)
theorem dJ9_toString_12 : decode cJ9_toString 12 = .ok (.astore_n 2, 1) := dk_77 (dk_at dksJ9_toString_0 12 rfl rfl)
theorem dJ9_toString_13 : decode cJ9_toString 13 = .ok (.aload_n 2, 1) := dk_44 (dk_at dksJ9_toString_0 13 rfl rfl)
theorem dJ9_toString_14 : decode cJ9_toString 14 = .ok (.ifnull 29, 3) := dk_198 0 29 (dk_at dksJ9_toString_0 14 rfl rfl)
theorem dJ9_toString_17 : decode cJ9_toString 17 = .ok (.new 44, 3) := dk_187 0 44 (dk_at dksJ9_toString_0 17 rfl rfl)
theorem dJ9_toString_20 : decode cJ9_toString 20 = .ok (.dup, 1) := dk_89 (dk_at dksJ9_toString_0 20 rfl rfl)
theorem dJ9_toString_21 : decode cJ9_toString 21 = .ok (.invokespecial 46, 3) := dk_183 0 46 (dk_at dksJ9_toString_0 21 rfl rfl)
theorem dJ9_toString_24 : decode cJ9_toString 24 = .ok (.aload_n 1, 1) := dk_43 (dk_at dksJ9_toString_1 0 rfl rfl)
theorem dJ9_toString_25 : decode cJ9_toString 25 = .ok (.invokevirtual 49, 3) := dk_182 0 49 (dk_at dksJ9_toString_1 1 rfl rfl)
theorem dJ9_toString_28 : decode cJ9_toString 28 = .ok (.ldc 81, 2) := dk_18 81 (dk_at dksJ9_toString_1 4 rfl rfl)
theorem dJ9_toString_30 : decode cJ9_toString 30 = .ok (.invokevirtual 49, 3) := dk_182 0 49 (dk_at dksJ9_toString_1 6 rfl rfl)
theorem dJ9_toString_33 : decode cJ9_toString 33 = .ok (.aload_n 2, 1) := dk_44 (dk_at dksJ9_toString_1 9 rfl rfl)
theorem dJ9_toString_34 : decode cJ9_toString 34 = .ok (.invokevirtual 49, 3) := dk_182 0 49 (dk_at dksJ9_toString_1 10 rfl rfl)
theorem dJ9_toString_37 : decode cJ9_toString 37 = .ok (.invokevirtual 60, 3) := dk_182 0 60 (dk_at dksJ9_toString_1 13 rfl rfl)
theorem dJ9_toString_40 : decode cJ9_toString 40 = .ok (.goto 4, 3) := dk_167 0 4 (dk_at dksJ9_toString_1 16 rfl rfl)
theorem dJ9_toString_43 : decode cJ9_toString 43 = .ok (.aload_n 1, 1) := dk_43 (dk_at dksJ9_toString_1 19 rfl rfl)
theorem dJ9_toString_44 : decode cJ9_toString 44 = .ok (.areturn, 1) := dk_176 (dk_at dksJ9_toString_1 20 rfl rfl)
theorem dJ9_getLocalizedMessage_0 : decode cJ9_getLocalizedMessage 0 = .ok (.aload_n 0, 1) := by decide +kernel
theorem dJ9_getLocalizedMessage_1 : decode cJ9_getLocalizedMessage 1 = .ok (.invokevirtual 39, 3) := by decide +kernel
theorem dJ9_getLocalizedMessage_4 : decode cJ9_getLocalizedMessage 4 = .ok (.areturn, 1) := by decide +kernel
theorem dJ9_getMessage_0 : decode cJ9_getMessage 0 = .ok (.aload_n 0, 1) := by decide +kernel
theorem dJ9_getMessage_1 : decode cJ9_getMessage 1 = .ok (.getfield 31, 3) := by decide +kernel
theorem dJ9_getMessage_4 : decode cJ9_getMessage 4 = .ok (.areturn, 1) := by decide +kernel
def dkwJ9_init_3_1 : List UInt8 := [182, 0, 27, 87, 42, 43, 181, 0, 31, 177]
abbrev dktJ9_init_3_1 : List UInt8 := dkwJ9_init_3_1 ++ []
def dkwJ9_init_3_0 : List UInt8 := [42, 183, 0, 1, 42, 42, 181, 0, 7, 42, 178, 0, 13, 181, 0, 17, 42, 178, 0, 20, 181, 0, 24, 42]
abbrev dktJ9_init_3_0 : List UInt8 := dkwJ9_init_3_0 ++ dktJ9_init_3_1
theorem dksJ9_init_3_0 : cJ9_init_3.data.toList.drop 0 = dktJ9_init_3_0 := by decide +kernel
theorem dksJ9_init_3_1 : cJ9_init_3.data.toList.drop 24 = dktJ9_init_3_1 := dk_seg dksJ9_init_3_0 24 rfl rfl
theorem dJ9_init_3_0 : decode cJ9_init_3 0 = .ok (.aload_n 0, 1) := dk_42 (dk_at dksJ9_init_3_0 0 rfl rfl)
theorem dJ9_init_3_1 : decode cJ9_init_3 1 = .ok (.invokespecial 1, 3) := dk_183 0 1 (dk_at dksJ9_init_3_0 1 rfl rfl)
theorem dJ9_init_3_4 : decode cJ9_init_3 4 = .ok (.aload_n 0, 1) := dk_42 (dk_at dksJ9_init_3_0 4 rfl rfl)
theorem dJ9_init_3_5 : decode cJ9_init_3 5 = .ok (.aload_n 0, 1) := dk_42 (dk_at dksJ9_init_3_0 5 rfl rfl)
theorem dJ9_init_3_6 : decode cJ9_init_3 6 = .ok (.putfield 7, 3) := dk_181 0 7 (dk_at dksJ9_init_3_0 6 rfl rfl)
theorem dJ9_init_3_9 : decode cJ9_init_3 9 = .ok (.aload_n 0, 1) := dk_42 (dk_at dksJ9_init_3_0 9 rfl rfl)
theorem dJ9_init_3_10 : decode cJ9_init_3 10 = .ok (.getstatic 13, 3) := dk_178 0 13 (dk_at dksJ9_init_3_0 10 rfl rfl)
theorem dJ9_init_3_13 : decode cJ9_init_3 13 = .ok (.putfield 17, 3) := dk_181 0 17 (dk_at dksJ9_init_3_0 13 rfl rfl)
theorem dJ9_init_3_16 : decode cJ9_init_3 16 = .ok (.aload_n 0, 1) := dk_42 (dk_at dksJ9_init_3_0 16 rfl rfl)
theorem dJ9_init_3_17 : decode cJ9_init_3 17 = .ok (.getstatic 20, 3) := dk_178 0 20 (dk_at dksJ9_init_3_0 17 rfl rfl)
theorem dJ9_init_3_20 : decode cJ9_init_3 20 = .ok (.putfield 24, 3) := dk_181 0 24 (dk_at dksJ9_init_3_0 20 rfl rfl)
theorem dJ9_init_3_23 : decode cJ9_init_3 23 = .ok (.aload_n 0, 1) := dk_42 (dk_at dksJ9_init_3_0 23 rfl rfl)
theorem dJ9_init_3_24 : decode cJ9_init_3 24 = .ok (.invokevirtual 27, 3) := dk_182 0 27 (dk_at dksJ9_init_3_1 0 rfl rfl)
theorem dJ9_init_3_27 : decode cJ9_init_3 27 = .ok (.pop, 1) := dk_87 (dk_at dksJ9_init_3_1 3 rfl rfl)
theorem dJ9_init_3_28 : decode cJ9_init_3 28 = .ok (.aload_n 0, 1) := dk_42 (dk_at dksJ9_init_3_1 4 rfl rfl)
theorem dJ9_init_3_29 : decode cJ9_init_3 29 = .ok (.aload_n 1, 1) := dk_43 (dk_at dksJ9_init_3_1 5 rfl rfl)
theorem dJ9_init_3_30 : decode cJ9_init_3 30 = .ok (.putfield 31, 3) := dk_181 0 31 (dk_at dksJ9_init_3_1 6 rfl rfl)
theorem dJ9_init_3_33 : decode cJ9_init_3 33 = .ok (.return_, 1) := dk_177 (dk_at dksJ9_init_3_1 9 rfl rfl)
def dkwJ9_init_4_2 : List UInt8 := [44, 181, 0, 7, 29, 154, 0, 8, 42, 1, 181, 0, 24, 177]
abbrev dktJ9_init_4_2 : List UInt8 := dkwJ9_init_4_2 ++ []
def dkwJ9_init_4_1 : List UInt8 := [21, 4, 153, 0, 11, 42, 182, 0, 27, 87, 167, 0, 8, 42, 1, 181, 0, 17, 42, 43, 181, 0, 31, 42]
abbrev dktJ9_init_4_1 : List UInt8 := dkwJ9_init_4_1 ++ dktJ9_init_4_2
def dkwJ9_init_4_0 : List UInt8 := [42, 183, 0, 1, 42, 42, 181, 0, 7, 42, 178, 0, 13, 181, 0, 17, 42, 178, 0, 20, 181, 0, 24]
abbrev dktJ9_init_4_0 : List UInt8 := dkwJ9_init_4_0 ++ dktJ9_init_4_1
theorem dksJ9_init_4_0 : cJ9_init_4.data.toList.drop 0 = dktJ9_init_4_0 := by decide +kernel
theorem dksJ9_init_4_1 : cJ9_init_4.data.toList.drop 23 = dktJ9_init_4_1 := dk_seg dksJ9_init_4_0 23 rfl rfl
theorem dksJ9_init_4_2 : cJ9_init_4.data.toList.drop 47 = dktJ9_init_4_2 := dk_seg dksJ9_init_4_1 24 rfl rfl
theorem dJ9_init_4_0 : decode cJ9_init_4 0 = .ok (.aload_n 0, 1) := dk_42 (dk_at dksJ9_init_4_0 0 rfl rfl)
theorem dJ9_init_4_1 : decode cJ9_init_4 1 = .ok (.invokespecial 1, 3) := dk_183 0 1 (dk_at dksJ9_init_4_0 1 rfl rfl)
theorem dJ9_init_4_4 : decode cJ9_init_4 4 = .ok (.aload_n 0, 1) := dk_42 (dk_at dksJ9_init_4_0 4 rfl rfl)
theorem dJ9_init_4_5 : decode cJ9_init_4 5 = .ok (.aload_n 0, 1) := dk_42 (dk_at dksJ9_init_4_0 5 rfl rfl)
theorem dJ9_init_4_6 : decode cJ9_init_4 6 = .ok (.putfield 7, 3) := dk_181 0 7 (dk_at dksJ9_init_4_0 6 rfl rfl)
theorem dJ9_init_4_9 : decode cJ9_init_4 9 = .ok (.aload_n 0, 1) := dk_42 (dk_at dksJ9_init_4_0 9 rfl rfl)
theorem dJ9_init_4_10 : decode cJ9_init_4 10 = .ok (.getstatic 13, 3) := dk_178 0 13 (dk_at dksJ9_init_4_0 10 rfl rfl)
theorem dJ9_init_4_13 : decode cJ9_init_4 13 = .ok (.putfield 17, 3) := dk_181 0 17 (dk_at dksJ9_init_4_0 13 rfl rfl)
theorem dJ9_init_4_16 : decode cJ9_init_4 16 = .ok (.aload_n 0, 1) := dk_42 (dk_at dksJ9_init_4_0 16 rfl rfl)
theorem dJ9_init_4_17 : decode cJ9_init_4 17 = .ok (.getstatic 20, 3) := dk_178 0 20 (dk_at dksJ9_init_4_0 17 rfl rfl)
theorem dJ9_init_4_20 : decode cJ9_init_4 20 = .ok (.putfield 24, 3) := dk_181 0 24 (dk_at dksJ9_init_4_0 20 rfl rfl)
theorem dJ9_init_4_23 : decode cJ9_init_4 23 = .ok (.iload 4, 2) := dk_21 4 (dk_at dksJ9_init_4_1 0 rfl rfl)
theorem dJ9_init_4_25 : decode cJ9_init_4 25 = .ok (.ifCond .eq 11, 3) := dk_153 0 11 (dk_at dksJ9_init_4_1 2 rfl rfl)
theorem dJ9_init_4_28 : decode cJ9_init_4 28 = .ok (.aload_n 0, 1) := dk_42 (dk_at dksJ9_init_4_1 5 rfl rfl)
theorem dJ9_init_4_29 : decode cJ9_init_4 29 = .ok (.invokevirtual 27, 3) := dk_182 0 27 (dk_at dksJ9_init_4_1 6 rfl rfl)
theorem dJ9_init_4_32 : decode cJ9_init_4 32 = .ok (.pop, 1) := dk_87 (dk_at dksJ9_init_4_1 9 rfl rfl)
theorem dJ9_init_4_33 : decode cJ9_init_4 33 = .ok (.goto 8, 3) := dk_167 0 8 (dk_at dksJ9_init_4_1 10 rfl rfl)
theorem dJ9_init_4_36 : decode cJ9_init_4 36 = .ok (.aload_n 0, 1) := dk_42 (dk_at dksJ9_init_4_1 13 rfl rfl)
theorem dJ9_init_4_37 : decode cJ9_init_4 37 = .ok (.aconst_null, 1) := dk_1 (dk_at dksJ9_init_4_1 14 rfl rfl)
theorem dJ9_init_4_38 : decode cJ9_init_4 38 = .ok (.putfield 17, 3) := dk_181 0 17 (dk_at dksJ9_init_4_1 15 rfl rfl)
theorem dJ9_init_4_41 : decode cJ9_init_4 41 = .ok (.aload_n 0, 1) := dk_42 (dk_at dksJ9_init_4_1 18 rfl rfl)
theorem dJ9_init_4_42 : decode cJ9_init_4 42 = .ok (.aload_n 1, 1) := dk_43 (dk_at dksJ9_init_4_1 19 rfl rfl)
theorem dJ9_init_4_43 : decode cJ9_init_4 43 = .ok (.putfield 31, 3) := dk_181 0 31 (dk_at dksJ9_init_4_1 20 rfl rfl)
theorem dJ9_init_4_46 : decode cJ9_init_4 46 = .ok (.aload_n 0, 1) := dk_42 (dk_at dksJ9_init_4_1 23 rfl rfl)
theorem dJ9_init_4_47 : decode cJ9_init_4 47 = .ok (.aload_n 2, 1) := dk_44 (dk_at dksJ9_init_4_2 0 rfl rfl)
theorem dJ9_init_4_48 : decode cJ9_init_4 48 = .ok (.putfield 7, 3) := dk_181 0 7 (dk_at dksJ9_init_4_2 1 rfl rfl)
theorem dJ9_init_4_51 : decode cJ9_init_4 51 = .ok (.iload_n 3, 1) := dk_29 (dk_at dksJ9_init_4_2 4 rfl rfl)
theorem dJ9_init_4_52 : decode cJ9_init_4 52 = .ok (.ifCond .ne 8, 3) := dk_154 0 8 (dk_at dksJ9_init_4_2 5 rfl rfl)
theorem dJ9_init_4_55 : decode cJ9_init_4 55 = .ok (.aload_n 0, 1) := dk_42 (dk_at dksJ9_init_4_2 8 rfl rfl)
theorem dJ9_init_4_56 : decode cJ9_init_4 56 = .ok (.aconst_null, 1) := dk_1 (dk_at dksJ9_init_4_2 9 rfl rfl)
theorem dJ9_init_4_57 : decode cJ9_init_4 57 = .ok (.putfield 24, 3) := dk_181 0 24 (dk_at dksJ9_init_4_2 10 rfl rfl)
theorem dJ9_init_4_60 : decode cJ9_init_4 60 = .ok (.return_, 1) := dk_177 (dk_at dksJ9_init_4_2 13 rfl rfl)
theorem dJ10_init_0 : decode cJ10_init 0 = .ok (.aload_n 0, 1) := by decide +kernel
theorem dJ10_init_1 : decode cJ10_init 1 = .ok (.invokespecial 1, 3) := by decide +kernel
theorem dJ10_init_4 : decode cJ10_init 4 = .ok (.return_, 1) := by decide +kernel
def dkwJ10_init_2_0 : List UInt8 := [42, 43, 183, 0, 13, 177]
abbrev dktJ10_init_2_0 : List UInt8 := dkwJ10_init_2_0 ++ []
theorem dksJ10_init_2_0 : cJ10_init_2.data.toList.drop 0 = dktJ10_init_2_0 := by decide +kernel
theorem dJ10_init_2_0 : decode cJ10_init_2 0 = .ok (.aload_n 0, 1) := dk_42 (dk_at dksJ10_init_2_0 0 rfl rfl)
theorem dJ10_init_2_1 : decode cJ10_init_2 1 = .ok (.aload_n 1, 1) := dk_43 (dk_at dksJ10_init_2_0 1 rfl rfl)
theorem dJ10_init_2_2 : decode cJ10_init_2 2 = .ok (.invokespecial 13, 3) := dk_183 0 13 (dk_at dksJ10_init_2_0 2 rfl rfl)
theorem dJ10_init_2_5 : decode cJ10_init_2 5 = .ok (.return_, 1) := dk_177 (dk_at dksJ10_init_2_0 5 rfl rfl)
def dkwJ10_init_3_0 : List UInt8 := [42, 43, 183, 0, 7, 177]
abbrev dktJ10_init_3_0 : List UInt8 := dkwJ10_init_3_0 ++ []
theorem dksJ10_init_3_0 : cJ10_init_3.data.toList.drop 0 = dktJ10_init_3_0 := by decide +kernel
theorem dJ10_init_3_0 : decode cJ10_init_3 0 = .ok (.aload_n 0, 1) := dk_42 (dk_at dksJ10_init_3_0 0 rfl rfl)
theorem dJ10_init_3_1 : decode cJ10_init_3 1 = .ok (.aload_n 1, 1) := dk_43 (dk_at dksJ10_init_3_0 1 rfl rfl)
theorem dJ10_init_3_2 : decode cJ10_init_3 2 = .ok (.invokespecial 7, 3) := dk_183 0 7 (dk_at dksJ10_init_3_0 2 rfl rfl)
theorem dJ10_init_3_5 : decode cJ10_init_3 5 = .ok (.return_, 1) := dk_177 (dk_at dksJ10_init_3_0 5 rfl rfl)
def dkwJ10_init_4_0 : List UInt8 := [42, 43, 44, 29, 21, 4, 183, 0, 16, 177]
abbrev dktJ10_init_4_0 : List UInt8 := dkwJ10_init_4_0 ++ []
theorem dksJ10_init_4_0 : cJ10_init_4.data.toList.drop 0 = dktJ10_init_4_0 := by decide +kernel
theorem dJ10_init_4_0 : decode cJ10_init_4 0 = .ok (.aload_n 0, 1) := dk_42 (dk_at dksJ10_init_4_0 0 rfl rfl)
theorem dJ10_init_4_1 : decode cJ10_init_4 1 = .ok (.aload_n 1, 1) := dk_43 (dk_at dksJ10_init_4_0 1 rfl rfl)
theorem dJ10_init_4_2 : decode cJ10_init_4 2 = .ok (.aload_n 2, 1) := dk_44 (dk_at dksJ10_init_4_0 2 rfl rfl)
theorem dJ10_init_4_3 : decode cJ10_init_4 3 = .ok (.iload_n 3, 1) := dk_29 (dk_at dksJ10_init_4_0 3 rfl rfl)
theorem dJ10_init_4_4 : decode cJ10_init_4 4 = .ok (.iload 4, 2) := dk_21 4 (dk_at dksJ10_init_4_0 4 rfl rfl)
theorem dJ10_init_4_6 : decode cJ10_init_4 6 = .ok (.invokespecial 16, 3) := dk_183 0 16 (dk_at dksJ10_init_4_0 6 rfl rfl)
theorem dJ10_init_4_9 : decode cJ10_init_4 9 = .ok (.return_, 1) := dk_177 (dk_at dksJ10_init_4_0 9 rfl rfl)
theorem dJ11_init_0 : decode cJ11_init 0 = .ok (.aload_n 0, 1) := by decide +kernel
theorem dJ11_init_1 : decode cJ11_init 1 = .ok (.invokespecial 1, 3) := by decide +kernel
theorem dJ11_init_4 : decode cJ11_init 4 = .ok (.return_, 1) := by decide +kernel
def dkwJ11_init_2_0 : List UInt8 := [42, 43, 183, 0, 13, 177]
abbrev dktJ11_init_2_0 : List UInt8 := dkwJ11_init_2_0 ++ []
theorem dksJ11_init_2_0 : cJ11_init_2.data.toList.drop 0 = dktJ11_init_2_0 := by decide +kernel
theorem dJ11_init_2_0 : decode cJ11_init_2 0 = .ok (.aload_n 0, 1) := dk_42 (dk_at dksJ11_init_2_0 0 rfl rfl)
theorem dJ11_init_2_1 : decode cJ11_init_2 1 = .ok (.aload_n 1, 1) := dk_43 (dk_at dksJ11_init_2_0 1 rfl rfl)
theorem dJ11_init_2_2 : decode cJ11_init_2 2 = .ok (.invokespecial 13, 3) := dk_183 0 13 (dk_at dksJ11_init_2_0 2 rfl rfl)
theorem dJ11_init_2_5 : decode cJ11_init_2 5 = .ok (.return_, 1) := dk_177 (dk_at dksJ11_init_2_0 5 rfl rfl)
def dkwJ11_init_3_0 : List UInt8 := [42, 43, 183, 0, 7, 177]
abbrev dktJ11_init_3_0 : List UInt8 := dkwJ11_init_3_0 ++ []
theorem dksJ11_init_3_0 : cJ11_init_3.data.toList.drop 0 = dktJ11_init_3_0 := by decide +kernel
theorem dJ11_init_3_0 : decode cJ11_init_3 0 = .ok (.aload_n 0, 1) := dk_42 (dk_at dksJ11_init_3_0 0 rfl rfl)
theorem dJ11_init_3_1 : decode cJ11_init_3 1 = .ok (.aload_n 1, 1) := dk_43 (dk_at dksJ11_init_3_0 1 rfl rfl)
theorem dJ11_init_3_2 : decode cJ11_init_3 2 = .ok (.invokespecial 7, 3) := dk_183 0 7 (dk_at dksJ11_init_3_0 2 rfl rfl)
theorem dJ11_init_3_5 : decode cJ11_init_3 5 = .ok (.return_, 1) := dk_177 (dk_at dksJ11_init_3_0 5 rfl rfl)
def dkwJ12_init_0 : List UInt8 := [42, 43, 183, 0, 7, 177]
abbrev dktJ12_init_0 : List UInt8 := dkwJ12_init_0 ++ []
theorem dksJ12_init_0 : cJ12_init.data.toList.drop 0 = dktJ12_init_0 := by decide +kernel
theorem dJ12_init_0 : decode cJ12_init 0 = .ok (.aload_n 0, 1) := dk_42 (dk_at dksJ12_init_0 0 rfl rfl)
theorem dJ12_init_1 : decode cJ12_init 1 = .ok (.aload_n 1, 1) := dk_43 (dk_at dksJ12_init_0 1 rfl rfl)
theorem dJ12_init_2 : decode cJ12_init 2 = .ok (.invokespecial 7, 3) := dk_183 0 7 (dk_at dksJ12_init_0 2 rfl rfl)
theorem dJ12_init_5 : decode cJ12_init 5 = .ok (.return_, 1) := dk_177 (dk_at dksJ12_init_0 5 rfl rfl)
theorem dJ12_init_2_0 : decode cJ12_init_2 0 = .ok (.aload_n 0, 1) := by decide +kernel
theorem dJ12_init_2_1 : decode cJ12_init_2 1 = .ok (.invokespecial 1, 3) := by decide +kernel
theorem dJ12_init_2_4 : decode cJ12_init_2 4 = .ok (.return_, 1) := by decide +kernel
def dkwJ13_init_1 : List UInt8 := [167, 0, 16, 42, 27, 184, 0, 26, 181, 0, 15, 42, 4, 181, 0, 22, 177]
abbrev dktJ13_init_1 : List UInt8 := dkwJ13_init_1 ++ []
def dkwJ13_init_0 : List UInt8 := [42, 183, 0, 3, 178, 0, 18, 153, 0, 18, 42, 27, 188, 8, 181, 0, 15, 42, 3, 181, 0, 22]
abbrev dktJ13_init_0 : List UInt8 := dkwJ13_init_0 ++ dktJ13_init_1
theorem dksJ13_init_0 : cJ13_init.data.toList.drop 0 = dktJ13_init_0 := by decide +kernel
theorem dksJ13_init_1 : cJ13_init.data.toList.drop 22 = dktJ13_init_1 := dk_seg dksJ13_init_0 22 rfl rfl
theorem dJ13_init_0 : decode cJ13_init 0 = .ok (.aload_n 0, 1) := dk_42 (dk_at dksJ13_init_0 0 rfl rfl)
theorem dJ13_init_1 : decode cJ13_init 1 = .ok (.invokespecial 3, 3) := dk_183 0 3 (dk_at dksJ13_init_0 1 rfl rfl)
theorem dJ13_init_4 : decode cJ13_init 4 = .ok (.getstatic 18, 3) := dk_178 0 18 (dk_at dksJ13_init_0 4 rfl rfl)
theorem dJ13_init_7 : decode cJ13_init 7 = .ok (.ifCond .eq 18, 3) := dk_153 0 18 (dk_at dksJ13_init_0 7 rfl rfl)
theorem dJ13_init_10 : decode cJ13_init 10 = .ok (.aload_n 0, 1) := dk_42 (dk_at dksJ13_init_0 10 rfl rfl)
theorem dJ13_init_11 : decode cJ13_init 11 = .ok (.iload_n 1, 1) := dk_27 (dk_at dksJ13_init_0 11 rfl rfl)
theorem dJ13_init_12 : decode cJ13_init 12 = .ok (.newarray .byte, 2) := dk_188_8 (dk_at dksJ13_init_0 12 rfl rfl)
theorem dJ13_init_14 : decode cJ13_init 14 = .ok (.putfield 15, 3) := dk_181 0 15 (dk_at dksJ13_init_0 14 rfl rfl)
theorem dJ13_init_17 : decode cJ13_init 17 = .ok (.aload_n 0, 1) := dk_42 (dk_at dksJ13_init_0 17 rfl rfl)
theorem dJ13_init_18 : decode cJ13_init 18 = .ok (.iconst 0, 1) := dk_3 (dk_at dksJ13_init_0 18 rfl rfl)
theorem dJ13_init_19 : decode cJ13_init 19 = .ok (.putfield 22, 3) := dk_181 0 22 (dk_at dksJ13_init_0 19 rfl rfl)
theorem dJ13_init_22 : decode cJ13_init 22 = .ok (.goto 16, 3) := dk_167 0 16 (dk_at dksJ13_init_1 0 rfl rfl)
theorem dJ13_init_25 : decode cJ13_init 25 = .ok (.aload_n 0, 1) := dk_42 (dk_at dksJ13_init_1 3 rfl rfl)
theorem dJ13_init_26 : decode cJ13_init 26 = .ok (.iload_n 1, 1) := dk_27 (dk_at dksJ13_init_1 4 rfl rfl)
theorem dJ13_init_27 : decode cJ13_init 27 = .ok (.invokestatic 26, 3) := dk_184 0 26 (dk_at dksJ13_init_1 5 rfl rfl)
theorem dJ13_init_30 : decode cJ13_init 30 = .ok (.putfield 15, 3) := dk_181 0 15 (dk_at dksJ13_init_1 8 rfl rfl)
theorem dJ13_init_33 : decode cJ13_init 33 = .ok (.aload_n 0, 1) := dk_42 (dk_at dksJ13_init_1 11 rfl rfl)
theorem dJ13_init_34 : decode cJ13_init 34 = .ok (.iconst 1, 1) := dk_4 (dk_at dksJ13_init_1 12 rfl rfl)
theorem dJ13_init_35 : decode cJ13_init 35 = .ok (.putfield 22, 3) := dk_181 0 22 (dk_at dksJ13_init_1 13 rfl rfl)
theorem dJ13_init_38 : decode cJ13_init 38 = .ok (.return_, 1) := dk_177 (dk_at dksJ13_init_1 16 rfl rfl)
def dkwJ13_append_1 : List UInt8 := [42, 42, 180, 0, 79, 43, 182, 0, 208, 42, 89, 180, 0, 79, 28, 96, 181, 0, 79, 42, 176]
abbrev dktJ13_append_1 : List UInt8 := dkwJ13_append_1 ++ []
def dkwJ13_append_0 : List UInt8 := [43, 199, 0, 8, 42, 182, 0, 204, 176, 43, 182, 0, 32, 61, 42, 42, 180, 0, 79, 28, 96, 182, 0, 100]
abbrev dktJ13_append_0 : List UInt8 := dkwJ13_append_0 ++ dktJ13_append_1
theorem dksJ13_append_0 : cJ13_append.data.toList.drop 0 = dktJ13_append_0 := by decide +kernel
theorem dksJ13_append_1 : cJ13_append.data.toList.drop 24 = dktJ13_append_1 := dk_seg dksJ13_append_0 24 rfl rfl
theorem dJ13_append_0 : decode cJ13_append 0 = .ok (.aload_n 1, 1) := dk_43 (dk_at dksJ13_append_0 0 rfl rfl)
theorem dJ13_append_1 : decode cJ13_append 1 = .ok (.ifnonnull 8, 3) := dk_199 0 8 (dk_at dksJ13_append_0 1 rfl rfl)
theorem dJ13_append_4 : decode cJ13_append 4 = .ok (.aload_n 0, 1) := dk_42 (dk_at dksJ13_append_0 4 rfl rfl)
theorem dJ13_append_5 : decode cJ13_append 5 = .ok (.invokevirtual 204, 3) := dk_182 0 204 (dk_at dksJ13_append_0 5 rfl rfl)
theorem dJ13_append_8 : decode cJ13_append 8 = .ok (.areturn, 1) := dk_176 (dk_at dksJ13_append_0 8 rfl rfl)
theorem dJ13_append_9 : decode cJ13_append 9 = .ok (.aload_n 1, 1) := dk_43 (dk_at dksJ13_append_0 9 rfl rfl)
theorem dJ13_append_10 : decode cJ13_append 10 = .ok (.invokevirtual 32, 3) := dk_182 0 32 (dk_at dksJ13_append_0 10 rfl rfl)
theorem dJ13_append_13 : decode cJ13_append 13 = .ok (.istore_n 2, 1) := dk_61 (dk_at dksJ13_append_0 13 rfl rfl)
theorem dJ13_append_14 : decode cJ13_append 14 = .ok (.aload_n 0, 1) := dk_42 (dk_at dksJ13_append_0 14 rfl rfl)
theorem dJ13_append_15 : decode cJ13_append 15 = .ok (.aload_n 0, 1) := dk_42 (dk_at dksJ13_append_0 15 rfl rfl)
theorem dJ13_append_16 : decode cJ13_append 16 = .ok (.getfield 79, 3) := dk_180 0 79 (dk_at dksJ13_append_0 16 rfl rfl)
theorem dJ13_append_19 : decode cJ13_append 19 = .ok (.iload_n 2, 1) := dk_28 (dk_at dksJ13_append_0 19 rfl rfl)
theorem dJ13_append_20 : decode cJ13_append 20 = .ok (.iadd, 1) := dk_96 (dk_at dksJ13_append_0 20 rfl rfl)
theorem dJ13_append_21 : decode cJ13_append 21 = .ok (.invokevirtual 100, 3) := dk_182 0 100 (dk_at dksJ13_append_0 21 rfl rfl)
theorem dJ13_append_24 : decode cJ13_append 24 = .ok (.aload_n 0, 1) := dk_42 (dk_at dksJ13_append_1 0 rfl rfl)
theorem dJ13_append_25 : decode cJ13_append 25 = .ok (.aload_n 0, 1) := dk_42 (dk_at dksJ13_append_1 1 rfl rfl)
theorem dJ13_append_26 : decode cJ13_append 26 = .ok (.getfield 79, 3) := dk_180 0 79 (dk_at dksJ13_append_1 2 rfl rfl)
theorem dJ13_append_29 : decode cJ13_append 29 = .ok (.aload_n 1, 1) := dk_43 (dk_at dksJ13_append_1 5 rfl rfl)
theorem dJ13_append_30 : decode cJ13_append 30 = .ok (.invokevirtual 208, 3) := dk_182 0 208 (dk_at dksJ13_append_1 6 rfl rfl)
theorem dJ13_append_33 : decode cJ13_append 33 = .ok (.aload_n 0, 1) := dk_42 (dk_at dksJ13_append_1 9 rfl rfl)
theorem dJ13_append_34 : decode cJ13_append 34 = .ok (.dup, 1) := dk_89 (dk_at dksJ13_append_1 10 rfl rfl)
theorem dJ13_append_35 : decode cJ13_append 35 = .ok (.getfield 79, 3) := dk_180 0 79 (dk_at dksJ13_append_1 11 rfl rfl)
theorem dJ13_append_38 : decode cJ13_append 38 = .ok (.iload_n 2, 1) := dk_28 (dk_at dksJ13_append_1 14 rfl rfl)
theorem dJ13_append_39 : decode cJ13_append 39 = .ok (.iadd, 1) := dk_96 (dk_at dksJ13_append_1 15 rfl rfl)
theorem dJ13_append_40 : decode cJ13_append 40 = .ok (.putfield 79, 3) := dk_181 0 79 (dk_at dksJ13_append_1 16 rfl rfl)
theorem dJ13_append_43 : decode cJ13_append 43 = .ok (.aload_n 0, 1) := dk_42 (dk_at dksJ13_append_1 19 rfl rfl)
theorem dJ13_append_44 : decode cJ13_append 44 = .ok (.areturn, 1) := dk_176 (dk_at dksJ13_append_1 20 rfl rfl)
def dkwJ13_appendNull_3 : List UInt8 := [184, 0, 226, 60, 42, 27, 181, 0, 79, 42, 176]
abbrev dktJ13_appendNull_3 : List UInt8 := dkwJ13_appendNull_3 ++ []
def dkwJ13_appendNull_2 : List UInt8 := [16, 108, 84, 44, 27, 132, 1, 1, 16, 108, 84, 167, 0, 17, 44, 27, 16, 110, 16, 117, 16, 108, 16, 108]
abbrev dktJ13_appendNull_2 : List UInt8 := dkwJ13_appendNull_2 ++ dktJ13_appendNull_3
def dkwJ13_appendNull_1 : List UInt8 := [153, 0, 38, 44, 27, 132, 1, 1, 16, 110, 84, 44, 27, 132, 1, 1, 16, 117, 84, 44, 27, 132, 1, 1]
abbrev dktJ13_appendNull_1 : List UInt8 := dkwJ13_appendNull_1 ++ dktJ13_appendNull_2
def dkwJ13_appendNull_0 : List UInt8 := [42, 42, 180, 0, 79, 7, 96, 182, 0, 100, 42, 180, 0, 79, 60, 42, 180, 0, 15, 77, 42, 182, 0, 83]
abbrev dktJ13_appendNull_0 : List UInt8 := dkwJ13_appendNull_0 ++ dktJ13_appendNull_1
theorem dksJ13_appendNull_0 : cJ13_appendNull.data.toList.drop 0 = dktJ13_appendNull_0 := by decide +kernel
theorem dksJ13_appendNull_1 : cJ13_appendNull.data.toList.drop 24 = dktJ13_appendNull_1 := dk_seg dksJ13_appendNull_0 24 rfl rfl
theorem dksJ13_appendNull_2 : cJ13_appendNull.data.toList.drop 48 = dktJ13_appendNull_2 := dk_seg dksJ13_appendNull_1 24 rfl rfl
theorem dksJ13_appendNull_3 : cJ13_appendNull.data.toList.drop 72 = dktJ13_appendNull_3 := dk_seg dksJ13_appendNull_2 24 rfl rfl
theorem dJ13_appendNull_0 : decode cJ13_appendNull 0 = .ok (.aload_n 0, 1) := dk_42 (dk_at dksJ13_appendNull_0 0 rfl rfl)
theorem dJ13_appendNull_1 : decode cJ13_appendNull 1 = .ok (.aload_n 0, 1) := dk_42 (dk_at dksJ13_appendNull_0 1 rfl rfl)
theorem dJ13_appendNull_2 : decode cJ13_appendNull 2 = .ok (.getfield 79, 3) := dk_180 0 79 (dk_at dksJ13_appendNull_0 2 rfl rfl)
theorem dJ13_appendNull_5 : decode cJ13_appendNull 5 = .ok (.iconst 4, 1) := dk_7 (dk_at dksJ13_appendNull_0 5 rfl rfl)
theorem dJ13_appendNull_6 : decode cJ13_appendNull 6 = .ok (.iadd, 1) := dk_96 (dk_at dksJ13_appendNull_0 6 rfl rfl)
theorem dJ13_appendNull_7 : decode cJ13_appendNull 7 = .ok (.invokevirtual 100, 3) := dk_182 0 100 (dk_at dksJ13_appendNull_0 7 rfl rfl)
theorem dJ13_appendNull_10 : decode cJ13_appendNull 10 = .ok (.aload_n 0, 1) := dk_42 (dk_at dksJ13_appendNull_0 10 rfl rfl)
theorem dJ13_appendNull_11 : decode cJ13_appendNull 11 = .ok (.getfield 79, 3) := dk_180 0 79 (dk_at dksJ13_appendNull_0 11 rfl rfl)
theorem dJ13_appendNull_14 : decode cJ13_appendNull 14 = .ok (.istore_n 1, 1) := dk_60 (dk_at dksJ13_appendNull_0 14 rfl rfl)
theorem dJ13_appendNull_15 : decode cJ13_appendNull 15 = .ok (.aload_n 0, 1) := dk_42 (dk_at dksJ13_appendNull_0 15 rfl rfl)
theorem dJ13_appendNull_16 : decode cJ13_appendNull 16 = .ok (.getfield 15, 3) := dk_180 0 15 (dk_at dksJ13_appendNull_0 16 rfl rfl)
theorem dJ13_appendNull_19 : decode cJ13_appendNull 19 = .ok (.astore_n 2, 1) := dk_77 (dk_at dksJ13_appendNull_0 19 rfl rfl)
theorem dJ13_appendNull_20 : decode cJ13_appendNull 20 = .ok (.aload_n 0, 1) := dk_42 (dk_at dksJ13_appendNull_0 20 rfl rfl)
theorem dJ13_appendNull_21 : decode cJ13_appendNull 21 = .ok (.invokevirtual 83, 3) := dk_182 0 83 (dk_at dksJ13_appendNull_0 21 rfl rfl)
theorem dJ13_appendNull_24 : decode cJ13_appendNull 24 = .ok (.ifCond .eq 38, 3) := dk_153 0 38 (dk_at dksJ13_appendNull_1 0 rfl rfl)
theorem dJ13_appendNull_27 : decode cJ13_appendNull 27 = .ok (.aload_n 2, 1) := dk_44 (dk_at dksJ13_appendNull_1 3 rfl rfl)
theorem dJ13_appendNull_28 : decode cJ13_appendNull 28 = .ok (.iload_n 1, 1) := dk_27 (dk_at dksJ13_appendNull_1 4 rfl rfl)
theorem dJ13_appendNull_29 : decode cJ13_appendNull 29 = .ok (.iinc 1 1, 3) := dk_132 1 1 (dk_at dksJ13_appendNull_1 5 rfl rfl)
theorem dJ13_appendNull_32 : decode cJ13_appendNull 32 = .ok (.bipush 110, 2) := dk_16 110 (dk_at dksJ13_appendNull_1 8 rfl rfl)
theorem dJ13_appendNull_34 : decode cJ13_appendNull 34 = .ok (.bastore, 1) := dk_84 (dk_at dksJ13_appendNull_1 10 rfl rfl)
theorem dJ13_appendNull_35 : decode cJ13_appendNull 35 = .ok (.aload_n 2, 1) := dk_44 (dk_at dksJ13_appendNull_1 11 rfl rfl)
theorem dJ13_appendNull_36 : decode cJ13_appendNull 36 = .ok (.iload_n 1, 1) := dk_27 (dk_at dksJ13_appendNull_1 12 rfl rfl)
theorem dJ13_appendNull_37 : decode cJ13_appendNull 37 = .ok (.iinc 1 1, 3) := dk_132 1 1 (dk_at dksJ13_appendNull_1 13 rfl rfl)
theorem dJ13_appendNull_40 : decode cJ13_appendNull 40 = .ok (.bipush 117, 2) := dk_16 117 (dk_at dksJ13_appendNull_1 16 rfl rfl)
theorem dJ13_appendNull_42 : decode cJ13_appendNull 42 = .ok (.bastore, 1) := dk_84 (dk_at dksJ13_appendNull_1 18 rfl rfl)
theorem dJ13_appendNull_43 : decode cJ13_appendNull 43 = .ok (.aload_n 2, 1) := dk_44 (dk_at dksJ13_appendNull_1 19 rfl rfl)
theorem dJ13_appendNull_44 : decode cJ13_appendNull 44 = .ok (.iload_n 1, 1) := dk_27 (dk_at dksJ13_appendNull_1 20 rfl rfl)
theorem dJ13_appendNull_45 : decode cJ13_appendNull 45 = .ok (.iinc 1 1, 3) := dk_132 1 1 (dk_at dksJ13_appendNull_1 21 rfl rfl)
theorem dJ13_appendNull_48 : decode cJ13_appendNull 48 = .ok (.bipush 108, 2) := dk_16 108 (dk_at dksJ13_appendNull_2 0 rfl rfl)
theorem dJ13_appendNull_50 : decode cJ13_appendNull 50 = .ok (.bastore, 1) := dk_84 (dk_at dksJ13_appendNull_2 2 rfl rfl)
theorem dJ13_appendNull_51 : decode cJ13_appendNull 51 = .ok (.aload_n 2, 1) := dk_44 (dk_at dksJ13_appendNull_2 3 rfl rfl)
theorem dJ13_appendNull_52 : decode cJ13_appendNull 52 = .ok (.iload_n 1, 1) := dk_27 (dk_at dksJ13_appendNull_2 4 rfl rfl)
theorem dJ13_appendNull_53 : decode cJ13_appendNull 53 = .ok (.iinc 1 1, 3) := dk_132 1 1 (dk_at dksJ13_appendNull_2 5 rfl rfl)
theorem dJ13_appendNull_56 : decode cJ13_appendNull 56 = .ok (.bipush 108, 2) := dk_16 108 (dk_at dksJ13_appendNull_2 8 rfl rfl)
theorem dJ13_appendNull_58 : decode cJ13_appendNull 58 = .ok (.bastore, 1) := dk_84 (dk_at dksJ13_appendNull_2 10 rfl rfl)
theorem dJ13_appendNull_59 : decode cJ13_appendNull 59 = .ok (.goto 17, 3) := dk_167 0 17 (dk_at dksJ13_appendNull_2 11 rfl rfl)
theorem dJ13_appendNull_62 : decode cJ13_appendNull 62 = .ok (.aload_n 2, 1) := dk_44 (dk_at dksJ13_appendNull_2 14 rfl rfl)
theorem dJ13_appendNull_63 : decode cJ13_appendNull 63 = .ok (.iload_n 1, 1) := dk_27 (dk_at dksJ13_appendNull_2 15 rfl rfl)
theorem dJ13_appendNull_64 : decode cJ13_appendNull 64 = .ok (.bipush 110, 2) := dk_16 110 (dk_at dksJ13_appendNull_2 16 rfl rfl)
theorem dJ13_appendNull_66 : decode cJ13_appendNull 66 = .ok (.bipush 117, 2) := dk_16 117 (dk_at dksJ13_appendNull_2 18 rfl rfl)
theorem dJ13_appendNull_68 : decode cJ13_appendNull 68 = .ok (.bipush 108, 2) := dk_16 108 (dk_at dksJ13_appendNull_2 20 rfl rfl)
theorem dJ13_appendNull_70 : decode cJ13_appendNull 70 = .ok (.bipush 108, 2) := dk_16 108 (dk_at dksJ13_appendNull_2 22 rfl rfl)
theorem dJ13_appendNull_72 : decode cJ13_appendNull 72 = .ok (.invokestatic 226, 3) := dk_184 0 226 (dk_at dksJ13_appendNull_3 0 rfl rfl)
theorem dJ13_appendNull_75 : decode cJ13_appendNull 75 = .ok (.istore_n 1, 1) := dk_60 (dk_at dksJ13_appendNull_3 3 rfl rfl)
theorem dJ13_appendNull_76 : decode cJ13_appendNull 76 = .ok (.aload_n 0, 1) := dk_42 (dk_at dksJ13_appendNull_3 4 rfl rfl)
theorem dJ13_appendNull_77 : decode cJ13_appendNull 77 = .ok (.iload_n 1, 1) := dk_27 (dk_at dksJ13_appendNull_3 5 rfl rfl)
theorem dJ13_appendNull_78 : decode cJ13_appendNull 78 = .ok (.putfield 79, 3) := dk_181 0 79 (dk_at dksJ13_appendNull_3 6 rfl rfl)
theorem dJ13_appendNull_81 : decode cJ13_appendNull 81 = .ok (.aload_n 0, 1) := dk_42 (dk_at dksJ13_appendNull_3 9 rfl rfl)
theorem dJ13_appendNull_82 : decode cJ13_appendNull 82 = .ok (.areturn, 1) := dk_176 (dk_at dksJ13_appendNull_3 10 rfl rfl)
def dkwJ13_ensureCapacityInternal_1 : List UInt8 := [182, 0, 104, 42, 180, 0, 22, 120, 184, 0, 108, 181, 0, 15, 177]
abbrev dktJ13_ensureCapacityInternal_1 : List UInt8 := dkwJ13_ensureCapacityInternal_1 ++ []
def dkwJ13_ensureCapacityInternal_0 : List UInt8 := [42, 180, 0, 15, 190, 42, 180, 0, 22, 122, 61, 27, 28, 100, 158, 0, 24, 42, 42, 180, 0, 15, 42, 27]
abbrev dktJ13_ensureCapacityInternal_0 : List UInt8 := dkwJ13_ensureCapacityInternal_0 ++ dktJ13_ensureCapacityInternal_1
theorem dksJ13_ensureCapacityInternal_0 : cJ13_ensureCapacityInternal.data.toList.drop 0 = dktJ13_ensureCapacityInternal_0 := by decide +kernel
theorem dksJ13_ensureCapacityInternal_1 : cJ13_ensureCapacityInternal.data.toList.drop 24 = dktJ13_ensureCapacityInternal_1 := dk_seg dksJ13_ensureCapacityInternal_0 24 rfl rfl
theorem dJ13_ensureCapacityInternal_0 : decode cJ13_ensureCapacityInternal 0 = .ok (.aload_n 0, 1) := dk_42 (dk_at dksJ13_ensureCapacityInternal_0 0 rfl rfl)
theorem dJ13_ensureCapacityInternal_1 : decode cJ13_ensureCapacityInternal 1 = .ok (.getfield 15, 3) := dk_180 0 15 (dk_at dksJ13_ensureCapacityInternal_0 1 rfl rfl)
theorem dJ13_ensureCapacityInternal_4 : decode cJ13_ensureCapacityInternal 4 = .ok (.arraylength, 1) := dk_190 (dk_at dksJ13_ensureCapacityInternal_0 4 rfl rfl)
theorem dJ13_ensureCapacityInternal_5 : decode cJ13_ensureCapacityInternal 5 = .ok (.aload_n 0, 1) := dk_42 (dk_at dksJ13_ensureCapacityInternal_0 5 rfl rfl)
theorem dJ13_ensureCapacityInternal_6 : decode cJ13_ensureCapacityInternal 6 = .ok (.getfield 22, 3) := dk_180 0 22 (dk_at dksJ13_ensureCapacityInternal_0 6 rfl rfl)
theorem dJ13_ensureCapacityInternal_9 : decode cJ13_ensureCapacityInternal 9 = .ok (.ishr, 1) := dk_122 (dk_at dksJ13_ensureCapacityInternal_0 9 rfl rfl)
theorem dJ13_ensureCapacityInternal_10 : decode cJ13_ensureCapacityInternal 10 = .ok (.istore_n 2, 1) := dk_61 (dk_at dksJ13_ensureCapacityInternal_0 10 rfl rfl)
theorem dJ13_ensureCapacityInternal_11 : decode cJ13_ensureCapacityInternal 11 = .ok (.iload_n 1, 1) := dk_27 (dk_at dksJ13_ensureCapacityInternal_0 11 rfl rfl)
theorem dJ13_ensureCapacityInternal_12 : decode cJ13_ensureCapacityInternal 12 = .ok (.iload_n 2, 1) := dk_28 (dk_at dksJ13_ensureCapacityInternal_0 12 rfl rfl)
theorem dJ13_ensureCapacityInternal_13 : decode cJ13_ensureCapacityInternal 13 = .ok (.isub, 1) := dk_100 (dk_at dksJ13_ensureCapacityInternal_0 13 rfl rfl)
theorem dJ13_ensureCapacityInternal_14 : decode cJ13_ensureCapacityInternal 14 = .ok (.ifCond .le 24, 3) := dk_158 0 24 (dk_at dksJ13_ensureCapacityInternal_0 14 rfl rfl)
theorem dJ13_ensureCapacityInternal_17 : decode cJ13_ensureCapacityInternal 17 = .ok (.aload_n 0, 1) := dk_42 (dk_at dksJ13_ensureCapacityInternal_0 17 rfl rfl)
theorem dJ13_ensureCapacityInternal_18 : decode cJ13_ensureCapacityInternal 18 = .ok (.aload_n 0, 1) := dk_42 (dk_at dksJ13_ensureCapacityInternal_0 18 rfl rfl)
theorem dJ13_ensureCapacityInternal_19 : decode cJ13_ensureCapacityInternal 19 = .ok (.getfield 15, 3) := dk_180 0 15 (dk_at dksJ13_ensureCapacityInternal_0 19 rfl rfl)
theorem dJ13_ensureCapacityInternal_22 : decode cJ13_ensureCapacityInternal 22 = .ok (.aload_n 0, 1) := dk_42 (dk_at dksJ13_ensureCapacityInternal_0 22 rfl rfl)
theorem dJ13_ensureCapacityInternal_23 : decode cJ13_ensureCapacityInternal 23 = .ok (.iload_n 1, 1) := dk_27 (dk_at dksJ13_ensureCapacityInternal_0 23 rfl rfl)
theorem dJ13_ensureCapacityInternal_24 : decode cJ13_ensureCapacityInternal 24 = .ok (.invokevirtual 104, 3) := dk_182 0 104 (dk_at dksJ13_ensureCapacityInternal_1 0 rfl rfl)
theorem dJ13_ensureCapacityInternal_27 : decode cJ13_ensureCapacityInternal 27 = .ok (.aload_n 0, 1) := dk_42 (dk_at dksJ13_ensureCapacityInternal_1 3 rfl rfl)
theorem dJ13_ensureCapacityInternal_28 : decode cJ13_ensureCapacityInternal 28 = .ok (.getfield 22, 3) := dk_180 0 22 (dk_at dksJ13_ensureCapacityInternal_1 4 rfl rfl)
theorem dJ13_ensureCapacityInternal_31 : decode cJ13_ensureCapacityInternal 31 = .ok (.ishl, 1) := dk_120 (dk_at dksJ13_ensureCapacityInternal_1 7 rfl rfl)
theorem dJ13_ensureCapacityInternal_32 : decode cJ13_ensureCapacityInternal 32 = .ok (.invokestatic 108, 3) := dk_184 0 108 (dk_at dksJ13_ensureCapacityInternal_1 8 rfl rfl)
theorem dJ13_ensureCapacityInternal_35 : decode cJ13_ensureCapacityInternal 35 = .ok (.putfield 15, 3) := dk_181 0 15 (dk_at dksJ13_ensureCapacityInternal_1 11 rfl rfl)
theorem dJ13_ensureCapacityInternal_38 : decode cJ13_ensureCapacityInternal 38 = .ok (.return_, 1) := dk_177 (dk_at dksJ13_ensureCapacityInternal_1 14 rfl rfl)
def dkwJ13_newCapacity_2 : List UInt8 := [183, 0, 124, 191, 21, 5, 42, 180, 0, 22, 122, 172]
abbrev dktJ13_newCapacity_2 : List UInt8 := dkwJ13_newCapacity_2 ++ []
def dkwJ13_newCapacity_1 : List UInt8 := [180, 0, 22, 120, 96, 184, 0, 114, 54, 5, 21, 5, 18, 39, 160, 0, 13, 187, 0, 120, 89, 18, 122]
abbrev dktJ13_newCapacity_1 : List UInt8 := dkwJ13_newCapacity_1 ++ dktJ13_newCapacity_2
def dkwJ13_newCapacity_0 : List UInt8 := [42, 180, 0, 15, 190, 61, 27, 42, 180, 0, 22, 120, 62, 29, 28, 100, 54, 4, 28, 21, 4, 28, 5, 42]
abbrev dktJ13_newCapacity_0 : List UInt8 := dkwJ13_newCapacity_0 ++ dktJ13_newCapacity_1
theorem dksJ13_newCapacity_0 : cJ13_newCapacity.data.toList.drop 0 = dktJ13_newCapacity_0 := by decide +kernel
theorem dksJ13_newCapacity_1 : cJ13_newCapacity.data.toList.drop 24 = dktJ13_newCapacity_1 := dk_seg dksJ13_newCapacity_0 24 rfl rfl
theorem dksJ13_newCapacity_2 : cJ13_newCapacity.data.toList.drop 47 = dktJ13_newCapacity_2 := dk_seg dksJ13_newCapacity_1 23 rfl rfl
theorem dJ13_newCapacity_0 : decode cJ13_newCapacity 0 = .ok (.aload_n 0, 1) := dk_42 (dk_at dksJ13_newCapacity_0 0 rfl rfl)
theorem dJ13_newCapacity_1 : decode cJ13_newCapacity 1 = .ok (.getfield 15, 3) := dk_180 0 15 (dk_at dksJ13_newCapacity_0 1 rfl rfl)
theorem dJ13_newCapacity_4 : decode cJ13_newCapacity 4 = .ok (.arraylength, 1) := dk_190 (dk_at dksJ13_newCapacity_0 4 rfl rfl)
theorem dJ13_newCapacity_5 : decode cJ13_newCapacity 5 = .ok (.istore_n 2, 1) := dk_61 (dk_at dksJ13_newCapacity_0 5 rfl rfl)
theorem dJ13_newCapacity_6 : decode cJ13_newCapacity 6 = .ok (.iload_n 1, 1) := dk_27 (dk_at dksJ13_newCapacity_0 6 rfl rfl)
theorem dJ13_newCapacity_7 : decode cJ13_newCapacity 7 = .ok (.aload_n 0, 1) := dk_42 (dk_at dksJ13_newCapacity_0 7 rfl rfl)
theorem dJ13_newCapacity_8 : decode cJ13_newCapacity 8 = .ok (.getfield 22, 3) := dk_180 0 22 (dk_at dksJ13_newCapacity_0 8 rfl rfl)
theorem dJ13_newCapacity_11 : decode cJ13_newCapacity 11 = .ok (.ishl, 1) := dk_120 (dk_at dksJ13_newCapacity_0 11 rfl rfl)
theorem dJ13_newCapacity_12 : decode cJ13_newCapacity 12 = .ok (.istore_n 3, 1) := dk_62 (dk_at dksJ13_newCapacity_0 12 rfl rfl)
theorem dJ13_newCapacity_13 : decode cJ13_newCapacity 13 = .ok (.iload_n 3, 1) := dk_29 (dk_at dksJ13_newCapacity_0 13 rfl rfl)
theorem dJ13_newCapacity_14 : decode cJ13_newCapacity 14 = .ok (.iload_n 2, 1) := dk_28 (dk_at dksJ13_newCapacity_0 14 rfl rfl)
theorem dJ13_newCapacity_15 : decode cJ13_newCapacity 15 = .ok (.isub, 1) := dk_100 (dk_at dksJ13_newCapacity_0 15 rfl rfl)
theorem dJ13_newCapacity_16 : decode cJ13_newCapacity 16 = .ok (.istore 4, 2) := dk_54 4 (dk_at dksJ13_newCapacity_0 16 rfl rfl)
theorem dJ13_newCapacity_18 : decode cJ13_newCapacity 18 = .ok (.iload_n 2, 1) := dk_28 (dk_at dksJ13_newCapacity_0 18 rfl rfl)
theorem dJ13_newCapacity_19 : decode cJ13_newCapacity 19 = .ok (.iload 4, 2) := dk_21 4 (dk_at dksJ13_newCapacity_0 19 rfl rfl)
theorem dJ13_newCapacity_21 : decode cJ13_newCapacity 21 = .ok (.iload_n 2, 1) := dk_28 (dk_at dksJ13_newCapacity_0 21 rfl rfl)
theorem dJ13_newCapacity_22 : decode cJ13_newCapacity 22 = .ok (.iconst 2, 1) := dk_5 (dk_at dksJ13_newCapacity_0 22 rfl rfl)
theorem dJ13_newCapacity_23 : decode cJ13_newCapacity 23 = .ok (.aload_n 0, 1) := dk_42 (dk_at dksJ13_newCapacity_0 23 rfl rfl)
theorem dJ13_newCapacity_24 : decode cJ13_newCapacity 24 = .ok (.getfield 22, 3) := dk_180 0 22 (dk_at dksJ13_newCapacity_1 0 rfl rfl)
theorem dJ13_newCapacity_27 : decode cJ13_newCapacity 27 = .ok (.ishl, 1) := dk_120 (dk_at dksJ13_newCapacity_1 3 rfl rfl)
theorem dJ13_newCapacity_28 : decode cJ13_newCapacity 28 = .ok (.iadd, 1) := dk_96 (dk_at dksJ13_newCapacity_1 4 rfl rfl)
theorem dJ13_newCapacity_29 : decode cJ13_newCapacity 29 = .ok (.invokestatic 114, 3) := dk_184 0 114 (dk_at dksJ13_newCapacity_1 5 rfl rfl)
theorem dJ13_newCapacity_32 : decode cJ13_newCapacity 32 = .ok (.istore 5, 2) := dk_54 5 (dk_at dksJ13_newCapacity_1 8 rfl rfl)
theorem dJ13_newCapacity_34 : decode cJ13_newCapacity 34 = .ok (.iload 5, 2) := dk_21 5 (dk_at dksJ13_newCapacity_1 10 rfl rfl)
theorem dJ13_newCapacity_36 : decode cJ13_newCapacity 36 = .ok (.ldc 39, 2) := dk_18 39 (dk_at dksJ13_newCapacity_1 12 rfl rfl)
theorem dJ13_newCapacity_38 : decode cJ13_newCapacity 38 = .ok (.if_icmp .ne 13, 3) := dk_160 0 13 (dk_at dksJ13_newCapacity_1 14 rfl rfl)
theorem dJ13_newCapacity_41 : decode cJ13_newCapacity 41 = .ok (.new 120, 3) := dk_187 0 120 (dk_at dksJ13_newCapacity_1 17 rfl rfl)
theorem dJ13_newCapacity_44 : decode cJ13_newCapacity 44 = .ok (.dup, 1) := dk_89 (dk_at dksJ13_newCapacity_1 20 rfl rfl)
theorem dJ13_newCapacity_45 : decode cJ13_newCapacity 45 = .ok (.ldc 122, 2) := dk_18 122 (dk_at dksJ13_newCapacity_1 21 rfl rfl)
theorem dJ13_newCapacity_47 : decode cJ13_newCapacity 47 = .ok (.invokespecial 124, 3) := dk_183 0 124 (dk_at dksJ13_newCapacity_2 0 rfl rfl)
theorem dJ13_newCapacity_50 : decode cJ13_newCapacity 50 = .ok (.athrow, 1) := dk_191 (dk_at dksJ13_newCapacity_2 3 rfl rfl)
theorem dJ13_newCapacity_51 : decode cJ13_newCapacity 51 = .ok (.iload 5, 2) := dk_21 5 (dk_at dksJ13_newCapacity_2 4 rfl rfl)
theorem dJ13_newCapacity_53 : decode cJ13_newCapacity 53 = .ok (.aload_n 0, 1) := dk_42 (dk_at dksJ13_newCapacity_2 6 rfl rfl)
theorem dJ13_newCapacity_54 : decode cJ13_newCapacity 54 = .ok (.getfield 22, 3) := dk_180 0 22 (dk_at dksJ13_newCapacity_2 7 rfl rfl)
theorem dJ13_newCapacity_57 : decode cJ13_newCapacity 57 = .ok (.ishr, 1) := dk_122 (dk_at dksJ13_newCapacity_2 10 rfl rfl)
theorem dJ13_newCapacity_58 : decode cJ13_newCapacity 58 = .ok (.ireturn, 1) := dk_172 (dk_at dksJ13_newCapacity_2 11 rfl rfl)
def dkwJ13_isLatin1_0 : List UInt8 := [178, 0, 18, 153, 0, 14, 42, 180, 0, 22, 154, 0, 7, 4, 167, 0, 4, 3, 172]
abbrev dktJ13_isLatin1_0 : List UInt8 := dkwJ13_isLatin1_0 ++ []
theorem dksJ13_isLatin1_0 : cJ13_isLatin1.data.toList.drop 0 = dktJ13_isLatin1_0 := by decide +kernel
theorem dJ13_isLatin1_0 : decode cJ13_isLatin1 0 = .ok (.getstatic 18, 3) := dk_178 0 18 (dk_at dksJ13_isLatin1_0 0 rfl rfl)
theorem dJ13_isLatin1_3 : decode cJ13_isLatin1 3 = .ok (.ifCond .eq 14, 3) := dk_153 0 14 (dk_at dksJ13_isLatin1_0 3 rfl rfl)
theorem dJ13_isLatin1_6 : decode cJ13_isLatin1 6 = .ok (.aload_n 0, 1) := dk_42 (dk_at dksJ13_isLatin1_0 6 rfl rfl)
theorem dJ13_isLatin1_7 : decode cJ13_isLatin1 7 = .ok (.getfield 22, 3) := dk_180 0 22 (dk_at dksJ13_isLatin1_0 7 rfl rfl)
theorem dJ13_isLatin1_10 : decode cJ13_isLatin1 10 = .ok (.ifCond .ne 7, 3) := dk_154 0 7 (dk_at dksJ13_isLatin1_0 10 rfl rfl)
theorem dJ13_isLatin1_13 : decode cJ13_isLatin1 13 = .ok (.iconst 1, 1) := dk_4 (dk_at dksJ13_isLatin1_0 13 rfl rfl)
theorem dJ13_isLatin1_14 : decode cJ13_isLatin1 14 = .ok (.goto 4, 3) := dk_167 0 4 (dk_at dksJ13_isLatin1_0 14 rfl rfl)
theorem dJ13_isLatin1_17 : decode cJ13_isLatin1 17 = .ok (.iconst 0, 1) := dk_3 (dk_at dksJ13_isLatin1_0 17 rfl rfl)
theorem dJ13_isLatin1_18 : decode cJ13_isLatin1 18 = .ok (.ireturn, 1) := dk_172 (dk_at dksJ13_isLatin1_0 18 rfl rfl)
def dkwJ13_putStringAt_0 : List UInt8 := [42, 44, 182, 1, 141, 44, 42, 180, 0, 15, 27, 42, 180, 0, 22, 182, 1, 143, 177]
abbrev dktJ13_putStringAt_0 : List UInt8 := dkwJ13_putStringAt_0 ++ []
theorem dksJ13_putStringAt_0 : cJ13_putStringAt.data.toList.drop 0 = dktJ13_putStringAt_0 := by decide +kernel
theorem dJ13_putStringAt_0 : decode cJ13_putStringAt 0 = .ok (.aload_n 0, 1) := dk_42 (dk_at dksJ13_putStringAt_0 0 rfl rfl)
theorem dJ13_putStringAt_1 : decode cJ13_putStringAt 1 = .ok (.aload_n 2, 1) := dk_44 (dk_at dksJ13_putStringAt_0 1 rfl rfl)
theorem dJ13_putStringAt_2 : decode cJ13_putStringAt 2 = .ok (.invokevirtual 397, 3) := dk_182 1 141 (dk_at dksJ13_putStringAt_0 2 rfl rfl)
theorem dJ13_putStringAt_5 : decode cJ13_putStringAt 5 = .ok (.aload_n 2, 1) := dk_44 (dk_at dksJ13_putStringAt_0 5 rfl rfl)
theorem dJ13_putStringAt_6 : decode cJ13_putStringAt 6 = .ok (.aload_n 0, 1) := dk_42 (dk_at dksJ13_putStringAt_0 6 rfl rfl)
theorem dJ13_putStringAt_7 : decode cJ13_putStringAt 7 = .ok (.getfield 15, 3) := dk_180 0 15 (dk_at dksJ13_putStringAt_0 7 rfl rfl)
theorem dJ13_putStringAt_10 : decode cJ13_putStringAt 10 = .ok (.iload_n 1, 1) := dk_27 (dk_at dksJ13_putStringAt_0 10 rfl rfl)
theorem dJ13_putStringAt_11 : decode cJ13_putStringAt 11 = .ok (.aload_n 0, 1) := dk_42 (dk_at dksJ13_putStringAt_0 11 rfl rfl)
theorem dJ13_putStringAt_12 : decode cJ13_putStringAt 12 = .ok (.getfield 22, 3) := dk_180 0 22 (dk_at dksJ13_putStringAt_0 12 rfl rfl)
theorem dJ13_putStringAt_15 : decode cJ13_putStringAt 15 = .ok (.invokevirtual 399, 3) := dk_182 1 143 (dk_at dksJ13_putStringAt_0 15 rfl rfl)
theorem dJ13_putStringAt_18 : decode cJ13_putStringAt 18 = .ok (.return_, 1) := dk_177 (dk_at dksJ13_putStringAt_0 18 rfl rfl)
def dkwJ13_inflateIfNeededFor_0 : List UInt8 := [178, 0, 18, 153, 0, 18, 42, 180, 0, 22, 43, 182, 0, 40, 159, 0, 7, 42, 182, 0, 195, 177]
abbrev dktJ13_inflateIfNeededFor_0 : List UInt8 := dkwJ13_inflateIfNeededFor_0 ++ []
theorem dksJ13_inflateIfNeededFor_0 : cJ13_inflateIfNeededFor.data.toList.drop 0 = dktJ13_inflateIfNeededFor_0 := by decide +kernel
theorem dJ13_inflateIfNeededFor_0 : decode cJ13_inflateIfNeededFor 0 = .ok (.getstatic 18, 3) := dk_178 0 18 (dk_at dksJ13_inflateIfNeededFor_0 0 rfl rfl)
theorem dJ13_inflateIfNeededFor_3 : decode cJ13_inflateIfNeededFor 3 = .ok (.ifCond .eq 18, 3) := dk_153 0 18 (dk_at dksJ13_inflateIfNeededFor_0 3 rfl rfl)
theorem dJ13_inflateIfNeededFor_6 : decode cJ13_inflateIfNeededFor 6 = .ok (.aload_n 0, 1) := dk_42 (dk_at dksJ13_inflateIfNeededFor_0 6 rfl rfl)
theorem dJ13_inflateIfNeededFor_7 : decode cJ13_inflateIfNeededFor 7 = .ok (.getfield 22, 3) := dk_180 0 22 (dk_at dksJ13_inflateIfNeededFor_0 7 rfl rfl)
theorem dJ13_inflateIfNeededFor_10 : decode cJ13_inflateIfNeededFor 10 = .ok (.aload_n 1, 1) := dk_43 (dk_at dksJ13_inflateIfNeededFor_0 10 rfl rfl)
theorem dJ13_inflateIfNeededFor_11 : decode cJ13_inflateIfNeededFor 11 = .ok (.invokevirtual 40, 3) := dk_182 0 40 (dk_at dksJ13_inflateIfNeededFor_0 11 rfl rfl)
theorem dJ13_inflateIfNeededFor_14 : decode cJ13_inflateIfNeededFor 14 = .ok (.if_icmp .eq 7, 3) := dk_159 0 7 (dk_at dksJ13_inflateIfNeededFor_0 14 rfl rfl)
theorem dJ13_inflateIfNeededFor_17 : decode cJ13_inflateIfNeededFor 17 = .ok (.aload_n 0, 1) := dk_42 (dk_at dksJ13_inflateIfNeededFor_0 17 rfl rfl)
theorem dJ13_inflateIfNeededFor_18 : decode cJ13_inflateIfNeededFor 18 = .ok (.invokevirtual 195, 3) := dk_182 0 195 (dk_at dksJ13_inflateIfNeededFor_0 18 rfl rfl)
theorem dJ13_inflateIfNeededFor_21 : decode cJ13_inflateIfNeededFor 21 = .ok (.return_, 1) := dk_177 (dk_at dksJ13_inflateIfNeededFor_0 21 rfl rfl)
def dkwJ13_inflate_1 : List UInt8 := [42, 180, 0, 79, 184, 0, 125, 42, 43, 181, 0, 15, 42, 4, 181, 0, 22, 177]
abbrev dktJ13_inflate_1 : List UInt8 := dkwJ13_inflate_1 ++ []
def dkwJ13_inflate_0 : List UInt8 := [42, 182, 0, 83, 154, 0, 4, 177, 42, 180, 0, 15, 190, 184, 0, 26, 76, 42, 180, 0, 15, 3, 43, 3]
abbrev dktJ13_inflate_0 : List UInt8 := dkwJ13_inflate_0 ++ dktJ13_inflate_1
theorem dksJ13_inflate_0 : cJ13_inflate.data.toList.drop 0 = dktJ13_inflate_0 := by decide +kernel
theorem dksJ13_inflate_1 : cJ13_inflate.data.toList.drop 24 = dktJ13_inflate_1 := dk_seg dksJ13_inflate_0 24 rfl rfl
theorem dJ13_inflate_0 : decode cJ13_inflate 0 = .ok (.aload_n 0, 1) := dk_42 (dk_at dksJ13_inflate_0 0 rfl rfl)
theorem dJ13_inflate_1 : decode cJ13_inflate 1 = .ok (.invokevirtual 83, 3) := dk_182 0 83 (dk_at dksJ13_inflate_0 1 rfl rfl)
theorem dJ13_inflate_4 : decode cJ13_inflate 4 = .ok (.ifCond .ne 4, 3) := dk_154 0 4 (dk_at dksJ13_inflate_0 4 rfl rfl)
theorem dJ13_inflate_7 : decode cJ13_inflate 7 = .ok (.return_, 1) := dk_177 (dk_at dksJ13_inflate_0 7 rfl rfl)
theorem dJ13_inflate_8 : decode cJ13_inflate 8 = .ok (.aload_n 0, 1) := dk_42 (dk_at dksJ13_inflate_0 8 rfl rfl)
theorem dJ13_inflate_9 : decode cJ13_inflate 9 = .ok (.getfield 15, 3) := dk_180 0 15 (dk_at dksJ13_inflate_0 9 rfl rfl)
theorem dJ13_inflate_12 : decode cJ13_inflate 12 = .ok (.arraylength, 1) := dk_190 (dk_at dksJ13_inflate_0 12 rfl rfl)
theorem dJ13_inflate_13 : decode cJ13_inflate 13 = .ok (.invokestatic 26, 3) := dk_184 0 26 (dk_at dksJ13_inflate_0 13 rfl rfl)
theorem dJ13_inflate_16 : decode cJ13_inflate 16 = .ok (.astore_n 1, 1) := dk_76 (dk_at dksJ13_inflate_0 16 rfl rfl)
theorem dJ13_inflate_17 : decode cJ13_inflate 17 = .ok (.aload_n 0, 1) := dk_42 (dk_at dksJ13_inflate_0 17 rfl rfl)
theorem dJ13_inflate_18 : decode cJ13_inflate 18 = .ok (.getfield 15, 3) := dk_180 0 15 (dk_at dksJ13_inflate_0 18 rfl rfl)
theorem dJ13_inflate_21 : decode cJ13_inflate 21 = .ok (.iconst 0, 1) := dk_3 (dk_at dksJ13_inflate_0 21 rfl rfl)
theorem dJ13_inflate_22 : decode cJ13_inflate 22 = .ok (.aload_n 1, 1) := dk_43 (dk_at dksJ13_inflate_0 22 rfl rfl)
theorem dJ13_inflate_23 : decode cJ13_inflate 23 = .ok (.iconst 0, 1) := dk_3 (dk_at dksJ13_inflate_0 23 rfl rfl)
theorem dJ13_inflate_24 : decode cJ13_inflate 24 = .ok (.aload_n 0, 1) := dk_42 (dk_at dksJ13_inflate_1 0 rfl rfl)
theorem dJ13_inflate_25 : decode cJ13_inflate 25 = .ok (.getfield 79, 3) := dk_180 0 79 (dk_at dksJ13_inflate_1 1 rfl rfl)
theorem dJ13_inflate_28 : decode cJ13_inflate 28 = .ok (.invokestatic 125, 3) := dk_184 0 125 (dk_at dksJ13_inflate_1 4 rfl rfl)
theorem dJ13_inflate_31 : decode cJ13_inflate 31 = .ok (.aload_n 0, 1) := dk_42 (dk_at dksJ13_inflate_1 7 rfl rfl)
theorem dJ13_inflate_32 : decode cJ13_inflate 32 = .ok (.aload_n 1, 1) := dk_43 (dk_at dksJ13_inflate_1 8 rfl rfl)
theorem dJ13_inflate_33 : decode cJ13_inflate 33 = .ok (.putfield 15, 3) := dk_181 0 15 (dk_at dksJ13_inflate_1 9 rfl rfl)
theorem dJ13_inflate_36 : decode cJ13_inflate 36 = .ok (.aload_n 0, 1) := dk_42 (dk_at dksJ13_inflate_1 12 rfl rfl)
theorem dJ13_inflate_37 : decode cJ13_inflate 37 = .ok (.iconst 1, 1) := dk_4 (dk_at dksJ13_inflate_1 13 rfl rfl)
theorem dJ13_inflate_38 : decode cJ13_inflate 38 = .ok (.putfield 22, 3) := dk_181 0 22 (dk_at dksJ13_inflate_1 14 rfl rfl)
theorem dJ13_inflate_41 : decode cJ13_inflate 41 = .ok (.return_, 1) := dk_177 (dk_at dksJ13_inflate_1 17 rfl rfl)
theorem dJ13_getValue_0 : decode cJ13_getValue 0 = .ok (.aload_n 0, 1) := by decide +kernel
theorem dJ13_getValue_1 : decode cJ13_getValue 1 = .ok (.getfield 15, 3) := by decide +kernel
theorem dJ13_getValue_4 : decode cJ13_getValue 4 = .ok (.areturn, 1) := by decide +kernel
theorem dJ13_length_0 : decode cJ13_length 0 = .ok (.aload_n 0, 1) := by decide +kernel
theorem dJ13_length_1 : decode cJ13_length 1 = .ok (.getfield 79, 3) := by decide +kernel
theorem dJ13_length_4 : decode cJ13_length 4 = .ok (.ireturn, 1) := by decide +kernel
def dkwJ13_append_2_2 : List UInt8 := [42, 29, 181, 0, 79, 42, 176]
abbrev dktJ13_append_2_2 : List UInt8 := dkwJ13_append_2_2 ++ []
def dkwJ13_append_2_1 : List UInt8 := [27, 29, 42, 180, 0, 15, 184, 0, 248, 87, 167, 0, 14, 27, 28, 29, 42, 180, 0, 15, 184, 0, 251, 87]
abbrev dktJ13_append_2_1 : List UInt8 := dkwJ13_append_2_1 ++ dktJ13_append_2_2
def dkwJ13_append_2_0 : List UInt8 := [42, 180, 0, 79, 61, 28, 27, 184, 0, 245, 96, 62, 42, 29, 182, 0, 100, 42, 182, 0, 83, 153, 0, 16]
abbrev dktJ13_append_2_0 : List UInt8 := dkwJ13_append_2_0 ++ dktJ13_append_2_1
theorem dksJ13_append_2_0 : cJ13_append_2.data.toList.drop 0 = dktJ13_append_2_0 := by decide +kernel
theorem dksJ13_append_2_1 : cJ13_append_2.data.toList.drop 24 = dktJ13_append_2_1 := dk_seg dksJ13_append_2_0 24 rfl rfl
theorem dksJ13_append_2_2 : cJ13_append_2.data.toList.drop 48 = dktJ13_append_2_2 := dk_seg dksJ13_append_2_1 24 rfl rfl
theorem dJ13_append_2_0 : decode cJ13_append_2 0 = .ok (.aload_n 0, 1) := dk_42 (dk_at dksJ13_append_2_0 0 rfl rfl)
theorem dJ13_append_2_1 : decode cJ13_append_2 1 = .ok (.getfield 79, 3) := dk_180 0 79 (dk_at dksJ13_append_2_0 1 rfl rfl)
theorem dJ13_append_2_4 : decode cJ13_append_2 4 = .ok (.istore_n 2, 1) := dk_61 (dk_at dksJ13_append_2_0 4 rfl rfl)
theorem dJ13_append_2_5 : decode cJ13_append_2 5 = .ok (.iload_n 2, 1) := dk_28 (dk_at dksJ13_append_2_0 5 rfl rfl)
theorem dJ13_append_2_6 : decode cJ13_append_2 6 = .ok (.iload_n 1, 1) := dk_27 (dk_at dksJ13_append_2_0 6 rfl rfl)
theorem dJ13_append_2_7 : decode cJ13_append_2 7 = .ok (.invokestatic 245, 3) := dk_184 0 245 (dk_at dksJ13_append_2_0 7 rfl rfl)
theorem dJ13_append_2_10 : decode cJ13_append_2 10 = .ok (.iadd, 1) := dk_96 (dk_at dksJ13_append_2_0 10 rfl rfl)
theorem dJ13_append_2_11 : decode cJ13_append_2 11 = .ok (.istore_n 3, 1) := dk_62 (dk_at dksJ13_append_2_0 11 rfl rfl)
theorem dJ13_append_2_12 : decode cJ13_append_2 12 = .ok (.aload_n 0, 1) := dk_42 (dk_at dksJ13_append_2_0 12 rfl rfl)
theorem dJ13_append_2_13 : decode cJ13_append_2 13 = .ok (.iload_n 3, 1) := dk_29 (dk_at dksJ13_append_2_0 13 rfl rfl)
theorem dJ13_append_2_14 : decode cJ13_append_2 14 = .ok (.invokevirtual 100, 3) := dk_182 0 100 (dk_at dksJ13_append_2_0 14 rfl rfl)
theorem dJ13_append_2_17 : decode cJ13_append_2 17 = .ok (.aload_n 0, 1) := dk_42 (dk_at dksJ13_append_2_0 17 rfl rfl)
theorem dJ13_append_2_18 : decode cJ13_append_2 18 = .ok (.invokevirtual 83, 3) := dk_182 0 83 (dk_at dksJ13_append_2_0 18 rfl rfl)
theorem dJ13_append_2_21 : decode cJ13_append_2 21 = .ok (.ifCond .eq 16, 3) := dk_153 0 16 (dk_at dksJ13_append_2_0 21 rfl rfl)
theorem dJ13_append_2_24 : decode cJ13_append_2 24 = .ok (.iload_n 1, 1) := dk_27 (dk_at dksJ13_append_2_1 0 rfl rfl)
theorem dJ13_append_2_25 : decode cJ13_append_2 25 = .ok (.iload_n 3, 1) := dk_29 (dk_at dksJ13_append_2_1 1 rfl rfl)
theorem dJ13_append_2_26 : decode cJ13_append_2 26 = .ok (.aload_n 0, 1) := dk_42 (dk_at dksJ13_append_2_1 2 rfl rfl)
theorem dJ13_append_2_27 : decode cJ13_append_2 27 = .ok (.getfield 15, 3) := dk_180 0 15 (dk_at dksJ13_append_2_1 3 rfl rfl)
theorem dJ13_append_2_30 : decode cJ13_append_2 30 = .ok (.invokestatic 248, 3) := dk_184 0 248 (dk_at dksJ13_append_2_1 6 rfl rfl)
theorem dJ13_append_2_33 : decode cJ13_append_2 33 = .ok (.pop, 1) := dk_87 (dk_at dksJ13_append_2_1 9 rfl rfl)
theorem dJ13_append_2_34 : decode cJ13_append_2 34 = .ok (.goto 14, 3) := dk_167 0 14 (dk_at dksJ13_append_2_1 10 rfl rfl)
theorem dJ13_append_2_37 : decode cJ13_append_2 37 = .ok (.iload_n 1, 1) := dk_27 (dk_at dksJ13_append_2_1 13 rfl rfl)
theorem dJ13_append_2_38 : decode cJ13_append_2 38 = .ok (.iload_n 2, 1) := dk_28 (dk_at dksJ13_append_2_1 14 rfl rfl)
theorem dJ13_append_2_39 : decode cJ13_append_2 39 = .ok (.iload_n 3, 1) := dk_29 (dk_at dksJ13_append_2_1 15 rfl rfl)
theorem dJ13_append_2_40 : decode cJ13_append_2 40 = .ok (.aload_n 0, 1) := dk_42 (dk_at dksJ13_append_2_1 16 rfl rfl)
theorem dJ13_append_2_41 : decode cJ13_append_2 41 = .ok (.getfield 15, 3) := dk_180 0 15 (dk_at dksJ13_append_2_1 17 rfl rfl)
theorem dJ13_append_2_44 : decode cJ13_append_2 44 = .ok (.invokestatic 251, 3) := dk_184 0 251 (dk_at dksJ13_append_2_1 20 rfl rfl)
theorem dJ13_append_2_47 : decode cJ13_append_2 47 = .ok (.pop, 1) := dk_87 (dk_at dksJ13_append_2_1 23 rfl rfl)
theorem dJ13_append_2_48 : decode cJ13_append_2 48 = .ok (.aload_n 0, 1) := dk_42 (dk_at dksJ13_append_2_2 0 rfl rfl)
theorem dJ13_append_2_49 : decode cJ13_append_2 49 = .ok (.iload_n 3, 1) := dk_29 (dk_at dksJ13_append_2_2 1 rfl rfl)
theorem dJ13_append_2_50 : decode cJ13_append_2 50 = .ok (.putfield 79, 3) := dk_181 0 79 (dk_at dksJ13_append_2_2 2 rfl rfl)
theorem dJ13_append_2_53 : decode cJ13_append_2 53 = .ok (.aload_n 0, 1) := dk_42 (dk_at dksJ13_append_2_2 5 rfl rfl)
theorem dJ13_append_2_54 : decode cJ13_append_2 54 = .ok (.areturn, 1) := dk_176 (dk_at dksJ13_append_2_2 6 rfl rfl)
def dkwJ13_setLength_3 : List UInt8 := [164, 0, 8, 42, 4, 181, 0, 73, 42, 27, 181, 0, 79, 177]
abbrev dktJ13_setLength_3 : List UInt8 := dkwJ13_setLength_3 ++ []
def dkwJ13_setLength_2 : List UInt8 := [167, 0, 31, 42, 180, 0, 15, 42, 180, 0, 79, 27, 184, 0, 137, 167, 0, 16, 42, 180, 0, 79, 27]
abbrev dktJ13_setLength_2 : List UInt8 := dkwJ13_setLength_2 ++ dktJ13_setLength_3
def dkwJ13_setLength_1 : List UInt8 := [162, 0, 40, 42, 182, 0, 83, 153, 0, 18, 42, 180, 0, 15, 42, 180, 0, 79, 27, 184, 0, 133]
abbrev dktJ13_setLength_1 : List UInt8 := dkwJ13_setLength_1 ++ dktJ13_setLength_2
def dkwJ13_setLength_0 : List UInt8 := [27, 156, 0, 12, 187, 0, 129, 89, 27, 183, 0, 131, 191, 42, 27, 182, 0, 100, 42, 180, 0, 79, 27]
abbrev dktJ13_setLength_0 : List UInt8 := dkwJ13_setLength_0 ++ dktJ13_setLength_1
theorem dksJ13_setLength_0 : cJ13_setLength.data.toList.drop 0 = dktJ13_setLength_0 := by decide +kernel
theorem dksJ13_setLength_1 : cJ13_setLength.data.toList.drop 23 = dktJ13_setLength_1 := dk_seg dksJ13_setLength_0 23 rfl rfl
theorem dksJ13_setLength_2 : cJ13_setLength.data.toList.drop 45 = dktJ13_setLength_2 := dk_seg dksJ13_setLength_1 22 rfl rfl
theorem dksJ13_setLength_3 : cJ13_setLength.data.toList.drop 68 = dktJ13_setLength_3 := dk_seg dksJ13_setLength_2 23 rfl rfl
theorem dJ13_setLength_0 : decode cJ13_setLength 0 = .ok (.iload_n 1, 1) := dk_27 (dk_at dksJ13_setLength_0 0 rfl rfl)
theorem dJ13_setLength_1 : decode cJ13_setLength 1 = .ok (.ifCond .ge 12, 3) := dk_156 0 12 (dk_at dksJ13_setLength_0 1 rfl rfl)
theorem dJ13_setLength_4 : decode cJ13_setLength 4 = .ok (.new 129, 3) := dk_187 0 129 (dk_at dksJ13_setLength_0 4 rfl rfl)
theorem dJ13_setLength_7 : decode cJ13_setLength 7 = .ok (.dup, 1) := dk_89 (dk_at dksJ13_setLength_0 7 rfl rfl)
theorem dJ13_setLength_8 : decode cJ13_setLength 8 = .ok (.iload_n 1, 1) := dk_27 (dk_at dksJ13_setLength_0 8 rfl rfl)
theorem dJ13_setLength_9 : decode cJ13_setLength 9 = .ok (.invokespecial 131, 3) := dk_183 0 131 (dk_at dksJ13_setLength_0 9 rfl rfl)
theorem dJ13_setLength_12 : decode cJ13_setLength 12 = .ok (.athrow, 1) := dk_191 (dk_at dksJ13_setLength_0 12 rfl rfl)
theorem dJ13_setLength_13 : decode cJ13_setLength 13 = .ok (.aload_n 0, 1) := dk_42 (dk_at dksJ13_setLength_0 13 rfl rfl)
theorem dJ13_setLength_14 : decode cJ13_setLength 14 = .ok (.iload_n 1, 1) := dk_27 (dk_at dksJ13_setLength_0 14 rfl rfl)
theorem dJ13_setLength_15 : decode cJ13_setLength 15 = .ok (.invokevirtual 100, 3) := dk_182 0 100 (dk_at dksJ13_setLength_0 15 rfl rfl)
theorem dJ13_setLength_18 : decode cJ13_setLength 18 = .ok (.aload_n 0, 1) := dk_42 (dk_at dksJ13_setLength_0 18 rfl rfl)
theorem dJ13_setLength_19 : decode cJ13_setLength 19 = .ok (.getfield 79, 3) := dk_180 0 79 (dk_at dksJ13_setLength_0 19 rfl rfl)
theorem dJ13_setLength_22 : decode cJ13_setLength 22 = .ok (.iload_n 1, 1) := dk_27 (dk_at dksJ13_setLength_0 22 rfl rfl)
theorem dJ13_setLength_23 : decode cJ13_setLength 23 = .ok (.if_icmp .ge 40, 3) := dk_162 0 40 (dk_at dksJ13_setLength_1 0 rfl rfl)
theorem dJ13_setLength_26 : decode cJ13_setLength 26 = .ok (.aload_n 0, 1) := dk_42 (dk_at dksJ13_setLength_1 3 rfl rfl)
theorem dJ13_setLength_27 : decode cJ13_setLength 27 = .ok (.invokevirtual 83, 3) := dk_182 0 83 (dk_at dksJ13_setLength_1 4 rfl rfl)
theorem dJ13_setLength_30 : decode cJ13_setLength 30 = .ok (.ifCond .eq 18, 3) := dk_153 0 18 (dk_at dksJ13_setLength_1 7 rfl rfl)
theorem dJ13_setLength_33 : decode cJ13_setLength 33 = .ok (.aload_n 0, 1) := dk_42 (dk_at dksJ13_setLength_1 10 rfl rfl)
theorem dJ13_setLength_34 : decode cJ13_setLength 34 = .ok (.getfield 15, 3) := dk_180 0 15 (dk_at dksJ13_setLength_1 11 rfl rfl)
theorem dJ13_setLength_37 : decode cJ13_setLength 37 = .ok (.aload_n 0, 1) := dk_42 (dk_at dksJ13_setLength_1 14 rfl rfl)
theorem dJ13_setLength_38 : decode cJ13_setLength 38 = .ok (.getfield 79, 3) := dk_180 0 79 (dk_at dksJ13_setLength_1 15 rfl rfl)
theorem dJ13_setLength_41 : decode cJ13_setLength 41 = .ok (.iload_n 1, 1) := dk_27 (dk_at dksJ13_setLength_1 18 rfl rfl)
theorem dJ13_setLength_42 : decode cJ13_setLength 42 = .ok (.invokestatic 133, 3) := dk_184 0 133 (dk_at dksJ13_setLength_1 19 rfl rfl)
theorem dJ13_setLength_45 : decode cJ13_setLength 45 = .ok (.goto 31, 3) := dk_167 0 31 (dk_at dksJ13_setLength_2 0 rfl rfl)
theorem dJ13_setLength_48 : decode cJ13_setLength 48 = .ok (.aload_n 0, 1) := dk_42 (dk_at dksJ13_setLength_2 3 rfl rfl)
theorem dJ13_setLength_49 : decode cJ13_setLength 49 = .ok (.getfield 15, 3) := dk_180 0 15 (dk_at dksJ13_setLength_2 4 rfl rfl)
theorem dJ13_setLength_52 : decode cJ13_setLength 52 = .ok (.aload_n 0, 1) := dk_42 (dk_at dksJ13_setLength_2 7 rfl rfl)
theorem dJ13_setLength_53 : decode cJ13_setLength 53 = .ok (.getfield 79, 3) := dk_180 0 79 (dk_at dksJ13_setLength_2 8 rfl rfl)
theorem dJ13_setLength_56 : decode cJ13_setLength 56 = .ok (.iload_n 1, 1) := dk_27 (dk_at dksJ13_setLength_2 11 rfl rfl)
theorem dJ13_setLength_57 : decode cJ13_setLength 57 = .ok (.invokestatic 137, 3) := dk_184 0 137 (dk_at dksJ13_setLength_2 12 rfl rfl)
theorem dJ13_setLength_60 : decode cJ13_setLength 60 = .ok (.goto 16, 3) := dk_167 0 16 (dk_at dksJ13_setLength_2 15 rfl rfl)
theorem dJ13_setLength_63 : decode cJ13_setLength 63 = .ok (.aload_n 0, 1) := dk_42 (dk_at dksJ13_setLength_2 18 rfl rfl)
theorem dJ13_setLength_64 : decode cJ13_setLength 64 = .ok (.getfield 79, 3) := dk_180 0 79 (dk_at dksJ13_setLength_2 19 rfl rfl)
theorem dJ13_setLength_67 : decode cJ13_setLength 67 = .ok (.iload_n 1, 1) := dk_27 (dk_at dksJ13_setLength_2 22 rfl rfl)
theorem dJ13_setLength_68 : decode cJ13_setLength 68 = .ok (.if_icmp .le 8, 3) := dk_164 0 8 (dk_at dksJ13_setLength_3 0 rfl rfl)
theorem dJ13_setLength_71 : decode cJ13_setLength 71 = .ok (.aload_n 0, 1) := dk_42 (dk_at dksJ13_setLength_3 3 rfl rfl)
theorem dJ13_setLength_72 : decode cJ13_setLength 72 = .ok (.iconst 1, 1) := dk_4 (dk_at dksJ13_setLength_3 4 rfl rfl)
theorem dJ13_setLength_73 : decode cJ13_setLength 73 = .ok (.putfield 73, 3) := dk_181 0 73 (dk_at dksJ13_setLength_3 5 rfl rfl)
theorem dJ13_setLength_76 : decode cJ13_setLength 76 = .ok (.aload_n 0, 1) := dk_42 (dk_at dksJ13_setLength_3 8 rfl rfl)
theorem dJ13_setLength_77 : decode cJ13_setLength 77 = .ok (.iload_n 1, 1) := dk_27 (dk_at dksJ13_setLength_3 9 rfl rfl)
theorem dJ13_setLength_78 : decode cJ13_setLength 78 = .ok (.putfield 79, 3) := dk_181 0 79 (dk_at dksJ13_setLength_3 10 rfl rfl)
theorem dJ13_setLength_81 : decode cJ13_setLength 81 = .ok (.return_, 1) := dk_177 (dk_at dksJ13_setLength_3 13 rfl rfl)
def dkwJ13_append_3_3 : List UInt8 := [181, 0, 79, 27, 184, 0, 197, 42, 176]
abbrev dktJ13_append_3_3 : List UInt8 := dkwJ13_append_3_3 ++ []
def dkwJ13_append_3_2 : List UInt8 := [182, 0, 83, 153, 0, 7, 42, 182, 0, 195, 42, 180, 0, 15, 42, 89, 180, 0, 79, 90, 4, 96]
abbrev dktJ13_append_3_2 : List UInt8 := dkwJ13_append_3_2 ++ dktJ13_append_3_3
def dkwJ13_append_3_1 : List UInt8 := [42, 180, 0, 15, 42, 89, 180, 0, 79, 90, 4, 96, 181, 0, 79, 27, 145, 84, 167, 0, 33, 42]
abbrev dktJ13_append_3_1 : List UInt8 := dkwJ13_append_3_1 ++ dktJ13_append_3_2
def dkwJ13_append_3_0 : List UInt8 := [42, 42, 180, 0, 79, 4, 96, 182, 0, 100, 42, 182, 0, 83, 153, 0, 31, 27, 184, 0, 191, 153, 0, 24]
abbrev dktJ13_append_3_0 : List UInt8 := dkwJ13_append_3_0 ++ dktJ13_append_3_1
theorem dksJ13_append_3_0 : cJ13_append_3.data.toList.drop 0 = dktJ13_append_3_0 := by decide +kernel
theorem dksJ13_append_3_1 : cJ13_append_3.data.toList.drop 24 = dktJ13_append_3_1 := dk_seg dksJ13_append_3_0 24 rfl rfl
theorem dksJ13_append_3_2 : cJ13_append_3.data.toList.drop 46 = dktJ13_append_3_2 := dk_seg dksJ13_append_3_1 22 rfl rfl
theorem dksJ13_append_3_3 : cJ13_append_3.data.toList.drop 68 = dktJ13_append_3_3 := dk_seg dksJ13_append_3_2 22 rfl rfl
theorem dJ13_append_3_0 : decode cJ13_append_3 0 = .ok (.aload_n 0, 1) := dk_42 (dk_at dksJ13_append_3_0 0 rfl rfl)
theorem dJ13_append_3_1 : decode cJ13_append_3 1 = .ok (.aload_n 0, 1) := dk_42 (dk_at dksJ13_append_3_0 1 rfl rfl)
theorem dJ13_append_3_2 : decode cJ13_append_3 2 = .ok (.getfield 79, 3) := dk_180 0 79 (dk_at dksJ13_append_3_0 2 rfl rfl)
theorem dJ13_append_3_5 : decode cJ13_append_3 5 = .ok (.iconst 1, 1) := dk_4 (dk_at dksJ13_append_3_0 5 rfl rfl)
theorem dJ13_append_3_6 : decode cJ13_append_3 6 = .ok (.iadd, 1) := dk_96 (dk_at dksJ13_append_3_0 6 rfl rfl)
theorem dJ13_append_3_7 : decode cJ13_append_3 7 = .ok (.invokevirtual 100, 3) := dk_182 0 100 (dk_at dksJ13_append_3_0 7 rfl rfl)
theorem dJ13_append_3_10 : decode cJ13_append_3 10 = .ok (.aload_n 0, 1) := dk_42 (dk_at dksJ13_append_3_0 10 rfl rfl)
theorem dJ13_append_3_11 : decode cJ13_append_3 11 = .ok (.invokevirtual 83, 3) := dk_182 0 83 (dk_at dksJ13_append_3_0 11 rfl rfl)
theorem dJ13_append_3_14 : decode cJ13_append_3 14 = .ok (.ifCond .eq 31, 3) := dk_153 0 31 (dk_at dksJ13_append_3_0 14 rfl rfl)
theorem dJ13_append_3_17 : decode cJ13_append_3 17 = .ok (.iload_n 1, 1) := dk_27 (dk_at dksJ13_append_3_0 17 rfl rfl)
theorem dJ13_append_3_18 : decode cJ13_append_3 18 = .ok (.invokestatic 191, 3) := dk_184 0 191 (dk_at dksJ13_append_3_0 18 rfl rfl)
theorem dJ13_append_3_21 : decode cJ13_append_3 21 = .ok (.ifCond .eq 24, 3) := dk_153 0 24 (dk_at dksJ13_append_3_0 21 rfl rfl)
theorem dJ13_append_3_24 : decode cJ13_append_3 24 = .ok (.aload_n 0, 1) := dk_42 (dk_at dksJ13_append_3_1 0 rfl rfl)
theorem dJ13_append_3_25 : decode cJ13_append_3 25 = .ok (.getfield 15, 3) := dk_180 0 15 (dk_at dksJ13_append_3_1 1 rfl rfl)
theorem dJ13_append_3_28 : decode cJ13_append_3 28 = .ok (.aload_n 0, 1) := dk_42 (dk_at dksJ13_append_3_1 4 rfl rfl)
theorem dJ13_append_3_29 : decode cJ13_append_3 29 = .ok (.dup, 1) := dk_89 (dk_at dksJ13_append_3_1 5 rfl rfl)
theorem dJ13_append_3_30 : decode cJ13_append_3 30 = .ok (.getfield 79, 3) := dk_180 0 79 (dk_at dksJ13_append_3_1 6 rfl rfl)
theorem dJ13_append_3_33 : decode cJ13_append_3 33 = .ok (.dup_x1, 1) := dk_90 (dk_at dksJ13_append_3_1 9 rfl rfl)
theorem dJ13_append_3_34 : decode cJ13_append_3 34 = .ok (.iconst 1, 1) := dk_4 (dk_at dksJ13_append_3_1 10 rfl rfl)
theorem dJ13_append_3_35 : decode cJ13_append_3 35 = .ok (.iadd, 1) := dk_96 (dk_at dksJ13_append_3_1 11 rfl rfl)
theorem dJ13_append_3_36 : decode cJ13_append_3 36 = .ok (.putfield 79, 3) := dk_181 0 79 (dk_at dksJ13_append_3_1 12 rfl rfl)
theorem dJ13_append_3_39 : decode cJ13_append_3 39 = .ok (.iload_n 1, 1) := dk_27 (dk_at dksJ13_append_3_1 15 rfl rfl)
theorem dJ13_append_3_40 : decode cJ13_append_3 40 = .ok (.i2b, 1) := dk_145 (dk_at dksJ13_append_3_1 16 rfl rfl)
theorem dJ13_append_3_41 : decode cJ13_append_3 41 = .ok (.bastore, 1) := dk_84 (dk_at dksJ13_append_3_1 17 rfl rfl)
theorem dJ13_append_3_42 : decode cJ13_append_3 42 = .ok (.goto 33, 3) := dk_167 0 33 (dk_at dksJ13_append_3_1 18 rfl rfl)
theorem dJ13_append_3_45 : decode cJ13_append_3 45 = .ok (.aload_n 0, 1) := dk_42 (dk_at dksJ13_append_3_1 21 rfl rfl)
theorem dJ13_append_3_46 : decode cJ13_append_3 46 = .ok (.invokevirtual 83, 3) := dk_182 0 83 (dk_at dksJ13_append_3_2 0 rfl rfl)
theorem dJ13_append_3_49 : decode cJ13_append_3 49 = .ok (.ifCond .eq 7, 3) := dk_153 0 7 (dk_at dksJ13_append_3_2 3 rfl rfl)
theorem dJ13_append_3_52 : decode cJ13_append_3 52 = .ok (.aload_n 0, 1) := dk_42 (dk_at dksJ13_append_3_2 6 rfl rfl)
theorem dJ13_append_3_53 : decode cJ13_append_3 53 = .ok (.invokevirtual 195, 3) := dk_182 0 195 (dk_at dksJ13_append_3_2 7 rfl rfl)
theorem dJ13_append_3_56 : decode cJ13_append_3 56 = .ok (.aload_n 0, 1) := dk_42 (dk_at dksJ13_append_3_2 10 rfl rfl)
theorem dJ13_append_3_57 : decode cJ13_append_3 57 = .ok (.getfield 15, 3) := dk_180 0 15 (dk_at dksJ13_append_3_2 11 rfl rfl)
theorem dJ13_append_3_60 : decode cJ13_append_3 60 = .ok (.aload_n 0, 1) := dk_42 (dk_at dksJ13_append_3_2 14 rfl rfl)
theorem dJ13_append_3_61 : decode cJ13_append_3 61 = .ok (.dup, 1) := dk_89 (dk_at dksJ13_append_3_2 15 rfl rfl)
theorem dJ13_append_3_62 : decode cJ13_append_3 62 = .ok (.getfield 79, 3) := dk_180 0 79 (dk_at dksJ13_append_3_2 16 rfl rfl)
theorem dJ13_append_3_65 : decode cJ13_append_3 65 = .ok (.dup_x1, 1) := dk_90 (dk_at dksJ13_append_3_2 19 rfl rfl)
theorem dJ13_append_3_66 : decode cJ13_append_3 66 = .ok (.iconst 1, 1) := dk_4 (dk_at dksJ13_append_3_2 20 rfl rfl)
theorem dJ13_append_3_67 : decode cJ13_append_3 67 = .ok (.iadd, 1) := dk_96 (dk_at dksJ13_append_3_2 21 rfl rfl)
theorem dJ13_append_3_68 : decode cJ13_append_3 68 = .ok (.putfield 79, 3) := dk_181 0 79 (dk_at dksJ13_append_3_3 0 rfl rfl)
theorem dJ13_append_3_71 : decode cJ13_append_3 71 = .ok (.iload_n 1, 1) := dk_27 (dk_at dksJ13_append_3_3 3 rfl rfl)
theorem dJ13_append_3_72 : decode cJ13_append_3 72 = .ok (.invokestatic 197, 3) := dk_184 0 197 (dk_at dksJ13_append_3_3 4 rfl rfl)
theorem dJ13_append_3_75 : decode cJ13_append_3 75 = .ok (.aload_n 0, 1) := dk_42 (dk_at dksJ13_append_3_3 7 rfl rfl)
theorem dJ13_append_3_76 : decode cJ13_append_3 76 = .ok (.areturn, 1) := dk_176 (dk_at dksJ13_append_3_3 8 rfl rfl)
def dkwJ14_init_0 : List UInt8 := [42, 16, 16, 183, 0, 1, 177]
abbrev dktJ14_init_0 : List UInt8 := dkwJ14_init_0 ++ []
theorem dksJ14_init_0 : cJ14_init.data.toList.drop 0 = dktJ14_init_0 := by decide +kernel
theorem dJ14_init_0 : decode cJ14_init 0 = .ok (.aload_n 0, 1) := dk_42 (dk_at dksJ14_init_0 0 rfl rfl)
theorem dJ14_init_1 : decode cJ14_init 1 = .ok (.bipush 16, 2) := dk_16 16 (dk_at dksJ14_init_0 1 rfl rfl)
theorem dJ14_init_3 : decode cJ14_init 3 = .ok (.invokespecial 1, 3) := dk_183 0 1 (dk_at dksJ14_init_0 3 rfl rfl)
theorem dJ14_init_6 : decode cJ14_init 6 = .ok (.return_, 1) := dk_177 (dk_at dksJ14_init_0 6 rfl rfl)
def dkwJ14_append_0 : List UInt8 := [42, 43, 183, 0, 29, 87, 42, 176]
abbrev dktJ14_append_0 : List UInt8 := dkwJ14_append_0 ++ []
theorem dksJ14_append_0 : cJ14_append.data.toList.drop 0 = dktJ14_append_0 := by decide +kernel
theorem dJ14_append_0 : decode cJ14_append 0 = .ok (.aload_n 0, 1) := dk_42 (dk_at dksJ14_append_0 0 rfl rfl)
theorem dJ14_append_1 : decode cJ14_append 1 = .ok (.aload_n 1, 1) := dk_43 (dk_at dksJ14_append_0 1 rfl rfl)
theorem dJ14_append_2 : decode cJ14_append 2 = .ok (.invokespecial 29, 3) := dk_183 0 29 (dk_at dksJ14_append_0 2 rfl rfl)
theorem dJ14_append_5 : decode cJ14_append 5 = .ok (.pop, 1) := dk_87 (dk_at dksJ14_append_0 5 rfl rfl)
theorem dJ14_append_6 : decode cJ14_append 6 = .ok (.aload_n 0, 1) := dk_42 (dk_at dksJ14_append_0 6 rfl rfl)
theorem dJ14_append_7 : decode cJ14_append 7 = .ok (.areturn, 1) := dk_176 (dk_at dksJ14_append_0 7 rfl rfl)
def dkwJ14_toString_0 : List UInt8 := [187, 0, 18, 89, 42, 183, 0, 137, 176]
abbrev dktJ14_toString_0 : List UInt8 := dkwJ14_toString_0 ++ []
theorem dksJ14_toString_0 : cJ14_toString.data.toList.drop 0 = dktJ14_toString_0 := by decide +kernel
theorem dJ14_toString_0 : decode cJ14_toString 0 = .ok (.new 18, 3) := dk_187 0 18 (dk_at dksJ14_toString_0 0 rfl rfl)
theorem dJ14_toString_3 : decode cJ14_toString 3 = .ok (.dup, 1) := dk_89 (dk_at dksJ14_toString_0 3 rfl rfl)
theorem dJ14_toString_4 : decode cJ14_toString 4 = .ok (.aload_n 0, 1) := dk_42 (dk_at dksJ14_toString_0 4 rfl rfl)
theorem dJ14_toString_5 : decode cJ14_toString 5 = .ok (.invokespecial 137, 3) := dk_183 0 137 (dk_at dksJ14_toString_0 5 rfl rfl)
theorem dJ14_toString_8 : decode cJ14_toString 8 = .ok (.areturn, 1) := dk_176 (dk_at dksJ14_toString_0 8 rfl rfl)
theorem dJ14_length_0 : decode cJ14_length 0 = .ok (.aload_n 0, 1) := by decide +kernel
theorem dJ14_length_1 : decode cJ14_length 1 = .ok (.invokespecial 343, 3) := by decide +kernel
theorem dJ14_length_4 : decode cJ14_length 4 = .ok (.ireturn, 1) := by decide +kernel
def dkwJ14_append_2_0 : List UInt8 := [42, 27, 183, 0, 53, 87, 42, 176]
abbrev dktJ14_append_2_0 : List UInt8 := dkwJ14_append_2_0 ++ []
theorem dksJ14_append_2_0 : cJ14_append_2.data.toList.drop 0 = dktJ14_append_2_0 := by decide +kernel
theorem dJ14_append_2_0 : decode cJ14_append_2 0 = .ok (.aload_n 0, 1) := dk_42 (dk_at dksJ14_append_2_0 0 rfl rfl)
theorem dJ14_append_2_1 : decode cJ14_append_2 1 = .ok (.iload_n 1, 1) := dk_27 (dk_at dksJ14_append_2_0 1 rfl rfl)
theorem dJ14_append_2_2 : decode cJ14_append_2 2 = .ok (.invokespecial 53, 3) := dk_183 0 53 (dk_at dksJ14_append_2_0 2 rfl rfl)
theorem dJ14_append_2_5 : decode cJ14_append_2 5 = .ok (.pop, 1) := dk_87 (dk_at dksJ14_append_2_0 5 rfl rfl)
theorem dJ14_append_2_6 : decode cJ14_append_2 6 = .ok (.aload_n 0, 1) := dk_42 (dk_at dksJ14_append_2_0 6 rfl rfl)
theorem dJ14_append_2_7 : decode cJ14_append_2 7 = .ok (.areturn, 1) := dk_176 (dk_at dksJ14_append_2_0 7 rfl rfl)
def dkwJ14_setLength_0 : List UInt8 := [42, 27, 183, 1, 77, 177]
abbrev dktJ14_setLength_0 : List UInt8 := dkwJ14_setLength_0 ++ []
theorem dksJ14_setLength_0 : cJ14_setLength.data.toList.drop 0 = dktJ14_setLength_0 := by decide +kernel
theorem dJ14_setLength_0 : decode cJ14_setLength 0 = .ok (.aload_n 0, 1) := dk_42 (dk_at dksJ14_setLength_0 0 rfl rfl)
theorem dJ14_setLength_1 : decode cJ14_setLength 1 = .ok (.iload_n 1, 1) := dk_27 (dk_at dksJ14_setLength_0 1 rfl rfl)
theorem dJ14_setLength_2 : decode cJ14_setLength 2 = .ok (.invokespecial 333, 3) := dk_183 1 77 (dk_at dksJ14_setLength_0 2 rfl rfl)
theorem dJ14_setLength_5 : decode cJ14_setLength 5 = .ok (.return_, 1) := dk_177 (dk_at dksJ14_setLength_0 5 rfl rfl)
def dkwJ14_append_3_0 : List UInt8 := [42, 27, 183, 0, 50, 87, 42, 176]
abbrev dktJ14_append_3_0 : List UInt8 := dkwJ14_append_3_0 ++ []
theorem dksJ14_append_3_0 : cJ14_append_3.data.toList.drop 0 = dktJ14_append_3_0 := by decide +kernel
theorem dJ14_append_3_0 : decode cJ14_append_3 0 = .ok (.aload_n 0, 1) := dk_42 (dk_at dksJ14_append_3_0 0 rfl rfl)
theorem dJ14_append_3_1 : decode cJ14_append_3 1 = .ok (.iload_n 1, 1) := dk_27 (dk_at dksJ14_append_3_0 1 rfl rfl)
theorem dJ14_append_3_2 : decode cJ14_append_3 2 = .ok (.invokespecial 50, 3) := dk_183 0 50 (dk_at dksJ14_append_3_0 2 rfl rfl)
theorem dJ14_append_3_5 : decode cJ14_append_3 5 = .ok (.pop, 1) := dk_87 (dk_at dksJ14_append_3_0 5 rfl rfl)
theorem dJ14_append_3_6 : decode cJ14_append_3 6 = .ok (.aload_n 0, 1) := dk_42 (dk_at dksJ14_append_3_0 6 rfl rfl)
theorem dJ14_append_3_7 : decode cJ14_append_3 7 = .ok (.areturn, 1) := dk_176 (dk_at dksJ14_append_3_0 7 rfl rfl)
def dkwJ15_checkBoundsBeginEnd_0 : List UInt8 := [26, 27, 28, 178, 4, 29, 184, 4, 38, 87, 177]
abbrev dktJ15_checkBoundsBeginEnd_0 : List UInt8 := dkwJ15_checkBoundsBeginEnd_0 ++ []
theorem dksJ15_checkBoundsBeginEnd_0 : cJ15_checkBoundsBeginEnd.data.toList.drop 0 = dktJ15_checkBoundsBeginEnd_0 := by decide +kernel
theorem dJ15_checkBoundsBeginEnd_0 : decode cJ15_checkBoundsBeginEnd 0 = .ok (.iload_n 0, 1) := dk_26 (dk_at dksJ15_checkBoundsBeginEnd_0 0 rfl rfl)
theorem dJ15_checkBoundsBeginEnd_1 : decode cJ15_checkBoundsBeginEnd 1 = .ok (.iload_n 1, 1) := dk_27 (dk_at dksJ15_checkBoundsBeginEnd_0 1 rfl rfl)
theorem dJ15_checkBoundsBeginEnd_2 : decode cJ15_checkBoundsBeginEnd 2 = .ok (.iload_n 2, 1) := dk_28 (dk_at dksJ15_checkBoundsBeginEnd_0 2 rfl rfl)
theorem dJ15_checkBoundsBeginEnd_3 : decode cJ15_checkBoundsBeginEnd 3 = .ok (.getstatic 1053, 3) := dk_178 4 29 (dk_at dksJ15_checkBoundsBeginEnd_0 3 rfl rfl)
theorem dJ15_checkBoundsBeginEnd_6 : decode cJ15_checkBoundsBeginEnd 6 = .ok (.invokestatic 1062, 3) := dk_184 4 38 (dk_at dksJ15_checkBoundsBeginEnd_0 6 rfl rfl)
theorem dJ15_checkBoundsBeginEnd_9 : decode cJ15_checkBoundsBeginEnd 9 = .ok (.pop, 1) := dk_87 (dk_at dksJ15_checkBoundsBeginEnd_0 9 rfl rfl)
theorem dJ15_checkBoundsBeginEnd_10 : decode cJ15_checkBoundsBeginEnd 10 = .ok (.return_, 1) := dk_177 (dk_at dksJ15_checkBoundsBeginEnd_0 10 rfl rfl)
def dkwJ15_length_0 : List UInt8 := [42, 180, 0, 9, 190, 42, 182, 1, 79, 122, 172]
abbrev dktJ15_length_0 : List UInt8 := dkwJ15_length_0 ++ []
theorem dksJ15_length_0 : cJ15_length.data.toList.drop 0 = dktJ15_length_0 := by decide +kernel
theorem dJ15_length_0 : decode cJ15_length 0 = .ok (.aload_n 0, 1) := dk_42 (dk_at dksJ15_length_0 0 rfl rfl)
theorem dJ15_length_1 : decode cJ15_length 1 = .ok (.getfield 9, 3) := dk_180 0 9 (dk_at dksJ15_length_0 1 rfl rfl)
theorem dJ15_length_4 : decode cJ15_length 4 = .ok (.arraylength, 1) := dk_190 (dk_at dksJ15_length_0 4 rfl rfl)
theorem dJ15_length_5 : decode cJ15_length 5 = .ok (.aload_n 0, 1) := dk_42 (dk_at dksJ15_length_0 5 rfl rfl)
theorem dJ15_length_6 : decode cJ15_length 6 = .ok (.invokevirtual 335, 3) := dk_182 1 79 (dk_at dksJ15_length_0 6 rfl rfl)
theorem dJ15_length_9 : decode cJ15_length 9 = .ok (.ishr, 1) := dk_122 (dk_at dksJ15_length_0 9 rfl rfl)
theorem dJ15_length_10 : decode cJ15_length 10 = .ok (.ireturn, 1) := dk_172 (dk_at dksJ15_length_0 10 rfl rfl)
def dkwJ15_coder_0 : List UInt8 := [178, 0, 38, 153, 0, 10, 42, 180, 0, 15, 167, 0, 4, 4, 172]
abbrev dktJ15_coder_0 : List UInt8 := dkwJ15_coder_0 ++ []
theorem dksJ15_coder_0 : cJ15_coder.data.toList.drop 0 = dktJ15_coder_0 := by decide +kernel
theorem dJ15_coder_0 : decode cJ15_coder 0 = .ok (.getstatic 38, 3) := dk_178 0 38 (dk_at dksJ15_coder_0 0 rfl rfl)
theorem dJ15_coder_3 : decode cJ15_coder 3 = .ok (.ifCond .eq 10, 3) := dk_153 0 10 (dk_at dksJ15_coder_0 3 rfl rfl)
theorem dJ15_coder_6 : decode cJ15_coder 6 = .ok (.aload_n 0, 1) := dk_42 (dk_at dksJ15_coder_0 6 rfl rfl)
theorem dJ15_coder_7 : decode cJ15_coder 7 = .ok (.getfield 15, 3) := dk_180 0 15 (dk_at dksJ15_coder_0 7 rfl rfl)
theorem dJ15_coder_10 : decode cJ15_coder 10 = .ok (.goto 4, 3) := dk_167 0 4 (dk_at dksJ15_coder_0 10 rfl rfl)
theorem dJ15_coder_13 : decode cJ15_coder 13 = .ok (.iconst 1, 1) := dk_4 (dk_at dksJ15_coder_0 13 rfl rfl)
theorem dJ15_coder_14 : decode cJ15_coder 14 = .ok (.ireturn, 1) := dk_172 (dk_at dksJ15_coder_0 14 rfl rfl)
def dkwJ15_checkBoundsOffCount_0 : List UInt8 := [26, 27, 28, 178, 4, 29, 184, 4, 41, 172]
abbrev dktJ15_checkBoundsOffCount_0 : List UInt8 := dkwJ15_checkBoundsOffCount_0 ++ []
theorem dksJ15_checkBoundsOffCount_0 : cJ15_checkBoundsOffCount.data.toList.drop 0 = dktJ15_checkBoundsOffCount_0 := by decide +kernel
theorem dJ15_checkBoundsOffCount_0 : decode cJ15_checkBoundsOffCount 0 = .ok (.iload_n 0, 1) := dk_26 (dk_at dksJ15_checkBoundsOffCount_0 0 rfl rfl)
theorem dJ15_checkBoundsOffCount_1 : decode cJ15_checkBoundsOffCount 1 = .ok (.iload_n 1, 1) := dk_27 (dk_at dksJ15_checkBoundsOffCount_0 1 rfl rfl)
theorem dJ15_checkBoundsOffCount_2 : decode cJ15_checkBoundsOffCount 2 = .ok (.iload_n 2, 1) := dk_28 (dk_at dksJ15_checkBoundsOffCount_0 2 rfl rfl)
theorem dJ15_checkBoundsOffCount_3 : decode cJ15_checkBoundsOffCount 3 = .ok (.getstatic 1053, 3) := dk_178 4 29 (dk_at dksJ15_checkBoundsOffCount_0 3 rfl rfl)
theorem dJ15_checkBoundsOffCount_6 : decode cJ15_checkBoundsOffCount 6 = .ok (.invokestatic 1065, 3) := dk_184 4 41 (dk_at dksJ15_checkBoundsOffCount_0 6 rfl rfl)
theorem dJ15_checkBoundsOffCount_9 : decode cJ15_checkBoundsOffCount 9 = .ok (.ireturn, 1) := dk_172 (dk_at dksJ15_checkBoundsOffCount_0 9 rfl rfl)
def dkwJ15_getBytes_1 : List UInt8 := [184, 0, 212, 167, 0, 18, 42, 180, 0, 9, 3, 43, 28, 42, 180, 0, 9, 190, 184, 0, 106, 177]
abbrev dktJ15_getBytes_1 : List UInt8 := dkwJ15_getBytes_1 ++ []
def dkwJ15_getBytes_0 : List UInt8 := [42, 182, 1, 79, 29, 160, 0, 23, 42, 180, 0, 9, 3, 43, 28, 29, 120, 42, 180, 0, 9, 190]
abbrev dktJ15_getBytes_0 : List UInt8 := dkwJ15_getBytes_0 ++ dktJ15_getBytes_1
theorem dksJ15_getBytes_0 : cJ15_getBytes.data.toList.drop 0 = dktJ15_getBytes_0 := by decide +kernel
theorem dksJ15_getBytes_1 : cJ15_getBytes.data.toList.drop 22 = dktJ15_getBytes_1 := dk_seg dksJ15_getBytes_0 22 rfl rfl
theorem dJ15_getBytes_0 : decode cJ15_getBytes 0 = .ok (.aload_n 0, 1) := dk_42 (dk_at dksJ15_getBytes_0 0 rfl rfl)
theorem dJ15_getBytes_1 : decode cJ15_getBytes 1 = .ok (.invokevirtual 335, 3) := dk_182 1 79 (dk_at dksJ15_getBytes_0 1 rfl rfl)
theorem dJ15_getBytes_4 : decode cJ15_getBytes 4 = .ok (.iload_n 3, 1) := dk_29 (dk_at dksJ15_getBytes_0 4 rfl rfl)
theorem dJ15_getBytes_5 : decode cJ15_getBytes 5 = .ok (.if_icmp .ne 23, 3) := dk_160 0 23 (dk_at dksJ15_getBytes_0 5 rfl rfl)
theorem dJ15_getBytes_8 : decode cJ15_getBytes 8 = .ok (.aload_n 0, 1) := dk_42 (dk_at dksJ15_getBytes_0 8 rfl rfl)
theorem dJ15_getBytes_9 : decode cJ15_getBytes 9 = .ok (.getfield 9, 3) := dk_180 0 9 (dk_at dksJ15_getBytes_0 9 rfl rfl)
theorem dJ15_getBytes_12 : decode cJ15_getBytes 12 = .ok (.iconst 0, 1) := dk_3 (dk_at dksJ15_getBytes_0 12 rfl rfl)
theorem dJ15_getBytes_13 : decode cJ15_getBytes 13 = .ok (.aload_n 1, 1) := dk_43 (dk_at dksJ15_getBytes_0 13 rfl rfl)
theorem dJ15_getBytes_14 : decode cJ15_getBytes 14 = .ok (.iload_n 2, 1) := dk_28 (dk_at dksJ15_getBytes_0 14 rfl rfl)
theorem dJ15_getBytes_15 : decode cJ15_getBytes 15 = .ok (.iload_n 3, 1) := dk_29 (dk_at dksJ15_getBytes_0 15 rfl rfl)
theorem dJ15_getBytes_16 : decode cJ15_getBytes 16 = .ok (.ishl, 1) := dk_120 (dk_at dksJ15_getBytes_0 16 rfl rfl)
theorem dJ15_getBytes_17 : decode cJ15_getBytes 17 = .ok (.aload_n 0, 1) := dk_42 (dk_at dksJ15_getBytes_0 17 rfl rfl)
theorem dJ15_getBytes_18 : decode cJ15_getBytes 18 = .ok (.getfield 9, 3) := dk_180 0 9 (dk_at dksJ15_getBytes_0 18 rfl rfl)
theorem dJ15_getBytes_21 : decode cJ15_getBytes 21 = .ok (.arraylength, 1) := dk_190 (dk_at dksJ15_getBytes_0 21 rfl rfl)
theorem dJ15_getBytes_22 : decode cJ15_getBytes 22 = .ok (.invokestatic 212, 3) := dk_184 0 212 (dk_at dksJ15_getBytes_1 0 rfl rfl)
theorem dJ15_getBytes_25 : decode cJ15_getBytes 25 = .ok (.goto 18, 3) := dk_167 0 18 (dk_at dksJ15_getBytes_1 3 rfl rfl)
theorem dJ15_getBytes_28 : decode cJ15_getBytes 28 = .ok (.aload_n 0, 1) := dk_42 (dk_at dksJ15_getBytes_1 6 rfl rfl)
theorem dJ15_getBytes_29 : decode cJ15_getBytes 29 = .ok (.getfield 9, 3) := dk_180 0 9 (dk_at dksJ15_getBytes_1 7 rfl rfl)
theorem dJ15_getBytes_32 : decode cJ15_getBytes 32 = .ok (.iconst 0, 1) := dk_3 (dk_at dksJ15_getBytes_1 10 rfl rfl)
theorem dJ15_getBytes_33 : decode cJ15_getBytes 33 = .ok (.aload_n 1, 1) := dk_43 (dk_at dksJ15_getBytes_1 11 rfl rfl)
theorem dJ15_getBytes_34 : decode cJ15_getBytes 34 = .ok (.iload_n 2, 1) := dk_28 (dk_at dksJ15_getBytes_1 12 rfl rfl)
theorem dJ15_getBytes_35 : decode cJ15_getBytes 35 = .ok (.aload_n 0, 1) := dk_42 (dk_at dksJ15_getBytes_1 13 rfl rfl)
theorem dJ15_getBytes_36 : decode cJ15_getBytes 36 = .ok (.getfield 9, 3) := dk_180 0 9 (dk_at dksJ15_getBytes_1 14 rfl rfl)
theorem dJ15_getBytes_39 : decode cJ15_getBytes 39 = .ok (.arraylength, 1) := dk_190 (dk_at dksJ15_getBytes_1 17 rfl rfl)
theorem dJ15_getBytes_40 : decode cJ15_getBytes 40 = .ok (.invokestatic 106, 3) := dk_184 0 106 (dk_at dksJ15_getBytes_1 18 rfl rfl)
theorem dJ15_getBytes_43 : decode cJ15_getBytes 43 = .ok (.return_, 1) := dk_177 (dk_at dksJ15_getBytes_1 21 rfl rfl)
def dkwJ15_init_0 : List UInt8 := [42, 43, 1, 183, 1, 233, 177]
abbrev dktJ15_init_0 : List UInt8 := dkwJ15_init_0 ++ []
theorem dksJ15_init_0 : cJ15_init.data.toList.drop 0 = dktJ15_init_0 := by decide +kernel
theorem dJ15_init_0 : decode cJ15_init 0 = .ok (.aload_n 0, 1) := dk_42 (dk_at dksJ15_init_0 0 rfl rfl)
theorem dJ15_init_1 : decode cJ15_init 1 = .ok (.aload_n 1, 1) := dk_43 (dk_at dksJ15_init_0 1 rfl rfl)
theorem dJ15_init_2 : decode cJ15_init 2 = .ok (.aconst_null, 1) := dk_1 (dk_at dksJ15_init_0 2 rfl rfl)
theorem dJ15_init_3 : decode cJ15_init 3 = .ok (.invokespecial 489, 3) := dk_183 1 233 (dk_at dksJ15_init_0 3 rfl rfl)
theorem dJ15_init_6 : decode cJ15_init 6 = .ok (.return_, 1) := dk_177 (dk_at dksJ15_init_0 6 rfl rfl)
def dkwJ15_init_2_4 : List UInt8 := [181, 0, 9, 177]
abbrev dktJ15_init_2_4 : List UInt8 := dkwJ15_init_2_4 ++ []
def dkwJ15_init_2_3 : List UInt8 := [184, 0, 47, 181, 0, 15, 177, 42, 4, 181, 0, 15, 42, 45, 3, 21, 4, 4, 120, 184, 0, 54]
abbrev dktJ15_init_2_3 : List UInt8 := dkwJ15_init_2_3 ++ dktJ15_init_2_4
def dkwJ15_init_2_2 : List UInt8 := [180, 4, 24, 153, 0, 28, 42, 45, 3, 21, 4, 184, 4, 27, 181, 0, 9, 42, 42, 180, 0, 9, 21, 4]
abbrev dktJ15_init_2_2 : List UInt8 := dkwJ15_init_2_2 ++ dktJ15_init_2_3
def dkwJ15_init_2_1 : List UInt8 := [181, 0, 15, 42, 45, 3, 21, 4, 184, 0, 54, 181, 0, 9, 167, 0, 59, 178, 0, 38, 153, 0, 35, 43]
abbrev dktJ15_init_2_1 : List UInt8 := dkwJ15_init_2_1 ++ dktJ15_init_2_2
def dkwJ15_init_2_0 : List UInt8 := [42, 183, 0, 1, 43, 182, 2, 40, 78, 43, 182, 2, 37, 54, 4, 43, 182, 4, 23, 153, 0, 22, 42, 3]
abbrev dktJ15_init_2_0 : List UInt8 := dkwJ15_init_2_0 ++ dktJ15_init_2_1
theorem dksJ15_init_2_0 : cJ15_init_2.data.toList.drop 0 = dktJ15_init_2_0 := by decide +kernel
theorem dksJ15_init_2_1 : cJ15_init_2.data.toList.drop 24 = dktJ15_init_2_1 := dk_seg dksJ15_init_2_0 24 rfl rfl
theorem dksJ15_init_2_2 : cJ15_init_2.data.toList.drop 48 = dktJ15_init_2_2 := dk_seg dksJ15_init_2_1 24 rfl rfl
theorem dksJ15_init_2_3 : cJ15_init_2.data.toList.drop 72 = dktJ15_init_2_3 := dk_seg dksJ15_init_2_2 24 rfl rfl
theorem dksJ15_init_2_4 : cJ15_init_2.data.toList.drop 94 = dktJ15_init_2_4 := dk_seg dksJ15_init_2_3 22 rfl rfl
theorem dJ15_init_2_0 : decode cJ15_init_2 0 = .ok (.aload_n 0, 1) := dk_42 (dk_at dksJ15_init_2_0 0 rfl rfl)
theorem dJ15_init_2_1 : decode cJ15_init_2 1 = .ok (.invokespecial 1, 3) := dk_183 0 1 (dk_at dksJ15_init_2_0 1 rfl rfl)
theorem dJ15_init_2_4 : decode cJ15_init_2 4 = .ok (.aload_n 1, 1) := dk_43 (dk_at dksJ15_init_2_0 4 rfl rfl)
theorem dJ15_init_2_5 : decode cJ15_init_2 5 = .ok (.invokevirtual 552, 3) := dk_182 2 40 (dk_at dksJ15_init_2_0 5 rfl rfl)
theorem dJ15_init_2_8 : decode cJ15_init_2 8 = .ok (.astore_n 3, 1) := dk_78 (dk_at dksJ15_init_2_0 8 rfl rfl)
theorem dJ15_init_2_9 : decode cJ15_init_2 9 = .ok (.aload_n 1, 1) := dk_43 (dk_at dksJ15_init_2_0 9 rfl rfl)
theorem dJ15_init_2_10 : decode cJ15_init_2 10 = .ok (.invokevirtual 549, 3) := dk_182 2 37 (dk_at dksJ15_init_2_0 10 rfl rfl)
theorem dJ15_init_2_13 : decode cJ15_init_2 13 = .ok (.istore 4, 2) := dk_54 4 (dk_at dksJ15_init_2_0 13 rfl rfl)
theorem dJ15_init_2_15 : decode cJ15_init_2 15 = .ok (.aload_n 1, 1) := dk_43 (dk_at dksJ15_init_2_0 15 rfl rfl)
theorem dJ15_init_2_16 : decode cJ15_init_2 16 = .ok (.invokevirtual 1047, 3) := dk_182 4 23 (dk_at dksJ15_init_2_0 16 rfl rfl)
theorem dJ15_init_2_19 : decode cJ15_init_2 19 = .ok (.ifCond .eq 22, 3) := dk_153 0 22 (dk_at dksJ15_init_2_0 19 rfl rfl)
theorem dJ15_init_2_22 : decode cJ15_init_2 22 = .ok (.aload_n 0, 1) := dk_42 (dk_at dksJ15_init_2_0 22 rfl rfl)
theorem dJ15_init_2_23 : decode cJ15_init_2 23 = .ok (.iconst 0, 1) := dk_3 (dk_at dksJ15_init_2_0 23 rfl rfl)
theorem dJ15_init_2_24 : decode cJ15_init_2 24 = .ok (.putfield 15, 3) := dk_181 0 15 (dk_at dksJ15_init_2_1 0 rfl rfl)
theorem dJ15_init_2_27 : decode cJ15_init_2 27 = .ok (.aload_n 0, 1) := dk_42 (dk_at dksJ15_init_2_1 3 rfl rfl)
theorem dJ15_init_2_28 : decode cJ15_init_2 28 = .ok (.aload_n 3, 1) := dk_45 (dk_at dksJ15_init_2_1 4 rfl rfl)
theorem dJ15_init_2_29 : decode cJ15_init_2 29 = .ok (.iconst 0, 1) := dk_3 (dk_at dksJ15_init_2_1 5 rfl rfl)
theorem dJ15_init_2_30 : decode cJ15_init_2 30 = .ok (.iload 4, 2) := dk_21 4 (dk_at dksJ15_init_2_1 6 rfl rfl)
theorem dJ15_init_2_32 : decode cJ15_init_2 32 = .ok (.invokestatic 54, 3) := dk_184 0 54 (dk_at dksJ15_init_2_1 8 rfl rfl)
theorem dJ15_init_2_35 : decode cJ15_init_2 35 = .ok (.putfield 9, 3) := dk_181 0 9 (dk_at dksJ15_init_2_1 11 rfl rfl)
theorem dJ15_init_2_38 : decode cJ15_init_2 38 = .ok (.goto 59, 3) := dk_167 0 59 (dk_at dksJ15_init_2_1 14 rfl rfl)
theorem dJ15_init_2_41 : decode cJ15_init_2 41 = .ok (.getstatic 38, 3) := dk_178 0 38 (dk_at dksJ15_init_2_1 17 rfl rfl)
theorem dJ15_init_2_44 : decode cJ15_init_2 44 = .ok (.ifCond .eq 35, 3) := dk_153 0 35 (dk_at dksJ15_init_2_1 20 rfl rfl)
theorem dJ15_init_2_47 : decode cJ15_init_2 47 = .ok (.aload_n 1, 1) := dk_43 (dk_at dksJ15_init_2_1 23 rfl rfl)
theorem dJ15_init_2_48 : decode cJ15_init_2 48 = .ok (.getfield 1048, 3) := dk_180 4 24 (dk_at dksJ15_init_2_2 0 rfl rfl)
theorem dJ15_init_2_51 : decode cJ15_init_2 51 = .ok (.ifCond .eq 28, 3) := dk_153 0 28 (dk_at dksJ15_init_2_2 3 rfl rfl)
theorem dJ15_init_2_54 : decode cJ15_init_2 54 = .ok (.aload_n 0, 1) := dk_42 (dk_at dksJ15_init_2_2 6 rfl rfl)
theorem dJ15_init_2_55 : decode cJ15_init_2 55 = .ok (.aload_n 3, 1) := dk_45 (dk_at dksJ15_init_2_2 7 rfl rfl)
theorem dJ15_init_2_56 : decode cJ15_init_2 56 = .ok (.iconst 0, 1) := dk_3 (dk_at dksJ15_init_2_2 8 rfl rfl)
theorem dJ15_init_2_57 : decode cJ15_init_2 57 = .ok (.iload 4, 2) := dk_21 4 (dk_at dksJ15_init_2_2 9 rfl rfl)
theorem dJ15_init_2_59 : decode cJ15_init_2 59 = .ok (.invokestatic 1051, 3) := dk_184 4 27 (dk_at dksJ15_init_2_2 11 rfl rfl)
theorem dJ15_init_2_62 : decode cJ15_init_2 62 = .ok (.putfield 9, 3) := dk_181 0 9 (dk_at dksJ15_init_2_2 14 rfl rfl)
theorem dJ15_init_2_65 : decode cJ15_init_2 65 = .ok (.aload_n 0, 1) := dk_42 (dk_at dksJ15_init_2_2 17 rfl rfl)
theorem dJ15_init_2_66 : decode cJ15_init_2 66 = .ok (.aload_n 0, 1) := dk_42 (dk_at dksJ15_init_2_2 18 rfl rfl)
theorem dJ15_init_2_67 : decode cJ15_init_2 67 = .ok (.getfield 9, 3) := dk_180 0 9 (dk_at dksJ15_init_2_2 19 rfl rfl)
theorem dJ15_init_2_70 : decode cJ15_init_2 70 = .ok (.iload 4, 2) := dk_21 4 (dk_at dksJ15_init_2_2 22 rfl rfl)
theorem dJ15_init_2_72 : decode cJ15_init_2 72 = .ok (.invokestatic 47, 3) := dk_184 0 47 (dk_at dksJ15_init_2_3 0 rfl rfl)
theorem dJ15_init_2_75 : decode cJ15_init_2 75 = .ok (.putfield 15, 3) := dk_181 0 15 (dk_at dksJ15_init_2_3 3 rfl rfl)
theorem dJ15_init_2_78 : decode cJ15_init_2 78 = .ok (.return_, 1) := dk_177 (dk_at dksJ15_init_2_3 6 rfl rfl)
theorem dJ15_init_2_79 : decode cJ15_init_2 79 = .ok (.aload_n 0, 1) := dk_42 (dk_at dksJ15_init_2_3 7 rfl rfl)
theorem dJ15_init_2_80 : decode cJ15_init_2 80 = .ok (.iconst 1, 1) := dk_4 (dk_at dksJ15_init_2_3 8 rfl rfl)
theorem dJ15_init_2_81 : decode cJ15_init_2 81 = .ok (.putfield 15, 3) := dk_181 0 15 (dk_at dksJ15_init_2_3 9 rfl rfl)
theorem dJ15_init_2_84 : decode cJ15_init_2 84 = .ok (.aload_n 0, 1) := dk_42 (dk_at dksJ15_init_2_3 12 rfl rfl)
theorem dJ15_init_2_85 : decode cJ15_init_2 85 = .ok (.aload_n 3, 1) := dk_45 (dk_at dksJ15_init_2_3 13 rfl rfl)
theorem dJ15_init_2_86 : decode cJ15_init_2 86 = .ok (.iconst 0, 1) := dk_3 (dk_at dksJ15_init_2_3 14 rfl rfl)
theorem dJ15_init_2_87 : decode cJ15_init_2 87 = .ok (.iload 4, 2) := dk_21 4 (dk_at dksJ15_init_2_3 15 rfl rfl)
theorem dJ15_init_2_89 : decode cJ15_init_2 89 = .ok (.iconst 1, 1) := dk_4 (dk_at dksJ15_init_2_3 17 rfl rfl)
theorem dJ15_init_2_90 : decode cJ15_init_2 90 = .ok (.ishl, 1) := dk_120 (dk_at dksJ15_init_2_3 18 rfl rfl)
theorem dJ15_init_2_91 : decode cJ15_init_2 91 = .ok (.invokestatic 54, 3) := dk_184 0 54 (dk_at dksJ15_init_2_3 19 rfl rfl)
theorem dJ15_init_2_94 : decode cJ15_init_2 94 = .ok (.putfield 9, 3) := dk_181 0 9 (dk_at dksJ15_init_2_4 0 rfl rfl)
theorem dJ15_init_2_97 : decode cJ15_init_2 97 = .ok (.return_, 1) := dk_177 (dk_at dksJ15_init_2_4 3 rfl rfl)
def dkwJ15_charAt_1 : List UInt8 := [172]
abbrev dktJ15_charAt_1 : List UInt8 := dkwJ15_charAt_1 ++ []
def dkwJ15_charAt_0 : List UInt8 := [42, 182, 1, 236, 153, 0, 12, 42, 180, 0, 9, 27, 184, 1, 239, 172, 42, 180, 0, 9, 27, 184, 1, 242]
abbrev dktJ15_charAt_0 : List UInt8 := dkwJ15_charAt_0 ++ dktJ15_charAt_1
theorem dksJ15_charAt_0 : cJ15_charAt.data.toList.drop 0 = dktJ15_charAt_0 := by decide +kernel
theorem dksJ15_charAt_1 : cJ15_charAt.data.toList.drop 24 = dktJ15_charAt_1 := dk_seg dksJ15_charAt_0 24 rfl rfl
theorem dJ15_charAt_0 : decode cJ15_charAt 0 = .ok (.aload_n 0, 1) := dk_42 (dk_at dksJ15_charAt_0 0 rfl rfl)
theorem dJ15_charAt_1 : decode cJ15_charAt 1 = .ok (.invokevirtual 492, 3) := dk_182 1 236 (dk_at dksJ15_charAt_0 1 rfl rfl)
theorem dJ15_charAt_4 : decode cJ15_charAt 4 = .ok (.ifCond .eq 12, 3) := dk_153 0 12 (dk_at dksJ15_charAt_0 4 rfl rfl)
theorem dJ15_charAt_7 : decode cJ15_charAt 7 = .ok (.aload_n 0, 1) := dk_42 (dk_at dksJ15_charAt_0 7 rfl rfl)
theorem dJ15_charAt_8 : decode cJ15_charAt 8 = .ok (.getfield 9, 3) := dk_180 0 9 (dk_at dksJ15_charAt_0 8 rfl rfl)
theorem dJ15_charAt_11 : decode cJ15_charAt 11 = .ok (.iload_n 1, 1) := dk_27 (dk_at dksJ15_charAt_0 11 rfl rfl)
theorem dJ15_charAt_12 : decode cJ15_charAt 12 = .ok (.invokestatic 495, 3) := dk_184 1 239 (dk_at dksJ15_charAt_0 12 rfl rfl)
theorem dJ15_charAt_15 : decode cJ15_charAt 15 = .ok (.ireturn, 1) := dk_172 (dk_at dksJ15_charAt_0 15 rfl rfl)
theorem dJ15_charAt_16 : decode cJ15_charAt 16 = .ok (.aload_n 0, 1) := dk_42 (dk_at dksJ15_charAt_0 16 rfl rfl)
theorem dJ15_charAt_17 : decode cJ15_charAt 17 = .ok (.getfield 9, 3) := dk_180 0 9 (dk_at dksJ15_charAt_0 17 rfl rfl)
theorem dJ15_charAt_20 : decode cJ15_charAt 20 = .ok (.iload_n 1, 1) := dk_27 (dk_at dksJ15_charAt_0 20 rfl rfl)
theorem dJ15_charAt_21 : decode cJ15_charAt 21 = .ok (.invokestatic 498, 3) := dk_184 1 242 (dk_at dksJ15_charAt_0 21 rfl rfl)
theorem dJ15_charAt_24 : decode cJ15_charAt 24 = .ok (.ireturn, 1) := dk_172 (dk_at dksJ15_charAt_1 0 rfl rfl)
def dkwJ15_isLatin1_0 : List UInt8 := [178, 0, 38, 153, 0, 14, 42, 180, 0, 15, 154, 0, 7, 4, 167, 0, 4, 3, 172]
abbrev dktJ15_isLatin1_0 : List UInt8 := dkwJ15_isLatin1_0 ++ []
theorem dksJ15_isLatin1_0 : cJ15_isLatin1.data.toList.drop 0 = dktJ15_isLatin1_0 := by decide +kernel
theorem dJ15_isLatin1_0 : decode cJ15_isLatin1 0 = .ok (.getstatic 38, 3) := dk_178 0 38 (dk_at dksJ15_isLatin1_0 0 rfl rfl)
theorem dJ15_isLatin1_3 : decode cJ15_isLatin1 3 = .ok (.ifCond .eq 14, 3) := dk_153 0 14 (dk_at dksJ15_isLatin1_0 3 rfl rfl)
theorem dJ15_isLatin1_6 : decode cJ15_isLatin1 6 = .ok (.aload_n 0, 1) := dk_42 (dk_at dksJ15_isLatin1_0 6 rfl rfl)
theorem dJ15_isLatin1_7 : decode cJ15_isLatin1 7 = .ok (.getfield 15, 3) := dk_180 0 15 (dk_at dksJ15_isLatin1_0 7 rfl rfl)
theorem dJ15_isLatin1_10 : decode cJ15_isLatin1 10 = .ok (.ifCond .ne 7, 3) := dk_154 0 7 (dk_at dksJ15_isLatin1_0 10 rfl rfl)
theorem dJ15_isLatin1_13 : decode cJ15_isLatin1 13 = .ok (.iconst 1, 1) := dk_4 (dk_at dksJ15_isLatin1_0 13 rfl rfl)
theorem dJ15_isLatin1_14 : decode cJ15_isLatin1 14 = .ok (.goto 4, 3) := dk_167 0 4 (dk_at dksJ15_isLatin1_0 14 rfl rfl)
theorem dJ15_isLatin1_17 : decode cJ15_isLatin1 17 = .ok (.iconst 0, 1) := dk_3 (dk_at dksJ15_isLatin1_0 17 rfl rfl)
theorem dJ15_isLatin1_18 : decode cJ15_isLatin1 18 = .ok (.ireturn, 1) := dk_172 (dk_at dksJ15_isLatin1_0 18 rfl rfl)
def dkwJ15_checkIndex_0 : List UInt8 := [26, 27, 178, 4, 29, 184, 4, 35, 87, 177]
abbrev dktJ15_checkIndex_0 : List UInt8 := dkwJ15_checkIndex_0 ++ []
theorem dksJ15_checkIndex_0 : cJ15_checkIndex.data.toList.drop 0 = dktJ15_checkIndex_0 := by decide +kernel
theorem dJ15_checkIndex_0 : decode cJ15_checkIndex 0 = .ok (.iload_n 0, 1) := dk_26 (dk_at dksJ15_checkIndex_0 0 rfl rfl)
theorem dJ15_checkIndex_1 : decode cJ15_checkIndex 1 = .ok (.iload_n 1, 1) := dk_27 (dk_at dksJ15_checkIndex_0 1 rfl rfl)
theorem dJ15_checkIndex_2 : decode cJ15_checkIndex 2 = .ok (.getstatic 1053, 3) := dk_178 4 29 (dk_at dksJ15_checkIndex_0 2 rfl rfl)
theorem dJ15_checkIndex_5 : decode cJ15_checkIndex 5 = .ok (.invokestatic 1059, 3) := dk_184 4 35 (dk_at dksJ15_checkIndex_0 5 rfl rfl)
theorem dJ15_checkIndex_8 : decode cJ15_checkIndex 8 = .ok (.pop, 1) := dk_87 (dk_at dksJ15_checkIndex_0 8 rfl rfl)
theorem dJ15_checkIndex_9 : decode cJ15_checkIndex 9 = .ok (.return_, 1) := dk_177 (dk_at dksJ15_checkIndex_0 9 rfl rfl)
def dkwJ15_equals_2 : List UInt8 := [184, 2, 29, 153, 0, 7, 4, 167, 0, 4, 3, 172]
abbrev dktJ15_equals_2 : List UInt8 := dkwJ15_equals_2 ++ []
def dkwJ15_equals_1 : List UInt8 := [153, 0, 14, 42, 180, 0, 15, 44, 180, 0, 15, 160, 0, 21, 42, 180, 0, 9, 44, 180, 0, 9]
abbrev dktJ15_equals_1 : List UInt8 := dkwJ15_equals_1 ++ dktJ15_equals_2
def dkwJ15_equals_0 : List UInt8 := [42, 43, 166, 0, 5, 4, 172, 43, 193, 0, 10, 153, 0, 43, 43, 192, 0, 10, 77, 178, 0, 38]
abbrev dktJ15_equals_0 : List UInt8 := dkwJ15_equals_0 ++ dktJ15_equals_1
theorem dksJ15_equals_0 : cJ15_equals.data.toList.drop 0 = dktJ15_equals_0 := by decide +kernel
theorem dksJ15_equals_1 : cJ15_equals.data.toList.drop 22 = dktJ15_equals_1 := dk_seg dksJ15_equals_0 22 rfl rfl
theorem dksJ15_equals_2 : cJ15_equals.data.toList.drop 44 = dktJ15_equals_2 := dk_seg dksJ15_equals_1 22 rfl rfl
theorem dJ15_equals_0 : decode cJ15_equals 0 = .ok (.aload_n 0, 1) := dk_42 (dk_at dksJ15_equals_0 0 rfl rfl)
theorem dJ15_equals_1 : decode cJ15_equals 1 = .ok (.aload_n 1, 1) := dk_43 (dk_at dksJ15_equals_0 1 rfl rfl)
theorem dJ15_equals_2 : decode cJ15_equals 2 = .ok (.if_acmp .ne 5, 3) := dk_166 0 5 (dk_at dksJ15_equals_0 2 rfl rfl)
theorem dJ15_equals_5 : decode cJ15_equals 5 = .ok (.iconst 1, 1) := dk_4 (dk_at dksJ15_equals_0 5 rfl rfl)
theorem dJ15_equals_6 : decode cJ15_equals 6 = .ok (.ireturn, 1) := dk_172 (dk_at dksJ15_equals_0 6 rfl rfl)
theorem dJ15_equals_7 : decode cJ15_equals 7 = .ok (.aload_n 1, 1) := dk_43 (dk_at dksJ15_equals_0 7 rfl rfl)
theorem dJ15_equals_8 : decode cJ15_equals 8 = .ok (.instanceof 10, 3) := dk_193 0 10 (dk_at dksJ15_equals_0 8 rfl rfl)
theorem dJ15_equals_11 : decode cJ15_equals 11 = .ok (.ifCond .eq 43, 3) := dk_153 0 43 (dk_at dksJ15_equals_0 11 rfl rfl)
theorem dJ15_equals_14 : decode cJ15_equals 14 = .ok (.aload_n 1, 1) := dk_43 (dk_at dksJ15_equals_0 14 rfl rfl)
theorem dJ15_equals_15 : decode cJ15_equals 15 = .ok (.checkcast 10, 3) := dk_192 0 10 (dk_at dksJ15_equals_0 15 rfl rfl)
theorem dJ15_equals_18 : decode cJ15_equals 18 = .ok (.astore_n 2, 1) := dk_77 (dk_at dksJ15_equals_0 18 rfl rfl)
theorem dJ15_equals_19 : decode cJ15_equals 19 = .ok (.getstatic 38, 3) := dk_178 0 38 (dk_at dksJ15_equals_0 19 rfl rfl)
theorem dJ15_equals_22 : decode cJ15_equals 22 = .ok (.ifCond .eq 14, 3) := dk_153 0 14 (dk_at dksJ15_equals_1 0 rfl rfl)
theorem dJ15_equals_25 : decode cJ15_equals 25 = .ok (.aload_n 0, 1) := dk_42 (dk_at dksJ15_equals_1 3 rfl rfl)
theorem dJ15_equals_26 : decode cJ15_equals 26 = .ok (.getfield 15, 3) := dk_180 0 15 (dk_at dksJ15_equals_1 4 rfl rfl)
theorem dJ15_equals_29 : decode cJ15_equals 29 = .ok (.aload_n 2, 1) := dk_44 (dk_at dksJ15_equals_1 7 rfl rfl)
theorem dJ15_equals_30 : decode cJ15_equals 30 = .ok (.getfield 15, 3) := dk_180 0 15 (dk_at dksJ15_equals_1 8 rfl rfl)
theorem dJ15_equals_33 : decode cJ15_equals 33 = .ok (.if_icmp .ne 21, 3) := dk_160 0 21 (dk_at dksJ15_equals_1 11 rfl rfl)
theorem dJ15_equals_36 : decode cJ15_equals 36 = .ok (.aload_n 0, 1) := dk_42 (dk_at dksJ15_equals_1 14 rfl rfl)
theorem dJ15_equals_37 : decode cJ15_equals 37 = .ok (.getfield 9, 3) := dk_180 0 9 (dk_at dksJ15_equals_1 15 rfl rfl)
theorem dJ15_equals_40 : decode cJ15_equals 40 = .ok (.aload_n 2, 1) := dk_44 (dk_at dksJ15_equals_1 18 rfl rfl)
theorem dJ15_equals_41 : decode cJ15_equals 41 = .ok (.getfield 9, 3) := dk_180 0 9 (dk_at dksJ15_equals_1 19 rfl rfl)
theorem dJ15_equals_44 : decode cJ15_equals 44 = .ok (.invokestatic 541, 3) := dk_184 2 29 (dk_at dksJ15_equals_2 0 rfl rfl)
theorem dJ15_equals_47 : decode cJ15_equals 47 = .ok (.ifCond .eq 7, 3) := dk_153 0 7 (dk_at dksJ15_equals_2 3 rfl rfl)
theorem dJ15_equals_50 : decode cJ15_equals 50 = .ok (.iconst 1, 1) := dk_4 (dk_at dksJ15_equals_2 6 rfl rfl)
theorem dJ15_equals_51 : decode cJ15_equals 51 = .ok (.goto 4, 3) := dk_167 0 4 (dk_at dksJ15_equals_2 7 rfl rfl)
theorem dJ15_equals_54 : decode cJ15_equals 54 = .ok (.iconst 0, 1) := dk_3 (dk_at dksJ15_equals_2 10 rfl rfl)
theorem dJ15_equals_55 : decode cJ15_equals 55 = .ok (.ireturn, 1) := dk_172 (dk_at dksJ15_equals_2 11 rfl rfl)
def dkwJ15_hashCode_2 : List UInt8 := [181, 0, 23, 167, 0, 8, 42, 27, 181, 0, 19, 27, 172]
abbrev dktJ15_hashCode_2 : List UInt8 := dkwJ15_hashCode_2 ++ []
def dkwJ15_hashCode_1 : List UInt8 := [180, 0, 9, 184, 2, 116, 167, 0, 10, 42, 180, 0, 9, 184, 2, 120, 60, 27, 154, 0, 11, 42, 4]
abbrev dktJ15_hashCode_1 : List UInt8 := dkwJ15_hashCode_1 ++ dktJ15_hashCode_2
def dkwJ15_hashCode_0 : List UInt8 := [42, 180, 0, 19, 60, 27, 154, 0, 52, 42, 180, 0, 23, 154, 0, 45, 42, 182, 1, 236, 153, 0, 13, 42]
abbrev dktJ15_hashCode_0 : List UInt8 := dkwJ15_hashCode_0 ++ dktJ15_hashCode_1
theorem dksJ15_hashCode_0 : cJ15_hashCode.data.toList.drop 0 = dktJ15_hashCode_0 := by decide +kernel
theorem dksJ15_hashCode_1 : cJ15_hashCode.data.toList.drop 24 = dktJ15_hashCode_1 := dk_seg dksJ15_hashCode_0 24 rfl rfl
theorem dksJ15_hashCode_2 : cJ15_hashCode.data.toList.drop 47 = dktJ15_hashCode_2 := dk_seg dksJ15_hashCode_1 23 rfl rfl
theorem dJ15_hashCode_0 : decode cJ15_hashCode 0 = .ok (.aload_n 0, 1) := dk_42 (dk_at dksJ15_hashCode_0 0 rfl rfl)
theorem dJ15_hashCode_1 : decode cJ15_hashCode 1 = .ok (.getfield 19, 3) := dk_180 0 19 (dk_at dksJ15_hashCode_0 1 rfl rfl)
theorem dJ15_hashCode_4 : decode cJ15_hashCode 4 = .ok (.istore_n 1, 1) := dk_60 (dk_at dksJ15_hashCode_0 4 rfl rfl)
theorem dJ15_hashCode_5 : decode cJ15_hashCode 5 = .ok (.iload_n 1, 1) := dk_27 (dk_at dksJ15_hashCode_0 5 rfl rfl)
theorem dJ15_hashCode_6 : decode cJ15_hashCode 6 = .ok (.ifCond .ne 52, 3) := dk_154 0 52 (dk_at dksJ15_hashCode_0 6 rfl rfl)
theorem dJ15_hashCode_9 : decode cJ15_hashCode 9 = .ok (.aload_n 0, 1) := dk_42 (dk_at dksJ15_hashCode_0 9 rfl rfl)
theorem dJ15_hashCode_10 : decode cJ15_hashCode 10 = .ok (.getfield 23, 3) := dk_180 0 23 (dk_at dksJ15_hashCode_0 10 rfl rfl)
theorem dJ15_hashCode_13 : decode cJ15_hashCode 13 = .ok (.ifCond .ne 45, 3) := dk_154 0 45 (dk_at dksJ15_hashCode_0 13 rfl rfl)
theorem dJ15_hashCode_16 : decode cJ15_hashCode 16 = .ok (.aload_n 0, 1) := dk_42 (dk_at dksJ15_hashCode_0 16 rfl rfl)
theorem dJ15_hashCode_17 : decode cJ15_hashCode 17 = .ok (.invokevirtual 492, 3) := dk_182 1 236 (dk_at dksJ15_hashCode_0 17 rfl rfl)
theorem dJ15_hashCode_20 : decode cJ15_hashCode 20 = .ok (.ifCond .eq 13, 3) := dk_153 0 13 (dk_at dksJ15_hashCode_0 20 rfl rfl)
theorem dJ15_hashCode_23 : decode cJ15_hashCode 23 = .ok (.aload_n 0, 1) := dk_42 (dk_at dksJ15_hashCode_0 23 rfl rfl)
theorem dJ15_hashCode_24 : decode cJ15_hashCode 24 = .ok (.getfield 9, 3) := dk_180 0 9 (dk_at dksJ15_hashCode_1 0 rfl rfl)
theorem dJ15_hashCode_27 : decode cJ15_hashCode 27 = .ok (.invokestatic 628, 3) := dk_184 2 116 (dk_at dksJ15_hashCode_1 3 rfl rfl)
theorem dJ15_hashCode_30 : decode cJ15_hashCode 30 = .ok (.goto 10, 3) := dk_167 0 10 (dk_at dksJ15_hashCode_1 6 rfl rfl)
theorem dJ15_hashCode_33 : decode cJ15_hashCode 33 = .ok (.aload_n 0, 1) := dk_42 (dk_at dksJ15_hashCode_1 9 rfl rfl)
theorem dJ15_hashCode_34 : decode cJ15_hashCode 34 = .ok (.getfield 9, 3) := dk_180 0 9 (dk_at dksJ15_hashCode_1 10 rfl rfl)
theorem dJ15_hashCode_37 : decode cJ15_hashCode 37 = .ok (.invokestatic 632, 3) := dk_184 2 120 (dk_at dksJ15_hashCode_1 13 rfl rfl)
theorem dJ15_hashCode_40 : decode cJ15_hashCode 40 = .ok (.istore_n 1, 1) := dk_60 (dk_at dksJ15_hashCode_1 16 rfl rfl)
theorem dJ15_hashCode_41 : decode cJ15_hashCode 41 = .ok (.iload_n 1, 1) := dk_27 (dk_at dksJ15_hashCode_1 17 rfl rfl)
theorem dJ15_hashCode_42 : decode cJ15_hashCode 42 = .ok (.ifCond .ne 11, 3) := dk_154 0 11 (dk_at dksJ15_hashCode_1 18 rfl rfl)
theorem dJ15_hashCode_45 : decode cJ15_hashCode 45 = .ok (.aload_n 0, 1) := dk_42 (dk_at dksJ15_hashCode_1 21 rfl rfl)
theorem dJ15_hashCode_46 : decode cJ15_hashCode 46 = .ok (.iconst 1, 1) := dk_4 (dk_at dksJ15_hashCode_1 22 rfl rfl)
theorem dJ15_hashCode_47 : decode cJ15_hashCode 47 = .ok (.putfield 23, 3) := dk_181 0 23 (dk_at dksJ15_hashCode_2 0 rfl rfl)
theorem dJ15_hashCode_50 : decode cJ15_hashCode 50 = .ok (.goto 8, 3) := dk_167 0 8 (dk_at dksJ15_hashCode_2 3 rfl rfl)
theorem dJ15_hashCode_53 : decode cJ15_hashCode 53 = .ok (.aload_n 0, 1) := dk_42 (dk_at dksJ15_hashCode_2 6 rfl rfl)
theorem dJ15_hashCode_54 : decode cJ15_hashCode 54 = .ok (.iload_n 1, 1) := dk_27 (dk_at dksJ15_hashCode_2 7 rfl rfl)
theorem dJ15_hashCode_55 : decode cJ15_hashCode 55 = .ok (.putfield 19, 3) := dk_181 0 19 (dk_at dksJ15_hashCode_2 8 rfl rfl)
theorem dJ15_hashCode_58 : decode cJ15_hashCode 58 = .ok (.iload_n 1, 1) := dk_27 (dk_at dksJ15_hashCode_2 11 rfl rfl)
theorem dJ15_hashCode_59 : decode cJ15_hashCode 59 = .ok (.ireturn, 1) := dk_172 (dk_at dksJ15_hashCode_2 12 rfl rfl)
def dkwJ16_newBytesFor_0 : List UInt8 := [26, 184, 0, 11, 188, 8, 176]
abbrev dktJ16_newBytesFor_0 : List UInt8 := dkwJ16_newBytesFor_0 ++ []
theorem dksJ16_newBytesFor_0 : cJ16_newBytesFor.data.toList.drop 0 = dktJ16_newBytesFor_0 := by decide +kernel
theorem dJ16_newBytesFor_0 : decode cJ16_newBytesFor 0 = .ok (.iload_n 0, 1) := dk_26 (dk_at dksJ16_newBytesFor_0 0 rfl rfl)
theorem dJ16_newBytesFor_1 : decode cJ16_newBytesFor 1 = .ok (.invokestatic 11, 3) := dk_184 0 11 (dk_at dksJ16_newBytesFor_0 1 rfl rfl)
theorem dJ16_newBytesFor_4 : decode cJ16_newBytesFor 4 = .ok (.newarray .byte, 2) := dk_188_8 (dk_at dksJ16_newBytesFor_0 4 rfl rfl)
theorem dJ16_newBytesFor_6 : decode cJ16_newBytesFor 6 = .ok (.areturn, 1) := dk_176 (dk_at dksJ16_newBytesFor_0 6 rfl rfl)
def dkwJ16_newBytesLength_2 : List UInt8 := [182, 0, 32, 182, 0, 37, 183, 0, 41, 191, 26, 4, 120, 172]
abbrev dktJ16_newBytesLength_2 : List UInt8 := dkwJ16_newBytesLength_2 ++ []
def dkwJ16_newBytesLength_1 : List UInt8 := [187, 0, 23, 89, 183, 0, 25, 18, 26, 182, 0, 28, 26, 182, 0, 32, 18, 35, 182, 0, 28, 18, 20]
abbrev dktJ16_newBytesLength_1 : List UInt8 := dkwJ16_newBytesLength_1 ++ dktJ16_newBytesLength_2
def dkwJ16_newBytesLength_0 : List UInt8 := [26, 156, 0, 11, 187, 0, 17, 89, 183, 0, 19, 191, 26, 18, 20, 161, 0, 40, 187, 0, 21, 89]
abbrev dktJ16_newBytesLength_0 : List UInt8 := dkwJ16_newBytesLength_0 ++ dktJ16_newBytesLength_1
theorem dksJ16_newBytesLength_0 : cJ16_newBytesLength.data.toList.drop 0 = dktJ16_newBytesLength_0 := by decide +kernel
theorem dksJ16_newBytesLength_1 : cJ16_newBytesLength.data.toList.drop 22 = dktJ16_newBytesLength_1 := dk_seg dksJ16_newBytesLength_0 22 rfl rfl
theorem dksJ16_newBytesLength_2 : cJ16_newBytesLength.data.toList.drop 45 = dktJ16_newBytesLength_2 := dk_seg dksJ16_newBytesLength_1 23 rfl rfl
theorem dJ16_newBytesLength_0 : decode cJ16_newBytesLength 0 = .ok (.iload_n 0, 1) := dk_26 (dk_at dksJ16_newBytesLength_0 0 rfl rfl)
theorem dJ16_newBytesLength_1 : decode cJ16_newBytesLength 1 = .ok (.ifCond .ge 11, 3) := dk_156 0 11 (dk_at dksJ16_newBytesLength_0 1 rfl rfl)
theorem dJ16_newBytesLength_4 : decode cJ16_newBytesLength 4 = .ok (.new 17, 3) := dk_187 0 17 (dk_at dksJ16_newBytesLength_0 4 rfl rfl)
theorem dJ16_newBytesLength_7 : decode cJ16_newBytesLength 7 = .ok (.dup, 1) := dk_89 (dk_at dksJ16_newBytesLength_0 7 rfl rfl)
theorem dJ16_newBytesLength_8 : decode cJ16_newBytesLength 8 = .ok (.invokespecial 19, 3) := dk_183 0 19 (dk_at dksJ16_newBytesLength_0 8 rfl rfl)
theorem dJ16_newBytesLength_11 : decode cJ16_newBytesLength 11 = .ok (.athrow, 1) := dk_191 (dk_at dksJ16_newBytesLength_0 11 rfl rfl)
theorem dJ16_newBytesLength_12 : decode cJ16_newBytesLength 12 = .ok (.iload_n 0, 1) := dk_26 (dk_at dksJ16_newBytesLength_0 12 rfl rfl)
theorem dJ16_newBytesLength_13 : decode cJ16_newBytesLength 13 = .ok (.ldc 20, 2) := dk_18 20 (dk_at dksJ16_newBytesLength_0 13 rfl rfl)
theorem dJ16_newBytesLength_15 : decode cJ16_newBytesLength 15 = .ok (.if_icmp .lt 40, 3) := dk_161 0 40 (dk_at dksJ16_newBytesLength_0 15 rfl rfl)
theorem dJ16_newBytesLength_18 : decode cJ16_newBytesLength 18 = .ok (.new 21, 3) := dk_187 0 21 (dk_at dksJ16_newBytesLength_0 18 rfl rfl)
theorem dJ16_newBytesLength_21 : decode cJ16_newBytesLength 21 = .ok (.dup, 1) := dk_89 (dk_at dksJ16_newBytesLength_0 21 rfl rfl)
theorem dJ16_newBytesLength_22 : decode cJ16_newBytesLength 22 = .ok (.new 23, 3) := dk_187 0 23 (dk_at dksJ16_newBytesLength_1 0 rfl rfl)
theorem dJ16_newBytesLength_25 : decode cJ16_newBytesLength 25 = .ok (.dup, 1) := dk_89 (dk_at dksJ16_newBytesLength_1 3 rfl rfl)
theorem dJ16_newBytesLength_26 : decode cJ16_newBytesLength 26 = .ok (.invokespecial 25, 3) := dk_183 0 25 (dk_at dksJ16_newBytesLength_1 4 rfl rfl)
theorem dJ16_newBytesLength_29 : decode cJ16_newBytesLength 29 = .ok (.ldc 26, 2) := dk_18 26 (dk_at dksJ16_newBytesLength_1 7 rfl rfl)
theorem dJ16_newBytesLength_31 : decode cJ16_newBytesLength 31 = .ok (.invokevirtual 28, 3) := dk_182 0 28 (dk_at dksJ16_newBytesLength_1 9 rfl rfl)
theorem dJ16_newBytesLength_34 : decode cJ16_newBytesLength 34 = .ok (.iload_n 0, 1) := dk_26 (dk_at dksJ16_newBytesLength_1 12 rfl rfl)
theorem dJ16_newBytesLength_35 : decode cJ16_newBytesLength 35 = .ok (.invokevirtual 32, 3) := dk_182 0 32 (dk_at dksJ16_newBytesLength_1 13 rfl rfl)
theorem dJ16_newBytesLength_38 : decode cJ16_newBytesLength 38 = .ok (.ldc 35, 2) := dk_18 35 (dk_at dksJ16_newBytesLength_1 16 rfl rfl)
theorem dJ16_newBytesLength_40 : decode cJ16_newBytesLength 40 = .ok (.invokevirtual 28, 3) := dk_182 0 28 (dk_at dksJ16_newBytesLength_1 18 rfl rfl)
theorem dJ16_newBytesLength_43 : decode cJ16_newBytesLength 43 = .ok (.ldc 20, 2) := dk_18 20 (dk_at dksJ16_newBytesLength_1 21 rfl rfl)
theorem dJ16_newBytesLength_45 : decode cJ16_newBytesLength 45 = .ok (.invokevirtual 32, 3) := dk_182 0 32 (dk_at dksJ16_newBytesLength_2 0 rfl rfl)
theorem dJ16_newBytesLength_48 : decode cJ16_newBytesLength 48 = .ok (.invokevirtual 37, 3) := dk_182 0 37 (dk_at dksJ16_newBytesLength_2 3 rfl rfl)
theorem dJ16_newBytesLength_51 : decode cJ16_newBytesLength 51 = .ok (.invokespecial 41, 3) := dk_183 0 41 (dk_at dksJ16_newBytesLength_2 6 rfl rfl)
theorem dJ16_newBytesLength_54 : decode cJ16_newBytesLength 54 = .ok (.athrow, 1) := dk_191 (dk_at dksJ16_newBytesLength_2 9 rfl rfl)
theorem dJ16_newBytesLength_55 : decode cJ16_newBytesLength 55 = .ok (.iload_n 0, 1) := dk_26 (dk_at dksJ16_newBytesLength_2 10 rfl rfl)
theorem dJ16_newBytesLength_56 : decode cJ16_newBytesLength 56 = .ok (.iconst 1, 1) := dk_4 (dk_at dksJ16_newBytesLength_2 11 rfl rfl)
theorem dJ16_newBytesLength_57 : decode cJ16_newBytesLength 57 = .ok (.ishl, 1) := dk_120 (dk_at dksJ16_newBytesLength_2 12 rfl rfl)
theorem dJ16_newBytesLength_58 : decode cJ16_newBytesLength 58 = .ok (.ireturn, 1) := dk_172 (dk_at dksJ16_newBytesLength_2 13 rfl rfl)
def dkwJ16_putCharsAt_3 : List UInt8 := [21, 6, 172]
abbrev dktJ16_putCharsAt_3 : List UInt8 := dkwJ16_putCharsAt_3 ++ []
def dkwJ16_putCharsAt_2 : List UInt8 := [184, 0, 111, 178, 0, 44, 154, 0, 17, 27, 21, 6, 159, 0, 11, 187, 0, 52, 89, 183, 0, 66, 191]
abbrev dktJ16_putCharsAt_2 : List UInt8 := dkwJ16_putCharsAt_2 ++ dktJ16_putCharsAt_3
def dkwJ16_putCharsAt_1 : List UInt8 := [132, 1, 1, 29, 184, 0, 111, 42, 27, 132, 1, 1, 21, 4, 184, 0, 111, 42, 27, 132, 1, 1, 21, 5]
abbrev dktJ16_putCharsAt_1 : List UInt8 := dkwJ16_putCharsAt_1 ++ dktJ16_putCharsAt_2
def dkwJ16_putCharsAt_0 : List UInt8 := [27, 7, 96, 54, 6, 27, 21, 6, 42, 184, 0, 96, 42, 27, 132, 1, 1, 28, 184, 0, 111, 42, 27]
abbrev dktJ16_putCharsAt_0 : List UInt8 := dkwJ16_putCharsAt_0 ++ dktJ16_putCharsAt_1
theorem dksJ16_putCharsAt_0 : cJ16_putCharsAt.data.toList.drop 0 = dktJ16_putCharsAt_0 := by decide +kernel
theorem dksJ16_putCharsAt_1 : cJ16_putCharsAt.data.toList.drop 23 = dktJ16_putCharsAt_1 := dk_seg dksJ16_putCharsAt_0 23 rfl rfl
theorem dksJ16_putCharsAt_2 : cJ16_putCharsAt.data.toList.drop 47 = dktJ16_putCharsAt_2 := dk_seg dksJ16_putCharsAt_1 24 rfl rfl
theorem dksJ16_putCharsAt_3 : cJ16_putCharsAt.data.toList.drop 70 = dktJ16_putCharsAt_3 := dk_seg dksJ16_putCharsAt_2 23 rfl rfl
theorem dJ16_putCharsAt_0 : decode cJ16_putCharsAt 0 = .ok (.iload_n 1, 1) := dk_27 (dk_at dksJ16_putCharsAt_0 0 rfl rfl)
theorem dJ16_putCharsAt_1 : decode cJ16_putCharsAt 1 = .ok (.iconst 4, 1) := dk_7 (dk_at dksJ16_putCharsAt_0 1 rfl rfl)
theorem dJ16_putCharsAt_2 : decode cJ16_putCharsAt 2 = .ok (.iadd, 1) := dk_96 (dk_at dksJ16_putCharsAt_0 2 rfl rfl)
theorem dJ16_putCharsAt_3 : decode cJ16_putCharsAt 3 = .ok (.istore 6, 2) := dk_54 6 (dk_at dksJ16_putCharsAt_0 3 rfl rfl)
theorem dJ16_putCharsAt_5 : decode cJ16_putCharsAt 5 = .ok (.iload_n 1, 1) := dk_27 (dk_at dksJ16_putCharsAt_0 5 rfl rfl)
theorem dJ16_putCharsAt_6 : decode cJ16_putCharsAt 6 = .ok (.iload 6, 2) := dk_21 6 (dk_at dksJ16_putCharsAt_0 6 rfl rfl)
theorem dJ16_putCharsAt_8 : decode cJ16_putCharsAt 8 = .ok (.aload_n 0, 1) := dk_42 (dk_at dksJ16_putCharsAt_0 8 rfl rfl)
theorem dJ16_putCharsAt_9 : decode cJ16_putCharsAt 9 = .ok (.invokestatic 96, 3) := dk_184 0 96 (dk_at dksJ16_putCharsAt_0 9 rfl rfl)
theorem dJ16_putCharsAt_12 : decode cJ16_putCharsAt 12 = .ok (.aload_n 0, 1) := dk_42 (dk_at dksJ16_putCharsAt_0 12 rfl rfl)
theorem dJ16_putCharsAt_13 : decode cJ16_putCharsAt 13 = .ok (.iload_n 1, 1) := dk_27 (dk_at dksJ16_putCharsAt_0 13 rfl rfl)
theorem dJ16_putCharsAt_14 : decode cJ16_putCharsAt 14 = .ok (.iinc 1 1, 3) := dk_132 1 1 (dk_at dksJ16_putCharsAt_0 14 rfl rfl)
theorem dJ16_putCharsAt_17 : decode cJ16_putCharsAt 17 = .ok (.iload_n 2, 1) := dk_28 (dk_at dksJ16_putCharsAt_0 17 rfl rfl)
theorem dJ16_putCharsAt_18 : decode cJ16_putCharsAt 18 = .ok (.invokestatic 111, 3) := dk_184 0 111 (dk_at dksJ16_putCharsAt_0 18 rfl rfl)
theorem dJ16_putCharsAt_21 : decode cJ16_putCharsAt 21 = .ok (.aload_n 0, 1) := dk_42 (dk_at dksJ16_putCharsAt_0 21 rfl rfl)
theorem dJ16_putCharsAt_22 : decode cJ16_putCharsAt 22 = .ok (.iload_n 1, 1) := dk_27 (dk_at dksJ16_putCharsAt_0 22 rfl rfl)
theorem dJ16_putCharsAt_23 : decode cJ16_putCharsAt 23 = .ok (.iinc 1 1, 3) := dk_132 1 1 (dk_at dksJ16_putCharsAt_1 0 rfl rfl)
theorem dJ16_putCharsAt_26 : decode cJ16_putCharsAt 26 = .ok (.iload_n 3, 1) := dk_29 (dk_at dksJ16_putCharsAt_1 3 rfl rfl)
theorem dJ16_putCharsAt_27 : decode cJ16_putCharsAt 27 = .ok (.invokestatic 111, 3) := dk_184 0 111 (dk_at dksJ16_putCharsAt_1 4 rfl rfl)
theorem dJ16_putCharsAt_30 : decode cJ16_putCharsAt 30 = .ok (.aload_n 0, 1) := dk_42 (dk_at dksJ16_putCharsAt_1 7 rfl rfl)
theorem dJ16_putCharsAt_31 : decode cJ16_putCharsAt 31 = .ok (.iload_n 1, 1) := dk_27 (dk_at dksJ16_putCharsAt_1 8 rfl rfl)
theorem dJ16_putCharsAt_32 : decode cJ16_putCharsAt 32 = .ok (.iinc 1 1, 3) := dk_132 1 1 (dk_at dksJ16_putCharsAt_1 9 rfl rfl)
theorem dJ16_putCharsAt_35 : decode cJ16_putCharsAt 35 = .ok (.iload 4, 2) := dk_21 4 (dk_at dksJ16_putCharsAt_1 12 rfl rfl)
theorem dJ16_putCharsAt_37 : decode cJ16_putCharsAt 37 = .ok (.invokestatic 111, 3) := dk_184 0 111 (dk_at dksJ16_putCharsAt_1 14 rfl rfl)
theorem dJ16_putCharsAt_40 : decode cJ16_putCharsAt 40 = .ok (.aload_n 0, 1) := dk_42 (dk_at dksJ16_putCharsAt_1 17 rfl rfl)
theorem dJ16_putCharsAt_41 : decode cJ16_putCharsAt 41 = .ok (.iload_n 1, 1) := dk_27 (dk_at dksJ16_putCharsAt_1 18 rfl rfl)
theorem dJ16_putCharsAt_42 : decode cJ16_putCharsAt 42 = .ok (.iinc 1 1, 3) := dk_132 1 1 (dk_at dksJ16_putCharsAt_1 19 rfl rfl)
theorem dJ16_putCharsAt_45 : decode cJ16_putCharsAt 45 = .ok (.iload 5, 2) := dk_21 5 (dk_at dksJ16_putCharsAt_1 22 rfl rfl)
theorem dJ16_putCharsAt_47 : decode cJ16_putCharsAt 47 = .ok (.invokestatic 111, 3) := dk_184 0 111 (dk_at dksJ16_putCharsAt_2 0 rfl rfl)
theorem dJ16_putCharsAt_50 : decode cJ16_putCharsAt 50 = .ok (.getstatic 44, 3) := dk_178 0 44 (dk_at dksJ16_putCharsAt_2 3 rfl rfl)
theorem dJ16_putCharsAt_53 : decode cJ16_putCharsAt 53 = .ok (.ifCond .ne 17, 3) := dk_154 0 17 (dk_at dksJ16_putCharsAt_2 6 rfl rfl)
theorem dJ16_putCharsAt_56 : decode cJ16_putCharsAt 56 = .ok (.iload_n 1, 1) := dk_27 (dk_at dksJ16_putCharsAt_2 9 rfl rfl)
theorem dJ16_putCharsAt_57 : decode cJ16_putCharsAt 57 = .ok (.iload 6, 2) := dk_21 6 (dk_at dksJ16_putCharsAt_2 10 rfl rfl)
theorem dJ16_putCharsAt_59 : decode cJ16_putCharsAt 59 = .ok (.if_icmp .eq 11, 3) := dk_159 0 11 (dk_at dksJ16_putCharsAt_2 12 rfl rfl)
theorem dJ16_putCharsAt_62 : decode cJ16_putCharsAt 62 = .ok (.new 52, 3) := dk_187 0 52 (dk_at dksJ16_putCharsAt_2 15 rfl rfl)
theorem dJ16_putCharsAt_65 : decode cJ16_putCharsAt 65 = .ok (.dup, 1) := dk_89 (dk_at dksJ16_putCharsAt_2 18 rfl rfl)
theorem dJ16_putCharsAt_66 : decode cJ16_putCharsAt 66 = .ok (.invokespecial 66, 3) := dk_183 0 66 (dk_at dksJ16_putCharsAt_2 19 rfl rfl)
theorem dJ16_putCharsAt_69 : decode cJ16_putCharsAt 69 = .ok (.athrow, 1) := dk_191 (dk_at dksJ16_putCharsAt_2 22 rfl rfl)
theorem dJ16_putCharsAt_70 : decode cJ16_putCharsAt 70 = .ok (.iload 6, 2) := dk_21 6 (dk_at dksJ16_putCharsAt_3 0 rfl rfl)
theorem dJ16_putCharsAt_72 : decode cJ16_putCharsAt 72 = .ok (.ireturn, 1) := dk_172 (dk_at dksJ16_putCharsAt_3 2 rfl rfl)
def dkwJ16_checkBoundsBeginEnd_0 : List UInt8 := [26, 27, 44, 184, 0, 48, 184, 0, 241, 177]
abbrev dktJ16_checkBoundsBeginEnd_0 : List UInt8 := dkwJ16_checkBoundsBeginEnd_0 ++ []
theorem dksJ16_checkBoundsBeginEnd_0 : cJ16_checkBoundsBeginEnd.data.toList.drop 0 = dktJ16_checkBoundsBeginEnd_0 := by decide +kernel
theorem dJ16_checkBoundsBeginEnd_0 : decode cJ16_checkBoundsBeginEnd 0 = .ok (.iload_n 0, 1) := dk_26 (dk_at dksJ16_checkBoundsBeginEnd_0 0 rfl rfl)
theorem dJ16_checkBoundsBeginEnd_1 : decode cJ16_checkBoundsBeginEnd 1 = .ok (.iload_n 1, 1) := dk_27 (dk_at dksJ16_checkBoundsBeginEnd_0 1 rfl rfl)
theorem dJ16_checkBoundsBeginEnd_2 : decode cJ16_checkBoundsBeginEnd 2 = .ok (.aload_n 2, 1) := dk_44 (dk_at dksJ16_checkBoundsBeginEnd_0 2 rfl rfl)
theorem dJ16_checkBoundsBeginEnd_3 : decode cJ16_checkBoundsBeginEnd 3 = .ok (.invokestatic 48, 3) := dk_184 0 48 (dk_at dksJ16_checkBoundsBeginEnd_0 3 rfl rfl)
theorem dJ16_checkBoundsBeginEnd_6 : decode cJ16_checkBoundsBeginEnd 6 = .ok (.invokestatic 241, 3) := dk_184 0 241 (dk_at dksJ16_checkBoundsBeginEnd_0 6 rfl rfl)
theorem dJ16_checkBoundsBeginEnd_9 : decode cJ16_checkBoundsBeginEnd 9 = .ok (.return_, 1) := dk_177 (dk_at dksJ16_checkBoundsBeginEnd_0 9 rfl rfl)
def dkwJ16_length_0 : List UInt8 := [42, 190, 4, 122, 172]
abbrev dktJ16_length_0 : List UInt8 := dkwJ16_length_0 ++ []
theorem dksJ16_length_0 : cJ16_length.data.toList.drop 0 = dktJ16_length_0 := by decide +kernel
theorem dJ16_length_0 : decode cJ16_length 0 = .ok (.aload_n 0, 1) := dk_42 (dk_at dksJ16_length_0 0 rfl rfl)
theorem dJ16_length_1 : decode cJ16_length 1 = .ok (.arraylength, 1) := dk_190 (dk_at dksJ16_length_0 1 rfl rfl)
theorem dJ16_length_2 : decode cJ16_length 2 = .ok (.iconst 1, 1) := dk_4 (dk_at dksJ16_length_0 2 rfl rfl)
theorem dJ16_length_3 : decode cJ16_length 3 = .ok (.ishr, 1) := dk_122 (dk_at dksJ16_length_0 3 rfl rfl)
theorem dJ16_length_4 : decode cJ16_length 4 = .ok (.ireturn, 1) := dk_172 (dk_at dksJ16_length_0 4 rfl rfl)
def dkwJ16_putChar_2 : List UInt8 := [178, 0, 63, 122, 145, 84, 177]
abbrev dktJ16_putChar_2 : List UInt8 := dkwJ16_putChar_2 ++ []
def dkwJ16_putChar_1 : List UInt8 := [183, 0, 56, 191, 27, 4, 120, 60, 42, 27, 132, 1, 1, 28, 178, 0, 59, 122, 145, 84, 42, 27, 28]
abbrev dktJ16_putChar_1 : List UInt8 := dkwJ16_putChar_1 ++ dktJ16_putChar_2
def dkwJ16_putChar_0 : List UInt8 := [178, 0, 44, 154, 0, 25, 27, 155, 0, 11, 27, 42, 184, 0, 48, 161, 0, 13, 187, 0, 52, 89, 18, 54]
abbrev dktJ16_putChar_0 : List UInt8 := dkwJ16_putChar_0 ++ dktJ16_putChar_1
theorem dksJ16_putChar_0 : cJ16_putChar.data.toList.drop 0 = dktJ16_putChar_0 := by decide +kernel
theorem dksJ16_putChar_1 : cJ16_putChar.data.toList.drop 24 = dktJ16_putChar_1 := dk_seg dksJ16_putChar_0 24 rfl rfl
theorem dksJ16_putChar_2 : cJ16_putChar.data.toList.drop 47 = dktJ16_putChar_2 := dk_seg dksJ16_putChar_1 23 rfl rfl
theorem dJ16_putChar_0 : decode cJ16_putChar 0 = .ok (.getstatic 44, 3) := dk_178 0 44 (dk_at dksJ16_putChar_0 0 rfl rfl)
theorem dJ16_putChar_3 : decode cJ16_putChar 3 = .ok (.ifCond .ne 25, 3) := dk_154 0 25 (dk_at dksJ16_putChar_0 3 rfl rfl)
theorem dJ16_putChar_6 : decode cJ16_putChar 6 = .ok (.iload_n 1, 1) := dk_27 (dk_at dksJ16_putChar_0 6 rfl rfl)
theorem dJ16_putChar_7 : decode cJ16_putChar 7 = .ok (.ifCond .lt 11, 3) := dk_155 0 11 (dk_at dksJ16_putChar_0 7 rfl rfl)
theorem dJ16_putChar_10 : decode cJ16_putChar 10 = .ok (.iload_n 1, 1) := dk_27 (dk_at dksJ16_putChar_0 10 rfl rfl)
theorem dJ16_putChar_11 : decode cJ16_putChar 11 = .ok (.aload_n 0, 1) := dk_42 (dk_at dksJ16_putChar_0 11 rfl rfl)
theorem dJ16_putChar_12 : decode cJ16_putChar 12 = .ok (.invokestatic 48, 3) := dk_184 0 48 (dk_at dksJ16_putChar_0 12 rfl rfl)
theorem dJ16_putChar_15 : decode cJ16_putChar 15 = .ok (.if_icmp .lt 13, 3) := dk_161 0 13 (dk_at dksJ16_putChar_0 15 rfl rfl)
theorem dJ16_putChar_18 : decode cJ16_putChar 18 = .ok (.new 52, 3) := dk_187 0 52 (dk_at dksJ16_putChar_0 18 rfl rfl)
theorem dJ16_putChar_21 : decode cJ16_putChar 21 = .ok (.dup, 1) := dk_89 (dk_at dksJ16_putChar_0 21 rfl rfl)
theorem dJ16_putChar_22 : decode cJ16_putChar 22 = .ok (.ldc 54, 2) := dk_18 54 (dk_at dksJ16_putChar_0 22 rfl rfl)
theorem dJ16_putChar_24 : decode cJ16_putChar 24 = .ok (.invokespecial 56, 3) := dk_183 0 56 (dk_at dksJ16_putChar_1 0 rfl rfl)
theorem dJ16_putChar_27 : decode cJ16_putChar 27 = .ok (.athrow, 1) := dk_191 (dk_at dksJ16_putChar_1 3 rfl rfl)
theorem dJ16_putChar_28 : decode cJ16_putChar 28 = .ok (.iload_n 1, 1) := dk_27 (dk_at dksJ16_putChar_1 4 rfl rfl)
theorem dJ16_putChar_29 : decode cJ16_putChar 29 = .ok (.iconst 1, 1) := dk_4 (dk_at dksJ16_putChar_1 5 rfl rfl)
theorem dJ16_putChar_30 : decode cJ16_putChar 30 = .ok (.ishl, 1) := dk_120 (dk_at dksJ16_putChar_1 6 rfl rfl)
theorem dJ16_putChar_31 : decode cJ16_putChar 31 = .ok (.istore_n 1, 1) := dk_60 (dk_at dksJ16_putChar_1 7 rfl rfl)
theorem dJ16_putChar_32 : decode cJ16_putChar 32 = .ok (.aload_n 0, 1) := dk_42 (dk_at dksJ16_putChar_1 8 rfl rfl)
theorem dJ16_putChar_33 : decode cJ16_putChar 33 = .ok (.iload_n 1, 1) := dk_27 (dk_at dksJ16_putChar_1 9 rfl rfl)
theorem dJ16_putChar_34 : decode cJ16_putChar 34 = .ok (.iinc 1 1, 3) := dk_132 1 1 (dk_at dksJ16_putChar_1 10 rfl rfl)
theorem dJ16_putChar_37 : decode cJ16_putChar 37 = .ok (.iload_n 2, 1) := dk_28 (dk_at dksJ16_putChar_1 13 rfl rfl)
theorem dJ16_putChar_38 : decode cJ16_putChar 38 = .ok (.getstatic 59, 3) := dk_178 0 59 (dk_at dksJ16_putChar_1 14 rfl rfl)
theorem dJ16_putChar_41 : decode cJ16_putChar 41 = .ok (.ishr, 1) := dk_122 (dk_at dksJ16_putChar_1 17 rfl rfl)
theorem dJ16_putChar_42 : decode cJ16_putChar 42 = .ok (.i2b, 1) := dk_145 (dk_at dksJ16_putChar_1 18 rfl rfl)
theorem dJ16_putChar_43 : decode cJ16_putChar 43 = .ok (.bastore, 1) := dk_84 (dk_at dksJ16_putChar_1 19 rfl rfl)
theorem dJ16_putChar_44 : decode cJ16_putChar 44 = .ok (.aload_n 0, 1) := dk_42 (dk_at dksJ16_putChar_1 20 rfl rfl)
theorem dJ16_putChar_45 : decode cJ16_putChar 45 = .ok (.iload_n 1, 1) := dk_27 (dk_at dksJ16_putChar_1 21 rfl rfl)
theorem dJ16_putChar_46 : decode cJ16_putChar 46 = .ok (.iload_n 2, 1) := dk_28 (dk_at dksJ16_putChar_1 22 rfl rfl)
theorem dJ16_putChar_47 : decode cJ16_putChar 47 = .ok (.getstatic 63, 3) := dk_178 0 63 (dk_at dksJ16_putChar_2 0 rfl rfl)
theorem dJ16_putChar_50 : decode cJ16_putChar 50 = .ok (.ishr, 1) := dk_122 (dk_at dksJ16_putChar_2 3 rfl rfl)
theorem dJ16_putChar_51 : decode cJ16_putChar 51 = .ok (.i2b, 1) := dk_145 (dk_at dksJ16_putChar_2 4 rfl rfl)
theorem dJ16_putChar_52 : decode cJ16_putChar 52 = .ok (.bastore, 1) := dk_84 (dk_at dksJ16_putChar_2 5 rfl rfl)
theorem dJ16_putChar_53 : decode cJ16_putChar 53 = .ok (.return_, 1) := dk_177 (dk_at dksJ16_putChar_2 6 rfl rfl)
def dkwJ16_inflate_1 : List UInt8 := [132, 1, 1, 51, 17, 0, 255, 126, 184, 0, 111, 132, 5, 1, 167, 255, 228, 177]
abbrev dktJ16_inflate_1 : List UInt8 := dkwJ16_inflate_1 ++ []
def dkwJ16_inflate_0 : List UInt8 := [29, 21, 4, 44, 184, 0, 173, 3, 54, 5, 21, 5, 21, 4, 162, 0, 27, 44, 29, 132, 3, 1, 42, 27]
abbrev dktJ16_inflate_0 : List UInt8 := dkwJ16_inflate_0 ++ dktJ16_inflate_1
theorem dksJ16_inflate_0 : cJ16_inflate.data.toList.drop 0 = dktJ16_inflate_0 := by decide +kernel
theorem dksJ16_inflate_1 : cJ16_inflate.data.toList.drop 24 = dktJ16_inflate_1 := dk_seg dksJ16_inflate_0 24 rfl rfl
theorem dJ16_inflate_0 : decode cJ16_inflate 0 = .ok (.iload_n 3, 1) := dk_29 (dk_at dksJ16_inflate_0 0 rfl rfl)
theorem dJ16_inflate_1 : decode cJ16_inflate 1 = .ok (.iload 4, 2) := dk_21 4 (dk_at dksJ16_inflate_0 1 rfl rfl)
theorem dJ16_inflate_3 : decode cJ16_inflate 3 = .ok (.aload_n 2, 1) := dk_44 (dk_at dksJ16_inflate_0 3 rfl rfl)
theorem dJ16_inflate_4 : decode cJ16_inflate 4 = .ok (.invokestatic 173, 3) := dk_184 0 173 (dk_at dksJ16_inflate_0 4 rfl rfl)
theorem dJ16_inflate_7 : decode cJ16_inflate 7 = .ok (.iconst 0, 1) := dk_3 (dk_at dksJ16_inflate_0 7 rfl rfl)
theorem dJ16_inflate_8 : decode cJ16_inflate 8 = .ok (.istore 5, 2) := dk_54 5 (dk_at dksJ16_inflate_0 8 rfl rfl)
theorem dJ16_inflate_10 : decode cJ16_inflate 10 = .ok (.iload 5, 2) := dk_21 5 (dk_at dksJ16_inflate_0 10 rfl rfl)
theorem dJ16_inflate_12 : decode cJ16_inflate 12 = .ok (.iload 4, 2) := dk_21 4 (dk_at dksJ16_inflate_0 12 rfl rfl)
theorem dJ16_inflate_14 : decode cJ16_inflate 14 = .ok (.if_icmp .ge 27, 3) := dk_162 0 27 (dk_at dksJ16_inflate_0 14 rfl rfl)
theorem dJ16_inflate_17 : decode cJ16_inflate 17 = .ok (.aload_n 2, 1) := dk_44 (dk_at dksJ16_inflate_0 17 rfl rfl)
theorem dJ16_inflate_18 : decode cJ16_inflate 18 = .ok (.iload_n 3, 1) := dk_29 (dk_at dksJ16_inflate_0 18 rfl rfl)
theorem dJ16_inflate_19 : decode cJ16_inflate 19 = .ok (.iinc 3 1, 3) := dk_132 3 1 (dk_at dksJ16_inflate_0 19 rfl rfl)
theorem dJ16_inflate_22 : decode cJ16_inflate 22 = .ok (.aload_n 0, 1) := dk_42 (dk_at dksJ16_inflate_0 22 rfl rfl)
theorem dJ16_inflate_23 : decode cJ16_inflate 23 = .ok (.iload_n 1, 1) := dk_27 (dk_at dksJ16_inflate_0 23 rfl rfl)
theorem dJ16_inflate_24 : decode cJ16_inflate 24 = .ok (.iinc 1 1, 3) := dk_132 1 1 (dk_at dksJ16_inflate_1 0 rfl rfl)
theorem dJ16_inflate_27 : decode cJ16_inflate 27 = .ok (.baload, 1) := dk_51 (dk_at dksJ16_inflate_1 3 rfl rfl)
theorem dJ16_inflate_28 : decode cJ16_inflate 28 = .ok (.sipush 255, 3) := dk_17 0 255 (dk_at dksJ16_inflate_1 4 rfl rfl)
theorem dJ16_inflate_31 : decode cJ16_inflate 31 = .ok (.iand, 1) := dk_126 (dk_at dksJ16_inflate_1 7 rfl rfl)
theorem dJ16_inflate_32 : decode cJ16_inflate 32 = .ok (.invokestatic 111, 3) := dk_184 0 111 (dk_at dksJ16_inflate_1 8 rfl rfl)
theorem dJ16_inflate_35 : decode cJ16_inflate 35 = .ok (.iinc 5 1, 3) := dk_132 5 1 (dk_at dksJ16_inflate_1 11 rfl rfl)
theorem dJ16_inflate_38 : decode cJ16_inflate 38 = .ok (.goto (-28), 3) := dk_167 255 228 (dk_at dksJ16_inflate_1 14 rfl rfl)
theorem dJ16_inflate_41 : decode cJ16_inflate 41 = .ok (.return_, 1) := dk_177 (dk_at dksJ16_inflate_1 17 rfl rfl)
def dkwJ16_checkBoundsOffCount_0 : List UInt8 := [26, 27, 44, 184, 0, 48, 184, 1, 163, 87, 177]
abbrev dktJ16_checkBoundsOffCount_0 : List UInt8 := dkwJ16_checkBoundsOffCount_0 ++ []
theorem dksJ16_checkBoundsOffCount_0 : cJ16_checkBoundsOffCount.data.toList.drop 0 = dktJ16_checkBoundsOffCount_0 := by decide +kernel
theorem dJ16_checkBoundsOffCount_0 : decode cJ16_checkBoundsOffCount 0 = .ok (.iload_n 0, 1) := dk_26 (dk_at dksJ16_checkBoundsOffCount_0 0 rfl rfl)
theorem dJ16_checkBoundsOffCount_1 : decode cJ16_checkBoundsOffCount 1 = .ok (.iload_n 1, 1) := dk_27 (dk_at dksJ16_checkBoundsOffCount_0 1 rfl rfl)
theorem dJ16_checkBoundsOffCount_2 : decode cJ16_checkBoundsOffCount 2 = .ok (.aload_n 2, 1) := dk_44 (dk_at dksJ16_checkBoundsOffCount_0 2 rfl rfl)
theorem dJ16_checkBoundsOffCount_3 : decode cJ16_checkBoundsOffCount 3 = .ok (.invokestatic 48, 3) := dk_184 0 48 (dk_at dksJ16_checkBoundsOffCount_0 3 rfl rfl)
theorem dJ16_checkBoundsOffCount_6 : decode cJ16_checkBoundsOffCount 6 = .ok (.invokestatic 419, 3) := dk_184 1 163 (dk_at dksJ16_checkBoundsOffCount_0 6 rfl rfl)
theorem dJ16_checkBoundsOffCount_9 : decode cJ16_checkBoundsOffCount 9 = .ok (.pop, 1) := dk_87 (dk_at dksJ16_checkBoundsOffCount_0 9 rfl rfl)
theorem dJ16_checkBoundsOffCount_10 : decode cJ16_checkBoundsOffCount 10 = .ok (.return_, 1) := dk_177 (dk_at dksJ16_checkBoundsOffCount_0 10 rfl rfl)
def dkwJ16_getChars_1 : List UInt8 := [159, 0, 11, 187, 0, 52, 89, 183, 0, 66, 191, 21, 4, 172]
abbrev dktJ16_getChars_1 : List UInt8 := dkwJ16_getChars_1 ++ []
def dkwJ16_getChars_0 : List UInt8 := [27, 28, 45, 184, 0, 96, 26, 28, 45, 184, 1, 137, 54, 4, 178, 0, 44, 154, 0, 17, 27, 21, 4]
abbrev dktJ16_getChars_0 : List UInt8 := dkwJ16_getChars_0 ++ dktJ16_getChars_1
theorem dksJ16_getChars_0 : cJ16_getChars.data.toList.drop 0 = dktJ16_getChars_0 := by decide +kernel
theorem dksJ16_getChars_1 : cJ16_getChars.data.toList.drop 23 = dktJ16_getChars_1 := dk_seg dksJ16_getChars_0 23 rfl rfl
theorem dJ16_getChars_0 : decode cJ16_getChars 0 = .ok (.iload_n 1, 1) := dk_27 (dk_at dksJ16_getChars_0 0 rfl rfl)
theorem dJ16_getChars_1 : decode cJ16_getChars 1 = .ok (.iload_n 2, 1) := dk_28 (dk_at dksJ16_getChars_0 1 rfl rfl)
theorem dJ16_getChars_2 : decode cJ16_getChars 2 = .ok (.aload_n 3, 1) := dk_45 (dk_at dksJ16_getChars_0 2 rfl rfl)
theorem dJ16_getChars_3 : decode cJ16_getChars 3 = .ok (.invokestatic 96, 3) := dk_184 0 96 (dk_at dksJ16_getChars_0 3 rfl rfl)
theorem dJ16_getChars_6 : decode cJ16_getChars 6 = .ok (.iload_n 0, 1) := dk_26 (dk_at dksJ16_getChars_0 6 rfl rfl)
theorem dJ16_getChars_7 : decode cJ16_getChars 7 = .ok (.iload_n 2, 1) := dk_28 (dk_at dksJ16_getChars_0 7 rfl rfl)
theorem dJ16_getChars_8 : decode cJ16_getChars 8 = .ok (.aload_n 3, 1) := dk_45 (dk_at dksJ16_getChars_0 8 rfl rfl)
theorem dJ16_getChars_9 : decode cJ16_getChars 9 = .ok (.invokestatic 393, 3) := dk_184 1 137 (dk_at dksJ16_getChars_0 9 rfl rfl)
theorem dJ16_getChars_12 : decode cJ16_getChars 12 = .ok (.istore 4, 2) := dk_54 4 (dk_at dksJ16_getChars_0 12 rfl rfl)
theorem dJ16_getChars_14 : decode cJ16_getChars 14 = .ok (.getstatic 44, 3) := dk_178 0 44 (dk_at dksJ16_getChars_0 14 rfl rfl)
theorem dJ16_getChars_17 : decode cJ16_getChars 17 = .ok (.ifCond .ne 17, 3) := dk_154 0 17 (dk_at dksJ16_getChars_0 17 rfl rfl)
theorem dJ16_getChars_20 : decode cJ16_getChars 20 = .ok (.iload_n 1, 1) := dk_27 (dk_at dksJ16_getChars_0 20 rfl rfl)
theorem dJ16_getChars_21 : decode cJ16_getChars 21 = .ok (.iload 4, 2) := dk_21 4 (dk_at dksJ16_getChars_0 21 rfl rfl)
theorem dJ16_getChars_23 : decode cJ16_getChars 23 = .ok (.if_icmp .eq 11, 3) := dk_159 0 11 (dk_at dksJ16_getChars_1 0 rfl rfl)
theorem dJ16_getChars_26 : decode cJ16_getChars 26 = .ok (.new 52, 3) := dk_187 0 52 (dk_at dksJ16_getChars_1 3 rfl rfl)
theorem dJ16_getChars_29 : decode cJ16_getChars 29 = .ok (.dup, 1) := dk_89 (dk_at dksJ16_getChars_1 6 rfl rfl)
theorem dJ16_getChars_30 : decode cJ16_getChars 30 = .ok (.invokespecial 66, 3) := dk_183 0 66 (dk_at dksJ16_getChars_1 7 rfl rfl)
theorem dJ16_getChars_33 : decode cJ16_getChars 33 = .ok (.athrow, 1) := dk_191 (dk_at dksJ16_getChars_1 10 rfl rfl)
theorem dJ16_getChars_34 : decode cJ16_getChars 34 = .ok (.iload 4, 2) := dk_21 4 (dk_at dksJ16_getChars_1 11 rfl rfl)
theorem dJ16_getChars_36 : decode cJ16_getChars 36 = .ok (.ireturn, 1) := dk_172 (dk_at dksJ16_getChars_1 13 rfl rfl)
def dkwJ16_getChars_2_5 : List UInt8 := [132, 5, 255, 21, 5, 16, 45, 184, 0, 111, 21, 5, 172]
abbrev dktJ16_getChars_2_5 : List UInt8 := dkwJ16_getChars_2_5 ++ []
def dkwJ16_getChars_2_4 : List UInt8 := [162, 0, 18, 44, 132, 5, 255, 21, 5, 178, 1, 151, 26, 116, 51, 184, 0, 111, 21, 6, 153, 0, 14, 44]
abbrev dktJ16_getChars_2_4 : List UInt8 := dkwJ16_getChars_2_4 ++ dktJ16_getChars_2_5
def dkwJ16_getChars_2_3 : List UInt8 := [184, 0, 111, 167, 255, 205, 44, 132, 5, 255, 21, 5, 178, 1, 147, 26, 116, 51, 184, 0, 111, 26, 16, 247]
abbrev dktJ16_getChars_2_3 : List UInt8 := dkwJ16_getChars_2_3 ++ dktJ16_getChars_2_4
def dkwJ16_getChars_2_2 : List UInt8 := [21, 5, 178, 1, 147, 21, 4, 51, 184, 0, 111, 44, 132, 5, 255, 21, 5, 178, 1, 151, 21, 4, 51]
abbrev dktJ16_getChars_2_2 : List UInt8 := dkwJ16_getChars_2_2 ++ dktJ16_getChars_2_3
def dkwJ16_getChars_2_1 : List UInt8 := [16, 156, 163, 0, 51, 26, 16, 100, 108, 62, 29, 16, 100, 104, 26, 100, 54, 4, 29, 59, 44, 132, 5, 255]
abbrev dktJ16_getChars_2_1 : List UInt8 := dkwJ16_getChars_2_1 ++ dktJ16_getChars_2_2
def dkwJ16_getChars_2_0 : List UInt8 := [27, 54, 5, 26, 156, 0, 7, 4, 167, 0, 4, 3, 54, 6, 21, 6, 154, 0, 6, 26, 116, 59, 26]
abbrev dktJ16_getChars_2_0 : List UInt8 := dkwJ16_getChars_2_0 ++ dktJ16_getChars_2_1
theorem dksJ16_getChars_2_0 : cJ16_getChars_2.data.toList.drop 0 = dktJ16_getChars_2_0 := by decide +kernel
theorem dksJ16_getChars_2_1 : cJ16_getChars_2.data.toList.drop 23 = dktJ16_getChars_2_1 := dk_seg dksJ16_getChars_2_0 23 rfl rfl
theorem dksJ16_getChars_2_2 : cJ16_getChars_2.data.toList.drop 47 = dktJ16_getChars_2_2 := dk_seg dksJ16_getChars_2_1 24 rfl rfl
theorem dksJ16_getChars_2_3 : cJ16_getChars_2.data.toList.drop 70 = dktJ16_getChars_2_3 := dk_seg dksJ16_getChars_2_2 23 rfl rfl
theorem dksJ16_getChars_2_4 : cJ16_getChars_2.data.toList.drop 94 = dktJ16_getChars_2_4 := dk_seg dksJ16_getChars_2_3 24 rfl rfl
theorem dksJ16_getChars_2_5 : cJ16_getChars_2.data.toList.drop 118 = dktJ16_getChars_2_5 := dk_seg dksJ16_getChars_2_4 24 rfl rfl
theorem dJ16_getChars_2_0 : decode cJ16_getChars_2 0 = .ok (.iload_n 1, 1) := dk_27 (dk_at dksJ16_getChars_2_0 0 rfl rfl)
theorem dJ16_getChars_2_1 : decode cJ16_getChars_2 1 = .ok (.istore 5, 2) := dk_54 5 (dk_at dksJ16_getChars_2_0 1 rfl rfl)
theorem dJ16_getChars_2_3 : decode cJ16_getChars_2 3 = .ok (.iload_n 0, 1) := dk_26 (dk_at dksJ16_getChars_2_0 3 rfl rfl)
theorem dJ16_getChars_2_4 : decode cJ16_getChars_2 4 = .ok (.ifCond .ge 7, 3) := dk_156 0 7 (dk_at dksJ16_getChars_2_0 4 rfl rfl)
theorem dJ16_getChars_2_7 : decode cJ16_getChars_2 7 = .ok (.iconst 1, 1) := dk_4 (dk_at dksJ16_getChars_2_0 7 rfl rfl)
theorem dJ16_getChars_2_8 : decode cJ16_getChars_2 8 = .ok (.goto 4, 3) := dk_167 0 4 (dk_at dksJ16_getChars_2_0 8 rfl rfl)
theorem dJ16_getChars_2_11 : decode cJ16_getChars_2 11 = .ok (.iconst 0, 1) := dk_3 (dk_at dksJ16_getChars_2_0 11 rfl rfl)
theorem dJ16_getChars_2_12 : decode cJ16_getChars_2 12 = .ok (.istore 6, 2) := dk_54 6 (dk_at dksJ16_getChars_2_0 12 rfl rfl)
theorem dJ16_getChars_2_14 : decode cJ16_getChars_2 14 = .ok (.iload 6, 2) := dk_21 6 (dk_at dksJ16_getChars_2_0 14 rfl rfl)
theorem dJ16_getChars_2_16 : decode cJ16_getChars_2 16 = .ok (.ifCond .ne 6, 3) := dk_154 0 6 (dk_at dksJ16_getChars_2_0 16 rfl rfl)
theorem dJ16_getChars_2_19 : decode cJ16_getChars_2 19 = .ok (.iload_n 0, 1) := dk_26 (dk_at dksJ16_getChars_2_0 19 rfl rfl)
theorem dJ16_getChars_2_20 : decode cJ16_getChars_2 20 = .ok (.ineg, 1) := dk_116 (dk_at dksJ16_getChars_2_0 20 rfl rfl)
theorem dJ16_getChars_2_21 : decode cJ16_getChars_2 21 = .ok (.istore_n 0, 1) := dk_59 (dk_at dksJ16_getChars_2_0 21 rfl rfl)
theorem dJ16_getChars_2_22 : decode cJ16_getChars_2 22 = .ok (.iload_n 0, 1) := dk_26 (dk_at dksJ16_getChars_2_0 22 rfl rfl)
theorem dJ16_getChars_2_23 : decode cJ16_getChars_2 23 = .ok (.bipush (-100), 2) := dk_16 156 (dk_at dksJ16_getChars_2_1 0 rfl rfl)
theorem dJ16_getChars_2_25 : decode cJ16_getChars_2 25 = .ok (.if_icmp .gt 51, 3) := dk_163 0 51 (dk_at dksJ16_getChars_2_1 2 rfl rfl)
theorem dJ16_getChars_2_28 : decode cJ16_getChars_2 28 = .ok (.iload_n 0, 1) := dk_26 (dk_at dksJ16_getChars_2_1 5 rfl rfl)
theorem dJ16_getChars_2_29 : decode cJ16_getChars_2 29 = .ok (.bipush 100, 2) := dk_16 100 (dk_at dksJ16_getChars_2_1 6 rfl rfl)
theorem dJ16_getChars_2_31 : decode cJ16_getChars_2 31 = .ok (.idiv, 1) := dk_108 (dk_at dksJ16_getChars_2_1 8 rfl rfl)
theorem dJ16_getChars_2_32 : decode cJ16_getChars_2 32 = .ok (.istore_n 3, 1) := dk_62 (dk_at dksJ16_getChars_2_1 9 rfl rfl)
theorem dJ16_getChars_2_33 : decode cJ16_getChars_2 33 = .ok (.iload_n 3, 1) := dk_29 (dk_at dksJ16_getChars_2_1 10 rfl rfl)
theorem dJ16_getChars_2_34 : decode cJ16_getChars_2 34 = .ok (.bipush 100, 2) := dk_16 100 (dk_at dksJ16_getChars_2_1 11 rfl rfl)
theorem dJ16_getChars_2_36 : decode cJ16_getChars_2 36 = .ok (.imul, 1) := dk_104 (dk_at dksJ16_getChars_2_1 13 rfl rfl)
theorem dJ16_getChars_2_37 : decode cJ16_getChars_2 37 = .ok (.iload_n 0, 1) := dk_26 (dk_at dksJ16_getChars_2_1 14 rfl rfl)
theorem dJ16_getChars_2_38 : decode cJ16_getChars_2 38 = .ok (.isub, 1) := dk_100 (dk_at dksJ16_getChars_2_1 15 rfl rfl)
theorem dJ16_getChars_2_39 : decode cJ16_getChars_2 39 = .ok (.istore 4, 2) := dk_54 4 (dk_at dksJ16_getChars_2_1 16 rfl rfl)
theorem dJ16_getChars_2_41 : decode cJ16_getChars_2 41 = .ok (.iload_n 3, 1) := dk_29 (dk_at dksJ16_getChars_2_1 18 rfl rfl)
theorem dJ16_getChars_2_42 : decode cJ16_getChars_2 42 = .ok (.istore_n 0, 1) := dk_59 (dk_at dksJ16_getChars_2_1 19 rfl rfl)
theorem dJ16_getChars_2_43 : decode cJ16_getChars_2 43 = .ok (.aload_n 2, 1) := dk_44 (dk_at dksJ16_getChars_2_1 20 rfl rfl)
theorem dJ16_getChars_2_44 : decode cJ16_getChars_2 44 = .ok (.iinc 5 (-1), 3) := dk_132 5 255 (dk_at dksJ16_getChars_2_1 21 rfl rfl)
theorem dJ16_getChars_2_47 : decode cJ16_getChars_2 47 = .ok (.iload 5, 2) := dk_21 5 (dk_at dksJ16_getChars_2_2 0 rfl rfl)
theorem dJ16_getChars_2_49 : decode cJ16_getChars_2 49 = .ok (.getstatic 403, 3) := dk_178 1 147 (dk_at dksJ16_getChars_2_2 2 rfl rfl)
theorem dJ16_getChars_2_52 : decode cJ16_getChars_2 52 = .ok (.iload 4, 2) := dk_21 4 (dk_at dksJ16_getChars_2_2 5 rfl rfl)
theorem dJ16_getChars_2_54 : decode cJ16_getChars_2 54 = .ok (.baload, 1) := dk_51 (dk_at dksJ16_getChars_2_2 7 rfl rfl)
theorem dJ16_getChars_2_55 : decode cJ16_getChars_2 55 = .ok (.invokestatic 111, 3) := dk_184 0 111 (dk_at dksJ16_getChars_2_2 8 rfl rfl)
theorem dJ16_getChars_2_58 : decode cJ16_getChars_2 58 = .ok (.aload_n 2, 1) := dk_44 (dk_at dksJ16_getChars_2_2 11 rfl rfl)
theorem dJ16_getChars_2_59 : decode cJ16_getChars_2 59 = .ok (.iinc 5 (-1), 3) := dk_132 5 255 (dk_at dksJ16_getChars_2_2 12 rfl rfl)
theorem dJ16_getChars_2_62 : decode cJ16_getChars_2 62 = .ok (.iload 5, 2) := dk_21 5 (dk_at dksJ16_getChars_2_2 15 rfl rfl)
theorem dJ16_getChars_2_64 : decode cJ16_getChars_2 64 = .ok (.getstatic 407, 3) := dk_178 1 151 (dk_at dksJ16_getChars_2_2 17 rfl rfl)
theorem dJ16_getChars_2_67 : decode cJ16_getChars_2 67 = .ok (.iload 4, 2) := dk_21 4 (dk_at dksJ16_getChars_2_2 20 rfl rfl)
theorem dJ16_getChars_2_69 : decode cJ16_getChars_2 69 = .ok (.baload, 1) := dk_51 (dk_at dksJ16_getChars_2_2 22 rfl rfl)
theorem dJ16_getChars_2_70 : decode cJ16_getChars_2 70 = .ok (.invokestatic 111, 3) := dk_184 0 111 (dk_at dksJ16_getChars_2_3 0 rfl rfl)
theorem dJ16_getChars_2_73 : decode cJ16_getChars_2 73 = .ok (.goto (-51), 3) := dk_167 255 205 (dk_at dksJ16_getChars_2_3 3 rfl rfl)
theorem dJ16_getChars_2_76 : decode cJ16_getChars_2 76 = .ok (.aload_n 2, 1) := dk_44 (dk_at dksJ16_getChars_2_3 6 rfl rfl)
theorem dJ16_getChars_2_77 : decode cJ16_getChars_2 77 = .ok (.iinc 5 (-1), 3) := dk_132 5 255 (dk_at dksJ16_getChars_2_3 7 rfl rfl)
theorem dJ16_getChars_2_80 : decode cJ16_getChars_2 80 = .ok (.iload 5, 2) := dk_21 5 (dk_at dksJ16_getChars_2_3 10 rfl rfl)
theorem dJ16_getChars_2_82 : decode cJ16_getChars_2 82 = .ok (.getstatic 403, 3) := dk_178 1 147 (dk_at dksJ16_getChars_2_3 12 rfl rfl)
theorem dJ16_getChars_2_85 : decode cJ16_getChars_2 85 = .ok (.iload_n 0, 1) := dk_26 (dk_at dksJ16_getChars_2_3 15 rfl rfl)
theorem dJ16_getChars_2_86 : decode cJ16_getChars_2 86 = .ok (.ineg, 1) := dk_116 (dk_at dksJ16_getChars_2_3 16 rfl rfl)
theorem dJ16_getChars_2_87 : decode cJ16_getChars_2 87 = .ok (.baload, 1) := dk_51 (dk_at dksJ16_getChars_2_3 17 rfl rfl)
theorem dJ16_getChars_2_88 : decode cJ16_getChars_2 88 = .ok (.invokestatic 111, 3) := dk_184 0 111 (dk_at dksJ16_getChars_2_3 18 rfl rfl)
theorem dJ16_getChars_2_91 : decode cJ16_getChars_2 91 = .ok (.iload_n 0, 1) := dk_26 (dk_at dksJ16_getChars_2_3 21 rfl rfl)
theorem dJ16_getChars_2_92 : decode cJ16_getChars_2 92 = .ok (.bipush (-9), 2) := dk_16 247 (dk_at dksJ16_getChars_2_3 22 rfl rfl)
theorem dJ16_getChars_2_94 : decode cJ16_getChars_2 94 = .ok (.if_icmp .ge 18, 3) := dk_162 0 18 (dk_at dksJ16_getChars_2_4 0 rfl rfl)
theorem dJ16_getChars_2_97 : decode cJ16_getChars_2 97 = .ok (.aload_n 2, 1) := dk_44 (dk_at dksJ16_getChars_2_4 3 rfl rfl)
theorem dJ16_getChars_2_98 : decode cJ16_getChars_2 98 = .ok (.iinc 5 (-1), 3) := dk_132 5 255 (dk_at dksJ16_getChars_2_4 4 rfl rfl)
theorem dJ16_getChars_2_101 : decode cJ16_getChars_2 101 = .ok (.iload 5, 2) := dk_21 5 (dk_at dksJ16_getChars_2_4 7 rfl rfl)
theorem dJ16_getChars_2_103 : decode cJ16_getChars_2 103 = .ok (.getstatic 407, 3) := dk_178 1 151 (dk_at dksJ16_getChars_2_4 9 rfl rfl)
theorem dJ16_getChars_2_106 : decode cJ16_getChars_2 106 = .ok (.iload_n 0, 1) := dk_26 (dk_at dksJ16_getChars_2_4 12 rfl rfl)
theorem dJ16_getChars_2_107 : decode cJ16_getChars_2 107 = .ok (.ineg, 1) := dk_116 (dk_at dksJ16_getChars_2_4 13 rfl rfl)
theorem dJ16_getChars_2_108 : decode cJ16_getChars_2 108 = .ok (.baload, 1) := dk_51 (dk_at dksJ16_getChars_2_4 14 rfl rfl)
theorem dJ16_getChars_2_109 : decode cJ16_getChars_2 109 = .ok (.invokestatic 111, 3) := dk_184 0 111 (dk_at dksJ16_getChars_2_4 15 rfl rfl)
theorem dJ16_getChars_2_112 : decode cJ16_getChars_2 112 = .ok (.iload 6, 2) := dk_21 6 (dk_at dksJ16_getChars_2_4 18 rfl rfl)
theorem dJ16_getChars_2_114 : decode cJ16_getChars_2 114 = .ok (.ifCond .eq 14, 3) := dk_153 0 14 (dk_at dksJ16_getChars_2_4 20 rfl rfl)
theorem dJ16_getChars_2_117 : decode cJ16_getChars_2 117 = .ok (.aload_n 2, 1) := dk_44 (dk_at dksJ16_getChars_2_4 23 rfl rfl)
theorem dJ16_getChars_2_118 : decode cJ16_getChars_2 118 = .ok (.iinc 5 (-1), 3) := dk_132 5 255 (dk_at dksJ16_getChars_2_5 0 rfl rfl)
theorem dJ16_getChars_2_121 : decode cJ16_getChars_2 121 = .ok (.iload 5, 2) := dk_21 5 (dk_at dksJ16_getChars_2_5 3 rfl rfl)
theorem dJ16_getChars_2_123 : decode cJ16_getChars_2 123 = .ok (.bipush 45, 2) := dk_16 45 (dk_at dksJ16_getChars_2_5 5 rfl rfl)
theorem dJ16_getChars_2_125 : decode cJ16_getChars_2 125 = .ok (.invokestatic 111, 3) := dk_184 0 111 (dk_at dksJ16_getChars_2_5 7 rfl rfl)
theorem dJ16_getChars_2_128 : decode cJ16_getChars_2 128 = .ok (.iload 5, 2) := dk_21 5 (dk_at dksJ16_getChars_2_5 10 rfl rfl)
theorem dJ16_getChars_2_130 : decode cJ16_getChars_2 130 = .ok (.ireturn, 1) := dk_172 (dk_at dksJ16_getChars_2_5 12 rfl rfl)
def dkwJ16_compress_2 : List UInt8 := [25, 5, 3, 45, 3, 28, 184, 0, 123, 28, 159, 0, 6, 25, 5, 176, 45, 176]
abbrev dktJ16_compress_2 : List UInt8 := dkwJ16_compress_2 ++ []
def dkwJ16_compress_1 : List UInt8 := [27, 28, 96, 184, 0, 11, 184, 0, 126, 58, 5, 25, 5, 21, 4, 184, 0, 71, 17, 0, 255, 163, 0, 16]
abbrev dktJ16_compress_1 : List UInt8 := dkwJ16_compress_1 ++ dktJ16_compress_2
def dkwJ16_compress_0 : List UInt8 := [28, 188, 8, 78, 42, 27, 45, 3, 28, 184, 0, 123, 54, 4, 21, 4, 28, 159, 0, 47, 42, 27, 4, 120]
abbrev dktJ16_compress_0 : List UInt8 := dkwJ16_compress_0 ++ dktJ16_compress_1
theorem dksJ16_compress_0 : cJ16_compress.data.toList.drop 0 = dktJ16_compress_0 := by decide +kernel
theorem dksJ16_compress_1 : cJ16_compress.data.toList.drop 24 = dktJ16_compress_1 := dk_seg dksJ16_compress_0 24 rfl rfl
theorem dksJ16_compress_2 : cJ16_compress.data.toList.drop 48 = dktJ16_compress_2 := dk_seg dksJ16_compress_1 24 rfl rfl
theorem dJ16_compress_0 : decode cJ16_compress 0 = .ok (.iload_n 2, 1) := dk_28 (dk_at dksJ16_compress_0 0 rfl rfl)
theorem dJ16_compress_1 : decode cJ16_compress 1 = .ok (.newarray .byte, 2) := dk_188_8 (dk_at dksJ16_compress_0 1 rfl rfl)
theorem dJ16_compress_3 : decode cJ16_compress 3 = .ok (.astore_n 3, 1) := dk_78 (dk_at dksJ16_compress_0 3 rfl rfl)
theorem dJ16_compress_4 : decode cJ16_compress 4 = .ok (.aload_n 0, 1) := dk_42 (dk_at dksJ16_compress_0 4 rfl rfl)
theorem dJ16_compress_5 : decode cJ16_compress 5 = .ok (.iload_n 1, 1) := dk_27 (dk_at dksJ16_compress_0 5 rfl rfl)
theorem dJ16_compress_6 : decode cJ16_compress 6 = .ok (.aload_n 3, 1) := dk_45 (dk_at dksJ16_compress_0 6 rfl rfl)
theorem dJ16_compress_7 : decode cJ16_compress 7 = .ok (.iconst 0, 1) := dk_3 (dk_at dksJ16_compress_0 7 rfl rfl)
theorem dJ16_compress_8 : decode cJ16_compress 8 = .ok (.iload_n 2, 1) := dk_28 (dk_at dksJ16_compress_0 8 rfl rfl)
theorem dJ16_compress_9 : decode cJ16_compress 9 = .ok (.invokestatic 123, 3) := dk_184 0 123 (dk_at dksJ16_compress_0 9 rfl rfl)
theorem dJ16_compress_12 : decode cJ16_compress 12 = .ok (.istore 4, 2) := dk_54 4 (dk_at dksJ16_compress_0 12 rfl rfl)
theorem dJ16_compress_14 : decode cJ16_compress 14 = .ok (.iload 4, 2) := dk_21 4 (dk_at dksJ16_compress_0 14 rfl rfl)
theorem dJ16_compress_16 : decode cJ16_compress 16 = .ok (.iload_n 2, 1) := dk_28 (dk_at dksJ16_compress_0 16 rfl rfl)
theorem dJ16_compress_17 : decode cJ16_compress 17 = .ok (.if_icmp .eq 47, 3) := dk_159 0 47 (dk_at dksJ16_compress_0 17 rfl rfl)
theorem dJ16_compress_20 : decode cJ16_compress 20 = .ok (.aload_n 0, 1) := dk_42 (dk_at dksJ16_compress_0 20 rfl rfl)
theorem dJ16_compress_21 : decode cJ16_compress 21 = .ok (.iload_n 1, 1) := dk_27 (dk_at dksJ16_compress_0 21 rfl rfl)
theorem dJ16_compress_22 : decode cJ16_compress 22 = .ok (.iconst 1, 1) := dk_4 (dk_at dksJ16_compress_0 22 rfl rfl)
theorem dJ16_compress_23 : decode cJ16_compress 23 = .ok (.ishl, 1) := dk_120 (dk_at dksJ16_compress_0 23 rfl rfl)
theorem dJ16_compress_24 : decode cJ16_compress 24 = .ok (.iload_n 1, 1) := dk_27 (dk_at dksJ16_compress_1 0 rfl rfl)
theorem dJ16_compress_25 : decode cJ16_compress 25 = .ok (.iload_n 2, 1) := dk_28 (dk_at dksJ16_compress_1 1 rfl rfl)
theorem dJ16_compress_26 : decode cJ16_compress 26 = .ok (.iadd, 1) := dk_96 (dk_at dksJ16_compress_1 2 rfl rfl)
theorem dJ16_compress_27 : decode cJ16_compress 27 = .ok (.invokestatic 11, 3) := dk_184 0 11 (dk_at dksJ16_compress_1 3 rfl rfl)
theorem dJ16_compress_30 : decode cJ16_compress 30 = .ok (.invokestatic 126, 3) := dk_184 0 126 (dk_at dksJ16_compress_1 6 rfl rfl)
theorem dJ16_compress_33 : decode cJ16_compress 33 = .ok (.astore 5, 2) := dk_58 5 (dk_at dksJ16_compress_1 9 rfl rfl)
theorem dJ16_compress_35 : decode cJ16_compress 35 = .ok (.aload 5, 2) := dk_25 5 (dk_at dksJ16_compress_1 11 rfl rfl)
theorem dJ16_compress_37 : decode cJ16_compress 37 = .ok (.iload 4, 2) := dk_21 4 (dk_at dksJ16_compress_1 13 rfl rfl)
theorem dJ16_compress_39 : decode cJ16_compress 39 = .ok (.invokestatic 71, 3) := dk_184 0 71 (dk_at dksJ16_compress_1 15 rfl rfl)
theorem dJ16_compress_42 : decode cJ16_compress 42 = .ok (.sipush 255, 3) := dk_17 0 255 (dk_at dksJ16_compress_1 18 rfl rfl)
theorem dJ16_compress_45 : decode cJ16_compress 45 = .ok (.if_icmp .gt 16, 3) := dk_163 0 16 (dk_at dksJ16_compress_1 21 rfl rfl)
theorem dJ16_compress_48 : decode cJ16_compress 48 = .ok (.aload 5, 2) := dk_25 5 (dk_at dksJ16_compress_2 0 rfl rfl)
theorem dJ16_compress_50 : decode cJ16_compress 50 = .ok (.iconst 0, 1) := dk_3 (dk_at dksJ16_compress_2 2 rfl rfl)
theorem dJ16_compress_51 : decode cJ16_compress 51 = .ok (.aload_n 3, 1) := dk_45 (dk_at dksJ16_compress_2 3 rfl rfl)
theorem dJ16_compress_52 : decode cJ16_compress 52 = .ok (.iconst 0, 1) := dk_3 (dk_at dksJ16_compress_2 4 rfl rfl)
theorem dJ16_compress_53 : decode cJ16_compress 53 = .ok (.iload_n 2, 1) := dk_28 (dk_at dksJ16_compress_2 5 rfl rfl)
theorem dJ16_compress_54 : decode cJ16_compress 54 = .ok (.invokestatic 123, 3) := dk_184 0 123 (dk_at dksJ16_compress_2 6 rfl rfl)
theorem dJ16_compress_57 : decode cJ16_compress 57 = .ok (.iload_n 2, 1) := dk_28 (dk_at dksJ16_compress_2 9 rfl rfl)
theorem dJ16_compress_58 : decode cJ16_compress 58 = .ok (.if_icmp .eq 6, 3) := dk_159 0 6 (dk_at dksJ16_compress_2 10 rfl rfl)
theorem dJ16_compress_61 : decode cJ16_compress 61 = .ok (.aload 5, 2) := dk_25 5 (dk_at dksJ16_compress_2 13 rfl rfl)
theorem dJ16_compress_63 : decode cJ16_compress 63 = .ok (.areturn, 1) := dk_176 (dk_at dksJ16_compress_2 15 rfl rfl)
theorem dJ16_compress_64 : decode cJ16_compress 64 = .ok (.aload_n 3, 1) := dk_45 (dk_at dksJ16_compress_2 16 rfl rfl)
theorem dJ16_compress_65 : decode cJ16_compress 65 = .ok (.areturn, 1) := dk_176 (dk_at dksJ16_compress_2 17 rfl rfl)
def dkwJ16_compress_2_2 : List UInt8 := [132, 5, 1, 167, 255, 216, 21, 4, 172]
abbrev dktJ16_compress_2_2 : List UInt8 := dkwJ16_compress_2_2 ++ []
def dkwJ16_compress_2_1 : List UInt8 := [21, 6, 17, 0, 255, 164, 0, 6, 21, 5, 172, 44, 29, 21, 6, 145, 84, 132, 1, 1, 132, 3, 1]
abbrev dktJ16_compress_2_1 : List UInt8 := dkwJ16_compress_2_1 ++ dktJ16_compress_2_2
def dkwJ16_compress_2_0 : List UInt8 := [27, 21, 4, 42, 184, 0, 173, 3, 54, 5, 21, 5, 21, 4, 162, 0, 39, 42, 27, 184, 0, 71, 54, 6]
abbrev dktJ16_compress_2_0 : List UInt8 := dkwJ16_compress_2_0 ++ dktJ16_compress_2_1
theorem dksJ16_compress_2_0 : cJ16_compress_2.data.toList.drop 0 = dktJ16_compress_2_0 := by decide +kernel
theorem dksJ16_compress_2_1 : cJ16_compress_2.data.toList.drop 24 = dktJ16_compress_2_1 := dk_seg dksJ16_compress_2_0 24 rfl rfl
theorem dksJ16_compress_2_2 : cJ16_compress_2.data.toList.drop 47 = dktJ16_compress_2_2 := dk_seg dksJ16_compress_2_1 23 rfl rfl
theorem dJ16_compress_2_0 : decode cJ16_compress_2 0 = .ok (.iload_n 1, 1) := dk_27 (dk_at dksJ16_compress_2_0 0 rfl rfl)
theorem dJ16_compress_2_1 : decode cJ16_compress_2 1 = .ok (.iload 4, 2) := dk_21 4 (dk_at dksJ16_compress_2_0 1 rfl rfl)
theorem dJ16_compress_2_3 : decode cJ16_compress_2 3 = .ok (.aload_n 0, 1) := dk_42 (dk_at dksJ16_compress_2_0 3 rfl rfl)
theorem dJ16_compress_2_4 : decode cJ16_compress_2 4 = .ok (.invokestatic 173, 3) := dk_184 0 173 (dk_at dksJ16_compress_2_0 4 rfl rfl)
theorem dJ16_compress_2_7 : decode cJ16_compress_2 7 = .ok (.iconst 0, 1) := dk_3 (dk_at dksJ16_compress_2_0 7 rfl rfl)
theorem dJ16_compress_2_8 : decode cJ16_compress_2 8 = .ok (.istore 5, 2) := dk_54 5 (dk_at dksJ16_compress_2_0 8 rfl rfl)
theorem dJ16_compress_2_10 : decode cJ16_compress_2 10 = .ok (.iload 5, 2) := dk_21 5 (dk_at dksJ16_compress_2_0 10 rfl rfl)
theorem dJ16_compress_2_12 : decode cJ16_compress_2 12 = .ok (.iload 4, 2) := dk_21 4 (dk_at dksJ16_compress_2_0 12 rfl rfl)
theorem dJ16_compress_2_14 : decode cJ16_compress_2 14 = .ok (.if_icmp .ge 39, 3) := dk_162 0 39 (dk_at dksJ16_compress_2_0 14 rfl rfl)
theorem dJ16_compress_2_17 : decode cJ16_compress_2 17 = .ok (.aload_n 0, 1) := dk_42 (dk_at dksJ16_compress_2_0 17 rfl rfl)
theorem dJ16_compress_2_18 : decode cJ16_compress_2 18 = .ok (.iload_n 1, 1) := dk_27 (dk_at dksJ16_compress_2_0 18 rfl rfl)
theorem dJ16_compress_2_19 : decode cJ16_compress_2 19 = .ok (.invokestatic 71, 3) := dk_184 0 71 (dk_at dksJ16_compress_2_0 19 rfl rfl)
theorem dJ16_compress_2_22 : decode cJ16_compress_2 22 = .ok (.istore 6, 2) := dk_54 6 (dk_at dksJ16_compress_2_0 22 rfl rfl)
theorem dJ16_compress_2_24 : decode cJ16_compress_2 24 = .ok (.iload 6, 2) := dk_21 6 (dk_at dksJ16_compress_2_1 0 rfl rfl)
theorem dJ16_compress_2_26 : decode cJ16_compress_2 26 = .ok (.sipush 255, 3) := dk_17 0 255 (dk_at dksJ16_compress_2_1 2 rfl rfl)
theorem dJ16_compress_2_29 : decode cJ16_compress_2 29 = .ok (.if_icmp .le 6, 3) := dk_164 0 6 (dk_at dksJ16_compress_2_1 5 rfl rfl)
theorem dJ16_compress_2_32 : decode cJ16_compress_2 32 = .ok (.iload 5, 2) := dk_21 5 (dk_at dksJ16_compress_2_1 8 rfl rfl)
theorem dJ16_compress_2_34 : decode cJ16_compress_2 34 = .ok (.ireturn, 1) := dk_172 (dk_at dksJ16_compress_2_1 10 rfl rfl)
theorem dJ16_compress_2_35 : decode cJ16_compress_2 35 = .ok (.aload_n 2, 1) := dk_44 (dk_at dksJ16_compress_2_1 11 rfl rfl)
theorem dJ16_compress_2_36 : decode cJ16_compress_2 36 = .ok (.iload_n 3, 1) := dk_29 (dk_at dksJ16_compress_2_1 12 rfl rfl)
theorem dJ16_compress_2_37 : decode cJ16_compress_2 37 = .ok (.iload 6, 2) := dk_21 6 (dk_at dksJ16_compress_2_1 13 rfl rfl)
theorem dJ16_compress_2_39 : decode cJ16_compress_2 39 = .ok (.i2b, 1) := dk_145 (dk_at dksJ16_compress_2_1 15 rfl rfl)
theorem dJ16_compress_2_40 : decode cJ16_compress_2 40 = .ok (.bastore, 1) := dk_84 (dk_at dksJ16_compress_2_1 16 rfl rfl)
theorem dJ16_compress_2_41 : decode cJ16_compress_2 41 = .ok (.iinc 1 1, 3) := dk_132 1 1 (dk_at dksJ16_compress_2_1 17 rfl rfl)
theorem dJ16_compress_2_44 : decode cJ16_compress_2 44 = .ok (.iinc 3 1, 3) := dk_132 3 1 (dk_at dksJ16_compress_2_1 20 rfl rfl)
theorem dJ16_compress_2_47 : decode cJ16_compress_2 47 = .ok (.iinc 5 1, 3) := dk_132 5 1 (dk_at dksJ16_compress_2_2 0 rfl rfl)
theorem dJ16_compress_2_50 : decode cJ16_compress_2 50 = .ok (.goto (-40), 3) := dk_167 255 216 (dk_at dksJ16_compress_2_2 3 rfl rfl)
theorem dJ16_compress_2_53 : decode cJ16_compress_2 53 = .ok (.iload 4, 2) := dk_21 4 (dk_at dksJ16_compress_2_2 6 rfl rfl)
theorem dJ16_compress_2_55 : decode cJ16_compress_2 55 = .ok (.ireturn, 1) := dk_172 (dk_at dksJ16_compress_2_2 8 rfl rfl)
def dkwJ16_getChar_2 : List UInt8 := [51, 17, 0, 255, 126, 178, 0, 63, 120, 128, 146, 172]
abbrev dktJ16_getChar_2 : List UInt8 := dkwJ16_getChar_2 ++ []
def dkwJ16_getChar_1 : List UInt8 := [183, 0, 56, 191, 27, 4, 120, 60, 42, 27, 132, 1, 1, 51, 17, 0, 255, 126, 178, 0, 59, 120, 42, 27]
abbrev dktJ16_getChar_1 : List UInt8 := dkwJ16_getChar_1 ++ dktJ16_getChar_2
def dkwJ16_getChar_0 : List UInt8 := [178, 0, 44, 154, 0, 25, 27, 155, 0, 11, 27, 42, 184, 0, 48, 161, 0, 13, 187, 0, 52, 89, 18, 54]
abbrev dktJ16_getChar_0 : List UInt8 := dkwJ16_getChar_0 ++ dktJ16_getChar_1
theorem dksJ16_getChar_0 : cJ16_getChar.data.toList.drop 0 = dktJ16_getChar_0 := by decide +kernel
theorem dksJ16_getChar_1 : cJ16_getChar.data.toList.drop 24 = dktJ16_getChar_1 := dk_seg dksJ16_getChar_0 24 rfl rfl
theorem dksJ16_getChar_2 : cJ16_getChar.data.toList.drop 48 = dktJ16_getChar_2 := dk_seg dksJ16_getChar_1 24 rfl rfl
theorem dJ16_getChar_0 : decode cJ16_getChar 0 = .ok (.getstatic 44, 3) := dk_178 0 44 (dk_at dksJ16_getChar_0 0 rfl rfl)
theorem dJ16_getChar_3 : decode cJ16_getChar 3 = .ok (.ifCond .ne 25, 3) := dk_154 0 25 (dk_at dksJ16_getChar_0 3 rfl rfl)
theorem dJ16_getChar_6 : decode cJ16_getChar 6 = .ok (.iload_n 1, 1) := dk_27 (dk_at dksJ16_getChar_0 6 rfl rfl)
theorem dJ16_getChar_7 : decode cJ16_getChar 7 = .ok (.ifCond .lt 11, 3) := dk_155 0 11 (dk_at dksJ16_getChar_0 7 rfl rfl)
theorem dJ16_getChar_10 : decode cJ16_getChar 10 = .ok (.iload_n 1, 1) := dk_27 (dk_at dksJ16_getChar_0 10 rfl rfl)
theorem dJ16_getChar_11 : decode cJ16_getChar 11 = .ok (.aload_n 0, 1) := dk_42 (dk_at dksJ16_getChar_0 11 rfl rfl)
theorem dJ16_getChar_12 : decode cJ16_getChar 12 = .ok (.invokestatic 48, 3) := dk_184 0 48 (dk_at dksJ16_getChar_0 12 rfl rfl)
theorem dJ16_getChar_15 : decode cJ16_getChar 15 = .ok (.if_icmp .lt 13, 3) := dk_161 0 13 (dk_at dksJ16_getChar_0 15 rfl rfl)
theorem dJ16_getChar_18 : decode cJ16_getChar 18 = .ok (.new 52, 3) := dk_187 0 52 (dk_at dksJ16_getChar_0 18 rfl rfl)
theorem dJ16_getChar_21 : decode cJ16_getChar 21 = .ok (.dup, 1) := dk_89 (dk_at dksJ16_getChar_0 21 rfl rfl)
theorem dJ16_getChar_22 : decode cJ16_getChar 22 = .ok (.ldc 54, 2) := dk_18 54 (dk_at dksJ16_getChar_0 22 rfl rfl)
theorem dJ16_getChar_24 : decode cJ16_getChar 24 = .ok (.invokespecial 56, 3) := dk_183 0 56 (dk_at dksJ16_getChar_1 0 rfl rfl)
theorem dJ16_getChar_27 : decode cJ16_getChar 27 = .ok (.athrow, 1) := dk_191 (dk_at dksJ16_getChar_1 3 rfl rfl)
theorem dJ16_getChar_28 : decode cJ16_getChar 28 = .ok (.iload_n 1, 1) := dk_27 (dk_at dksJ16_getChar_1 4 rfl rfl)
theorem dJ16_getChar_29 : decode cJ16_getChar 29 = .ok (.iconst 1, 1) := dk_4 (dk_at dksJ16_getChar_1 5 rfl rfl)
theorem dJ16_getChar_30 : decode cJ16_getChar 30 = .ok (.ishl, 1) := dk_120 (dk_at dksJ16_getChar_1 6 rfl rfl)
theorem dJ16_getChar_31 : decode cJ16_getChar 31 = .ok (.istore_n 1, 1) := dk_60 (dk_at dksJ16_getChar_1 7 rfl rfl)
theorem dJ16_getChar_32 : decode cJ16_getChar 32 = .ok (.aload_n 0, 1) := dk_42 (dk_at dksJ16_getChar_1 8 rfl rfl)
theorem dJ16_getChar_33 : decode cJ16_getChar 33 = .ok (.iload_n 1, 1) := dk_27 (dk_at dksJ16_getChar_1 9 rfl rfl)
theorem dJ16_getChar_34 : decode cJ16_getChar 34 = .ok (.iinc 1 1, 3) := dk_132 1 1 (dk_at dksJ16_getChar_1 10 rfl rfl)
theorem dJ16_getChar_37 : decode cJ16_getChar 37 = .ok (.baload, 1) := dk_51 (dk_at dksJ16_getChar_1 13 rfl rfl)
theorem dJ16_getChar_38 : decode cJ16_getChar 38 = .ok (.sipush 255, 3) := dk_17 0 255 (dk_at dksJ16_getChar_1 14 rfl rfl)
theorem dJ16_getChar_41 : decode cJ16_getChar 41 = .ok (.iand, 1) := dk_126 (dk_at dksJ16_getChar_1 17 rfl rfl)
theorem dJ16_getChar_42 : decode cJ16_getChar 42 = .ok (.getstatic 59, 3) := dk_178 0 59 (dk_at dksJ16_getChar_1 18 rfl rfl)
theorem dJ16_getChar_45 : decode cJ16_getChar 45 = .ok (.ishl, 1) := dk_120 (dk_at dksJ16_getChar_1 21 rfl rfl)
theorem dJ16_getChar_46 : decode cJ16_getChar 46 = .ok (.aload_n 0, 1) := dk_42 (dk_at dksJ16_getChar_1 22 rfl rfl)
theorem dJ16_getChar_47 : decode cJ16_getChar 47 = .ok (.iload_n 1, 1) := dk_27 (dk_at dksJ16_getChar_1 23 rfl rfl)
theorem dJ16_getChar_48 : decode cJ16_getChar 48 = .ok (.baload, 1) := dk_51 (dk_at dksJ16_getChar_2 0 rfl rfl)
theorem dJ16_getChar_49 : decode cJ16_getChar 49 = .ok (.sipush 255, 3) := dk_17 0 255 (dk_at dksJ16_getChar_2 1 rfl rfl)
theorem dJ16_getChar_52 : decode cJ16_getChar 52 = .ok (.iand, 1) := dk_126 (dk_at dksJ16_getChar_2 4 rfl rfl)
theorem dJ16_getChar_53 : decode cJ16_getChar 53 = .ok (.getstatic 63, 3) := dk_178 0 63 (dk_at dksJ16_getChar_2 5 rfl rfl)
theorem dJ16_getChar_56 : decode cJ16_getChar 56 = .ok (.ishl, 1) := dk_120 (dk_at dksJ16_getChar_2 8 rfl rfl)
theorem dJ16_getChar_57 : decode cJ16_getChar 57 = .ok (.ior, 1) := dk_128 (dk_at dksJ16_getChar_2 9 rfl rfl)
theorem dJ16_getChar_58 : decode cJ16_getChar 58 = .ok (.i2c, 1) := dk_146 (dk_at dksJ16_getChar_2 10 rfl rfl)
theorem dJ16_getChar_59 : decode cJ16_getChar 59 = .ok (.ireturn, 1) := dk_172 (dk_at dksJ16_getChar_2 11 rfl rfl)
def dkwJ16_coderFromArrayLen_0 : List UInt8 := [27, 42, 190, 100, 16, 31, 124, 145, 172]
abbrev dktJ16_coderFromArrayLen_0 : List UInt8 := dkwJ16_coderFromArrayLen_0 ++ []
theorem dksJ16_coderFromArrayLen_0 : cJ16_coderFromArrayLen.data.toList.drop 0 = dktJ16_coderFromArrayLen_0 := by decide +kernel
theorem dJ16_coderFromArrayLen_0 : decode cJ16_coderFromArrayLen 0 = .ok (.iload_n 1, 1) := dk_27 (dk_at dksJ16_coderFromArrayLen_0 0 rfl rfl)
theorem dJ16_coderFromArrayLen_1 : decode cJ16_coderFromArrayLen 1 = .ok (.aload_n 0, 1) := dk_42 (dk_at dksJ16_coderFromArrayLen_0 1 rfl rfl)
theorem dJ16_coderFromArrayLen_2 : decode cJ16_coderFromArrayLen 2 = .ok (.arraylength, 1) := dk_190 (dk_at dksJ16_coderFromArrayLen_0 2 rfl rfl)
theorem dJ16_coderFromArrayLen_3 : decode cJ16_coderFromArrayLen 3 = .ok (.isub, 1) := dk_100 (dk_at dksJ16_coderFromArrayLen_0 3 rfl rfl)
theorem dJ16_coderFromArrayLen_4 : decode cJ16_coderFromArrayLen 4 = .ok (.bipush 31, 2) := dk_16 31 (dk_at dksJ16_coderFromArrayLen_0 4 rfl rfl)
theorem dJ16_coderFromArrayLen_6 : decode cJ16_coderFromArrayLen 6 = .ok (.iushr, 1) := dk_124 (dk_at dksJ16_coderFromArrayLen_0 6 rfl rfl)
theorem dJ16_coderFromArrayLen_7 : decode cJ16_coderFromArrayLen 7 = .ok (.i2b, 1) := dk_145 (dk_at dksJ16_coderFromArrayLen_0 7 rfl rfl)
theorem dJ16_coderFromArrayLen_8 : decode cJ16_coderFromArrayLen 8 = .ok (.ireturn, 1) := dk_172 (dk_at dksJ16_coderFromArrayLen_0 8 rfl rfl)
def dkwJ16_charAt_0 : List UInt8 := [27, 42, 184, 0, 67, 42, 27, 184, 0, 71, 172]
abbrev dktJ16_charAt_0 : List UInt8 := dkwJ16_charAt_0 ++ []
theorem dksJ16_charAt_0 : cJ16_charAt.data.toList.drop 0 = dktJ16_charAt_0 := by decide +kernel
theorem dJ16_charAt_0 : decode cJ16_charAt 0 = .ok (.iload_n 1, 1) := dk_27 (dk_at dksJ16_charAt_0 0 rfl rfl)
theorem dJ16_charAt_1 : decode cJ16_charAt 1 = .ok (.aload_n 0, 1) := dk_42 (dk_at dksJ16_charAt_0 1 rfl rfl)
theorem dJ16_charAt_2 : decode cJ16_charAt 2 = .ok (.invokestatic 67, 3) := dk_184 0 67 (dk_at dksJ16_charAt_0 2 rfl rfl)
theorem dJ16_charAt_5 : decode cJ16_charAt 5 = .ok (.aload_n 0, 1) := dk_42 (dk_at dksJ16_charAt_0 5 rfl rfl)
theorem dJ16_charAt_6 : decode cJ16_charAt 6 = .ok (.iload_n 1, 1) := dk_27 (dk_at dksJ16_charAt_0 6 rfl rfl)
theorem dJ16_charAt_7 : decode cJ16_charAt 7 = .ok (.invokestatic 71, 3) := dk_184 0 71 (dk_at dksJ16_charAt_0 7 rfl rfl)
theorem dJ16_charAt_10 : decode cJ16_charAt 10 = .ok (.ireturn, 1) := dk_172 (dk_at dksJ16_charAt_0 10 rfl rfl)
def dkwJ16_checkIndex_0 : List UInt8 := [26, 43, 184, 0, 48, 184, 1, 158, 177]
abbrev dktJ16_checkIndex_0 : List UInt8 := dkwJ16_checkIndex_0 ++ []
theorem dksJ16_checkIndex_0 : cJ16_checkIndex.data.toList.drop 0 = dktJ16_checkIndex_0 := by decide +kernel
theorem dJ16_checkIndex_0 : decode cJ16_checkIndex 0 = .ok (.iload_n 0, 1) := dk_26 (dk_at dksJ16_checkIndex_0 0 rfl rfl)
theorem dJ16_checkIndex_1 : decode cJ16_checkIndex 1 = .ok (.aload_n 1, 1) := dk_43 (dk_at dksJ16_checkIndex_0 1 rfl rfl)
theorem dJ16_checkIndex_2 : decode cJ16_checkIndex 2 = .ok (.invokestatic 48, 3) := dk_184 0 48 (dk_at dksJ16_checkIndex_0 2 rfl rfl)
theorem dJ16_checkIndex_5 : decode cJ16_checkIndex 5 = .ok (.invokestatic 414, 3) := dk_184 1 158 (dk_at dksJ16_checkIndex_0 5 rfl rfl)
theorem dJ16_checkIndex_8 : decode cJ16_checkIndex 8 = .ok (.return_, 1) := dk_177 (dk_at dksJ16_checkIndex_0 8 rfl rfl)
def dkwJ16_fillNull_0 : List UInt8 := [42, 27, 4, 120, 28, 4, 120, 3, 184, 1, 124, 177]
abbrev dktJ16_fillNull_0 : List UInt8 := dkwJ16_fillNull_0 ++ []
theorem dksJ16_fillNull_0 : cJ16_fillNull.data.toList.drop 0 = dktJ16_fillNull_0 := by decide +kernel
theorem dJ16_fillNull_0 : decode cJ16_fillNull 0 = .ok (.aload_n 0, 1) := dk_42 (dk_at dksJ16_fillNull_0 0 rfl rfl)
theorem dJ16_fillNull_1 : decode cJ16_fillNull 1 = .ok (.iload_n 1, 1) := dk_27 (dk_at dksJ16_fillNull_0 1 rfl rfl)
theorem dJ16_fillNull_2 : decode cJ16_fillNull 2 = .ok (.iconst 1, 1) := dk_4 (dk_at dksJ16_fillNull_0 2 rfl rfl)
theorem dJ16_fillNull_3 : decode cJ16_fillNull 3 = .ok (.ishl, 1) := dk_120 (dk_at dksJ16_fillNull_0 3 rfl rfl)
theorem dJ16_fillNull_4 : decode cJ16_fillNull 4 = .ok (.iload_n 2, 1) := dk_28 (dk_at dksJ16_fillNull_0 4 rfl rfl)
theorem dJ16_fillNull_5 : decode cJ16_fillNull 5 = .ok (.iconst 1, 1) := dk_4 (dk_at dksJ16_fillNull_0 5 rfl rfl)
theorem dJ16_fillNull_6 : decode cJ16_fillNull 6 = .ok (.ishl, 1) := dk_120 (dk_at dksJ16_fillNull_0 6 rfl rfl)
theorem dJ16_fillNull_7 : decode cJ16_fillNull 7 = .ok (.iconst 0, 1) := dk_3 (dk_at dksJ16_fillNull_0 7 rfl rfl)
theorem dJ16_fillNull_8 : decode cJ16_fillNull 8 = .ok (.invokestatic 380, 3) := dk_184 1 124 (dk_at dksJ16_fillNull_0 8 rfl rfl)
theorem dJ16_fillNull_11 : decode cJ16_fillNull 11 = .ok (.return_, 1) := dk_177 (dk_at dksJ16_fillNull_0 11 rfl rfl)
def dkwJ16_putCharSB_0 : List UInt8 := [27, 42, 184, 0, 67, 42, 27, 28, 184, 0, 111, 177]
abbrev dktJ16_putCharSB_0 : List UInt8 := dkwJ16_putCharSB_0 ++ []
theorem dksJ16_putCharSB_0 : cJ16_putCharSB.data.toList.drop 0 = dktJ16_putCharSB_0 := by decide +kernel
theorem dJ16_putCharSB_0 : decode cJ16_putCharSB 0 = .ok (.iload_n 1, 1) := dk_27 (dk_at dksJ16_putCharSB_0 0 rfl rfl)
theorem dJ16_putCharSB_1 : decode cJ16_putCharSB 1 = .ok (.aload_n 0, 1) := dk_42 (dk_at dksJ16_putCharSB_0 1 rfl rfl)
theorem dJ16_putCharSB_2 : decode cJ16_putCharSB 2 = .ok (.invokestatic 67, 3) := dk_184 0 67 (dk_at dksJ16_putCharSB_0 2 rfl rfl)
theorem dJ16_putCharSB_5 : decode cJ16_putCharSB 5 = .ok (.aload_n 0, 1) := dk_42 (dk_at dksJ16_putCharSB_0 5 rfl rfl)
theorem dJ16_putCharSB_6 : decode cJ16_putCharSB 6 = .ok (.iload_n 1, 1) := dk_27 (dk_at dksJ16_putCharSB_0 6 rfl rfl)
theorem dJ16_putCharSB_7 : decode cJ16_putCharSB 7 = .ok (.iload_n 2, 1) := dk_28 (dk_at dksJ16_putCharSB_0 7 rfl rfl)
theorem dJ16_putCharSB_8 : decode cJ16_putCharSB 8 = .ok (.invokestatic 111, 3) := dk_184 0 111 (dk_at dksJ16_putCharSB_0 8 rfl rfl)
theorem dJ16_putCharSB_11 : decode cJ16_putCharSB 11 = .ok (.return_, 1) := dk_177 (dk_at dksJ16_putCharSB_0 11 rfl rfl)
def dkwJ16_hashCode_2 : List UInt8 := [3, 167, 0, 22, 42, 3, 184, 0, 71, 167, 0, 14, 42, 3, 42, 190, 4, 122, 3, 8, 184, 0, 220, 172]
abbrev dktJ16_hashCode_2 : List UInt8 := dkwJ16_hashCode_2 ++ []
def dkwJ16_hashCode_1 : List UInt8 := [171, 0, 0, 0, 0, 38, 0, 0, 0, 2, 0, 0, 0, 0, 0, 0, 0, 26, 0, 0, 0, 2, 0, 0, 0, 30]
abbrev dktJ16_hashCode_1 : List UInt8 := dkwJ16_hashCode_1 ++ dktJ16_hashCode_2
def dkwJ16_hashCode_0 : List UInt8 := [42, 190]
abbrev dktJ16_hashCode_0 : List UInt8 := dkwJ16_hashCode_0 ++ dktJ16_hashCode_1
theorem dksJ16_hashCode_0 : cJ16_hashCode.data.toList.drop 0 = dktJ16_hashCode_0 := by decide +kernel
theorem dksJ16_hashCode_1 : cJ16_hashCode.data.toList.drop 2 = dktJ16_hashCode_1 := dk_seg dksJ16_hashCode_0 2 rfl rfl
theorem dksJ16_hashCode_2 : cJ16_hashCode.data.toList.drop 28 = dktJ16_hashCode_2 := dk_seg dksJ16_hashCode_1 26 rfl rfl
theorem dJ16_hashCode_0 : decode cJ16_hashCode 0 = .ok (.aload_n 0, 1) := dk_42 (dk_at dksJ16_hashCode_0 0 rfl rfl)
theorem dJ16_hashCode_1 : decode cJ16_hashCode 1 = .ok (.arraylength, 1) := dk_190 (dk_at dksJ16_hashCode_0 1 rfl rfl)
theorem dJ16_hashCode_2 : decode cJ16_hashCode 2 = .ok (.lookupswitch 38 #[(0, 26), (2, 30)], 26) := by decide +kernel
theorem dJ16_hashCode_28 : decode cJ16_hashCode 28 = .ok (.iconst 0, 1) := dk_3 (dk_at dksJ16_hashCode_2 0 rfl rfl)
theorem dJ16_hashCode_29 : decode cJ16_hashCode 29 = .ok (.goto 22, 3) := dk_167 0 22 (dk_at dksJ16_hashCode_2 1 rfl rfl)
theorem dJ16_hashCode_32 : decode cJ16_hashCode 32 = .ok (.aload_n 0, 1) := dk_42 (dk_at dksJ16_hashCode_2 4 rfl rfl)
theorem dJ16_hashCode_33 : decode cJ16_hashCode 33 = .ok (.iconst 0, 1) := dk_3 (dk_at dksJ16_hashCode_2 5 rfl rfl)
theorem dJ16_hashCode_34 : decode cJ16_hashCode 34 = .ok (.invokestatic 71, 3) := dk_184 0 71 (dk_at dksJ16_hashCode_2 6 rfl rfl)
theorem dJ16_hashCode_37 : decode cJ16_hashCode 37 = .ok (.goto 14, 3) := dk_167 0 14 (dk_at dksJ16_hashCode_2 9 rfl rfl)
theorem dJ16_hashCode_40 : decode cJ16_hashCode 40 = .ok (.aload_n 0, 1) := dk_42 (dk_at dksJ16_hashCode_2 12 rfl rfl)
theorem dJ16_hashCode_41 : decode cJ16_hashCode 41 = .ok (.iconst 0, 1) := dk_3 (dk_at dksJ16_hashCode_2 13 rfl rfl)
theorem dJ16_hashCode_42 : decode cJ16_hashCode 42 = .ok (.aload_n 0, 1) := dk_42 (dk_at dksJ16_hashCode_2 14 rfl rfl)
theorem dJ16_hashCode_43 : decode cJ16_hashCode 43 = .ok (.arraylength, 1) := dk_190 (dk_at dksJ16_hashCode_2 15 rfl rfl)
theorem dJ16_hashCode_44 : decode cJ16_hashCode 44 = .ok (.iconst 1, 1) := dk_4 (dk_at dksJ16_hashCode_2 16 rfl rfl)
theorem dJ16_hashCode_45 : decode cJ16_hashCode 45 = .ok (.ishr, 1) := dk_122 (dk_at dksJ16_hashCode_2 17 rfl rfl)
theorem dJ16_hashCode_46 : decode cJ16_hashCode 46 = .ok (.iconst 0, 1) := dk_3 (dk_at dksJ16_hashCode_2 18 rfl rfl)
theorem dJ16_hashCode_47 : decode cJ16_hashCode 47 = .ok (.iconst 5, 1) := dk_8 (dk_at dksJ16_hashCode_2 19 rfl rfl)
theorem dJ16_hashCode_48 : decode cJ16_hashCode 48 = .ok (.invokestatic 220, 3) := dk_184 0 220 (dk_at dksJ16_hashCode_2 20 rfl rfl)
theorem dJ16_hashCode_51 : decode cJ16_hashCode 51 = .ok (.ireturn, 1) := dk_172 (dk_at dksJ16_hashCode_2 23 rfl rfl)
def dkwJ17_inflate_0 : List UInt8 := [42, 27, 44, 29, 21, 4, 184, 0, 240, 177]
abbrev dktJ17_inflate_0 : List UInt8 := dkwJ17_inflate_0 ++ []
theorem dksJ17_inflate_0 : cJ17_inflate.data.toList.drop 0 = dktJ17_inflate_0 := by decide +kernel
theorem dJ17_inflate_0 : decode cJ17_inflate 0 = .ok (.aload_n 0, 1) := dk_42 (dk_at dksJ17_inflate_0 0 rfl rfl)
theorem dJ17_inflate_1 : decode cJ17_inflate 1 = .ok (.iload_n 1, 1) := dk_27 (dk_at dksJ17_inflate_0 1 rfl rfl)
theorem dJ17_inflate_2 : decode cJ17_inflate 2 = .ok (.aload_n 2, 1) := dk_44 (dk_at dksJ17_inflate_0 2 rfl rfl)
theorem dJ17_inflate_3 : decode cJ17_inflate 3 = .ok (.iload_n 3, 1) := dk_29 (dk_at dksJ17_inflate_0 3 rfl rfl)
theorem dJ17_inflate_4 : decode cJ17_inflate 4 = .ok (.iload 4, 2) := dk_21 4 (dk_at dksJ17_inflate_0 4 rfl rfl)
theorem dJ17_inflate_6 : decode cJ17_inflate 6 = .ok (.invokestatic 240, 3) := dk_184 0 240 (dk_at dksJ17_inflate_0 6 rfl rfl)
theorem dJ17_inflate_9 : decode cJ17_inflate 9 = .ok (.return_, 1) := dk_177 (dk_at dksJ17_inflate_0 9 rfl rfl)
def dkwJ17_charAt_0 : List UInt8 := [27, 42, 190, 184, 0, 9, 42, 27, 51, 17, 0, 255, 126, 146, 172]
abbrev dktJ17_charAt_0 : List UInt8 := dkwJ17_charAt_0 ++ []
theorem dksJ17_charAt_0 : cJ17_charAt.data.toList.drop 0 = dktJ17_charAt_0 := by decide +kernel
theorem dJ17_charAt_0 : decode cJ17_charAt 0 = .ok (.iload_n 1, 1) := dk_27 (dk_at dksJ17_charAt_0 0 rfl rfl)
theorem dJ17_charAt_1 : decode cJ17_charAt 1 = .ok (.aload_n 0, 1) := dk_42 (dk_at dksJ17_charAt_0 1 rfl rfl)
theorem dJ17_charAt_2 : decode cJ17_charAt 2 = .ok (.arraylength, 1) := dk_190 (dk_at dksJ17_charAt_0 2 rfl rfl)
theorem dJ17_charAt_3 : decode cJ17_charAt 3 = .ok (.invokestatic 9, 3) := dk_184 0 9 (dk_at dksJ17_charAt_0 3 rfl rfl)
theorem dJ17_charAt_6 : decode cJ17_charAt 6 = .ok (.aload_n 0, 1) := dk_42 (dk_at dksJ17_charAt_0 6 rfl rfl)
theorem dJ17_charAt_7 : decode cJ17_charAt 7 = .ok (.iload_n 1, 1) := dk_27 (dk_at dksJ17_charAt_0 7 rfl rfl)
theorem dJ17_charAt_8 : decode cJ17_charAt 8 = .ok (.baload, 1) := dk_51 (dk_at dksJ17_charAt_0 8 rfl rfl)
theorem dJ17_charAt_9 : decode cJ17_charAt 9 = .ok (.sipush 255, 3) := dk_17 0 255 (dk_at dksJ17_charAt_0 9 rfl rfl)
theorem dJ17_charAt_12 : decode cJ17_charAt 12 = .ok (.iand, 1) := dk_126 (dk_at dksJ17_charAt_0 12 rfl rfl)
theorem dJ17_charAt_13 : decode cJ17_charAt 13 = .ok (.i2c, 1) := dk_146 (dk_at dksJ17_charAt_0 13 rfl rfl)
theorem dJ17_charAt_14 : decode cJ17_charAt 14 = .ok (.ireturn, 1) := dk_172 (dk_at dksJ17_charAt_0 14 rfl rfl)
def dkwJ17_fillNull_0 : List UInt8 := [42, 27, 28, 3, 184, 0, 236, 177]
abbrev dktJ17_fillNull_0 : List UInt8 := dkwJ17_fillNull_0 ++ []
theorem dksJ17_fillNull_0 : cJ17_fillNull.data.toList.drop 0 = dktJ17_fillNull_0 := by decide +kernel
theorem dJ17_fillNull_0 : decode cJ17_fillNull 0 = .ok (.aload_n 0, 1) := dk_42 (dk_at dksJ17_fillNull_0 0 rfl rfl)
theorem dJ17_fillNull_1 : decode cJ17_fillNull 1 = .ok (.iload_n 1, 1) := dk_27 (dk_at dksJ17_fillNull_0 1 rfl rfl)
theorem dJ17_fillNull_2 : decode cJ17_fillNull 2 = .ok (.iload_n 2, 1) := dk_28 (dk_at dksJ17_fillNull_0 2 rfl rfl)
theorem dJ17_fillNull_3 : decode cJ17_fillNull 3 = .ok (.iconst 0, 1) := dk_3 (dk_at dksJ17_fillNull_0 3 rfl rfl)
theorem dJ17_fillNull_4 : decode cJ17_fillNull 4 = .ok (.invokestatic 236, 3) := dk_184 0 236 (dk_at dksJ17_fillNull_0 4 rfl rfl)
theorem dJ17_fillNull_7 : decode cJ17_fillNull 7 = .ok (.return_, 1) := dk_177 (dk_at dksJ17_fillNull_0 7 rfl rfl)
def dkwJ17_canEncode_0 : List UInt8 := [26, 17, 0, 255, 163, 0, 7, 4, 167, 0, 4, 3, 172]
abbrev dktJ17_canEncode_0 : List UInt8 := dkwJ17_canEncode_0 ++ []
theorem dksJ17_canEncode_0 : cJ17_canEncode.data.toList.drop 0 = dktJ17_canEncode_0 := by decide +kernel
theorem dJ17_canEncode_0 : decode cJ17_canEncode 0 = .ok (.iload_n 0, 1) := dk_26 (dk_at dksJ17_canEncode_0 0 rfl rfl)
theorem dJ17_canEncode_1 : decode cJ17_canEncode 1 = .ok (.sipush 255, 3) := dk_17 0 255 (dk_at dksJ17_canEncode_0 1 rfl rfl)
theorem dJ17_canEncode_4 : decode cJ17_canEncode 4 = .ok (.if_icmp .gt 7, 3) := dk_163 0 7 (dk_at dksJ17_canEncode_0 4 rfl rfl)
theorem dJ17_canEncode_7 : decode cJ17_canEncode 7 = .ok (.iconst 1, 1) := dk_4 (dk_at dksJ17_canEncode_0 7 rfl rfl)
theorem dJ17_canEncode_8 : decode cJ17_canEncode 8 = .ok (.goto 4, 3) := dk_167 0 4 (dk_at dksJ17_canEncode_0 8 rfl rfl)
theorem dJ17_canEncode_11 : decode cJ17_canEncode 11 = .ok (.iconst 0, 1) := dk_3 (dk_at dksJ17_canEncode_0 11 rfl rfl)
theorem dJ17_canEncode_12 : decode cJ17_canEncode 12 = .ok (.ireturn, 1) := dk_172 (dk_at dksJ17_canEncode_0 12 rfl rfl)
def dkwJ17_equals_1 : List UInt8 := [3, 172, 132, 2, 1, 167, 255, 236, 4, 172, 3, 172]
abbrev dktJ17_equals_1 : List UInt8 := dkwJ17_equals_1 ++ []
def dkwJ17_equals_0 : List UInt8 := [42, 190, 43, 190, 160, 0, 30, 3, 61, 28, 42, 190, 162, 0, 20, 42, 28, 51, 43, 28, 51, 159, 0, 5]
abbrev dktJ17_equals_0 : List UInt8 := dkwJ17_equals_0 ++ dktJ17_equals_1
theorem dksJ17_equals_0 : cJ17_equals.data.toList.drop 0 = dktJ17_equals_0 := by decide +kernel
theorem dksJ17_equals_1 : cJ17_equals.data.toList.drop 24 = dktJ17_equals_1 := dk_seg dksJ17_equals_0 24 rfl rfl
theorem dJ17_equals_0 : decode cJ17_equals 0 = .ok (.aload_n 0, 1) := dk_42 (dk_at dksJ17_equals_0 0 rfl rfl)
theorem dJ17_equals_1 : decode cJ17_equals 1 = .ok (.arraylength, 1) := dk_190 (dk_at dksJ17_equals_0 1 rfl rfl)
theorem dJ17_equals_2 : decode cJ17_equals 2 = .ok (.aload_n 1, 1) := dk_43 (dk_at dksJ17_equals_0 2 rfl rfl)
theorem dJ17_equals_3 : decode cJ17_equals 3 = .ok (.arraylength, 1) := dk_190 (dk_at dksJ17_equals_0 3 rfl rfl)
theorem dJ17_equals_4 : decode cJ17_equals 4 = .ok (.if_icmp .ne 30, 3) := dk_160 0 30 (dk_at dksJ17_equals_0 4 rfl rfl)
theorem dJ17_equals_7 : decode cJ17_equals 7 = .ok (.iconst 0, 1) := dk_3 (dk_at dksJ17_equals_0 7 rfl rfl)
theorem dJ17_equals_8 : decode cJ17_equals 8 = .ok (.istore_n 2, 1) := dk_61 (dk_at dksJ17_equals_0 8 rfl rfl)
theorem dJ17_equals_9 : decode cJ17_equals 9 = .ok (.iload_n 2, 1) := dk_28 (dk_at dksJ17_equals_0 9 rfl rfl)
theorem dJ17_equals_10 : decode cJ17_equals 10 = .ok (.aload_n 0, 1) := dk_42 (dk_at dksJ17_equals_0 10 rfl rfl)
theorem dJ17_equals_11 : decode cJ17_equals 11 = .ok (.arraylength, 1) := dk_190 (dk_at dksJ17_equals_0 11 rfl rfl)
theorem dJ17_equals_12 : decode cJ17_equals 12 = .ok (.if_icmp .ge 20, 3) := dk_162 0 20 (dk_at dksJ17_equals_0 12 rfl rfl)
theorem dJ17_equals_15 : decode cJ17_equals 15 = .ok (.aload_n 0, 1) := dk_42 (dk_at dksJ17_equals_0 15 rfl rfl)
theorem dJ17_equals_16 : decode cJ17_equals 16 = .ok (.iload_n 2, 1) := dk_28 (dk_at dksJ17_equals_0 16 rfl rfl)
theorem dJ17_equals_17 : decode cJ17_equals 17 = .ok (.baload, 1) := dk_51 (dk_at dksJ17_equals_0 17 rfl rfl)
theorem dJ17_equals_18 : decode cJ17_equals 18 = .ok (.aload_n 1, 1) := dk_43 (dk_at dksJ17_equals_0 18 rfl rfl)
theorem dJ17_equals_19 : decode cJ17_equals 19 = .ok (.iload_n 2, 1) := dk_28 (dk_at dksJ17_equals_0 19 rfl rfl)
theorem dJ17_equals_20 : decode cJ17_equals 20 = .ok (.baload, 1) := dk_51 (dk_at dksJ17_equals_0 20 rfl rfl)
theorem dJ17_equals_21 : decode cJ17_equals 21 = .ok (.if_icmp .eq 5, 3) := dk_159 0 5 (dk_at dksJ17_equals_0 21 rfl rfl)
theorem dJ17_equals_24 : decode cJ17_equals 24 = .ok (.iconst 0, 1) := dk_3 (dk_at dksJ17_equals_1 0 rfl rfl)
theorem dJ17_equals_25 : decode cJ17_equals 25 = .ok (.ireturn, 1) := dk_172 (dk_at dksJ17_equals_1 1 rfl rfl)
theorem dJ17_equals_26 : decode cJ17_equals 26 = .ok (.iinc 2 1, 3) := dk_132 2 1 (dk_at dksJ17_equals_1 2 rfl rfl)
theorem dJ17_equals_29 : decode cJ17_equals 29 = .ok (.goto (-20), 3) := dk_167 255 236 (dk_at dksJ17_equals_1 5 rfl rfl)
theorem dJ17_equals_32 : decode cJ17_equals 32 = .ok (.iconst 1, 1) := dk_4 (dk_at dksJ17_equals_1 8 rfl rfl)
theorem dJ17_equals_33 : decode cJ17_equals 33 = .ok (.ireturn, 1) := dk_172 (dk_at dksJ17_equals_1 9 rfl rfl)
theorem dJ17_equals_34 : decode cJ17_equals 34 = .ok (.iconst 0, 1) := dk_3 (dk_at dksJ17_equals_1 10 rfl rfl)
theorem dJ17_equals_35 : decode cJ17_equals 35 = .ok (.ireturn, 1) := dk_172 (dk_at dksJ17_equals_1 11 rfl rfl)
def dkwJ17_hashCode_2 : List UInt8 := [3, 167, 0, 22, 42, 3, 51, 17, 0, 255, 126, 167, 0, 12, 42, 3, 42, 190, 3, 7, 184, 0, 84, 172]
abbrev dktJ17_hashCode_2 : List UInt8 := dkwJ17_hashCode_2 ++ []
def dkwJ17_hashCode_1 : List UInt8 := [171, 0, 0, 0, 0, 40, 0, 0, 0, 2, 0, 0, 0, 0, 0, 0, 0, 26, 0, 0, 0, 1, 0, 0, 0, 30]
abbrev dktJ17_hashCode_1 : List UInt8 := dkwJ17_hashCode_1 ++ dktJ17_hashCode_2
def dkwJ17_hashCode_0 : List UInt8 := [42, 190]
abbrev dktJ17_hashCode_0 : List UInt8 := dkwJ17_hashCode_0 ++ dktJ17_hashCode_1
theorem dksJ17_hashCode_0 : cJ17_hashCode.data.toList.drop 0 = dktJ17_hashCode_0 := by decide +kernel
theorem dksJ17_hashCode_1 : cJ17_hashCode.data.toList.drop 2 = dktJ17_hashCode_1 := dk_seg dksJ17_hashCode_0 2 rfl rfl
theorem dksJ17_hashCode_2 : cJ17_hashCode.data.toList.drop 28 = dktJ17_hashCode_2 := dk_seg dksJ17_hashCode_1 26 rfl rfl
theorem dJ17_hashCode_0 : decode cJ17_hashCode 0 = .ok (.aload_n 0, 1) := dk_42 (dk_at dksJ17_hashCode_0 0 rfl rfl)
theorem dJ17_hashCode_1 : decode cJ17_hashCode 1 = .ok (.arraylength, 1) := dk_190 (dk_at dksJ17_hashCode_0 1 rfl rfl)
theorem dJ17_hashCode_2 : decode cJ17_hashCode 2 = .ok (.lookupswitch 40 #[(0, 26), (1, 30)], 26) := by decide +kernel
theorem dJ17_hashCode_28 : decode cJ17_hashCode 28 = .ok (.iconst 0, 1) := dk_3 (dk_at dksJ17_hashCode_2 0 rfl rfl)
theorem dJ17_hashCode_29 : decode cJ17_hashCode 29 = .ok (.goto 22, 3) := dk_167 0 22 (dk_at dksJ17_hashCode_2 1 rfl rfl)
theorem dJ17_hashCode_32 : decode cJ17_hashCode 32 = .ok (.aload_n 0, 1) := dk_42 (dk_at dksJ17_hashCode_2 4 rfl rfl)
theorem dJ17_hashCode_33 : decode cJ17_hashCode 33 = .ok (.iconst 0, 1) := dk_3 (dk_at dksJ17_hashCode_2 5 rfl rfl)
theorem dJ17_hashCode_34 : decode cJ17_hashCode 34 = .ok (.baload, 1) := dk_51 (dk_at dksJ17_hashCode_2 6 rfl rfl)
theorem dJ17_hashCode_35 : decode cJ17_hashCode 35 = .ok (.sipush 255, 3) := dk_17 0 255 (dk_at dksJ17_hashCode_2 7 rfl rfl)
theorem dJ17_hashCode_38 : decode cJ17_hashCode 38 = .ok (.iand, 1) := dk_126 (dk_at dksJ17_hashCode_2 10 rfl rfl)
theorem dJ17_hashCode_39 : decode cJ17_hashCode 39 = .ok (.goto 12, 3) := dk_167 0 12 (dk_at dksJ17_hashCode_2 11 rfl rfl)
theorem dJ17_hashCode_42 : decode cJ17_hashCode 42 = .ok (.aload_n 0, 1) := dk_42 (dk_at dksJ17_hashCode_2 14 rfl rfl)
theorem dJ17_hashCode_43 : decode cJ17_hashCode 43 = .ok (.iconst 0, 1) := dk_3 (dk_at dksJ17_hashCode_2 15 rfl rfl)
theorem dJ17_hashCode_44 : decode cJ17_hashCode 44 = .ok (.aload_n 0, 1) := dk_42 (dk_at dksJ17_hashCode_2 16 rfl rfl)
theorem dJ17_hashCode_45 : decode cJ17_hashCode 45 = .ok (.arraylength, 1) := dk_190 (dk_at dksJ17_hashCode_2 17 rfl rfl)
theorem dJ17_hashCode_46 : decode cJ17_hashCode 46 = .ok (.iconst 0, 1) := dk_3 (dk_at dksJ17_hashCode_2 18 rfl rfl)
theorem dJ17_hashCode_47 : decode cJ17_hashCode 47 = .ok (.iconst 4, 1) := dk_7 (dk_at dksJ17_hashCode_2 19 rfl rfl)
theorem dJ17_hashCode_48 : decode cJ17_hashCode 48 = .ok (.invokestatic 84, 3) := dk_184 0 84 (dk_at dksJ17_hashCode_2 20 rfl rfl)
theorem dJ17_hashCode_51 : decode cJ17_hashCode 51 = .ok (.ireturn, 1) := dk_172 (dk_at dksJ17_hashCode_2 23 rfl rfl)
def dkwJ18_checkIndex_0 : List UInt8 := [26, 155, 0, 8, 26, 27, 161, 0, 10, 44, 26, 27, 184, 0, 95, 191, 26, 172]
abbrev dktJ18_checkIndex_0 : List UInt8 := dkwJ18_checkIndex_0 ++ []
theorem dksJ18_checkIndex_0 : cJ18_checkIndex.data.toList.drop 0 = dktJ18_checkIndex_0 := by decide +kernel
theorem dJ18_checkIndex_0 : decode cJ18_checkIndex 0 = .ok (.iload_n 0, 1) := dk_26 (dk_at dksJ18_checkIndex_0 0 rfl rfl)
theorem dJ18_checkIndex_1 : decode cJ18_checkIndex 1 = .ok (.ifCond .lt 8, 3) := dk_155 0 8 (dk_at dksJ18_checkIndex_0 1 rfl rfl)
theorem dJ18_checkIndex_4 : decode cJ18_checkIndex 4 = .ok (.iload_n 0, 1) := dk_26 (dk_at dksJ18_checkIndex_0 4 rfl rfl)
theorem dJ18_checkIndex_5 : decode cJ18_checkIndex 5 = .ok (.iload_n 1, 1) := dk_27 (dk_at dksJ18_checkIndex_0 5 rfl rfl)
theorem dJ18_checkIndex_6 : decode cJ18_checkIndex 6 = .ok (.if_icmp .lt 10, 3) := dk_161 0 10 (dk_at dksJ18_checkIndex_0 6 rfl rfl)
theorem dJ18_checkIndex_9 : decode cJ18_checkIndex 9 = .ok (.aload_n 2, 1) := dk_44 (dk_at dksJ18_checkIndex_0 9 rfl rfl)
theorem dJ18_checkIndex_10 : decode cJ18_checkIndex 10 = .ok (.iload_n 0, 1) := dk_26 (dk_at dksJ18_checkIndex_0 10 rfl rfl)
theorem dJ18_checkIndex_11 : decode cJ18_checkIndex 11 = .ok (.iload_n 1, 1) := dk_27 (dk_at dksJ18_checkIndex_0 11 rfl rfl)
theorem dJ18_checkIndex_12 : decode cJ18_checkIndex 12 = .ok (.invokestatic 95, 3) := dk_184 0 95 (dk_at dksJ18_checkIndex_0 12 rfl rfl)
theorem dJ18_checkIndex_15 : decode cJ18_checkIndex 15 = .ok (.athrow, 1) := dk_191 (dk_at dksJ18_checkIndex_0 15 rfl rfl)
theorem dJ18_checkIndex_16 : decode cJ18_checkIndex 16 = .ok (.iload_n 0, 1) := dk_26 (dk_at dksJ18_checkIndex_0 16 rfl rfl)
theorem dJ18_checkIndex_17 : decode cJ18_checkIndex 17 = .ok (.ireturn, 1) := dk_172 (dk_at dksJ18_checkIndex_0 17 rfl rfl)
def dkwJ18_checkFromToIndex_0 : List UInt8 := [26, 155, 0, 13, 26, 27, 163, 0, 8, 27, 28, 164, 0, 11, 45, 26, 27, 28, 184, 0, 99, 191, 26, 172]
abbrev dktJ18_checkFromToIndex_0 : List UInt8 := dkwJ18_checkFromToIndex_0 ++ []
theorem dksJ18_checkFromToIndex_0 : cJ18_checkFromToIndex.data.toList.drop 0 = dktJ18_checkFromToIndex_0 := by decide +kernel
theorem dJ18_checkFromToIndex_0 : decode cJ18_checkFromToIndex 0 = .ok (.iload_n 0, 1) := dk_26 (dk_at dksJ18_checkFromToIndex_0 0 rfl rfl)
theorem dJ18_checkFromToIndex_1 : decode cJ18_checkFromToIndex 1 = .ok (.ifCond .lt 13, 3) := dk_155 0 13 (dk_at dksJ18_checkFromToIndex_0 1 rfl rfl)
theorem dJ18_checkFromToIndex_4 : decode cJ18_checkFromToIndex 4 = .ok (.iload_n 0, 1) := dk_26 (dk_at dksJ18_checkFromToIndex_0 4 rfl rfl)
theorem dJ18_checkFromToIndex_5 : decode cJ18_checkFromToIndex 5 = .ok (.iload_n 1, 1) := dk_27 (dk_at dksJ18_checkFromToIndex_0 5 rfl rfl)
theorem dJ18_checkFromToIndex_6 : decode cJ18_checkFromToIndex 6 = .ok (.if_icmp .gt 8, 3) := dk_163 0 8 (dk_at dksJ18_checkFromToIndex_0 6 rfl rfl)
theorem dJ18_checkFromToIndex_9 : decode cJ18_checkFromToIndex 9 = .ok (.iload_n 1, 1) := dk_27 (dk_at dksJ18_checkFromToIndex_0 9 rfl rfl)
theorem dJ18_checkFromToIndex_10 : decode cJ18_checkFromToIndex 10 = .ok (.iload_n 2, 1) := dk_28 (dk_at dksJ18_checkFromToIndex_0 10 rfl rfl)
theorem dJ18_checkFromToIndex_11 : decode cJ18_checkFromToIndex 11 = .ok (.if_icmp .le 11, 3) := dk_164 0 11 (dk_at dksJ18_checkFromToIndex_0 11 rfl rfl)
theorem dJ18_checkFromToIndex_14 : decode cJ18_checkFromToIndex 14 = .ok (.aload_n 3, 1) := dk_45 (dk_at dksJ18_checkFromToIndex_0 14 rfl rfl)
theorem dJ18_checkFromToIndex_15 : decode cJ18_checkFromToIndex 15 = .ok (.iload_n 0, 1) := dk_26 (dk_at dksJ18_checkFromToIndex_0 15 rfl rfl)
theorem dJ18_checkFromToIndex_16 : decode cJ18_checkFromToIndex 16 = .ok (.iload_n 1, 1) := dk_27 (dk_at dksJ18_checkFromToIndex_0 16 rfl rfl)
theorem dJ18_checkFromToIndex_17 : decode cJ18_checkFromToIndex 17 = .ok (.iload_n 2, 1) := dk_28 (dk_at dksJ18_checkFromToIndex_0 17 rfl rfl)
theorem dJ18_checkFromToIndex_18 : decode cJ18_checkFromToIndex 18 = .ok (.invokestatic 99, 3) := dk_184 0 99 (dk_at dksJ18_checkFromToIndex_0 18 rfl rfl)
theorem dJ18_checkFromToIndex_21 : decode cJ18_checkFromToIndex 21 = .ok (.athrow, 1) := dk_191 (dk_at dksJ18_checkFromToIndex_0 21 rfl rfl)
theorem dJ18_checkFromToIndex_22 : decode cJ18_checkFromToIndex 22 = .ok (.iload_n 0, 1) := dk_26 (dk_at dksJ18_checkFromToIndex_0 22 rfl rfl)
theorem dJ18_checkFromToIndex_23 : decode cJ18_checkFromToIndex 23 = .ok (.ireturn, 1) := dk_172 (dk_at dksJ18_checkFromToIndex_0 23 rfl rfl)
def dkwJ18_checkFromIndexSize_1 : List UInt8 := [172]
abbrev dktJ18_checkFromIndexSize_1 : List UInt8 := dkwJ18_checkFromIndexSize_1 ++ []
def dkwJ18_checkFromIndexSize_0 : List UInt8 := [28, 26, 128, 27, 128, 155, 0, 10, 27, 28, 26, 100, 164, 0, 11, 45, 26, 27, 28, 184, 0, 103, 191, 26]
abbrev dktJ18_checkFromIndexSize_0 : List UInt8 := dkwJ18_checkFromIndexSize_0 ++ dktJ18_checkFromIndexSize_1
theorem dksJ18_checkFromIndexSize_0 : cJ18_checkFromIndexSize.data.toList.drop 0 = dktJ18_checkFromIndexSize_0 := by decide +kernel
theorem dksJ18_checkFromIndexSize_1 : cJ18_checkFromIndexSize.data.toList.drop 24 = dktJ18_checkFromIndexSize_1 := dk_seg dksJ18_checkFromIndexSize_0 24 rfl rfl
theorem dJ18_checkFromIndexSize_0 : decode cJ18_checkFromIndexSize 0 = .ok (.iload_n 2, 1) := dk_28 (dk_at dksJ18_checkFromIndexSize_0 0 rfl rfl)
theorem dJ18_checkFromIndexSize_1 : decode cJ18_checkFromIndexSize 1 = .ok (.iload_n 0, 1) := dk_26 (dk_at dksJ18_checkFromIndexSize_0 1 rfl rfl)
theorem dJ18_checkFromIndexSize_2 : decode cJ18_checkFromIndexSize 2 = .ok (.ior, 1) := dk_128 (dk_at dksJ18_checkFromIndexSize_0 2 rfl rfl)
theorem dJ18_checkFromIndexSize_3 : decode cJ18_checkFromIndexSize 3 = .ok (.iload_n 1, 1) := dk_27 (dk_at dksJ18_checkFromIndexSize_0 3 rfl rfl)
theorem dJ18_checkFromIndexSize_4 : decode cJ18_checkFromIndexSize 4 = .ok (.ior, 1) := dk_128 (dk_at dksJ18_checkFromIndexSize_0 4 rfl rfl)
theorem dJ18_checkFromIndexSize_5 : decode cJ18_checkFromIndexSize 5 = .ok (.ifCond .lt 10, 3) := dk_155 0 10 (dk_at dksJ18_checkFromIndexSize_0 5 rfl rfl)
theorem dJ18_checkFromIndexSize_8 : decode cJ18_checkFromIndexSize 8 = .ok (.iload_n 1, 1) := dk_27 (dk_at dksJ18_checkFromIndexSize_0 8 rfl rfl)
theorem dJ18_checkFromIndexSize_9 : decode cJ18_checkFromIndexSize 9 = .ok (.iload_n 2, 1) := dk_28 (dk_at dksJ18_checkFromIndexSize_0 9 rfl rfl)
theorem dJ18_checkFromIndexSize_10 : decode cJ18_checkFromIndexSize 10 = .ok (.iload_n 0, 1) := dk_26 (dk_at dksJ18_checkFromIndexSize_0 10 rfl rfl)
theorem dJ18_checkFromIndexSize_11 : decode cJ18_checkFromIndexSize 11 = .ok (.isub, 1) := dk_100 (dk_at dksJ18_checkFromIndexSize_0 11 rfl rfl)
theorem dJ18_checkFromIndexSize_12 : decode cJ18_checkFromIndexSize 12 = .ok (.if_icmp .le 11, 3) := dk_164 0 11 (dk_at dksJ18_checkFromIndexSize_0 12 rfl rfl)
theorem dJ18_checkFromIndexSize_15 : decode cJ18_checkFromIndexSize 15 = .ok (.aload_n 3, 1) := dk_45 (dk_at dksJ18_checkFromIndexSize_0 15 rfl rfl)
theorem dJ18_checkFromIndexSize_16 : decode cJ18_checkFromIndexSize 16 = .ok (.iload_n 0, 1) := dk_26 (dk_at dksJ18_checkFromIndexSize_0 16 rfl rfl)
theorem dJ18_checkFromIndexSize_17 : decode cJ18_checkFromIndexSize 17 = .ok (.iload_n 1, 1) := dk_27 (dk_at dksJ18_checkFromIndexSize_0 17 rfl rfl)
theorem dJ18_checkFromIndexSize_18 : decode cJ18_checkFromIndexSize 18 = .ok (.iload_n 2, 1) := dk_28 (dk_at dksJ18_checkFromIndexSize_0 18 rfl rfl)
theorem dJ18_checkFromIndexSize_19 : decode cJ18_checkFromIndexSize 19 = .ok (.invokestatic 103, 3) := dk_184 0 103 (dk_at dksJ18_checkFromIndexSize_0 19 rfl rfl)
theorem dJ18_checkFromIndexSize_22 : decode cJ18_checkFromIndexSize 22 = .ok (.athrow, 1) := dk_191 (dk_at dksJ18_checkFromIndexSize_0 22 rfl rfl)
theorem dJ18_checkFromIndexSize_23 : decode cJ18_checkFromIndexSize 23 = .ok (.iload_n 0, 1) := dk_26 (dk_at dksJ18_checkFromIndexSize_0 23 rfl rfl)
theorem dJ18_checkFromIndexSize_24 : decode cJ18_checkFromIndexSize 24 = .ok (.ireturn, 1) := dk_172 (dk_at dksJ18_checkFromIndexSize_1 0 rfl rfl)
def dkwJ19_numberOfTrailingZeros_3 : List UInt8 := [5, 124, 59, 27, 26, 4, 124, 96, 172]
abbrev dktJ19_numberOfTrailingZeros_3 : List UInt8 := dkwJ19_numberOfTrailingZeros_3 ++ []
def dkwJ19_numberOfTrailingZeros_2 : List UInt8 := [124, 59, 26, 16, 16, 164, 0, 10, 132, 1, 4, 26, 7, 124, 59, 26, 7, 164, 0, 10, 132, 1, 2, 26]
abbrev dktJ19_numberOfTrailingZeros_2 : List UInt8 := dkwJ19_numberOfTrailingZeros_2 ++ dktJ19_numberOfTrailingZeros_3
def dkwJ19_numberOfTrailingZeros_1 : List UInt8 := [164, 0, 11, 132, 1, 16, 26, 16, 16, 124, 59, 26, 17, 1, 0, 164, 0, 11, 132, 1, 8, 26, 16, 8]
abbrev dktJ19_numberOfTrailingZeros_1 : List UInt8 := dkwJ19_numberOfTrailingZeros_1 ++ dktJ19_numberOfTrailingZeros_2
def dkwJ19_numberOfTrailingZeros_0 : List UInt8 := [26, 2, 130, 26, 4, 100, 126, 59, 26, 157, 0, 8, 26, 16, 32, 126, 172, 4, 60, 26, 19, 1, 8]
abbrev dktJ19_numberOfTrailingZeros_0 : List UInt8 := dkwJ19_numberOfTrailingZeros_0 ++ dktJ19_numberOfTrailingZeros_1
theorem dksJ19_numberOfTrailingZeros_0 : cJ19_numberOfTrailingZeros.data.toList.drop 0 = dktJ19_numberOfTrailingZeros_0 := by decide +kernel
theorem dksJ19_numberOfTrailingZeros_1 : cJ19_numberOfTrailingZeros.data.toList.drop 23 = dktJ19_numberOfTrailingZeros_1 := dk_seg dksJ19_numberOfTrailingZeros_0 23 rfl rfl
theorem dksJ19_numberOfTrailingZeros_2 : cJ19_numberOfTrailingZeros.data.toList.drop 47 = dktJ19_numberOfTrailingZeros_2 := dk_seg dksJ19_numberOfTrailingZeros_1 24 rfl rfl
theorem dksJ19_numberOfTrailingZeros_3 : cJ19_numberOfTrailingZeros.data.toList.drop 71 = dktJ19_numberOfTrailingZeros_3 := dk_seg dksJ19_numberOfTrailingZeros_2 24 rfl rfl
theorem dJ19_numberOfTrailingZeros_0 : decode cJ19_numberOfTrailingZeros 0 = .ok (.iload_n 0, 1) := dk_26 (dk_at dksJ19_numberOfTrailingZeros_0 0 rfl rfl)
theorem dJ19_numberOfTrailingZeros_1 : decode cJ19_numberOfTrailingZeros 1 = .ok (.iconst (-1), 1) := dk_2 (dk_at dksJ19_numberOfTrailingZeros_0 1 rfl rfl)
theorem dJ19_numberOfTrailingZeros_2 : decode cJ19_numberOfTrailingZeros 2 = .ok (.ixor, 1) := dk_130 (dk_at dksJ19_numberOfTrailingZeros_0 2 rfl rfl)
theorem dJ19_numberOfTrailingZeros_3 : decode cJ19_numberOfTrailingZeros 3 = .ok (.iload_n 0, 1) := dk_26 (dk_at dksJ19_numberOfTrailingZeros_0 3 rfl rfl)
theorem dJ19_numberOfTrailingZeros_4 : decode cJ19_numberOfTrailingZeros 4 = .ok (.iconst 1, 1) := dk_4 (dk_at dksJ19_numberOfTrailingZeros_0 4 rfl rfl)
theorem dJ19_numberOfTrailingZeros_5 : decode cJ19_numberOfTrailingZeros 5 = .ok (.isub, 1) := dk_100 (dk_at dksJ19_numberOfTrailingZeros_0 5 rfl rfl)
theorem dJ19_numberOfTrailingZeros_6 : decode cJ19_numberOfTrailingZeros 6 = .ok (.iand, 1) := dk_126 (dk_at dksJ19_numberOfTrailingZeros_0 6 rfl rfl)
theorem dJ19_numberOfTrailingZeros_7 : decode cJ19_numberOfTrailingZeros 7 = .ok (.istore_n 0, 1) := dk_59 (dk_at dksJ19_numberOfTrailingZeros_0 7 rfl rfl)
theorem dJ19_numberOfTrailingZeros_8 : decode cJ19_numberOfTrailingZeros 8 = .ok (.iload_n 0, 1) := dk_26 (dk_at dksJ19_numberOfTrailingZeros_0 8 rfl rfl)
theorem dJ19_numberOfTrailingZeros_9 : decode cJ19_numberOfTrailingZeros 9 = .ok (.ifCond .gt 8, 3) := dk_157 0 8 (dk_at dksJ19_numberOfTrailingZeros_0 9 rfl rfl)
theorem dJ19_numberOfTrailingZeros_12 : decode cJ19_numberOfTrailingZeros 12 = .ok (.iload_n 0, 1) := dk_26 (dk_at dksJ19_numberOfTrailingZeros_0 12 rfl rfl)
theorem dJ19_numberOfTrailingZeros_13 : decode cJ19_numberOfTrailingZeros 13 = .ok (.bipush 32, 2) := dk_16 32 (dk_at dksJ19_numberOfTrailingZeros_0 13 rfl rfl)
theorem dJ19_numberOfTrailingZeros_15 : decode cJ19_numberOfTrailingZeros 15 = .ok (.iand, 1) := dk_126 (dk_at dksJ19_numberOfTrailingZeros_0 15 rfl rfl)
theorem dJ19_numberOfTrailingZeros_16 : decode cJ19_numberOfTrailingZeros 16 = .ok (.ireturn, 1) := dk_172 (dk_at dksJ19_numberOfTrailingZeros_0 16 rfl rfl)
theorem dJ19_numberOfTrailingZeros_17 : decode cJ19_numberOfTrailingZeros 17 = .ok (.iconst 1, 1) := dk_4 (dk_at dksJ19_numberOfTrailingZeros_0 17 rfl rfl)
theorem dJ19_numberOfTrailingZeros_18 : decode cJ19_numberOfTrailingZeros 18 = .ok (.istore_n 1, 1) := dk_60 (dk_at dksJ19_numberOfTrailingZeros_0 18 rfl rfl)
theorem dJ19_numberOfTrailingZeros_19 : decode cJ19_numberOfTrailingZeros 19 = .ok (.iload_n 0, 1) := dk_26 (dk_at dksJ19_numberOfTrailingZeros_0 19 rfl rfl)
theorem dJ19_numberOfTrailingZeros_20 : decode cJ19_numberOfTrailingZeros 20 = .ok (.ldc_w 264, 3) := dk_19 1 8 (dk_at dksJ19_numberOfTrailingZeros_0 20 rfl rfl)
theorem dJ19_numberOfTrailingZeros_23 : decode cJ19_numberOfTrailingZeros 23 = .ok (.if_icmp .le 11, 3) := dk_164 0 11 (dk_at dksJ19_numberOfTrailingZeros_1 0 rfl rfl)
theorem dJ19_numberOfTrailingZeros_26 : decode cJ19_numberOfTrailingZeros 26 = .ok (.iinc 1 16, 3) := dk_132 1 16 (dk_at dksJ19_numberOfTrailingZeros_1 3 rfl rfl)
theorem dJ19_numberOfTrailingZeros_29 : decode cJ19_numberOfTrailingZeros 29 = .ok (.iload_n 0, 1) := dk_26 (dk_at dksJ19_numberOfTrailingZeros_1 6 rfl rfl)
theorem dJ19_numberOfTrailingZeros_30 : decode cJ19_numberOfTrailingZeros 30 = .ok (.bipush 16, 2) := dk_16 16 (dk_at dksJ19_numberOfTrailingZeros_1 7 rfl rfl)
theorem dJ19_numberOfTrailingZeros_32 : decode cJ19_numberOfTrailingZeros 32 = .ok (.iushr, 1) := dk_124 (dk_at dksJ19_numberOfTrailingZeros_1 9 rfl rfl)
theorem dJ19_numberOfTrailingZeros_33 : decode cJ19_numberOfTrailingZeros 33 = .ok (.istore_n 0, 1) := dk_59 (dk_at dksJ19_numberOfTrailingZeros_1 10 rfl rfl)
theorem dJ19_numberOfTrailingZeros_34 : decode cJ19_numberOfTrailingZeros 34 = .ok (.iload_n 0, 1) := dk_26 (dk_at dksJ19_numberOfTrailingZeros_1 11 rfl rfl)
theorem dJ19_numberOfTrailingZeros_35 : decode cJ19_numberOfTrailingZeros 35 = .ok (.sipush 256, 3) := dk_17 1 0 (dk_at dksJ19_numberOfTrailingZeros_1 12 rfl rfl)
theorem dJ19_numberOfTrailingZeros_38 : decode cJ19_numberOfTrailingZeros 38 = .ok (.if_icmp .le 11, 3) := dk_164 0 11 (dk_at dksJ19_numberOfTrailingZeros_1 15 rfl rfl)
theorem dJ19_numberOfTrailingZeros_41 : decode cJ19_numberOfTrailingZeros 41 = .ok (.iinc 1 8, 3) := dk_132 1 8 (dk_at dksJ19_numberOfTrailingZeros_1 18 rfl rfl)
theorem dJ19_numberOfTrailingZeros_44 : decode cJ19_numberOfTrailingZeros 44 = .ok (.iload_n 0, 1) := dk_26 (dk_at dksJ19_numberOfTrailingZeros_1 21 rfl rfl)
theorem dJ19_numberOfTrailingZeros_45 : decode cJ19_numberOfTrailingZeros 45 = .ok (.bipush 8, 2) := dk_16 8 (dk_at dksJ19_numberOfTrailingZeros_1 22 rfl rfl)
theorem dJ19_numberOfTrailingZeros_47 : decode cJ19_numberOfTrailingZeros 47 = .ok (.iushr, 1) := dk_124 (dk_at dksJ19_numberOfTrailingZeros_2 0 rfl rfl)
theorem dJ19_numberOfTrailingZeros_48 : decode cJ19_numberOfTrailingZeros 48 = .ok (.istore_n 0, 1) := dk_59 (dk_at dksJ19_numberOfTrailingZeros_2 1 rfl rfl)
theorem dJ19_numberOfTrailingZeros_49 : decode cJ19_numberOfTrailingZeros 49 = .ok (.iload_n 0, 1) := dk_26 (dk_at dksJ19_numberOfTrailingZeros_2 2 rfl rfl)
theorem dJ19_numberOfTrailingZeros_50 : decode cJ19_numberOfTrailingZeros 50 = .ok (.bipush 16, 2) := dk_16 16 (dk_at dksJ19_numberOfTrailingZeros_2 3 rfl rfl)
theorem dJ19_numberOfTrailingZeros_52 : decode cJ19_numberOfTrailingZeros 52 = .ok (.if_icmp .le 10, 3) := dk_164 0 10 (dk_at dksJ19_numberOfTrailingZeros_2 5 rfl rfl)
theorem dJ19_numberOfTrailingZeros_55 : decode cJ19_numberOfTrailingZeros 55 = .ok (.iinc 1 4, 3) := dk_132 1 4 (dk_at dksJ19_numberOfTrailingZeros_2 8 rfl rfl)
theorem dJ19_numberOfTrailingZeros_58 : decode cJ19_numberOfTrailingZeros 58 = .ok (.iload_n 0, 1) := dk_26 (dk_at dksJ19_numberOfTrailingZeros_2 11 rfl rfl)
theorem dJ19_numberOfTrailingZeros_59 : decode cJ19_numberOfTrailingZeros 59 = .ok (.iconst 4, 1) := dk_7 (dk_at dksJ19_numberOfTrailingZeros_2 12 rfl rfl)
theorem dJ19_numberOfTrailingZeros_60 : decode cJ19_numberOfTrailingZeros 60 = .ok (.iushr, 1) := dk_124 (dk_at dksJ19_numberOfTrailingZeros_2 13 rfl rfl)
theorem dJ19_numberOfTrailingZeros_61 : decode cJ19_numberOfTrailingZeros 61 = .ok (.istore_n 0, 1) := dk_59 (dk_at dksJ19_numberOfTrailingZeros_2 14 rfl rfl)
theorem dJ19_numberOfTrailingZeros_62 : decode cJ19_numberOfTrailingZeros 62 = .ok (.iload_n 0, 1) := dk_26 (dk_at dksJ19_numberOfTrailingZeros_2 15 rfl rfl)
theorem dJ19_numberOfTrailingZeros_63 : decode cJ19_numberOfTrailingZeros 63 = .ok (.iconst 4, 1) := dk_7 (dk_at dksJ19_numberOfTrailingZeros_2 16 rfl rfl)
theorem dJ19_numberOfTrailingZeros_64 : decode cJ19_numberOfTrailingZeros 64 = .ok (.if_icmp .le 10, 3) := dk_164 0 10 (dk_at dksJ19_numberOfTrailingZeros_2 17 rfl rfl)
theorem dJ19_numberOfTrailingZeros_67 : decode cJ19_numberOfTrailingZeros 67 = .ok (.iinc 1 2, 3) := dk_132 1 2 (dk_at dksJ19_numberOfTrailingZeros_2 20 rfl rfl)
theorem dJ19_numberOfTrailingZeros_70 : decode cJ19_numberOfTrailingZeros 70 = .ok (.iload_n 0, 1) := dk_26 (dk_at dksJ19_numberOfTrailingZeros_2 23 rfl rfl)
theorem dJ19_numberOfTrailingZeros_71 : decode cJ19_numberOfTrailingZeros 71 = .ok (.iconst 2, 1) := dk_5 (dk_at dksJ19_numberOfTrailingZeros_3 0 rfl rfl)
theorem dJ19_numberOfTrailingZeros_72 : decode cJ19_numberOfTrailingZeros 72 = .ok (.iushr, 1) := dk_124 (dk_at dksJ19_numberOfTrailingZeros_3 1 rfl rfl)
theorem dJ19_numberOfTrailingZeros_73 : decode cJ19_numberOfTrailingZeros 73 = .ok (.istore_n 0, 1) := dk_59 (dk_at dksJ19_numberOfTrailingZeros_3 2 rfl rfl)
theorem dJ19_numberOfTrailingZeros_74 : decode cJ19_numberOfTrailingZeros 74 = .ok (.iload_n 1, 1) := dk_27 (dk_at dksJ19_numberOfTrailingZeros_3 3 rfl rfl)
theorem dJ19_numberOfTrailingZeros_75 : decode cJ19_numberOfTrailingZeros 75 = .ok (.iload_n 0, 1) := dk_26 (dk_at dksJ19_numberOfTrailingZeros_3 4 rfl rfl)
theorem dJ19_numberOfTrailingZeros_76 : decode cJ19_numberOfTrailingZeros 76 = .ok (.iconst 1, 1) := dk_4 (dk_at dksJ19_numberOfTrailingZeros_3 5 rfl rfl)
theorem dJ19_numberOfTrailingZeros_77 : decode cJ19_numberOfTrailingZeros 77 = .ok (.iushr, 1) := dk_124 (dk_at dksJ19_numberOfTrailingZeros_3 6 rfl rfl)
theorem dJ19_numberOfTrailingZeros_78 : decode cJ19_numberOfTrailingZeros 78 = .ok (.iadd, 1) := dk_96 (dk_at dksJ19_numberOfTrailingZeros_3 7 rfl rfl)
theorem dJ19_numberOfTrailingZeros_79 : decode cJ19_numberOfTrailingZeros 79 = .ok (.ireturn, 1) := dk_172 (dk_at dksJ19_numberOfTrailingZeros_3 8 rfl rfl)
def dkwJ19_stringSize_1 : List UInt8 := [164, 0, 7, 29, 27, 96, 172, 16, 10, 28, 104, 61, 132, 3, 1, 167, 255, 233, 16, 10, 27, 96, 172]
abbrev dktJ19_stringSize_1 : List UInt8 := dkwJ19_stringSize_1 ++ []
def dkwJ19_stringSize_0 : List UInt8 := [4, 60, 26, 155, 0, 8, 3, 60, 26, 116, 59, 16, 246, 61, 4, 62, 29, 16, 10, 162, 0, 23, 26, 28]
abbrev dktJ19_stringSize_0 : List UInt8 := dkwJ19_stringSize_0 ++ dktJ19_stringSize_1
theorem dksJ19_stringSize_0 : cJ19_stringSize.data.toList.drop 0 = dktJ19_stringSize_0 := by decide +kernel
theorem dksJ19_stringSize_1 : cJ19_stringSize.data.toList.drop 24 = dktJ19_stringSize_1 := dk_seg dksJ19_stringSize_0 24 rfl rfl
theorem dJ19_stringSize_0 : decode cJ19_stringSize 0 = .ok (.iconst 1, 1) := dk_4 (dk_at dksJ19_stringSize_0 0 rfl rfl)
theorem dJ19_stringSize_1 : decode cJ19_stringSize 1 = .ok (.istore_n 1, 1) := dk_60 (dk_at dksJ19_stringSize_0 1 rfl rfl)
theorem dJ19_stringSize_2 : decode cJ19_stringSize 2 = .ok (.iload_n 0, 1) := dk_26 (dk_at dksJ19_stringSize_0 2 rfl rfl)
theorem dJ19_stringSize_3 : decode cJ19_stringSize 3 = .ok (.ifCond .lt 8, 3) := dk_155 0 8 (dk_at dksJ19_stringSize_0 3 rfl rfl)
theorem dJ19_stringSize_6 : decode cJ19_stringSize 6 = .ok (.iconst 0, 1) := dk_3 (dk_at dksJ19_stringSize_0 6 rfl rfl)
theorem dJ19_stringSize_7 : decode cJ19_stringSize 7 = .ok (.istore_n 1, 1) := dk_60 (dk_at dksJ19_stringSize_0 7 rfl rfl)
theorem dJ19_stringSize_8 : decode cJ19_stringSize 8 = .ok (.iload_n 0, 1) := dk_26 (dk_at dksJ19_stringSize_0 8 rfl rfl)
theorem dJ19_stringSize_9 : decode cJ19_stringSize 9 = .ok (.ineg, 1) := dk_116 (dk_at dksJ19_stringSize_0 9 rfl rfl)
theorem dJ19_stringSize_10 : decode cJ19_stringSize 10 = .ok (.istore_n 0, 1) := dk_59 (dk_at dksJ19_stringSize_0 10 rfl rfl)
theorem dJ19_stringSize_11 : decode cJ19_stringSize 11 = .ok (.bipush (-10), 2) := dk_16 246 (dk_at dksJ19_stringSize_0 11 rfl rfl)
theorem dJ19_stringSize_13 : decode cJ19_stringSize 13 = .ok (.istore_n 2, 1) := dk_61 (dk_at dksJ19_stringSize_0 13 rfl rfl)
theorem dJ19_stringSize_14 : decode cJ19_stringSize 14 = .ok (.iconst 1, 1) := dk_4 (dk_at dksJ19_stringSize_0 14 rfl rfl)
theorem dJ19_stringSize_15 : decode cJ19_stringSize 15 = .ok (.istore_n 3, 1) := dk_62 (dk_at dksJ19_stringSize_0 15 rfl rfl)
theorem dJ19_stringSize_16 : decode cJ19_stringSize 16 = .ok (.iload_n 3, 1) := dk_29 (dk_at dksJ19_stringSize_0 16 rfl rfl)
theorem dJ19_stringSize_17 : decode cJ19_stringSize 17 = .ok (.bipush 10, 2) := dk_16 10 (dk_at dksJ19_stringSize_0 17 rfl rfl)
theorem dJ19_stringSize_19 : decode cJ19_stringSize 19 = .ok (.if_icmp .ge 23, 3) := dk_162 0 23 (dk_at dksJ19_stringSize_0 19 rfl rfl)
theorem dJ19_stringSize_22 : decode cJ19_stringSize 22 = .ok (.iload_n 0, 1) := dk_26 (dk_at dksJ19_stringSize_0 22 rfl rfl)
theorem dJ19_stringSize_23 : decode cJ19_stringSize 23 = .ok (.iload_n 2, 1) := dk_28 (dk_at dksJ19_stringSize_0 23 rfl rfl)
theorem dJ19_stringSize_24 : decode cJ19_stringSize 24 = .ok (.if_icmp .le 7, 3) := dk_164 0 7 (dk_at dksJ19_stringSize_1 0 rfl rfl)
theorem dJ19_stringSize_27 : decode cJ19_stringSize 27 = .ok (.iload_n 3, 1) := dk_29 (dk_at dksJ19_stringSize_1 3 rfl rfl)
theorem dJ19_stringSize_28 : decode cJ19_stringSize 28 = .ok (.iload_n 1, 1) := dk_27 (dk_at dksJ19_stringSize_1 4 rfl rfl)
theorem dJ19_stringSize_29 : decode cJ19_stringSize 29 = .ok (.iadd, 1) := dk_96 (dk_at dksJ19_stringSize_1 5 rfl rfl)
theorem dJ19_stringSize_30 : decode cJ19_stringSize 30 = .ok (.ireturn, 1) := dk_172 (dk_at dksJ19_stringSize_1 6 rfl rfl)
theorem dJ19_stringSize_31 : decode cJ19_stringSize 31 = .ok (.bipush 10, 2) := dk_16 10 (dk_at dksJ19_stringSize_1 7 rfl rfl)
theorem dJ19_stringSize_33 : decode cJ19_stringSize 33 = .ok (.iload_n 2, 1) := dk_28 (dk_at dksJ19_stringSize_1 9 rfl rfl)
theorem dJ19_stringSize_34 : decode cJ19_stringSize 34 = .ok (.imul, 1) := dk_104 (dk_at dksJ19_stringSize_1 10 rfl rfl)
theorem dJ19_stringSize_35 : decode cJ19_stringSize 35 = .ok (.istore_n 2, 1) := dk_61 (dk_at dksJ19_stringSize_1 11 rfl rfl)
theorem dJ19_stringSize_36 : decode cJ19_stringSize 36 = .ok (.iinc 3 1, 3) := dk_132 3 1 (dk_at dksJ19_stringSize_1 12 rfl rfl)
theorem dJ19_stringSize_39 : decode cJ19_stringSize 39 = .ok (.goto (-23), 3) := dk_167 255 233 (dk_at dksJ19_stringSize_1 15 rfl rfl)
theorem dJ19_stringSize_42 : decode cJ19_stringSize 42 = .ok (.bipush 10, 2) := dk_16 10 (dk_at dksJ19_stringSize_1 18 rfl rfl)
theorem dJ19_stringSize_44 : decode cJ19_stringSize 44 = .ok (.iload_n 1, 1) := dk_27 (dk_at dksJ19_stringSize_1 20 rfl rfl)
theorem dJ19_stringSize_45 : decode cJ19_stringSize 45 = .ok (.iadd, 1) := dk_96 (dk_at dksJ19_stringSize_1 21 rfl rfl)
theorem dJ19_stringSize_46 : decode cJ19_stringSize 46 = .ok (.ireturn, 1) := dk_172 (dk_at dksJ19_stringSize_1 22 rfl rfl)
def dkwJ19_getChars_5 : List UInt8 := [16, 45, 84, 21, 5, 172]
abbrev dktJ19_getChars_5 : List UInt8 := dkwJ19_getChars_5 ++ []
def dkwJ19_getChars_4 : List UInt8 := [132, 5, 255, 21, 5, 178, 0, 87, 26, 116, 51, 84, 21, 6, 153, 0, 12, 44, 132, 5, 255, 21, 5]
abbrev dktJ19_getChars_4 : List UInt8 := dkwJ19_getChars_4 ++ dktJ19_getChars_5
def dkwJ19_getChars_3 : List UInt8 := [167, 255, 209, 44, 132, 5, 255, 21, 5, 178, 0, 83, 26, 116, 51, 84, 26, 16, 247, 162, 0, 16, 44]
abbrev dktJ19_getChars_3 : List UInt8 := dkwJ19_getChars_3 ++ dktJ19_getChars_4
def dkwJ19_getChars_2 : List UInt8 := [21, 5, 178, 0, 83, 21, 4, 51, 84, 44, 132, 5, 255, 21, 5, 178, 0, 87, 21, 4, 51, 84]
abbrev dktJ19_getChars_2 : List UInt8 := dkwJ19_getChars_2 ++ dktJ19_getChars_3
def dkwJ19_getChars_1 : List UInt8 := [16, 156, 163, 0, 47, 26, 16, 100, 108, 62, 29, 16, 100, 104, 26, 100, 54, 4, 29, 59, 44, 132, 5, 255]
abbrev dktJ19_getChars_1 : List UInt8 := dkwJ19_getChars_1 ++ dktJ19_getChars_2
def dkwJ19_getChars_0 : List UInt8 := [27, 54, 5, 26, 156, 0, 7, 4, 167, 0, 4, 3, 54, 6, 21, 6, 154, 0, 6, 26, 116, 59, 26]
abbrev dktJ19_getChars_0 : List UInt8 := dkwJ19_getChars_0 ++ dktJ19_getChars_1
theorem dksJ19_getChars_0 : cJ19_getChars.data.toList.drop 0 = dktJ19_getChars_0 := by decide +kernel
theorem dksJ19_getChars_1 : cJ19_getChars.data.toList.drop 23 = dktJ19_getChars_1 := dk_seg dksJ19_getChars_0 23 rfl rfl
theorem dksJ19_getChars_2 : cJ19_getChars.data.toList.drop 47 = dktJ19_getChars_2 := dk_seg dksJ19_getChars_1 24 rfl rfl
theorem dksJ19_getChars_3 : cJ19_getChars.data.toList.drop 69 = dktJ19_getChars_3 := dk_seg dksJ19_getChars_2 22 rfl rfl
theorem dksJ19_getChars_4 : cJ19_getChars.data.toList.drop 92 = dktJ19_getChars_4 := dk_seg dksJ19_getChars_3 23 rfl rfl
theorem dksJ19_getChars_5 : cJ19_getChars.data.toList.drop 115 = dktJ19_getChars_5 := dk_seg dksJ19_getChars_4 23 rfl rfl
theorem dJ19_getChars_0 : decode cJ19_getChars 0 = .ok (.iload_n 1, 1) := dk_27 (dk_at dksJ19_getChars_0 0 rfl rfl)
theorem dJ19_getChars_1 : decode cJ19_getChars 1 = .ok (.istore 5, 2) := dk_54 5 (dk_at dksJ19_getChars_0 1 rfl rfl)
theorem dJ19_getChars_3 : decode cJ19_getChars 3 = .ok (.iload_n 0, 1) := dk_26 (dk_at dksJ19_getChars_0 3 rfl rfl)
theorem dJ19_getChars_4 : decode cJ19_getChars 4 = .ok (.ifCond .ge 7, 3) := dk_156 0 7 (dk_at dksJ19_getChars_0 4 rfl rfl)
theorem dJ19_getChars_7 : decode cJ19_getChars 7 = .ok (.iconst 1, 1) := dk_4 (dk_at dksJ19_getChars_0 7 rfl rfl)
theorem dJ19_getChars_8 : decode cJ19_getChars 8 = .ok (.goto 4, 3) := dk_167 0 4 (dk_at dksJ19_getChars_0 8 rfl rfl)
theorem dJ19_getChars_11 : decode cJ19_getChars 11 = .ok (.iconst 0, 1) := dk_3 (dk_at dksJ19_getChars_0 11 rfl rfl)
theorem dJ19_getChars_12 : decode cJ19_getChars 12 = .ok (.istore 6, 2) := dk_54 6 (dk_at dksJ19_getChars_0 12 rfl rfl)
theorem dJ19_getChars_14 : decode cJ19_getChars 14 = .ok (.iload 6, 2) := dk_21 6 (dk_at dksJ19_getChars_0 14 rfl rfl)
theorem dJ19_getChars_16 : decode cJ19_getChars 16 = .ok (.ifCond .ne 6, 3) := dk_154 0 6 (dk_at dksJ19_getChars_0 16 rfl rfl)
theorem dJ19_getChars_19 : decode cJ19_getChars 19 = .ok (.iload_n 0, 1) := dk_26 (dk_at dksJ19_getChars_0 19 rfl rfl)
theorem dJ19_getChars_20 : decode cJ19_getChars 20 = .ok (.ineg, 1) := dk_116 (dk_at dksJ19_getChars_0 20 rfl rfl)
theorem dJ19_getChars_21 : decode cJ19_getChars 21 = .ok (.istore_n 0, 1) := dk_59 (dk_at dksJ19_getChars_0 21 rfl rfl)
theorem dJ19_getChars_22 : decode cJ19_getChars 22 = .ok (.iload_n 0, 1) := dk_26 (dk_at dksJ19_getChars_0 22 rfl rfl)
theorem dJ19_getChars_23 : decode cJ19_getChars 23 = .ok (.bipush (-100), 2) := dk_16 156 (dk_at dksJ19_getChars_1 0 rfl rfl)
theorem dJ19_getChars_25 : decode cJ19_getChars 25 = .ok (.if_icmp .gt 47, 3) := dk_163 0 47 (dk_at dksJ19_getChars_1 2 rfl rfl)
theorem dJ19_getChars_28 : decode cJ19_getChars 28 = .ok (.iload_n 0, 1) := dk_26 (dk_at dksJ19_getChars_1 5 rfl rfl)
theorem dJ19_getChars_29 : decode cJ19_getChars 29 = .ok (.bipush 100, 2) := dk_16 100 (dk_at dksJ19_getChars_1 6 rfl rfl)
theorem dJ19_getChars_31 : decode cJ19_getChars 31 = .ok (.idiv, 1) := dk_108 (dk_at dksJ19_getChars_1 8 rfl rfl)
theorem dJ19_getChars_32 : decode cJ19_getChars 32 = .ok (.istore_n 3, 1) := dk_62 (dk_at dksJ19_getChars_1 9 rfl rfl)
theorem dJ19_getChars_33 : decode cJ19_getChars 33 = .ok (.iload_n 3, 1) := dk_29 (dk_at dksJ19_getChars_1 10 rfl rfl)
theorem dJ19_getChars_34 : decode cJ19_getChars 34 = .ok (.bipush 100, 2) := dk_16 100 (dk_at dksJ19_getChars_1 11 rfl rfl)
theorem dJ19_getChars_36 : decode cJ19_getChars 36 = .ok (.imul, 1) := dk_104 (dk_at dksJ19_getChars_1 13 rfl rfl)
theorem dJ19_getChars_37 : decode cJ19_getChars 37 = .ok (.iload_n 0, 1) := dk_26 (dk_at dksJ19_getChars_1 14 rfl rfl)
theorem dJ19_getChars_38 : decode cJ19_getChars 38 = .ok (.isub, 1) := dk_100 (dk_at dksJ19_getChars_1 15 rfl rfl)
theorem dJ19_getChars_39 : decode cJ19_getChars 39 = .ok (.istore 4, 2) := dk_54 4 (dk_at dksJ19_getChars_1 16 rfl rfl)
theorem dJ19_getChars_41 : decode cJ19_getChars 41 = .ok (.iload_n 3, 1) := dk_29 (dk_at dksJ19_getChars_1 18 rfl rfl)
theorem dJ19_getChars_42 : decode cJ19_getChars 42 = .ok (.istore_n 0, 1) := dk_59 (dk_at dksJ19_getChars_1 19 rfl rfl)
theorem dJ19_getChars_43 : decode cJ19_getChars 43 = .ok (.aload_n 2, 1) := dk_44 (dk_at dksJ19_getChars_1 20 rfl rfl)
theorem dJ19_getChars_44 : decode cJ19_getChars 44 = .ok (.iinc 5 (-1), 3) := dk_132 5 255 (dk_at dksJ19_getChars_1 21 rfl rfl)
theorem dJ19_getChars_47 : decode cJ19_getChars 47 = .ok (.iload 5, 2) := dk_21 5 (dk_at dksJ19_getChars_2 0 rfl rfl)
theorem dJ19_getChars_49 : decode cJ19_getChars 49 = .ok (.getstatic 83, 3) := dk_178 0 83 (dk_at dksJ19_getChars_2 2 rfl rfl)
theorem dJ19_getChars_52 : decode cJ19_getChars 52 = .ok (.iload 4, 2) := dk_21 4 (dk_at dksJ19_getChars_2 5 rfl rfl)
theorem dJ19_getChars_54 : decode cJ19_getChars 54 = .ok (.baload, 1) := dk_51 (dk_at dksJ19_getChars_2 7 rfl rfl)
theorem dJ19_getChars_55 : decode cJ19_getChars 55 = .ok (.bastore, 1) := dk_84 (dk_at dksJ19_getChars_2 8 rfl rfl)
theorem dJ19_getChars_56 : decode cJ19_getChars 56 = .ok (.aload_n 2, 1) := dk_44 (dk_at dksJ19_getChars_2 9 rfl rfl)
theorem dJ19_getChars_57 : decode cJ19_getChars 57 = .ok (.iinc 5 (-1), 3) := dk_132 5 255 (dk_at dksJ19_getChars_2 10 rfl rfl)
theorem dJ19_getChars_60 : decode cJ19_getChars 60 = .ok (.iload 5, 2) := dk_21 5 (dk_at dksJ19_getChars_2 13 rfl rfl)
theorem dJ19_getChars_62 : decode cJ19_getChars 62 = .ok (.getstatic 87, 3) := dk_178 0 87 (dk_at dksJ19_getChars_2 15 rfl rfl)
theorem dJ19_getChars_65 : decode cJ19_getChars 65 = .ok (.iload 4, 2) := dk_21 4 (dk_at dksJ19_getChars_2 18 rfl rfl)
theorem dJ19_getChars_67 : decode cJ19_getChars 67 = .ok (.baload, 1) := dk_51 (dk_at dksJ19_getChars_2 20 rfl rfl)
theorem dJ19_getChars_68 : decode cJ19_getChars 68 = .ok (.bastore, 1) := dk_84 (dk_at dksJ19_getChars_2 21 rfl rfl)
theorem dJ19_getChars_69 : decode cJ19_getChars 69 = .ok (.goto (-47), 3) := dk_167 255 209 (dk_at dksJ19_getChars_3 0 rfl rfl)
theorem dJ19_getChars_72 : decode cJ19_getChars 72 = .ok (.aload_n 2, 1) := dk_44 (dk_at dksJ19_getChars_3 3 rfl rfl)
theorem dJ19_getChars_73 : decode cJ19_getChars 73 = .ok (.iinc 5 (-1), 3) := dk_132 5 255 (dk_at dksJ19_getChars_3 4 rfl rfl)
theorem dJ19_getChars_76 : decode cJ19_getChars 76 = .ok (.iload 5, 2) := dk_21 5 (dk_at dksJ19_getChars_3 7 rfl rfl)
theorem dJ19_getChars_78 : decode cJ19_getChars 78 = .ok (.getstatic 83, 3) := dk_178 0 83 (dk_at dksJ19_getChars_3 9 rfl rfl)
theorem dJ19_getChars_81 : decode cJ19_getChars 81 = .ok (.iload_n 0, 1) := dk_26 (dk_at dksJ19_getChars_3 12 rfl rfl)
theorem dJ19_getChars_82 : decode cJ19_getChars 82 = .ok (.ineg, 1) := dk_116 (dk_at dksJ19_getChars_3 13 rfl rfl)
theorem dJ19_getChars_83 : decode cJ19_getChars 83 = .ok (.baload, 1) := dk_51 (dk_at dksJ19_getChars_3 14 rfl rfl)
theorem dJ19_getChars_84 : decode cJ19_getChars 84 = .ok (.bastore, 1) := dk_84 (dk_at dksJ19_getChars_3 15 rfl rfl)
theorem dJ19_getChars_85 : decode cJ19_getChars 85 = .ok (.iload_n 0, 1) := dk_26 (dk_at dksJ19_getChars_3 16 rfl rfl)
theorem dJ19_getChars_86 : decode cJ19_getChars 86 = .ok (.bipush (-9), 2) := dk_16 247 (dk_at dksJ19_getChars_3 17 rfl rfl)
theorem dJ19_getChars_88 : decode cJ19_getChars 88 = .ok (.if_icmp .ge 16, 3) := dk_162 0 16 (dk_at dksJ19_getChars_3 19 rfl rfl)
theorem dJ19_getChars_91 : decode cJ19_getChars 91 = .ok (.aload_n 2, 1) := dk_44 (dk_at dksJ19_getChars_3 22 rfl rfl)
theorem dJ19_getChars_92 : decode cJ19_getChars 92 = .ok (.iinc 5 (-1), 3) := dk_132 5 255 (dk_at dksJ19_getChars_4 0 rfl rfl)
theorem dJ19_getChars_95 : decode cJ19_getChars 95 = .ok (.iload 5, 2) := dk_21 5 (dk_at dksJ19_getChars_4 3 rfl rfl)
theorem dJ19_getChars_97 : decode cJ19_getChars 97 = .ok (.getstatic 87, 3) := dk_178 0 87 (dk_at dksJ19_getChars_4 5 rfl rfl)
theorem dJ19_getChars_100 : decode cJ19_getChars 100 = .ok (.iload_n 0, 1) := dk_26 (dk_at dksJ19_getChars_4 8 rfl rfl)
theorem dJ19_getChars_101 : decode cJ19_getChars 101 = .ok (.ineg, 1) := dk_116 (dk_at dksJ19_getChars_4 9 rfl rfl)
theorem dJ19_getChars_102 : decode cJ19_getChars 102 = .ok (.baload, 1) := dk_51 (dk_at dksJ19_getChars_4 10 rfl rfl)
theorem dJ19_getChars_103 : decode cJ19_getChars 103 = .ok (.bastore, 1) := dk_84 (dk_at dksJ19_getChars_4 11 rfl rfl)
theorem dJ19_getChars_104 : decode cJ19_getChars 104 = .ok (.iload 6, 2) := dk_21 6 (dk_at dksJ19_getChars_4 12 rfl rfl)
theorem dJ19_getChars_106 : decode cJ19_getChars 106 = .ok (.ifCond .eq 12, 3) := dk_153 0 12 (dk_at dksJ19_getChars_4 14 rfl rfl)
theorem dJ19_getChars_109 : decode cJ19_getChars 109 = .ok (.aload_n 2, 1) := dk_44 (dk_at dksJ19_getChars_4 17 rfl rfl)
theorem dJ19_getChars_110 : decode cJ19_getChars 110 = .ok (.iinc 5 (-1), 3) := dk_132 5 255 (dk_at dksJ19_getChars_4 18 rfl rfl)
theorem dJ19_getChars_113 : decode cJ19_getChars 113 = .ok (.iload 5, 2) := dk_21 5 (dk_at dksJ19_getChars_4 21 rfl rfl)
theorem dJ19_getChars_115 : decode cJ19_getChars 115 = .ok (.bipush 45, 2) := dk_16 45 (dk_at dksJ19_getChars_5 0 rfl rfl)
theorem dJ19_getChars_117 : decode cJ19_getChars 117 = .ok (.bastore, 1) := dk_84 (dk_at dksJ19_getChars_5 2 rfl rfl)
theorem dJ19_getChars_118 : decode cJ19_getChars 118 = .ok (.iload 5, 2) := dk_21 5 (dk_at dksJ19_getChars_5 3 rfl rfl)
theorem dJ19_getChars_120 : decode cJ19_getChars 120 = .ok (.ireturn, 1) := dk_172 (dk_at dksJ19_getChars_5 5 rfl rfl)
def dkwJ19_bitCount_2 : List UInt8 := [26, 16, 63, 126, 172]
abbrev dktJ19_bitCount_2 : List UInt8 := dkwJ19_bitCount_2 ++ []
def dkwJ19_bitCount_1 : List UInt8 := [26, 26, 7, 124, 96, 19, 1, 11, 126, 59, 26, 26, 16, 8, 124, 96, 59, 26, 26, 16, 16, 124, 96, 59]
abbrev dktJ19_bitCount_1 : List UInt8 := dkwJ19_bitCount_1 ++ dktJ19_bitCount_2
def dkwJ19_bitCount_0 : List UInt8 := [26, 26, 4, 124, 19, 1, 9, 126, 100, 59, 26, 19, 1, 10, 126, 26, 5, 124, 19, 1, 10, 126, 96, 59]
abbrev dktJ19_bitCount_0 : List UInt8 := dkwJ19_bitCount_0 ++ dktJ19_bitCount_1
theorem dksJ19_bitCount_0 : cJ19_bitCount.data.toList.drop 0 = dktJ19_bitCount_0 := by decide +kernel
theorem dksJ19_bitCount_1 : cJ19_bitCount.data.toList.drop 24 = dktJ19_bitCount_1 := dk_seg dksJ19_bitCount_0 24 rfl rfl
theorem dksJ19_bitCount_2 : cJ19_bitCount.data.toList.drop 48 = dktJ19_bitCount_2 := dk_seg dksJ19_bitCount_1 24 rfl rfl
theorem dJ19_bitCount_0 : decode cJ19_bitCount 0 = .ok (.iload_n 0, 1) := dk_26 (dk_at dksJ19_bitCount_0 0 rfl rfl)
theorem dJ19_bitCount_1 : decode cJ19_bitCount 1 = .ok (.iload_n 0, 1) := dk_26 (dk_at dksJ19_bitCount_0 1 rfl rfl)
theorem dJ19_bitCount_2 : decode cJ19_bitCount 2 = .ok (.iconst 1, 1) := dk_4 (dk_at dksJ19_bitCount_0 2 rfl rfl)
theorem dJ19_bitCount_3 : decode cJ19_bitCount 3 = .ok (.iushr, 1) := dk_124 (dk_at dksJ19_bitCount_0 3 rfl rfl)
theorem dJ19_bitCount_4 : decode cJ19_bitCount 4 = .ok (.ldc_w 265, 3) := dk_19 1 9 (dk_at dksJ19_bitCount_0 4 rfl rfl)
theorem dJ19_bitCount_7 : decode cJ19_bitCount 7 = .ok (.iand, 1) := dk_126 (dk_at dksJ19_bitCount_0 7 rfl rfl)
theorem dJ19_bitCount_8 : decode cJ19_bitCount 8 = .ok (.isub, 1) := dk_100 (dk_at dksJ19_bitCount_0 8 rfl rfl)
theorem dJ19_bitCount_9 : decode cJ19_bitCount 9 = .ok (.istore_n 0, 1) := dk_59 (dk_at dksJ19_bitCount_0 9 rfl rfl)
theorem dJ19_bitCount_10 : decode cJ19_bitCount 10 = .ok (.iload_n 0, 1) := dk_26 (dk_at dksJ19_bitCount_0 10 rfl rfl)
theorem dJ19_bitCount_11 : decode cJ19_bitCount 11 = .ok (.ldc_w 266, 3) := dk_19 1 10 (dk_at dksJ19_bitCount_0 11 rfl rfl)
theorem dJ19_bitCount_14 : decode cJ19_bitCount 14 = .ok (.iand, 1) := dk_126 (dk_at dksJ19_bitCount_0 14 rfl rfl)
theorem dJ19_bitCount_15 : decode cJ19_bitCount 15 = .ok (.iload_n 0, 1) := dk_26 (dk_at dksJ19_bitCount_0 15 rfl rfl)
theorem dJ19_bitCount_16 : decode cJ19_bitCount 16 = .ok (.iconst 2, 1) := dk_5 (dk_at dksJ19_bitCount_0 16 rfl rfl)
theorem dJ19_bitCount_17 : decode cJ19_bitCount 17 = .ok (.iushr, 1) := dk_124 (dk_at dksJ19_bitCount_0 17 rfl rfl)
theorem dJ19_bitCount_18 : decode cJ19_bitCount 18 = .ok (.ldc_w 266, 3) := dk_19 1 10 (dk_at dksJ19_bitCount_0 18 rfl rfl)
theorem dJ19_bitCount_21 : decode cJ19_bitCount 21 = .ok (.iand, 1) := dk_126 (dk_at dksJ19_bitCount_0 21 rfl rfl)
theorem dJ19_bitCount_22 : decode cJ19_bitCount 22 = .ok (.iadd, 1) := dk_96 (dk_at dksJ19_bitCount_0 22 rfl rfl)
theorem dJ19_bitCount_23 : decode cJ19_bitCount 23 = .ok (.istore_n 0, 1) := dk_59 (dk_at dksJ19_bitCount_0 23 rfl rfl)
theorem dJ19_bitCount_24 : decode cJ19_bitCount 24 = .ok (.iload_n 0, 1) := dk_26 (dk_at dksJ19_bitCount_1 0 rfl rfl)
theorem dJ19_bitCount_25 : decode cJ19_bitCount 25 = .ok (.iload_n 0, 1) := dk_26 (dk_at dksJ19_bitCount_1 1 rfl rfl)
theorem dJ19_bitCount_26 : decode cJ19_bitCount 26 = .ok (.iconst 4, 1) := dk_7 (dk_at dksJ19_bitCount_1 2 rfl rfl)
theorem dJ19_bitCount_27 : decode cJ19_bitCount 27 = .ok (.iushr, 1) := dk_124 (dk_at dksJ19_bitCount_1 3 rfl rfl)
theorem dJ19_bitCount_28 : decode cJ19_bitCount 28 = .ok (.iadd, 1) := dk_96 (dk_at dksJ19_bitCount_1 4 rfl rfl)
theorem dJ19_bitCount_29 : decode cJ19_bitCount 29 = .ok (.ldc_w 267, 3) := dk_19 1 11 (dk_at dksJ19_bitCount_1 5 rfl rfl)
theorem dJ19_bitCount_32 : decode cJ19_bitCount 32 = .ok (.iand, 1) := dk_126 (dk_at dksJ19_bitCount_1 8 rfl rfl)
theorem dJ19_bitCount_33 : decode cJ19_bitCount 33 = .ok (.istore_n 0, 1) := dk_59 (dk_at dksJ19_bitCount_1 9 rfl rfl)
theorem dJ19_bitCount_34 : decode cJ19_bitCount 34 = .ok (.iload_n 0, 1) := dk_26 (dk_at dksJ19_bitCount_1 10 rfl rfl)
theorem dJ19_bitCount_35 : decode cJ19_bitCount 35 = .ok (.iload_n 0, 1) := dk_26 (dk_at dksJ19_bitCount_1 11 rfl rfl)
theorem dJ19_bitCount_36 : decode cJ19_bitCount 36 = .ok (.bipush 8, 2) := dk_16 8 (dk_at dksJ19_bitCount_1 12 rfl rfl)
theorem dJ19_bitCount_38 : decode cJ19_bitCount 38 = .ok (.iushr, 1) := dk_124 (dk_at dksJ19_bitCount_1 14 rfl rfl)
theorem dJ19_bitCount_39 : decode cJ19_bitCount 39 = .ok (.iadd, 1) := dk_96 (dk_at dksJ19_bitCount_1 15 rfl rfl)
theorem dJ19_bitCount_40 : decode cJ19_bitCount 40 = .ok (.istore_n 0, 1) := dk_59 (dk_at dksJ19_bitCount_1 16 rfl rfl)
theorem dJ19_bitCount_41 : decode cJ19_bitCount 41 = .ok (.iload_n 0, 1) := dk_26 (dk_at dksJ19_bitCount_1 17 rfl rfl)
theorem dJ19_bitCount_42 : decode cJ19_bitCount 42 = .ok (.iload_n 0, 1) := dk_26 (dk_at dksJ19_bitCount_1 18 rfl rfl)
theorem dJ19_bitCount_43 : decode cJ19_bitCount 43 = .ok (.bipush 16, 2) := dk_16 16 (dk_at dksJ19_bitCount_1 19 rfl rfl)
theorem dJ19_bitCount_45 : decode cJ19_bitCount 45 = .ok (.iushr, 1) := dk_124 (dk_at dksJ19_bitCount_1 21 rfl rfl)
theorem dJ19_bitCount_46 : decode cJ19_bitCount 46 = .ok (.iadd, 1) := dk_96 (dk_at dksJ19_bitCount_1 22 rfl rfl)
theorem dJ19_bitCount_47 : decode cJ19_bitCount 47 = .ok (.istore_n 0, 1) := dk_59 (dk_at dksJ19_bitCount_1 23 rfl rfl)
theorem dJ19_bitCount_48 : decode cJ19_bitCount 48 = .ok (.iload_n 0, 1) := dk_26 (dk_at dksJ19_bitCount_2 0 rfl rfl)
theorem dJ19_bitCount_49 : decode cJ19_bitCount 49 = .ok (.bipush 63, 2) := dk_16 63 (dk_at dksJ19_bitCount_2 1 rfl rfl)
theorem dJ19_bitCount_51 : decode cJ19_bitCount 51 = .ok (.iand, 1) := dk_126 (dk_at dksJ19_bitCount_2 3 rfl rfl)
theorem dJ19_bitCount_52 : decode cJ19_bitCount 52 = .ok (.ireturn, 1) := dk_172 (dk_at dksJ19_bitCount_2 4 rfl rfl)
def dkwJ19_numberOfLeadingZeros_3 : List UInt8 := [5, 124, 59, 27, 26, 4, 124, 100, 172]
abbrev dktJ19_numberOfLeadingZeros_3 : List UInt8 := dkwJ19_numberOfLeadingZeros_3 ++ []
def dkwJ19_numberOfLeadingZeros_2 : List UInt8 := [124, 59, 26, 16, 16, 161, 0, 10, 132, 1, 252, 26, 7, 124, 59, 26, 7, 161, 0, 10, 132, 1, 254, 26]
abbrev dktJ19_numberOfLeadingZeros_2 : List UInt8 := dkwJ19_numberOfLeadingZeros_2 ++ dktJ19_numberOfLeadingZeros_3
def dkwJ19_numberOfLeadingZeros_1 : List UInt8 := [161, 0, 11, 132, 1, 240, 26, 16, 16, 124, 59, 26, 17, 1, 0, 161, 0, 11, 132, 1, 248, 26, 16, 8]
abbrev dktJ19_numberOfLeadingZeros_1 : List UInt8 := dkwJ19_numberOfLeadingZeros_1 ++ dktJ19_numberOfLeadingZeros_2
def dkwJ19_numberOfLeadingZeros_0 : List UInt8 := [26, 157, 0, 14, 26, 154, 0, 8, 16, 32, 167, 0, 4, 3, 172, 16, 31, 60, 26, 19, 1, 8]
abbrev dktJ19_numberOfLeadingZeros_0 : List UInt8 := dkwJ19_numberOfLeadingZeros_0 ++ dktJ19_numberOfLeadingZeros_1
theorem dksJ19_numberOfLeadingZeros_0 : cJ19_numberOfLeadingZeros.data.toList.drop 0 = dktJ19_numberOfLeadingZeros_0 := by decide +kernel
theorem dksJ19_numberOfLeadingZeros_1 : cJ19_numberOfLeadingZeros.data.toList.drop 22 = dktJ19_numberOfLeadingZeros_1 := dk_seg dksJ19_numberOfLeadingZeros_0 22 rfl rfl
theorem dksJ19_numberOfLeadingZeros_2 : cJ19_numberOfLeadingZeros.data.toList.drop 46 = dktJ19_numberOfLeadingZeros_2 := dk_seg dksJ19_numberOfLeadingZeros_1 24 rfl rfl
theorem dksJ19_numberOfLeadingZeros_3 : cJ19_numberOfLeadingZeros.data.toList.drop 70 = dktJ19_numberOfLeadingZeros_3 := dk_seg dksJ19_numberOfLeadingZeros_2 24 rfl rfl
theorem dJ19_numberOfLeadingZeros_0 : decode cJ19_numberOfLeadingZeros 0 = .ok (.iload_n 0, 1) := dk_26 (dk_at dksJ19_numberOfLeadingZeros_0 0 rfl rfl)
theorem dJ19_numberOfLeadingZeros_1 : decode cJ19_numberOfLeadingZeros 1 = .ok (.ifCond .gt 14, 3) := dk_157 0 14 (dk_at dksJ19_numberOfLeadingZeros_0 1 rfl rfl)
theorem dJ19_numberOfLeadingZeros_4 : decode cJ19_numberOfLeadingZeros 4 = .ok (.iload_n 0, 1) := dk_26 (dk_at dksJ19_numberOfLeadingZeros_0 4 rfl rfl)
theorem dJ19_numberOfLeadingZeros_5 : decode cJ19_numberOfLeadingZeros 5 = .ok (.ifCond .ne 8, 3) := dk_154 0 8 (dk_at dksJ19_numberOfLeadingZeros_0 5 rfl rfl)
theorem dJ19_numberOfLeadingZeros_8 : decode cJ19_numberOfLeadingZeros 8 = .ok (.bipush 32, 2) := dk_16 32 (dk_at dksJ19_numberOfLeadingZeros_0 8 rfl rfl)
theorem dJ19_numberOfLeadingZeros_10 : decode cJ19_numberOfLeadingZeros 10 = .ok (.goto 4, 3) := dk_167 0 4 (dk_at dksJ19_numberOfLeadingZeros_0 10 rfl rfl)
theorem dJ19_numberOfLeadingZeros_13 : decode cJ19_numberOfLeadingZeros 13 = .ok (.iconst 0, 1) := dk_3 (dk_at dksJ19_numberOfLeadingZeros_0 13 rfl rfl)
theorem dJ19_numberOfLeadingZeros_14 : decode cJ19_numberOfLeadingZeros 14 = .ok (.ireturn, 1) := dk_172 (dk_at dksJ19_numberOfLeadingZeros_0 14 rfl rfl)
theorem dJ19_numberOfLeadingZeros_15 : decode cJ19_numberOfLeadingZeros 15 = .ok (.bipush 31, 2) := dk_16 31 (dk_at dksJ19_numberOfLeadingZeros_0 15 rfl rfl)
theorem dJ19_numberOfLeadingZeros_17 : decode cJ19_numberOfLeadingZeros 17 = .ok (.istore_n 1, 1) := dk_60 (dk_at dksJ19_numberOfLeadingZeros_0 17 rfl rfl)
theorem dJ19_numberOfLeadingZeros_18 : decode cJ19_numberOfLeadingZeros 18 = .ok (.iload_n 0, 1) := dk_26 (dk_at dksJ19_numberOfLeadingZeros_0 18 rfl rfl)
theorem dJ19_numberOfLeadingZeros_19 : decode cJ19_numberOfLeadingZeros 19 = .ok (.ldc_w 264, 3) := dk_19 1 8 (dk_at dksJ19_numberOfLeadingZeros_0 19 rfl rfl)
theorem dJ19_numberOfLeadingZeros_22 : decode cJ19_numberOfLeadingZeros 22 = .ok (.if_icmp .lt 11, 3) := dk_161 0 11 (dk_at dksJ19_numberOfLeadingZeros_1 0 rfl rfl)
theorem dJ19_numberOfLeadingZeros_25 : decode cJ19_numberOfLeadingZeros 25 = .ok (.iinc 1 (-16), 3) := dk_132 1 240 (dk_at dksJ19_numberOfLeadingZeros_1 3 rfl rfl)
theorem dJ19_numberOfLeadingZeros_28 : decode cJ19_numberOfLeadingZeros 28 = .ok (.iload_n 0, 1) := dk_26 (dk_at dksJ19_numberOfLeadingZeros_1 6 rfl rfl)
theorem dJ19_numberOfLeadingZeros_29 : decode cJ19_numberOfLeadingZeros 29 = .ok (.bipush 16, 2) := dk_16 16 (dk_at dksJ19_numberOfLeadingZeros_1 7 rfl rfl)
theorem dJ19_numberOfLeadingZeros_31 : decode cJ19_numberOfLeadingZeros 31 = .ok (.iushr, 1) := dk_124 (dk_at dksJ19_numberOfLeadingZeros_1 9 rfl rfl)
theorem dJ19_numberOfLeadingZeros_32 : decode cJ19_numberOfLeadingZeros 32 = .ok (.istore_n 0, 1) := dk_59 (dk_at dksJ19_numberOfLeadingZeros_1 10 rfl rfl)
theorem dJ19_numberOfLeadingZeros_33 : decode cJ19_numberOfLeadingZeros 33 = .ok (.iload_n 0, 1) := dk_26 (dk_at dksJ19_numberOfLeadingZeros_1 11 rfl rfl)
theorem dJ19_numberOfLeadingZeros_34 : decode cJ19_numberOfLeadingZeros 34 = .ok (.sipush 256, 3) := dk_17 1 0 (dk_at dksJ19_numberOfLeadingZeros_1 12 rfl rfl)
theorem dJ19_numberOfLeadingZeros_37 : decode cJ19_numberOfLeadingZeros 37 = .ok (.if_icmp .lt 11, 3) := dk_161 0 11 (dk_at dksJ19_numberOfLeadingZeros_1 15 rfl rfl)
theorem dJ19_numberOfLeadingZeros_40 : decode cJ19_numberOfLeadingZeros 40 = .ok (.iinc 1 (-8), 3) := dk_132 1 248 (dk_at dksJ19_numberOfLeadingZeros_1 18 rfl rfl)
theorem dJ19_numberOfLeadingZeros_43 : decode cJ19_numberOfLeadingZeros 43 = .ok (.iload_n 0, 1) := dk_26 (dk_at dksJ19_numberOfLeadingZeros_1 21 rfl rfl)
theorem dJ19_numberOfLeadingZeros_44 : decode cJ19_numberOfLeadingZeros 44 = .ok (.bipush 8, 2) := dk_16 8 (dk_at dksJ19_numberOfLeadingZeros_1 22 rfl rfl)
theorem dJ19_numberOfLeadingZeros_46 : decode cJ19_numberOfLeadingZeros 46 = .ok (.iushr, 1) := dk_124 (dk_at dksJ19_numberOfLeadingZeros_2 0 rfl rfl)
theorem dJ19_numberOfLeadingZeros_47 : decode cJ19_numberOfLeadingZeros 47 = .ok (.istore_n 0, 1) := dk_59 (dk_at dksJ19_numberOfLeadingZeros_2 1 rfl rfl)
theorem dJ19_numberOfLeadingZeros_48 : decode cJ19_numberOfLeadingZeros 48 = .ok (.iload_n 0, 1) := dk_26 (dk_at dksJ19_numberOfLeadingZeros_2 2 rfl rfl)
theorem dJ19_numberOfLeadingZeros_49 : decode cJ19_numberOfLeadingZeros 49 = .ok (.bipush 16, 2) := dk_16 16 (dk_at dksJ19_numberOfLeadingZeros_2 3 rfl rfl)
theorem dJ19_numberOfLeadingZeros_51 : decode cJ19_numberOfLeadingZeros 51 = .ok (.if_icmp .lt 10, 3) := dk_161 0 10 (dk_at dksJ19_numberOfLeadingZeros_2 5 rfl rfl)
theorem dJ19_numberOfLeadingZeros_54 : decode cJ19_numberOfLeadingZeros 54 = .ok (.iinc 1 (-4), 3) := dk_132 1 252 (dk_at dksJ19_numberOfLeadingZeros_2 8 rfl rfl)
theorem dJ19_numberOfLeadingZeros_57 : decode cJ19_numberOfLeadingZeros 57 = .ok (.iload_n 0, 1) := dk_26 (dk_at dksJ19_numberOfLeadingZeros_2 11 rfl rfl)
theorem dJ19_numberOfLeadingZeros_58 : decode cJ19_numberOfLeadingZeros 58 = .ok (.iconst 4, 1) := dk_7 (dk_at dksJ19_numberOfLeadingZeros_2 12 rfl rfl)
theorem dJ19_numberOfLeadingZeros_59 : decode cJ19_numberOfLeadingZeros 59 = .ok (.iushr, 1) := dk_124 (dk_at dksJ19_numberOfLeadingZeros_2 13 rfl rfl)
theorem dJ19_numberOfLeadingZeros_60 : decode cJ19_numberOfLeadingZeros 60 = .ok (.istore_n 0, 1) := dk_59 (dk_at dksJ19_numberOfLeadingZeros_2 14 rfl rfl)
theorem dJ19_numberOfLeadingZeros_61 : decode cJ19_numberOfLeadingZeros 61 = .ok (.iload_n 0, 1) := dk_26 (dk_at dksJ19_numberOfLeadingZeros_2 15 rfl rfl)
theorem dJ19_numberOfLeadingZeros_62 : decode cJ19_numberOfLeadingZeros 62 = .ok (.iconst 4, 1) := dk_7 (dk_at dksJ19_numberOfLeadingZeros_2 16 rfl rfl)
theorem dJ19_numberOfLeadingZeros_63 : decode cJ19_numberOfLeadingZeros 63 = .ok (.if_icmp .lt 10, 3) := dk_161 0 10 (dk_at dksJ19_numberOfLeadingZeros_2 17 rfl rfl)
theorem dJ19_numberOfLeadingZeros_66 : decode cJ19_numberOfLeadingZeros 66 = .ok (.iinc 1 (-2), 3) := dk_132 1 254 (dk_at dksJ19_numberOfLeadingZeros_2 20 rfl rfl)
theorem dJ19_numberOfLeadingZeros_69 : decode cJ19_numberOfLeadingZeros 69 = .ok (.iload_n 0, 1) := dk_26 (dk_at dksJ19_numberOfLeadingZeros_2 23 rfl rfl)
theorem dJ19_numberOfLeadingZeros_70 : decode cJ19_numberOfLeadingZeros 70 = .ok (.iconst 2, 1) := dk_5 (dk_at dksJ19_numberOfLeadingZeros_3 0 rfl rfl)
theorem dJ19_numberOfLeadingZeros_71 : decode cJ19_numberOfLeadingZeros 71 = .ok (.iushr, 1) := dk_124 (dk_at dksJ19_numberOfLeadingZeros_3 1 rfl rfl)
theorem dJ19_numberOfLeadingZeros_72 : decode cJ19_numberOfLeadingZeros 72 = .ok (.istore_n 0, 1) := dk_59 (dk_at dksJ19_numberOfLeadingZeros_3 2 rfl rfl)
theorem dJ19_numberOfLeadingZeros_73 : decode cJ19_numberOfLeadingZeros 73 = .ok (.iload_n 1, 1) := dk_27 (dk_at dksJ19_numberOfLeadingZeros_3 3 rfl rfl)
theorem dJ19_numberOfLeadingZeros_74 : decode cJ19_numberOfLeadingZeros 74 = .ok (.iload_n 0, 1) := dk_26 (dk_at dksJ19_numberOfLeadingZeros_3 4 rfl rfl)
theorem dJ19_numberOfLeadingZeros_75 : decode cJ19_numberOfLeadingZeros 75 = .ok (.iconst 1, 1) := dk_4 (dk_at dksJ19_numberOfLeadingZeros_3 5 rfl rfl)
theorem dJ19_numberOfLeadingZeros_76 : decode cJ19_numberOfLeadingZeros 76 = .ok (.iushr, 1) := dk_124 (dk_at dksJ19_numberOfLeadingZeros_3 6 rfl rfl)
theorem dJ19_numberOfLeadingZeros_77 : decode cJ19_numberOfLeadingZeros 77 = .ok (.isub, 1) := dk_100 (dk_at dksJ19_numberOfLeadingZeros_3 7 rfl rfl)
theorem dJ19_numberOfLeadingZeros_78 : decode cJ19_numberOfLeadingZeros 78 = .ok (.ireturn, 1) := dk_172 (dk_at dksJ19_numberOfLeadingZeros_3 8 rfl rfl)
theorem dJ20_ordinal_0 : decode cJ20_ordinal 0 = .ok (.aload_n 0, 1) := by decide +kernel
theorem dJ20_ordinal_1 : decode cJ20_ordinal 1 = .ok (.getfield 7, 3) := by decide +kernel
theorem dJ20_ordinal_4 : decode cJ20_ordinal 4 = .ok (.ireturn, 1) := by decide +kernel
def dkwJ20_equals_0 : List UInt8 := [42, 43, 166, 0, 7, 4, 167, 0, 4, 3, 172]
abbrev dktJ20_equals_0 : List UInt8 := dkwJ20_equals_0 ++ []
theorem dksJ20_equals_0 : cJ20_equals.data.toList.drop 0 = dktJ20_equals_0 := by decide +kernel
theorem dJ20_equals_0 : decode cJ20_equals 0 = .ok (.aload_n 0, 1) := dk_42 (dk_at dksJ20_equals_0 0 rfl rfl)
theorem dJ20_equals_1 : decode cJ20_equals 1 = .ok (.aload_n 1, 1) := dk_43 (dk_at dksJ20_equals_0 1 rfl rfl)
theorem dJ20_equals_2 : decode cJ20_equals 2 = .ok (.if_acmp .ne 7, 3) := dk_166 0 7 (dk_at dksJ20_equals_0 2 rfl rfl)
theorem dJ20_equals_5 : decode cJ20_equals 5 = .ok (.iconst 1, 1) := dk_4 (dk_at dksJ20_equals_0 5 rfl rfl)
theorem dJ20_equals_6 : decode cJ20_equals 6 = .ok (.goto 4, 3) := dk_167 0 4 (dk_at dksJ20_equals_0 6 rfl rfl)
theorem dJ20_equals_9 : decode cJ20_equals 9 = .ok (.iconst 0, 1) := dk_3 (dk_at dksJ20_equals_0 9 rfl rfl)
theorem dJ20_equals_10 : decode cJ20_equals 10 = .ok (.ireturn, 1) := dk_172 (dk_at dksJ20_equals_0 10 rfl rfl)
def dkwJ21_get_2 : List UInt8 := [42, 180, 0, 11, 28, 47, 10, 27, 121, 127, 9, 148, 153, 0, 7, 4, 167, 0, 4, 3, 172]
abbrev dktJ21_get_2 : List UInt8 := dkwJ21_get_2 ++ []
def dkwJ21_get_1 : List UInt8 := [182, 0, 45, 183, 0, 146, 191, 42, 182, 0, 56, 27, 184, 0, 52, 61, 28, 42, 180, 0, 7, 162, 0, 22]
abbrev dktJ21_get_1 : List UInt8 := dkwJ21_get_1 ++ dktJ21_get_2
def dkwJ21_get_0 : List UInt8 := [27, 156, 0, 30, 187, 0, 142, 89, 187, 0, 33, 89, 183, 0, 35, 18, 153, 182, 0, 38, 27, 182, 0, 42]
abbrev dktJ21_get_0 : List UInt8 := dkwJ21_get_0 ++ dktJ21_get_1
theorem dksJ21_get_0 : cJ21_get.data.toList.drop 0 = dktJ21_get_0 := by decide +kernel
theorem dksJ21_get_1 : cJ21_get.data.toList.drop 24 = dktJ21_get_1 := dk_seg dksJ21_get_0 24 rfl rfl
theorem dksJ21_get_2 : cJ21_get.data.toList.drop 48 = dktJ21_get_2 := dk_seg dksJ21_get_1 24 rfl rfl
theorem dJ21_get_0 : decode cJ21_get 0 = .ok (.iload_n 1, 1) := dk_27 (dk_at dksJ21_get_0 0 rfl rfl)
theorem dJ21_get_1 : decode cJ21_get 1 = .ok (.ifCond .ge 30, 3) := dk_156 0 30 (dk_at dksJ21_get_0 1 rfl rfl)
theorem dJ21_get_4 : decode cJ21_get 4 = .ok (.new 142, 3) := dk_187 0 142 (dk_at dksJ21_get_0 4 rfl rfl)
theorem dJ21_get_7 : decode cJ21_get 7 = .ok (.dup, 1) := dk_89 (dk_at dksJ21_get_0 7 rfl rfl)
theorem dJ21_get_8 : decode cJ21_get 8 = .ok (.new 33, 3) := dk_187 0 33 (dk_at dksJ21_get_0 8 rfl rfl)
theorem dJ21_get_11 : decode cJ21_get 11 = .ok (.dup, 1) := dk_89 (dk_at dksJ21_get_0 11 rfl rfl)
theorem dJ21_get_12 : decode cJ21_get 12 = .ok (.invokespecial 35, 3) := dk_183 0 35 (dk_at dksJ21_get_0 12 rfl rfl)
theorem dJ21_get_15 : decode cJ21_get 15 = .ok (.ldc 153, 2) := dk_18 153 (dk_at dksJ21_get_0 15 rfl rfl)
theorem dJ21_get_17 : decode cJ21_get 17 = .ok (.invokevirtual 38, 3) := dk_182 0 38 (dk_at dksJ21_get_0 17 rfl rfl)
theorem dJ21_get_20 : decode cJ21_get 20 = .ok (.iload_n 1, 1) := dk_27 (dk_at dksJ21_get_0 20 rfl rfl)
theorem dJ21_get_21 : decode cJ21_get 21 = .ok (.invokevirtual 42, 3) := dk_182 0 42 (dk_at dksJ21_get_0 21 rfl rfl)
theorem dJ21_get_24 : decode cJ21_get 24 = .ok (.invokevirtual 45, 3) := dk_182 0 45 (dk_at dksJ21_get_1 0 rfl rfl)
theorem dJ21_get_27 : decode cJ21_get 27 = .ok (.invokespecial 146, 3) := dk_183 0 146 (dk_at dksJ21_get_1 3 rfl rfl)
theorem dJ21_get_30 : decode cJ21_get 30 = .ok (.athrow, 1) := dk_191 (dk_at dksJ21_get_1 6 rfl rfl)
theorem dJ21_get_31 : decode cJ21_get 31 = .ok (.aload_n 0, 1) := dk_42 (dk_at dksJ21_get_1 7 rfl rfl)
theorem dJ21_get_32 : decode cJ21_get 32 = .ok (.invokevirtual 56, 3) := dk_182 0 56 (dk_at dksJ21_get_1 8 rfl rfl)
theorem dJ21_get_35 : decode cJ21_get 35 = .ok (.iload_n 1, 1) := dk_27 (dk_at dksJ21_get_1 11 rfl rfl)
theorem dJ21_get_36 : decode cJ21_get 36 = .ok (.invokestatic 52, 3) := dk_184 0 52 (dk_at dksJ21_get_1 12 rfl rfl)
theorem dJ21_get_39 : decode cJ21_get 39 = .ok (.istore_n 2, 1) := dk_61 (dk_at dksJ21_get_1 15 rfl rfl)
theorem dJ21_get_40 : decode cJ21_get 40 = .ok (.iload_n 2, 1) := dk_28 (dk_at dksJ21_get_1 16 rfl rfl)
theorem dJ21_get_41 : decode cJ21_get 41 = .ok (.aload_n 0, 1) := dk_42 (dk_at dksJ21_get_1 17 rfl rfl)
theorem dJ21_get_42 : decode cJ21_get 42 = .ok (.getfield 7, 3) := dk_180 0 7 (dk_at dksJ21_get_1 18 rfl rfl)
theorem dJ21_get_45 : decode cJ21_get 45 = .ok (.if_icmp .ge 22, 3) := dk_162 0 22 (dk_at dksJ21_get_1 21 rfl rfl)
theorem dJ21_get_48 : decode cJ21_get 48 = .ok (.aload_n 0, 1) := dk_42 (dk_at dksJ21_get_2 0 rfl rfl)
theorem dJ21_get_49 : decode cJ21_get 49 = .ok (.getfield 11, 3) := dk_180 0 11 (dk_at dksJ21_get_2 1 rfl rfl)
theorem dJ21_get_52 : decode cJ21_get 52 = .ok (.iload_n 2, 1) := dk_28 (dk_at dksJ21_get_2 4 rfl rfl)
theorem dJ21_get_53 : decode cJ21_get 53 = .ok (.laload, 1) := dk_47 (dk_at dksJ21_get_2 5 rfl rfl)
theorem dJ21_get_54 : decode cJ21_get 54 = .ok (.lconst 1, 1) := dk_10 (dk_at dksJ21_get_2 6 rfl rfl)
theorem dJ21_get_55 : decode cJ21_get 55 = .ok (.iload_n 1, 1) := dk_27 (dk_at dksJ21_get_2 7 rfl rfl)
theorem dJ21_get_56 : decode cJ21_get 56 = .ok (.lshl, 1) := dk_121 (dk_at dksJ21_get_2 8 rfl rfl)
theorem dJ21_get_57 : decode cJ21_get 57 = .ok (.land, 1) := dk_127 (dk_at dksJ21_get_2 9 rfl rfl)
theorem dJ21_get_58 : decode cJ21_get 58 = .ok (.lconst 0, 1) := dk_9 (dk_at dksJ21_get_2 10 rfl rfl)
theorem dJ21_get_59 : decode cJ21_get 59 = .ok (.lcmp, 1) := dk_148 (dk_at dksJ21_get_2 11 rfl rfl)
theorem dJ21_get_60 : decode cJ21_get 60 = .ok (.ifCond .eq 7, 3) := dk_153 0 7 (dk_at dksJ21_get_2 12 rfl rfl)
theorem dJ21_get_63 : decode cJ21_get 63 = .ok (.iconst 1, 1) := dk_4 (dk_at dksJ21_get_2 15 rfl rfl)
theorem dJ21_get_64 : decode cJ21_get 64 = .ok (.goto 4, 3) := dk_167 0 4 (dk_at dksJ21_get_2 16 rfl rfl)
theorem dJ21_get_67 : decode cJ21_get 67 = .ok (.iconst 0, 1) := dk_3 (dk_at dksJ21_get_2 19 rfl rfl)
theorem dJ21_get_68 : decode cJ21_get 68 = .ok (.ireturn, 1) := dk_172 (dk_at dksJ21_get_2 20 rfl rfl)
def dkwJ21_checkInvariants_4 : List UInt8 := [180, 0, 7, 47, 9, 148, 153, 0, 11, 187, 0, 15, 89, 183, 0, 17, 191, 177]
abbrev dktJ21_checkInvariants_4 : List UInt8 := dkwJ21_checkInvariants_4 ++ []
def dkwJ21_checkInvariants_3 : List UInt8 := [178, 0, 3, 154, 0, 37, 42, 180, 0, 7, 42, 180, 0, 11, 190, 159, 0, 25, 42, 180, 0, 11, 42]
abbrev dktJ21_checkInvariants_3 : List UInt8 := dkwJ21_checkInvariants_3 ++ dktJ21_checkInvariants_4
def dkwJ21_checkInvariants_2 : List UInt8 := [155, 0, 15, 42, 180, 0, 7, 42, 180, 0, 11, 190, 164, 0, 11, 187, 0, 15, 89, 183, 0, 17, 191]
abbrev dktJ21_checkInvariants_2 : List UInt8 := dkwJ21_checkInvariants_2 ++ dktJ21_checkInvariants_3
def dkwJ21_checkInvariants_1 : List UInt8 := [9, 148, 154, 0, 11, 187, 0, 15, 89, 183, 0, 17, 191, 178, 0, 3, 154, 0, 30, 42, 180, 0, 7]
abbrev dktJ21_checkInvariants_1 : List UInt8 := dkwJ21_checkInvariants_1 ++ dktJ21_checkInvariants_2
def dkwJ21_checkInvariants_0 : List UInt8 := [178, 0, 3, 154, 0, 34, 42, 180, 0, 7, 153, 0, 27, 42, 180, 0, 11, 42, 180, 0, 7, 4, 100, 47]
abbrev dktJ21_checkInvariants_0 : List UInt8 := dkwJ21_checkInvariants_0 ++ dktJ21_checkInvariants_1
theorem dksJ21_checkInvariants_0 : cJ21_checkInvariants.data.toList.drop 0 = dktJ21_checkInvariants_0 := by decide +kernel
theorem dksJ21_checkInvariants_1 : cJ21_checkInvariants.data.toList.drop 24 = dktJ21_checkInvariants_1 := dk_seg dksJ21_checkInvariants_0 24 rfl rfl
theorem dksJ21_checkInvariants_2 : cJ21_checkInvariants.data.toList.drop 47 = dktJ21_checkInvariants_2 := dk_seg dksJ21_checkInvariants_1 23 rfl rfl
theorem dksJ21_checkInvariants_3 : cJ21_checkInvariants.data.toList.drop 70 = dktJ21_checkInvariants_3 := dk_seg dksJ21_checkInvariants_2 23 rfl rfl
theorem dksJ21_checkInvariants_4 : cJ21_checkInvariants.data.toList.drop 93 = dktJ21_checkInvariants_4 := dk_seg dksJ21_checkInvariants_3 23 rfl rfl
theorem dJ21_checkInvariants_0 : decode cJ21_checkInvariants 0 = .ok (.getstatic 3, 3) := dk_178 0 3 (dk_at dksJ21_checkInvariants_0 0 rfl rfl)
theorem dJ21_checkInvariants_3 : decode cJ21_checkInvariants 3 = .ok (.ifCond .ne 34, 3) := dk_154 0 34 (dk_at dksJ21_checkInvariants_0 3 rfl rfl)
theorem dJ21_checkInvariants_6 : decode cJ21_checkInvariants 6 = .ok (.aload_n 0, 1) := dk_42 (dk_at dksJ21_checkInvariants_0 6 rfl rfl)
theorem dJ21_checkInvariants_7 : decode cJ21_checkInvariants 7 = .ok (.getfield 7, 3) := dk_180 0 7 (dk_at dksJ21_checkInvariants_0 7 rfl rfl)
theorem dJ21_checkInvariants_10 : decode cJ21_checkInvariants 10 = .ok (.ifCond .eq 27, 3) := dk_153 0 27 (dk_at dksJ21_checkInvariants_0 10 rfl rfl)
theorem dJ21_checkInvariants_13 : decode cJ21_checkInvariants 13 = .ok (.aload_n 0, 1) := dk_42 (dk_at dksJ21_checkInvariants_0 13 rfl rfl)
theorem dJ21_checkInvariants_14 : decode cJ21_checkInvariants 14 = .ok (.getfield 11, 3) := dk_180 0 11 (dk_at dksJ21_checkInvariants_0 14 rfl rfl)
theorem dJ21_checkInvariants_17 : decode cJ21_checkInvariants 17 = .ok (.aload_n 0, 1) := dk_42 (dk_at dksJ21_checkInvariants_0 17 rfl rfl)
theorem dJ21_checkInvariants_18 : decode cJ21_checkInvariants 18 = .ok (.getfield 7, 3) := dk_180 0 7 (dk_at dksJ21_checkInvariants_0 18 rfl rfl)
theorem dJ21_checkInvariants_21 : decode cJ21_checkInvariants 21 = .ok (.iconst 1, 1) := dk_4 (dk_at dksJ21_checkInvariants_0 21 rfl rfl)
theorem dJ21_checkInvariants_22 : decode cJ21_checkInvariants 22 = .ok (.isub, 1) := dk_100 (dk_at dksJ21_checkInvariants_0 22 rfl rfl)
theorem dJ21_checkInvariants_23 : decode cJ21_checkInvariants 23 = .ok (.laload, 1) := dk_47 (dk_at dksJ21_checkInvariants_0 23 rfl rfl)
theorem dJ21_checkInvariants_24 : decode cJ21_checkInvariants 24 = .ok (.lconst 0, 1) := dk_9 (dk_at dksJ21_checkInvariants_1 0 rfl rfl)
theorem dJ21_checkInvariants_25 : decode cJ21_checkInvariants 25 = .ok (.lcmp, 1) := dk_148 (dk_at dksJ21_checkInvariants_1 1 rfl rfl)
theorem dJ21_checkInvariants_26 : decode cJ21_checkInvariants 26 = .ok (.ifCond .ne 11, 3) := dk_154 0 11 (dk_at dksJ21_checkInvariants_1 2 rfl rfl)
theorem dJ21_checkInvariants_29 : decode cJ21_checkInvariants 29 = .ok (.new 15, 3) := dk_187 0 15 (dk_at dksJ21_checkInvariants_1 5 rfl rfl)
theorem dJ21_checkInvariants_32 : decode cJ21_checkInvariants 32 = .ok (.dup, 1) := dk_89 (dk_at dksJ21_checkInvariants_1 8 rfl rfl)
theorem dJ21_checkInvariants_33 : decode cJ21_checkInvariants 33 = .ok (.invokespecial 17, 3) := dk_183 0 17 (dk_at dksJ21_checkInvariants_1 9 rfl rfl)
theorem dJ21_checkInvariants_36 : decode cJ21_checkInvariants 36 = .ok (.athrow, 1) := dk_191 (dk_at dksJ21_checkInvariants_1 12 rfl rfl)
theorem dJ21_checkInvariants_37 : decode cJ21_checkInvariants 37 = .ok (.getstatic 3, 3) := dk_178 0 3 (dk_at dksJ21_checkInvariants_1 13 rfl rfl)
theorem dJ21_checkInvariants_40 : decode cJ21_checkInvariants 40 = .ok (.ifCond .ne 30, 3) := dk_154 0 30 (dk_at dksJ21_checkInvariants_1 16 rfl rfl)
theorem dJ21_checkInvariants_43 : decode cJ21_checkInvariants 43 = .ok (.aload_n 0, 1) := dk_42 (dk_at dksJ21_checkInvariants_1 19 rfl rfl)
theorem dJ21_checkInvariants_44 : decode cJ21_checkInvariants 44 = .ok (.getfield 7, 3) := dk_180 0 7 (dk_at dksJ21_checkInvariants_1 20 rfl rfl)
theorem dJ21_checkInvariants_47 : decode cJ21_checkInvariants 47 = .ok (.ifCond .lt 15, 3) := dk_155 0 15 (dk_at dksJ21_checkInvariants_2 0 rfl rfl)
theorem dJ21_checkInvariants_50 : decode cJ21_checkInvariants 50 = .ok (.aload_n 0, 1) := dk_42 (dk_at dksJ21_checkInvariants_2 3 rfl rfl)
theorem dJ21_checkInvariants_51 : decode cJ21_checkInvariants 51 = .ok (.getfield 7, 3) := dk_180 0 7 (dk_at dksJ21_checkInvariants_2 4 rfl rfl)
theorem dJ21_checkInvariants_54 : decode cJ21_checkInvariants 54 = .ok (.aload_n 0, 1) := dk_42 (dk_at dksJ21_checkInvariants_2 7 rfl rfl)
theorem dJ21_checkInvariants_55 : decode cJ21_checkInvariants 55 = .ok (.getfield 11, 3) := dk_180 0 11 (dk_at dksJ21_checkInvariants_2 8 rfl rfl)
theorem dJ21_checkInvariants_58 : decode cJ21_checkInvariants 58 = .ok (.arraylength, 1) := dk_190 (dk_at dksJ21_checkInvariants_2 11 rfl rfl)
theorem dJ21_checkInvariants_59 : decode cJ21_checkInvariants 59 = .ok (.if_icmp .le 11, 3) := dk_164 0 11 (dk_at dksJ21_checkInvariants_2 12 rfl rfl)
theorem dJ21_checkInvariants_62 : decode cJ21_checkInvariants 62 = .ok (.new 15, 3) := dk_187 0 15 (dk_at dksJ21_checkInvariants_2 15 rfl rfl)
theorem dJ21_checkInvariants_65 : decode cJ21_checkInvariants 65 = .ok (.dup, 1) := dk_89 (dk_at dksJ21_checkInvariants_2 18 rfl rfl)
theorem dJ21_checkInvariants_66 : decode cJ21_checkInvariants 66 = .ok (.invokespecial 17, 3) := dk_183 0 17 (dk_at dksJ21_checkInvariants_2 19 rfl rfl)
theorem dJ21_checkInvariants_69 : decode cJ21_checkInvariants 69 = .ok (.athrow, 1) := dk_191 (dk_at dksJ21_checkInvariants_2 22 rfl rfl)
theorem dJ21_checkInvariants_70 : decode cJ21_checkInvariants 70 = .ok (.getstatic 3, 3) := dk_178 0 3 (dk_at dksJ21_checkInvariants_3 0 rfl rfl)
theorem dJ21_checkInvariants_73 : decode cJ21_checkInvariants 73 = .ok (.ifCond .ne 37, 3) := dk_154 0 37 (dk_at dksJ21_checkInvariants_3 3 rfl rfl)
theorem dJ21_checkInvariants_76 : decode cJ21_checkInvariants 76 = .ok (.aload_n 0, 1) := dk_42 (dk_at dksJ21_checkInvariants_3 6 rfl rfl)
theorem dJ21_checkInvariants_77 : decode cJ21_checkInvariants 77 = .ok (.getfield 7, 3) := dk_180 0 7 (dk_at dksJ21_checkInvariants_3 7 rfl rfl)
theorem dJ21_checkInvariants_80 : decode cJ21_checkInvariants 80 = .ok (.aload_n 0, 1) := dk_42 (dk_at dksJ21_checkInvariants_3 10 rfl rfl)
theorem dJ21_checkInvariants_81 : decode cJ21_checkInvariants 81 = .ok (.getfield 11, 3) := dk_180 0 11 (dk_at dksJ21_checkInvariants_3 11 rfl rfl)
theorem dJ21_checkInvariants_84 : decode cJ21_checkInvariants 84 = .ok (.arraylength, 1) := dk_190 (dk_at dksJ21_checkInvariants_3 14 rfl rfl)
theorem dJ21_checkInvariants_85 : decode cJ21_checkInvariants 85 = .ok (.if_icmp .eq 25, 3) := dk_159 0 25 (dk_at dksJ21_checkInvariants_3 15 rfl rfl)
theorem dJ21_checkInvariants_88 : decode cJ21_checkInvariants 88 = .ok (.aload_n 0, 1) := dk_42 (dk_at dksJ21_checkInvariants_3 18 rfl rfl)
theorem dJ21_checkInvariants_89 : decode cJ21_checkInvariants 89 = .ok (.getfield 11, 3) := dk_180 0 11 (dk_at dksJ21_checkInvariants_3 19 rfl rfl)
theorem dJ21_checkInvariants_92 : decode cJ21_checkInvariants 92 = .ok (.aload_n 0, 1) := dk_42 (dk_at dksJ21_checkInvariants_3 22 rfl rfl)
theorem dJ21_checkInvariants_93 : decode cJ21_checkInvariants 93 = .ok (.getfield 7, 3) := dk_180 0 7 (dk_at dksJ21_checkInvariants_4 0 rfl rfl)
theorem dJ21_checkInvariants_96 : decode cJ21_checkInvariants 96 = .ok (.laload, 1) := dk_47 (dk_at dksJ21_checkInvariants_4 3 rfl rfl)
theorem dJ21_checkInvariants_97 : decode cJ21_checkInvariants 97 = .ok (.lconst 0, 1) := dk_9 (dk_at dksJ21_checkInvariants_4 4 rfl rfl)
theorem dJ21_checkInvariants_98 : decode cJ21_checkInvariants 98 = .ok (.lcmp, 1) := dk_148 (dk_at dksJ21_checkInvariants_4 5 rfl rfl)
theorem dJ21_checkInvariants_99 : decode cJ21_checkInvariants 99 = .ok (.ifCond .eq 11, 3) := dk_153 0 11 (dk_at dksJ21_checkInvariants_4 6 rfl rfl)
theorem dJ21_checkInvariants_102 : decode cJ21_checkInvariants 102 = .ok (.new 15, 3) := dk_187 0 15 (dk_at dksJ21_checkInvariants_4 9 rfl rfl)
theorem dJ21_checkInvariants_105 : decode cJ21_checkInvariants 105 = .ok (.dup, 1) := dk_89 (dk_at dksJ21_checkInvariants_4 12 rfl rfl)
theorem dJ21_checkInvariants_106 : decode cJ21_checkInvariants 106 = .ok (.invokespecial 17, 3) := dk_183 0 17 (dk_at dksJ21_checkInvariants_4 13 rfl rfl)
theorem dJ21_checkInvariants_109 : decode cJ21_checkInvariants 109 = .ok (.athrow, 1) := dk_191 (dk_at dksJ21_checkInvariants_4 16 rfl rfl)
theorem dJ21_checkInvariants_110 : decode cJ21_checkInvariants 110 = .ok (.return_, 1) := dk_177 (dk_at dksJ21_checkInvariants_4 17 rfl rfl)
def dkwJ21_wordIndex_0 : List UInt8 := [26, 16, 6, 122, 172]
abbrev dktJ21_wordIndex_0 : List UInt8 := dkwJ21_wordIndex_0 ++ []
theorem dksJ21_wordIndex_0 : cJ21_wordIndex.data.toList.drop 0 = dktJ21_wordIndex_0 := by decide +kernel
theorem dJ21_wordIndex_0 : decode cJ21_wordIndex 0 = .ok (.iload_n 0, 1) := dk_26 (dk_at dksJ21_wordIndex_0 0 rfl rfl)
theorem dJ21_wordIndex_1 : decode cJ21_wordIndex 1 = .ok (.bipush 6, 2) := dk_16 6 (dk_at dksJ21_wordIndex_0 1 rfl rfl)
theorem dJ21_wordIndex_3 : decode cJ21_wordIndex 3 = .ok (.ishr, 1) := dk_122 (dk_at dksJ21_wordIndex_0 3 rfl rfl)
theorem dJ21_wordIndex_4 : decode cJ21_wordIndex 4 = .ok (.ireturn, 1) := dk_172 (dk_at dksJ21_wordIndex_0 4 rfl rfl)
def dkwJ21_nextSetBit_4 : List UInt8 := [28, 47, 66, 167, 255, 220]
abbrev dktJ21_nextSetBit_4 : List UInt8 := dkwJ21_nextSetBit_4 ++ []
def dkwJ21_nextSetBit_3 : List UInt8 := [104, 33, 184, 0, 182, 96, 172, 132, 2, 1, 28, 42, 180, 0, 7, 160, 0, 5, 2, 172, 42, 180, 0, 11]
abbrev dktJ21_nextSetBit_3 : List UInt8 := dkwJ21_nextSetBit_3 ++ dktJ21_nextSetBit_4
def dkwJ21_nextSetBit_2 : List UInt8 := [2, 172, 42, 180, 0, 11, 28, 47, 20, 0, 165, 27, 121, 127, 66, 33, 9, 148, 153, 0, 13, 28, 16, 64]
abbrev dktJ21_nextSetBit_2 : List UInt8 := dkwJ21_nextSetBit_2 ++ dktJ21_nextSetBit_3
def dkwJ21_nextSetBit_1 : List UInt8 := [182, 0, 45, 183, 0, 146, 191, 42, 182, 0, 56, 27, 184, 0, 52, 61, 28, 42, 180, 0, 7, 161, 0, 5]
abbrev dktJ21_nextSetBit_1 : List UInt8 := dkwJ21_nextSetBit_1 ++ dktJ21_nextSetBit_2
def dkwJ21_nextSetBit_0 : List UInt8 := [27, 156, 0, 30, 187, 0, 142, 89, 187, 0, 33, 89, 183, 0, 35, 18, 144, 182, 0, 38, 27, 182, 0, 42]
abbrev dktJ21_nextSetBit_0 : List UInt8 := dkwJ21_nextSetBit_0 ++ dktJ21_nextSetBit_1
theorem dksJ21_nextSetBit_0 : cJ21_nextSetBit.data.toList.drop 0 = dktJ21_nextSetBit_0 := by decide +kernel
theorem dksJ21_nextSetBit_1 : cJ21_nextSetBit.data.toList.drop 24 = dktJ21_nextSetBit_1 := dk_seg dksJ21_nextSetBit_0 24 rfl rfl
theorem dksJ21_nextSetBit_2 : cJ21_nextSetBit.data.toList.drop 48 = dktJ21_nextSetBit_2 := dk_seg dksJ21_nextSetBit_1 24 rfl rfl
theorem dksJ21_nextSetBit_3 : cJ21_nextSetBit.data.toList.drop 72 = dktJ21_nextSetBit_3 := dk_seg dksJ21_nextSetBit_2 24 rfl rfl
theorem dksJ21_nextSetBit_4 : cJ21_nextSetBit.data.toList.drop 96 = dktJ21_nextSetBit_4 := dk_seg dksJ21_nextSetBit_3 24 rfl rfl
theorem dJ21_nextSetBit_0 : decode cJ21_nextSetBit 0 = .ok (.iload_n 1, 1) := dk_27 (dk_at dksJ21_nextSetBit_0 0 rfl rfl)
theorem dJ21_nextSetBit_1 : decode cJ21_nextSetBit 1 = .ok (.ifCond .ge 30, 3) := dk_156 0 30 (dk_at dksJ21_nextSetBit_0 1 rfl rfl)
theorem dJ21_nextSetBit_4 : decode cJ21_nextSetBit 4 = .ok (.new 142, 3) := dk_187 0 142 (dk_at dksJ21_nextSetBit_0 4 rfl rfl)
theorem dJ21_nextSetBit_7 : decode cJ21_nextSetBit 7 = .ok (.dup, 1) := dk_89 (dk_at dksJ21_nextSetBit_0 7 rfl rfl)
theorem dJ21_nextSetBit_8 : decode cJ21_nextSetBit 8 = .ok (.new 33, 3) := dk_187 0 33 (dk_at dksJ21_nextSetBit_0 8 rfl rfl)
theorem dJ21_nextSetBit_11 : decode cJ21_nextSetBit 11 = .ok (.dup, 1) := dk_89 (dk_at dksJ21_nextSetBit_0 11 rfl rfl)
theorem dJ21_nextSetBit_12 : decode cJ21_nextSetBit 12 = .ok (.invokespecial 35, 3) := dk_183 0 35 (dk_at dksJ21_nextSetBit_0 12 rfl rfl)
theorem dJ21_nextSetBit_15 : decode cJ21_nextSetBit 15 = .ok (.ldc 144, 2) := dk_18 144 (dk_at dksJ21_nextSetBit_0 15 rfl rfl)
theorem dJ21_nextSetBit_17 : decode cJ21_nextSetBit 17 = .ok (.invokevirtual 38, 3) := dk_182 0 38 (dk_at dksJ21_nextSetBit_0 17 rfl rfl)
theorem dJ21_nextSetBit_20 : decode cJ21_nextSetBit 20 = .ok (.iload_n 1, 1) := dk_27 (dk_at dksJ21_nextSetBit_0 20 rfl rfl)
theorem dJ21_nextSetBit_21 : decode cJ21_nextSetBit 21 = .ok (.invokevirtual 42, 3) := dk_182 0 42 (dk_at dksJ21_nextSetBit_0 21 rfl rfl)
theorem dJ21_nextSetBit_24 : decode cJ21_nextSetBit 24 = .ok (.invokevirtual 45, 3) := dk_182 0 45 (dk_at dksJ21_nextSetBit_1 0 rfl rfl)
theorem dJ21_nextSetBit_27 : decode cJ21_nextSetBit 27 = .ok (.invokespecial 146, 3) := dk_183 0 146 (dk_at dksJ21_nextSetBit_1 3 rfl rfl)
theorem dJ21_nextSetBit_30 : decode cJ21_nextSetBit 30 = .ok (.athrow, 1) := dk_191 (dk_at dksJ21_nextSetBit_1 6 rfl rfl)
theorem dJ21_nextSetBit_31 : decode cJ21_nextSetBit 31 = .ok (.aload_n 0, 1) := dk_42 (dk_at dksJ21_nextSetBit_1 7 rfl rfl)
theorem dJ21_nextSetBit_32 : decode cJ21_nextSetBit 32 = .ok (.invokevirtual 56, 3) := dk_182 0 56 (dk_at dksJ21_nextSetBit_1 8 rfl rfl)
theorem dJ21_nextSetBit_35 : decode cJ21_nextSetBit 35 = .ok (.iload_n 1, 1) := dk_27 (dk_at dksJ21_nextSetBit_1 11 rfl rfl)
theorem dJ21_nextSetBit_36 : decode cJ21_nextSetBit 36 = .ok (.invokestatic 52, 3) := dk_184 0 52 (dk_at dksJ21_nextSetBit_1 12 rfl rfl)
theorem dJ21_nextSetBit_39 : decode cJ21_nextSetBit 39 = .ok (.istore_n 2, 1) := dk_61 (dk_at dksJ21_nextSetBit_1 15 rfl rfl)
theorem dJ21_nextSetBit_40 : decode cJ21_nextSetBit 40 = .ok (.iload_n 2, 1) := dk_28 (dk_at dksJ21_nextSetBit_1 16 rfl rfl)
theorem dJ21_nextSetBit_41 : decode cJ21_nextSetBit 41 = .ok (.aload_n 0, 1) := dk_42 (dk_at dksJ21_nextSetBit_1 17 rfl rfl)
theorem dJ21_nextSetBit_42 : decode cJ21_nextSetBit 42 = .ok (.getfield 7, 3) := dk_180 0 7 (dk_at dksJ21_nextSetBit_1 18 rfl rfl)
theorem dJ21_nextSetBit_45 : decode cJ21_nextSetBit 45 = .ok (.if_icmp .lt 5, 3) := dk_161 0 5 (dk_at dksJ21_nextSetBit_1 21 rfl rfl)
theorem dJ21_nextSetBit_48 : decode cJ21_nextSetBit 48 = .ok (.iconst (-1), 1) := dk_2 (dk_at dksJ21_nextSetBit_2 0 rfl rfl)
theorem dJ21_nextSetBit_49 : decode cJ21_nextSetBit 49 = .ok (.ireturn, 1) := dk_172 (dk_at dksJ21_nextSetBit_2 1 rfl rfl)
theorem dJ21_nextSetBit_50 : decode cJ21_nextSetBit 50 = .ok (.aload_n 0, 1) := dk_42 (dk_at dksJ21_nextSetBit_2 2 rfl rfl)
theorem dJ21_nextSetBit_51 : decode cJ21_nextSetBit 51 = .ok (.getfield 11, 3) := dk_180 0 11 (dk_at dksJ21_nextSetBit_2 3 rfl rfl)
theorem dJ21_nextSetBit_54 : decode cJ21_nextSetBit 54 = .ok (.iload_n 2, 1) := dk_28 (dk_at dksJ21_nextSetBit_2 6 rfl rfl)
theorem dJ21_nextSetBit_55 : decode cJ21_nextSetBit 55 = .ok (.laload, 1) := dk_47 (dk_at dksJ21_nextSetBit_2 7 rfl rfl)
theorem dJ21_nextSetBit_56 : decode cJ21_nextSetBit 56 = .ok (.ldc2_w 165, 3) := dk_20 0 165 (dk_at dksJ21_nextSetBit_2 8 rfl rfl)
theorem dJ21_nextSetBit_59 : decode cJ21_nextSetBit 59 = .ok (.iload_n 1, 1) := dk_27 (dk_at dksJ21_nextSetBit_2 11 rfl rfl)
theorem dJ21_nextSetBit_60 : decode cJ21_nextSetBit 60 = .ok (.lshl, 1) := dk_121 (dk_at dksJ21_nextSetBit_2 12 rfl rfl)
theorem dJ21_nextSetBit_61 : decode cJ21_nextSetBit 61 = .ok (.land, 1) := dk_127 (dk_at dksJ21_nextSetBit_2 13 rfl rfl)
theorem dJ21_nextSetBit_62 : decode cJ21_nextSetBit 62 = .ok (.lstore_n 3, 1) := dk_66 (dk_at dksJ21_nextSetBit_2 14 rfl rfl)
theorem dJ21_nextSetBit_63 : decode cJ21_nextSetBit 63 = .ok (.lload_n 3, 1) := dk_33 (dk_at dksJ21_nextSetBit_2 15 rfl rfl)
theorem dJ21_nextSetBit_64 : decode cJ21_nextSetBit 64 = .ok (.lconst 0, 1) := dk_9 (dk_at dksJ21_nextSetBit_2 16 rfl rfl)
theorem dJ21_nextSetBit_65 : decode cJ21_nextSetBit 65 = .ok (.lcmp, 1) := dk_148 (dk_at dksJ21_nextSetBit_2 17 rfl rfl)
theorem dJ21_nextSetBit_66 : decode cJ21_nextSetBit 66 = .ok (.ifCond .eq 13, 3) := dk_153 0 13 (dk_at dksJ21_nextSetBit_2 18 rfl rfl)
theorem dJ21_nextSetBit_69 : decode cJ21_nextSetBit 69 = .ok (.iload_n 2, 1) := dk_28 (dk_at dksJ21_nextSetBit_2 21 rfl rfl)
theorem dJ21_nextSetBit_70 : decode cJ21_nextSetBit 70 = .ok (.bipush 64, 2) := dk_16 64 (dk_at dksJ21_nextSetBit_2 22 rfl rfl)
theorem dJ21_nextSetBit_72 : decode cJ21_nextSetBit 72 = .ok (.imul, 1) := dk_104 (dk_at dksJ21_nextSetBit_3 0 rfl rfl)
theorem dJ21_nextSetBit_73 : decode cJ21_nextSetBit 73 = .ok (.lload_n 3, 1) := dk_33 (dk_at dksJ21_nextSetBit_3 1 rfl rfl)
theorem dJ21_nextSetBit_74 : decode cJ21_nextSetBit 74 = .ok (.invokestatic 182, 3) := dk_184 0 182 (dk_at dksJ21_nextSetBit_3 2 rfl rfl)
theorem dJ21_nextSetBit_77 : decode cJ21_nextSetBit 77 = .ok (.iadd, 1) := dk_96 (dk_at dksJ21_nextSetBit_3 5 rfl rfl)
theorem dJ21_nextSetBit_78 : decode cJ21_nextSetBit 78 = .ok (.ireturn, 1) := dk_172 (dk_at dksJ21_nextSetBit_3 6 rfl rfl)
theorem dJ21_nextSetBit_79 : decode cJ21_nextSetBit 79 = .ok (.iinc 2 1, 3) := dk_132 2 1 (dk_at dksJ21_nextSetBit_3 7 rfl rfl)
theorem dJ21_nextSetBit_82 : decode cJ21_nextSetBit 82 = .ok (.iload_n 2, 1) := dk_28 (dk_at dksJ21_nextSetBit_3 10 rfl rfl)
theorem dJ21_nextSetBit_83 : decode cJ21_nextSetBit 83 = .ok (.aload_n 0, 1) := dk_42 (dk_at dksJ21_nextSetBit_3 11 rfl rfl)
theorem dJ21_nextSetBit_84 : decode cJ21_nextSetBit 84 = .ok (.getfield 7, 3) := dk_180 0 7 (dk_at dksJ21_nextSetBit_3 12 rfl rfl)
theorem dJ21_nextSetBit_87 : decode cJ21_nextSetBit 87 = .ok (.if_icmp .ne 5, 3) := dk_160 0 5 (dk_at dksJ21_nextSetBit_3 15 rfl rfl)
theorem dJ21_nextSetBit_90 : decode cJ21_nextSetBit 90 = .ok (.iconst (-1), 1) := dk_2 (dk_at dksJ21_nextSetBit_3 18 rfl rfl)
theorem dJ21_nextSetBit_91 : decode cJ21_nextSetBit 91 = .ok (.ireturn, 1) := dk_172 (dk_at dksJ21_nextSetBit_3 19 rfl rfl)
theorem dJ21_nextSetBit_92 : decode cJ21_nextSetBit 92 = .ok (.aload_n 0, 1) := dk_42 (dk_at dksJ21_nextSetBit_3 20 rfl rfl)
theorem dJ21_nextSetBit_93 : decode cJ21_nextSetBit 93 = .ok (.getfield 11, 3) := dk_180 0 11 (dk_at dksJ21_nextSetBit_3 21 rfl rfl)
theorem dJ21_nextSetBit_96 : decode cJ21_nextSetBit 96 = .ok (.iload_n 2, 1) := dk_28 (dk_at dksJ21_nextSetBit_4 0 rfl rfl)
theorem dJ21_nextSetBit_97 : decode cJ21_nextSetBit 97 = .ok (.laload, 1) := dk_47 (dk_at dksJ21_nextSetBit_4 1 rfl rfl)
theorem dJ21_nextSetBit_98 : decode cJ21_nextSetBit 98 = .ok (.lstore_n 3, 1) := dk_66 (dk_at dksJ21_nextSetBit_4 2 rfl rfl)
theorem dJ21_nextSetBit_99 : decode cJ21_nextSetBit 99 = .ok (.goto (-36), 3) := dk_167 255 220 (dk_at dksJ21_nextSetBit_4 3 rfl rfl)
def dkwJ21_cardinality_1 : List UInt8 := [132, 2, 1, 167, 255, 233, 27, 172]
abbrev dktJ21_cardinality_1 : List UInt8 := dkwJ21_cardinality_1 ++ []
def dkwJ21_cardinality_0 : List UInt8 := [3, 60, 3, 61, 28, 42, 180, 0, 7, 162, 0, 21, 27, 42, 180, 0, 11, 28, 47, 184, 0, 196, 96, 60]
abbrev dktJ21_cardinality_0 : List UInt8 := dkwJ21_cardinality_0 ++ dktJ21_cardinality_1
theorem dksJ21_cardinality_0 : cJ21_cardinality.data.toList.drop 0 = dktJ21_cardinality_0 := by decide +kernel
theorem dksJ21_cardinality_1 : cJ21_cardinality.data.toList.drop 24 = dktJ21_cardinality_1 := dk_seg dksJ21_cardinality_0 24 rfl rfl
theorem dJ21_cardinality_0 : decode cJ21_cardinality 0 = .ok (.iconst 0, 1) := dk_3 (dk_at dksJ21_cardinality_0 0 rfl rfl)
theorem dJ21_cardinality_1 : decode cJ21_cardinality 1 = .ok (.istore_n 1, 1) := dk_60 (dk_at dksJ21_cardinality_0 1 rfl rfl)
theorem dJ21_cardinality_2 : decode cJ21_cardinality 2 = .ok (.iconst 0, 1) := dk_3 (dk_at dksJ21_cardinality_0 2 rfl rfl)
theorem dJ21_cardinality_3 : decode cJ21_cardinality 3 = .ok (.istore_n 2, 1) := dk_61 (dk_at dksJ21_cardinality_0 3 rfl rfl)
theorem dJ21_cardinality_4 : decode cJ21_cardinality 4 = .ok (.iload_n 2, 1) := dk_28 (dk_at dksJ21_cardinality_0 4 rfl rfl)
theorem dJ21_cardinality_5 : decode cJ21_cardinality 5 = .ok (.aload_n 0, 1) := dk_42 (dk_at dksJ21_cardinality_0 5 rfl rfl)
theorem dJ21_cardinality_6 : decode cJ21_cardinality 6 = .ok (.getfield 7, 3) := dk_180 0 7 (dk_at dksJ21_cardinality_0 6 rfl rfl)
theorem dJ21_cardinality_9 : decode cJ21_cardinality 9 = .ok (.if_icmp .ge 21, 3) := dk_162 0 21 (dk_at dksJ21_cardinality_0 9 rfl rfl)
theorem dJ21_cardinality_12 : decode cJ21_cardinality 12 = .ok (.iload_n 1, 1) := dk_27 (dk_at dksJ21_cardinality_0 12 rfl rfl)
theorem dJ21_cardinality_13 : decode cJ21_cardinality 13 = .ok (.aload_n 0, 1) := dk_42 (dk_at dksJ21_cardinality_0 13 rfl rfl)
theorem dJ21_cardinality_14 : decode cJ21_cardinality 14 = .ok (.getfield 11, 3) := dk_180 0 11 (dk_at dksJ21_cardinality_0 14 rfl rfl)
theorem dJ21_cardinality_17 : decode cJ21_cardinality 17 = .ok (.iload_n 2, 1) := dk_28 (dk_at dksJ21_cardinality_0 17 rfl rfl)
theorem dJ21_cardinality_18 : decode cJ21_cardinality 18 = .ok (.laload, 1) := dk_47 (dk_at dksJ21_cardinality_0 18 rfl rfl)
theorem dJ21_cardinality_19 : decode cJ21_cardinality 19 = .ok (.invokestatic 196, 3) := dk_184 0 196 (dk_at dksJ21_cardinality_0 19 rfl rfl)
theorem dJ21_cardinality_22 : decode cJ21_cardinality 22 = .ok (.iadd, 1) := dk_96 (dk_at dksJ21_cardinality_0 22 rfl rfl)
theorem dJ21_cardinality_23 : decode cJ21_cardinality 23 = .ok (.istore_n 1, 1) := dk_60 (dk_at dksJ21_cardinality_0 23 rfl rfl)
theorem dJ21_cardinality_24 : decode cJ21_cardinality 24 = .ok (.iinc 2 1, 3) := dk_132 2 1 (dk_at dksJ21_cardinality_1 0 rfl rfl)
theorem dJ21_cardinality_27 : decode cJ21_cardinality 27 = .ok (.goto (-23), 3) := dk_167 255 233 (dk_at dksJ21_cardinality_1 3 rfl rfl)
theorem dJ21_cardinality_30 : decode cJ21_cardinality 30 = .ok (.iload_n 1, 1) := dk_27 (dk_at dksJ21_cardinality_1 6 rfl rfl)
theorem dJ21_cardinality_31 : decode cJ21_cardinality 31 = .ok (.ireturn, 1) := dk_172 (dk_at dksJ21_cardinality_1 7 rfl rfl)
def dkwJ21_init_2 : List UInt8 := [27, 182, 0, 27, 42, 4, 181, 0, 24, 177]
abbrev dktJ21_init_2 : List UInt8 := dkwJ21_init_2 ++ []
def dkwJ21_init_1 : List UInt8 := [187, 0, 33, 89, 183, 0, 35, 18, 36, 182, 0, 38, 27, 182, 0, 42, 182, 0, 45, 183, 0, 49, 191, 42]
abbrev dktJ21_init_1 : List UInt8 := dkwJ21_init_1 ++ dktJ21_init_2
def dkwJ21_init_0 : List UInt8 := [42, 183, 0, 21, 42, 3, 181, 0, 7, 42, 3, 181, 0, 24, 27, 156, 0, 30, 187, 0, 31, 89]
abbrev dktJ21_init_0 : List UInt8 := dkwJ21_init_0 ++ dktJ21_init_1
theorem dksJ21_init_0 : cJ21_init.data.toList.drop 0 = dktJ21_init_0 := by decide +kernel
theorem dksJ21_init_1 : cJ21_init.data.toList.drop 22 = dktJ21_init_1 := dk_seg dksJ21_init_0 22 rfl rfl
theorem dksJ21_init_2 : cJ21_init.data.toList.drop 46 = dktJ21_init_2 := dk_seg dksJ21_init_1 24 rfl rfl
theorem dJ21_init_0 : decode cJ21_init 0 = .ok (.aload_n 0, 1) := dk_42 (dk_at dksJ21_init_0 0 rfl rfl)
theorem dJ21_init_1 : decode cJ21_init 1 = .ok (.invokespecial 21, 3) := dk_183 0 21 (dk_at dksJ21_init_0 1 rfl rfl)
theorem dJ21_init_4 : decode cJ21_init 4 = .ok (.aload_n 0, 1) := dk_42 (dk_at dksJ21_init_0 4 rfl rfl)
theorem dJ21_init_5 : decode cJ21_init 5 = .ok (.iconst 0, 1) := dk_3 (dk_at dksJ21_init_0 5 rfl rfl)
theorem dJ21_init_6 : decode cJ21_init 6 = .ok (.putfield 7, 3) := dk_181 0 7 (dk_at dksJ21_init_0 6 rfl rfl)
theorem dJ21_init_9 : decode cJ21_init 9 = .ok (.aload_n 0, 1) := dk_42 (dk_at dksJ21_init_0 9 rfl rfl)
theorem dJ21_init_10 : decode cJ21_init 10 = .ok (.iconst 0, 1) := dk_3 (dk_at dksJ21_init_0 10 rfl rfl)
theorem dJ21_init_11 : decode cJ21_init 11 = .ok (.putfield 24, 3) := dk_181 0 24 (dk_at dksJ21_init_0 11 rfl rfl)
theorem dJ21_init_14 : decode cJ21_init 14 = .ok (.iload_n 1, 1) := dk_27 (dk_at dksJ21_init_0 14 rfl rfl)
theorem dJ21_init_15 : decode cJ21_init 15 = .ok (.ifCond .ge 30, 3) := dk_156 0 30 (dk_at dksJ21_init_0 15 rfl rfl)
theorem dJ21_init_18 : decode cJ21_init 18 = .ok (.new 31, 3) := dk_187 0 31 (dk_at dksJ21_init_0 18 rfl rfl)
theorem dJ21_init_21 : decode cJ21_init 21 = .ok (.dup, 1) := dk_89 (dk_at dksJ21_init_0 21 rfl rfl)
theorem dJ21_init_22 : decode cJ21_init 22 = .ok (.new 33, 3) := dk_187 0 33 (dk_at dksJ21_init_1 0 rfl rfl)
theorem dJ21_init_25 : decode cJ21_init 25 = .ok (.dup, 1) := dk_89 (dk_at dksJ21_init_1 3 rfl rfl)
theorem dJ21_init_26 : decode cJ21_init 26 = .ok (.invokespecial 35, 3) := dk_183 0 35 (dk_at dksJ21_init_1 4 rfl rfl)
theorem dJ21_init_29 : decode cJ21_init 29 = .ok (.ldc 36, 2) := dk_18 36 (dk_at dksJ21_init_1 7 rfl rfl)
theorem dJ21_init_31 : decode cJ21_init 31 = .ok (.invokevirtual 38, 3) := dk_182 0 38 (dk_at dksJ21_init_1 9 rfl rfl)
theorem dJ21_init_34 : decode cJ21_init 34 = .ok (.iload_n 1, 1) := dk_27 (dk_at dksJ21_init_1 12 rfl rfl)
theorem dJ21_init_35 : decode cJ21_init 35 = .ok (.invokevirtual 42, 3) := dk_182 0 42 (dk_at dksJ21_init_1 13 rfl rfl)
theorem dJ21_init_38 : decode cJ21_init 38 = .ok (.invokevirtual 45, 3) := dk_182 0 45 (dk_at dksJ21_init_1 16 rfl rfl)
theorem dJ21_init_41 : decode cJ21_init 41 = .ok (.invokespecial 49, 3) := dk_183 0 49 (dk_at dksJ21_init_1 19 rfl rfl)
theorem dJ21_init_44 : decode cJ21_init 44 = .ok (.athrow, 1) := dk_191 (dk_at dksJ21_init_1 22 rfl rfl)
theorem dJ21_init_45 : decode cJ21_init 45 = .ok (.aload_n 0, 1) := dk_42 (dk_at dksJ21_init_1 23 rfl rfl)
theorem dJ21_init_46 : decode cJ21_init 46 = .ok (.iload_n 1, 1) := dk_27 (dk_at dksJ21_init_2 0 rfl rfl)
theorem dJ21_init_47 : decode cJ21_init 47 = .ok (.invokevirtual 27, 3) := dk_182 0 27 (dk_at dksJ21_init_2 1 rfl rfl)
theorem dJ21_init_50 : decode cJ21_init 50 = .ok (.aload_n 0, 1) := dk_42 (dk_at dksJ21_init_2 4 rfl rfl)
theorem dJ21_init_51 : decode cJ21_init 51 = .ok (.iconst 1, 1) := dk_4 (dk_at dksJ21_init_2 5 rfl rfl)
theorem dJ21_init_52 : decode cJ21_init 52 = .ok (.putfield 24, 3) := dk_181 0 24 (dk_at dksJ21_init_2 6 rfl rfl)
theorem dJ21_init_55 : decode cJ21_init 55 = .ok (.return_, 1) := dk_177 (dk_at dksJ21_init_2 9 rfl rfl)
def dkwJ21_initWords_0 : List UInt8 := [42, 27, 4, 100, 184, 0, 52, 4, 96, 188, 11, 181, 0, 11, 177]
abbrev dktJ21_initWords_0 : List UInt8 := dkwJ21_initWords_0 ++ []
theorem dksJ21_initWords_0 : cJ21_initWords.data.toList.drop 0 = dktJ21_initWords_0 := by decide +kernel
theorem dJ21_initWords_0 : decode cJ21_initWords 0 = .ok (.aload_n 0, 1) := dk_42 (dk_at dksJ21_initWords_0 0 rfl rfl)
theorem dJ21_initWords_1 : decode cJ21_initWords 1 = .ok (.iload_n 1, 1) := dk_27 (dk_at dksJ21_initWords_0 1 rfl rfl)
theorem dJ21_initWords_2 : decode cJ21_initWords 2 = .ok (.iconst 1, 1) := dk_4 (dk_at dksJ21_initWords_0 2 rfl rfl)
theorem dJ21_initWords_3 : decode cJ21_initWords 3 = .ok (.isub, 1) := dk_100 (dk_at dksJ21_initWords_0 3 rfl rfl)
theorem dJ21_initWords_4 : decode cJ21_initWords 4 = .ok (.invokestatic 52, 3) := dk_184 0 52 (dk_at dksJ21_initWords_0 4 rfl rfl)
theorem dJ21_initWords_7 : decode cJ21_initWords 7 = .ok (.iconst 1, 1) := dk_4 (dk_at dksJ21_initWords_0 7 rfl rfl)
theorem dJ21_initWords_8 : decode cJ21_initWords 8 = .ok (.iadd, 1) := dk_96 (dk_at dksJ21_initWords_0 8 rfl rfl)
theorem dJ21_initWords_9 : decode cJ21_initWords 9 = .ok (.newarray .long, 2) := dk_188_11 (dk_at dksJ21_initWords_0 9 rfl rfl)
theorem dJ21_initWords_11 : decode cJ21_initWords 11 = .ok (.putfield 11, 3) := dk_181 0 11 (dk_at dksJ21_initWords_0 11 rfl rfl)
theorem dJ21_initWords_14 : decode cJ21_initWords 14 = .ok (.return_, 1) := dk_177 (dk_at dksJ21_initWords_0 14 rfl rfl)
def dkwJ21_or_4 : List UInt8 := [180, 0, 7, 28, 100, 184, 0, 199, 42, 182, 0, 56, 177]
abbrev dktJ21_or_4 : List UInt8 := dkwJ21_or_4 ++ []
def dkwJ21_or_3 : List UInt8 := [167, 255, 233, 28, 43, 180, 0, 7, 162, 0, 22, 43, 180, 0, 11, 28, 42, 180, 0, 11, 28, 42]
abbrev dktJ21_or_3 : List UInt8 := dkwJ21_or_3 ++ dktJ21_or_4
def dkwJ21_or_2 : List UInt8 := [29, 28, 162, 0, 24, 42, 180, 0, 11, 29, 92, 47, 43, 180, 0, 11, 29, 47, 129, 80, 132, 3, 1]
abbrev dktJ21_or_2 : List UInt8 := dkwJ21_or_2 ++ dktJ21_or_3
def dkwJ21_or_1 : List UInt8 := [180, 0, 7, 162, 0, 19, 42, 43, 180, 0, 7, 182, 0, 139, 42, 43, 180, 0, 7, 181, 0, 7, 3, 62]
abbrev dktJ21_or_1 : List UInt8 := dkwJ21_or_1 ++ dktJ21_or_2
def dkwJ21_or_0 : List UInt8 := [42, 43, 166, 0, 4, 177, 42, 180, 0, 7, 43, 180, 0, 7, 184, 0, 193, 61, 42, 180, 0, 7, 43]
abbrev dktJ21_or_0 : List UInt8 := dkwJ21_or_0 ++ dktJ21_or_1
theorem dksJ21_or_0 : cJ21_or.data.toList.drop 0 = dktJ21_or_0 := by decide +kernel
theorem dksJ21_or_1 : cJ21_or.data.toList.drop 23 = dktJ21_or_1 := dk_seg dksJ21_or_0 23 rfl rfl
theorem dksJ21_or_2 : cJ21_or.data.toList.drop 47 = dktJ21_or_2 := dk_seg dksJ21_or_1 24 rfl rfl
theorem dksJ21_or_3 : cJ21_or.data.toList.drop 70 = dktJ21_or_3 := dk_seg dksJ21_or_2 23 rfl rfl
theorem dksJ21_or_4 : cJ21_or.data.toList.drop 92 = dktJ21_or_4 := dk_seg dksJ21_or_3 22 rfl rfl
theorem dJ21_or_0 : decode cJ21_or 0 = .ok (.aload_n 0, 1) := dk_42 (dk_at dksJ21_or_0 0 rfl rfl)
theorem dJ21_or_1 : decode cJ21_or 1 = .ok (.aload_n 1, 1) := dk_43 (dk_at dksJ21_or_0 1 rfl rfl)
theorem dJ21_or_2 : decode cJ21_or 2 = .ok (.if_acmp .ne 4, 3) := dk_166 0 4 (dk_at dksJ21_or_0 2 rfl rfl)
theorem dJ21_or_5 : decode cJ21_or 5 = .ok (.return_, 1) := dk_177 (dk_at dksJ21_or_0 5 rfl rfl)
theorem dJ21_or_6 : decode cJ21_or 6 = .ok (.aload_n 0, 1) := dk_42 (dk_at dksJ21_or_0 6 rfl rfl)
theorem dJ21_or_7 : decode cJ21_or 7 = .ok (.getfield 7, 3) := dk_180 0 7 (dk_at dksJ21_or_0 7 rfl rfl)
theorem dJ21_or_10 : decode cJ21_or 10 = .ok (.aload_n 1, 1) := dk_43 (dk_at dksJ21_or_0 10 rfl rfl)
theorem dJ21_or_11 : decode cJ21_or 11 = .ok (.getfield 7, 3) := dk_180 0 7 (dk_at dksJ21_or_0 11 rfl rfl)
theorem dJ21_or_14 : decode cJ21_or 14 = .ok (.invokestatic 193, 3) := dk_184 0 193 (dk_at dksJ21_or_0 14 rfl rfl)
theorem dJ21_or_17 : decode cJ21_or 17 = .ok (.istore_n 2, 1) := dk_61 (dk_at dksJ21_or_0 17 rfl rfl)
theorem dJ21_or_18 : decode cJ21_or 18 = .ok (.aload_n 0, 1) := dk_42 (dk_at dksJ21_or_0 18 rfl rfl)
theorem dJ21_or_19 : decode cJ21_or 19 = .ok (.getfield 7, 3) := dk_180 0 7 (dk_at dksJ21_or_0 19 rfl rfl)
theorem dJ21_or_22 : decode cJ21_or 22 = .ok (.aload_n 1, 1) := dk_43 (dk_at dksJ21_or_0 22 rfl rfl)
theorem dJ21_or_23 : decode cJ21_or 23 = .ok (.getfield 7, 3) := dk_180 0 7 (dk_at dksJ21_or_1 0 rfl rfl)
theorem dJ21_or_26 : decode cJ21_or 26 = .ok (.if_icmp .ge 19, 3) := dk_162 0 19 (dk_at dksJ21_or_1 3 rfl rfl)
theorem dJ21_or_29 : decode cJ21_or 29 = .ok (.aload_n 0, 1) := dk_42 (dk_at dksJ21_or_1 6 rfl rfl)
theorem dJ21_or_30 : decode cJ21_or 30 = .ok (.aload_n 1, 1) := dk_43 (dk_at dksJ21_or_1 7 rfl rfl)
theorem dJ21_or_31 : decode cJ21_or 31 = .ok (.getfield 7, 3) := dk_180 0 7 (dk_at dksJ21_or_1 8 rfl rfl)
theorem dJ21_or_34 : decode cJ21_or 34 = .ok (.invokevirtual 139, 3) := dk_182 0 139 (dk_at dksJ21_or_1 11 rfl rfl)
theorem dJ21_or_37 : decode cJ21_or 37 = .ok (.aload_n 0, 1) := dk_42 (dk_at dksJ21_or_1 14 rfl rfl)
theorem dJ21_or_38 : decode cJ21_or 38 = .ok (.aload_n 1, 1) := dk_43 (dk_at dksJ21_or_1 15 rfl rfl)
theorem dJ21_or_39 : decode cJ21_or 39 = .ok (.getfield 7, 3) := dk_180 0 7 (dk_at dksJ21_or_1 16 rfl rfl)
theorem dJ21_or_42 : decode cJ21_or 42 = .ok (.putfield 7, 3) := dk_181 0 7 (dk_at dksJ21_or_1 19 rfl rfl)
theorem dJ21_or_45 : decode cJ21_or 45 = .ok (.iconst 0, 1) := dk_3 (dk_at dksJ21_or_1 22 rfl rfl)
theorem dJ21_or_46 : decode cJ21_or 46 = .ok (.istore_n 3, 1) := dk_62 (dk_at dksJ21_or_1 23 rfl rfl)
theorem dJ21_or_47 : decode cJ21_or 47 = .ok (.iload_n 3, 1) := dk_29 (dk_at dksJ21_or_2 0 rfl rfl)
theorem dJ21_or_48 : decode cJ21_or 48 = .ok (.iload_n 2, 1) := dk_28 (dk_at dksJ21_or_2 1 rfl rfl)
theorem dJ21_or_49 : decode cJ21_or 49 = .ok (.if_icmp .ge 24, 3) := dk_162 0 24 (dk_at dksJ21_or_2 2 rfl rfl)
theorem dJ21_or_52 : decode cJ21_or 52 = .ok (.aload_n 0, 1) := dk_42 (dk_at dksJ21_or_2 5 rfl rfl)
theorem dJ21_or_53 : decode cJ21_or 53 = .ok (.getfield 11, 3) := dk_180 0 11 (dk_at dksJ21_or_2 6 rfl rfl)
theorem dJ21_or_56 : decode cJ21_or 56 = .ok (.iload_n 3, 1) := dk_29 (dk_at dksJ21_or_2 9 rfl rfl)
theorem dJ21_or_57 : decode cJ21_or 57 = .ok (.dup2, 1) := dk_92 (dk_at dksJ21_or_2 10 rfl rfl)
theorem dJ21_or_58 : decode cJ21_or 58 = .ok (.laload, 1) := dk_47 (dk_at dksJ21_or_2 11 rfl rfl)
theorem dJ21_or_59 : decode cJ21_or 59 = .ok (.aload_n 1, 1) := dk_43 (dk_at dksJ21_or_2 12 rfl rfl)
theorem dJ21_or_60 : decode cJ21_or 60 = .ok (.getfield 11, 3) := dk_180 0 11 (dk_at dksJ21_or_2 13 rfl rfl)
theorem dJ21_or_63 : decode cJ21_or 63 = .ok (.iload_n 3, 1) := dk_29 (dk_at dksJ21_or_2 16 rfl rfl)
theorem dJ21_or_64 : decode cJ21_or 64 = .ok (.laload, 1) := dk_47 (dk_at dksJ21_or_2 17 rfl rfl)
theorem dJ21_or_65 : decode cJ21_or 65 = .ok (.lor, 1) := dk_129 (dk_at dksJ21_or_2 18 rfl rfl)
theorem dJ21_or_66 : decode cJ21_or 66 = .ok (.lastore, 1) := dk_80 (dk_at dksJ21_or_2 19 rfl rfl)
theorem dJ21_or_67 : decode cJ21_or 67 = .ok (.iinc 3 1, 3) := dk_132 3 1 (dk_at dksJ21_or_2 20 rfl rfl)
theorem dJ21_or_70 : decode cJ21_or 70 = .ok (.goto (-23), 3) := dk_167 255 233 (dk_at dksJ21_or_3 0 rfl rfl)
theorem dJ21_or_73 : decode cJ21_or 73 = .ok (.iload_n 2, 1) := dk_28 (dk_at dksJ21_or_3 3 rfl rfl)
theorem dJ21_or_74 : decode cJ21_or 74 = .ok (.aload_n 1, 1) := dk_43 (dk_at dksJ21_or_3 4 rfl rfl)
theorem dJ21_or_75 : decode cJ21_or 75 = .ok (.getfield 7, 3) := dk_180 0 7 (dk_at dksJ21_or_3 5 rfl rfl)
theorem dJ21_or_78 : decode cJ21_or 78 = .ok (.if_icmp .ge 22, 3) := dk_162 0 22 (dk_at dksJ21_or_3 8 rfl rfl)
theorem dJ21_or_81 : decode cJ21_or 81 = .ok (.aload_n 1, 1) := dk_43 (dk_at dksJ21_or_3 11 rfl rfl)
theorem dJ21_or_82 : decode cJ21_or 82 = .ok (.getfield 11, 3) := dk_180 0 11 (dk_at dksJ21_or_3 12 rfl rfl)
theorem dJ21_or_85 : decode cJ21_or 85 = .ok (.iload_n 2, 1) := dk_28 (dk_at dksJ21_or_3 15 rfl rfl)
theorem dJ21_or_86 : decode cJ21_or 86 = .ok (.aload_n 0, 1) := dk_42 (dk_at dksJ21_or_3 16 rfl rfl)
theorem dJ21_or_87 : decode cJ21_or 87 = .ok (.getfield 11, 3) := dk_180 0 11 (dk_at dksJ21_or_3 17 rfl rfl)
theorem dJ21_or_90 : decode cJ21_or 90 = .ok (.iload_n 2, 1) := dk_28 (dk_at dksJ21_or_3 20 rfl rfl)
theorem dJ21_or_91 : decode cJ21_or 91 = .ok (.aload_n 0, 1) := dk_42 (dk_at dksJ21_or_3 21 rfl rfl)
theorem dJ21_or_92 : decode cJ21_or 92 = .ok (.getfield 7, 3) := dk_180 0 7 (dk_at dksJ21_or_4 0 rfl rfl)
theorem dJ21_or_95 : decode cJ21_or 95 = .ok (.iload_n 2, 1) := dk_28 (dk_at dksJ21_or_4 3 rfl rfl)
theorem dJ21_or_96 : decode cJ21_or 96 = .ok (.isub, 1) := dk_100 (dk_at dksJ21_or_4 4 rfl rfl)
theorem dJ21_or_97 : decode cJ21_or 97 = .ok (.invokestatic 199, 3) := dk_184 0 199 (dk_at dksJ21_or_4 5 rfl rfl)
theorem dJ21_or_100 : decode cJ21_or 100 = .ok (.aload_n 0, 1) := dk_42 (dk_at dksJ21_or_4 8 rfl rfl)
theorem dJ21_or_101 : decode cJ21_or 101 = .ok (.invokevirtual 56, 3) := dk_182 0 56 (dk_at dksJ21_or_4 9 rfl rfl)
theorem dJ21_or_104 : decode cJ21_or 104 = .ok (.return_, 1) := dk_177 (dk_at dksJ21_or_4 12 rfl rfl)
def dkwJ21_ensureCapacity_1 : List UInt8 := [180, 0, 11, 28, 184, 0, 59, 181, 0, 11, 42, 3, 181, 0, 24, 177]
abbrev dktJ21_ensureCapacity_1 : List UInt8 := dkwJ21_ensureCapacity_1 ++ []
def dkwJ21_ensureCapacity_0 : List UInt8 := [42, 180, 0, 11, 190, 27, 162, 0, 32, 5, 42, 180, 0, 11, 190, 104, 27, 184, 0, 133, 61, 42, 42]
abbrev dktJ21_ensureCapacity_0 : List UInt8 := dkwJ21_ensureCapacity_0 ++ dktJ21_ensureCapacity_1
theorem dksJ21_ensureCapacity_0 : cJ21_ensureCapacity.data.toList.drop 0 = dktJ21_ensureCapacity_0 := by decide +kernel
theorem dksJ21_ensureCapacity_1 : cJ21_ensureCapacity.data.toList.drop 23 = dktJ21_ensureCapacity_1 := dk_seg dksJ21_ensureCapacity_0 23 rfl rfl
theorem dJ21_ensureCapacity_0 : decode cJ21_ensureCapacity 0 = .ok (.aload_n 0, 1) := dk_42 (dk_at dksJ21_ensureCapacity_0 0 rfl rfl)
theorem dJ21_ensureCapacity_1 : decode cJ21_ensureCapacity 1 = .ok (.getfield 11, 3) := dk_180 0 11 (dk_at dksJ21_ensureCapacity_0 1 rfl rfl)
theorem dJ21_ensureCapacity_4 : decode cJ21_ensureCapacity 4 = .ok (.arraylength, 1) := dk_190 (dk_at dksJ21_ensureCapacity_0 4 rfl rfl)
theorem dJ21_ensureCapacity_5 : decode cJ21_ensureCapacity 5 = .ok (.iload_n 1, 1) := dk_27 (dk_at dksJ21_ensureCapacity_0 5 rfl rfl)
theorem dJ21_ensureCapacity_6 : decode cJ21_ensureCapacity 6 = .ok (.if_icmp .ge 32, 3) := dk_162 0 32 (dk_at dksJ21_ensureCapacity_0 6 rfl rfl)
theorem dJ21_ensureCapacity_9 : decode cJ21_ensureCapacity 9 = .ok (.iconst 2, 1) := dk_5 (dk_at dksJ21_ensureCapacity_0 9 rfl rfl)
theorem dJ21_ensureCapacity_10 : decode cJ21_ensureCapacity 10 = .ok (.aload_n 0, 1) := dk_42 (dk_at dksJ21_ensureCapacity_0 10 rfl rfl)
theorem dJ21_ensureCapacity_11 : decode cJ21_ensureCapacity 11 = .ok (.getfield 11, 3) := dk_180 0 11 (dk_at dksJ21_ensureCapacity_0 11 rfl rfl)
theorem dJ21_ensureCapacity_14 : decode cJ21_ensureCapacity 14 = .ok (.arraylength, 1) := dk_190 (dk_at dksJ21_ensureCapacity_0 14 rfl rfl)
theorem dJ21_ensureCapacity_15 : decode cJ21_ensureCapacity 15 = .ok (.imul, 1) := dk_104 (dk_at dksJ21_ensureCapacity_0 15 rfl rfl)
theorem dJ21_ensureCapacity_16 : decode cJ21_ensureCapacity 16 = .ok (.iload_n 1, 1) := dk_27 (dk_at dksJ21_ensureCapacity_0 16 rfl rfl)
theorem dJ21_ensureCapacity_17 : decode cJ21_ensureCapacity 17 = .ok (.invokestatic 133, 3) := dk_184 0 133 (dk_at dksJ21_ensureCapacity_0 17 rfl rfl)
theorem dJ21_ensureCapacity_20 : decode cJ21_ensureCapacity 20 = .ok (.istore_n 2, 1) := dk_61 (dk_at dksJ21_ensureCapacity_0 20 rfl rfl)
theorem dJ21_ensureCapacity_21 : decode cJ21_ensureCapacity 21 = .ok (.aload_n 0, 1) := dk_42 (dk_at dksJ21_ensureCapacity_0 21 rfl rfl)
theorem dJ21_ensureCapacity_22 : decode cJ21_ensureCapacity 22 = .ok (.aload_n 0, 1) := dk_42 (dk_at dksJ21_ensureCapacity_0 22 rfl rfl)
theorem dJ21_ensureCapacity_23 : decode cJ21_ensureCapacity 23 = .ok (.getfield 11, 3) := dk_180 0 11 (dk_at dksJ21_ensureCapacity_1 0 rfl rfl)
theorem dJ21_ensureCapacity_26 : decode cJ21_ensureCapacity 26 = .ok (.iload_n 2, 1) := dk_28 (dk_at dksJ21_ensureCapacity_1 3 rfl rfl)
theorem dJ21_ensureCapacity_27 : decode cJ21_ensureCapacity 27 = .ok (.invokestatic 59, 3) := dk_184 0 59 (dk_at dksJ21_ensureCapacity_1 4 rfl rfl)
theorem dJ21_ensureCapacity_30 : decode cJ21_ensureCapacity 30 = .ok (.putfield 11, 3) := dk_181 0 11 (dk_at dksJ21_ensureCapacity_1 7 rfl rfl)
theorem dJ21_ensureCapacity_33 : decode cJ21_ensureCapacity 33 = .ok (.aload_n 0, 1) := dk_42 (dk_at dksJ21_ensureCapacity_1 10 rfl rfl)
theorem dJ21_ensureCapacity_34 : decode cJ21_ensureCapacity 34 = .ok (.iconst 0, 1) := dk_3 (dk_at dksJ21_ensureCapacity_1 11 rfl rfl)
theorem dJ21_ensureCapacity_35 : decode cJ21_ensureCapacity 35 = .ok (.putfield 24, 3) := dk_181 0 24 (dk_at dksJ21_ensureCapacity_1 12 rfl rfl)
theorem dJ21_ensureCapacity_38 : decode cJ21_ensureCapacity 38 = .ok (.return_, 1) := dk_177 (dk_at dksJ21_ensureCapacity_1 15 rfl rfl)
def dkwJ21_clear_2 : List UInt8 := [180, 0, 11, 28, 92, 47, 10, 27, 121, 20, 0, 165, 131, 127, 80, 42, 182, 0, 158, 42, 182, 0, 56, 177]
abbrev dktJ21_clear_2 : List UInt8 := dkwJ21_clear_2 ++ []
def dkwJ21_clear_1 : List UInt8 := [182, 0, 45, 183, 0, 146, 191, 27, 184, 0, 52, 61, 28, 42, 180, 0, 7, 161, 0, 4, 177, 42]
abbrev dktJ21_clear_1 : List UInt8 := dkwJ21_clear_1 ++ dktJ21_clear_2
def dkwJ21_clear_0 : List UInt8 := [27, 156, 0, 30, 187, 0, 142, 89, 187, 0, 33, 89, 183, 0, 35, 18, 153, 182, 0, 38, 27, 182, 0, 42]
abbrev dktJ21_clear_0 : List UInt8 := dkwJ21_clear_0 ++ dktJ21_clear_1
theorem dksJ21_clear_0 : cJ21_clear.data.toList.drop 0 = dktJ21_clear_0 := by decide +kernel
theorem dksJ21_clear_1 : cJ21_clear.data.toList.drop 24 = dktJ21_clear_1 := dk_seg dksJ21_clear_0 24 rfl rfl
theorem dksJ21_clear_2 : cJ21_clear.data.toList.drop 46 = dktJ21_clear_2 := dk_seg dksJ21_clear_1 22 rfl rfl
theorem dJ21_clear_0 : decode cJ21_clear 0 = .ok (.iload_n 1, 1) := dk_27 (dk_at dksJ21_clear_0 0 rfl rfl)
theorem dJ21_clear_1 : decode cJ21_clear 1 = .ok (.ifCond .ge 30, 3) := dk_156 0 30 (dk_at dksJ21_clear_0 1 rfl rfl)
theorem dJ21_clear_4 : decode cJ21_clear 4 = .ok (.new 142, 3) := dk_187 0 142 (dk_at dksJ21_clear_0 4 rfl rfl)
theorem dJ21_clear_7 : decode cJ21_clear 7 = .ok (.dup, 1) := dk_89 (dk_at dksJ21_clear_0 7 rfl rfl)
theorem dJ21_clear_8 : decode cJ21_clear 8 = .ok (.new 33, 3) := dk_187 0 33 (dk_at dksJ21_clear_0 8 rfl rfl)
theorem dJ21_clear_11 : decode cJ21_clear 11 = .ok (.dup, 1) := dk_89 (dk_at dksJ21_clear_0 11 rfl rfl)
theorem dJ21_clear_12 : decode cJ21_clear 12 = .ok (.invokespecial 35, 3) := dk_183 0 35 (dk_at dksJ21_clear_0 12 rfl rfl)
theorem dJ21_clear_15 : decode cJ21_clear 15 = .ok (.ldc 153, 2) := dk_18 153 (dk_at dksJ21_clear_0 15 rfl rfl)
theorem dJ21_clear_17 : decode cJ21_clear 17 = .ok (.invokevirtual 38, 3) := dk_182 0 38 (dk_at dksJ21_clear_0 17 rfl rfl)
theorem dJ21_clear_20 : decode cJ21_clear 20 = .ok (.iload_n 1, 1) := dk_27 (dk_at dksJ21_clear_0 20 rfl rfl)
theorem dJ21_clear_21 : decode cJ21_clear 21 = .ok (.invokevirtual 42, 3) := dk_182 0 42 (dk_at dksJ21_clear_0 21 rfl rfl)
theorem dJ21_clear_24 : decode cJ21_clear 24 = .ok (.invokevirtual 45, 3) := dk_182 0 45 (dk_at dksJ21_clear_1 0 rfl rfl)
theorem dJ21_clear_27 : decode cJ21_clear 27 = .ok (.invokespecial 146, 3) := dk_183 0 146 (dk_at dksJ21_clear_1 3 rfl rfl)
theorem dJ21_clear_30 : decode cJ21_clear 30 = .ok (.athrow, 1) := dk_191 (dk_at dksJ21_clear_1 6 rfl rfl)
theorem dJ21_clear_31 : decode cJ21_clear 31 = .ok (.iload_n 1, 1) := dk_27 (dk_at dksJ21_clear_1 7 rfl rfl)
theorem dJ21_clear_32 : decode cJ21_clear 32 = .ok (.invokestatic 52, 3) := dk_184 0 52 (dk_at dksJ21_clear_1 8 rfl rfl)
theorem dJ21_clear_35 : decode cJ21_clear 35 = .ok (.istore_n 2, 1) := dk_61 (dk_at dksJ21_clear_1 11 rfl rfl)
theorem dJ21_clear_36 : decode cJ21_clear 36 = .ok (.iload_n 2, 1) := dk_28 (dk_at dksJ21_clear_1 12 rfl rfl)
theorem dJ21_clear_37 : decode cJ21_clear 37 = .ok (.aload_n 0, 1) := dk_42 (dk_at dksJ21_clear_1 13 rfl rfl)
theorem dJ21_clear_38 : decode cJ21_clear 38 = .ok (.getfield 7, 3) := dk_180 0 7 (dk_at dksJ21_clear_1 14 rfl rfl)
theorem dJ21_clear_41 : decode cJ21_clear 41 = .ok (.if_icmp .lt 4, 3) := dk_161 0 4 (dk_at dksJ21_clear_1 17 rfl rfl)
theorem dJ21_clear_44 : decode cJ21_clear 44 = .ok (.return_, 1) := dk_177 (dk_at dksJ21_clear_1 20 rfl rfl)
theorem dJ21_clear_45 : decode cJ21_clear 45 = .ok (.aload_n 0, 1) := dk_42 (dk_at dksJ21_clear_1 21 rfl rfl)
theorem dJ21_clear_46 : decode cJ21_clear 46 = .ok (.getfield 11, 3) := dk_180 0 11 (dk_at dksJ21_clear_2 0 rfl rfl)
theorem dJ21_clear_49 : decode cJ21_clear 49 = .ok (.iload_n 2, 1) := dk_28 (dk_at dksJ21_clear_2 3 rfl rfl)
theorem dJ21_clear_50 : decode cJ21_clear 50 = .ok (.dup2, 1) := dk_92 (dk_at dksJ21_clear_2 4 rfl rfl)
theorem dJ21_clear_51 : decode cJ21_clear 51 = .ok (.laload, 1) := dk_47 (dk_at dksJ21_clear_2 5 rfl rfl)
theorem dJ21_clear_52 : decode cJ21_clear 52 = .ok (.lconst 1, 1) := dk_10 (dk_at dksJ21_clear_2 6 rfl rfl)
theorem dJ21_clear_53 : decode cJ21_clear 53 = .ok (.iload_n 1, 1) := dk_27 (dk_at dksJ21_clear_2 7 rfl rfl)
theorem dJ21_clear_54 : decode cJ21_clear 54 = .ok (.lshl, 1) := dk_121 (dk_at dksJ21_clear_2 8 rfl rfl)
theorem dJ21_clear_55 : decode cJ21_clear 55 = .ok (.ldc2_w 165, 3) := dk_20 0 165 (dk_at dksJ21_clear_2 9 rfl rfl)
theorem dJ21_clear_58 : decode cJ21_clear 58 = .ok (.lxor, 1) := dk_131 (dk_at dksJ21_clear_2 12 rfl rfl)
theorem dJ21_clear_59 : decode cJ21_clear 59 = .ok (.land, 1) := dk_127 (dk_at dksJ21_clear_2 13 rfl rfl)
theorem dJ21_clear_60 : decode cJ21_clear 60 = .ok (.lastore, 1) := dk_80 (dk_at dksJ21_clear_2 14 rfl rfl)
theorem dJ21_clear_61 : decode cJ21_clear 61 = .ok (.aload_n 0, 1) := dk_42 (dk_at dksJ21_clear_2 15 rfl rfl)
theorem dJ21_clear_62 : decode cJ21_clear 62 = .ok (.invokevirtual 158, 3) := dk_182 0 158 (dk_at dksJ21_clear_2 16 rfl rfl)
theorem dJ21_clear_65 : decode cJ21_clear 65 = .ok (.aload_n 0, 1) := dk_42 (dk_at dksJ21_clear_2 19 rfl rfl)
theorem dJ21_clear_66 : decode cJ21_clear 66 = .ok (.invokevirtual 56, 3) := dk_182 0 56 (dk_at dksJ21_clear_2 20 rfl rfl)
theorem dJ21_clear_69 : decode cJ21_clear 69 = .ok (.return_, 1) := dk_177 (dk_at dksJ21_clear_2 23 rfl rfl)
def dkwJ21_recalculateWordsInUse_1 : List UInt8 := [167, 0, 9, 132, 1, 255, 167, 255, 235, 42, 27, 4, 96, 181, 0, 7, 177]
abbrev dktJ21_recalculateWordsInUse_1 : List UInt8 := dkwJ21_recalculateWordsInUse_1 ++ []
def dkwJ21_recalculateWordsInUse_0 : List UInt8 := [42, 180, 0, 7, 4, 100, 60, 27, 155, 0, 23, 42, 180, 0, 11, 27, 47, 9, 148, 153, 0, 6]
abbrev dktJ21_recalculateWordsInUse_0 : List UInt8 := dkwJ21_recalculateWordsInUse_0 ++ dktJ21_recalculateWordsInUse_1
theorem dksJ21_recalculateWordsInUse_0 : cJ21_recalculateWordsInUse.data.toList.drop 0 = dktJ21_recalculateWordsInUse_0 := by decide +kernel
theorem dksJ21_recalculateWordsInUse_1 : cJ21_recalculateWordsInUse.data.toList.drop 22 = dktJ21_recalculateWordsInUse_1 := dk_seg dksJ21_recalculateWordsInUse_0 22 rfl rfl
theorem dJ21_recalculateWordsInUse_0 : decode cJ21_recalculateWordsInUse 0 = .ok (.aload_n 0, 1) := dk_42 (dk_at dksJ21_recalculateWordsInUse_0 0 rfl rfl)
theorem dJ21_recalculateWordsInUse_1 : decode cJ21_recalculateWordsInUse 1 = .ok (.getfield 7, 3) := dk_180 0 7 (dk_at dksJ21_recalculateWordsInUse_0 1 rfl rfl)
theorem dJ21_recalculateWordsInUse_4 : decode cJ21_recalculateWordsInUse 4 = .ok (.iconst 1, 1) := dk_4 (dk_at dksJ21_recalculateWordsInUse_0 4 rfl rfl)
theorem dJ21_recalculateWordsInUse_5 : decode cJ21_recalculateWordsInUse 5 = .ok (.isub, 1) := dk_100 (dk_at dksJ21_recalculateWordsInUse_0 5 rfl rfl)
theorem dJ21_recalculateWordsInUse_6 : decode cJ21_recalculateWordsInUse 6 = .ok (.istore_n 1, 1) := dk_60 (dk_at dksJ21_recalculateWordsInUse_0 6 rfl rfl)
theorem dJ21_recalculateWordsInUse_7 : decode cJ21_recalculateWordsInUse 7 = .ok (.iload_n 1, 1) := dk_27 (dk_at dksJ21_recalculateWordsInUse_0 7 rfl rfl)
theorem dJ21_recalculateWordsInUse_8 : decode cJ21_recalculateWordsInUse 8 = .ok (.ifCond .lt 23, 3) := dk_155 0 23 (dk_at dksJ21_recalculateWordsInUse_0 8 rfl rfl)
theorem dJ21_recalculateWordsInUse_11 : decode cJ21_recalculateWordsInUse 11 = .ok (.aload_n 0, 1) := dk_42 (dk_at dksJ21_recalculateWordsInUse_0 11 rfl rfl)
theorem dJ21_recalculateWordsInUse_12 : decode cJ21_recalculateWordsInUse 12 = .ok (.getfield 11, 3) := dk_180 0 11 (dk_at dksJ21_recalculateWordsInUse_0 12 rfl rfl)
theorem dJ21_recalculateWordsInUse_15 : decode cJ21_recalculateWordsInUse 15 = .ok (.iload_n 1, 1) := dk_27 (dk_at dksJ21_recalculateWordsInUse_0 15 rfl rfl)
theorem dJ21_recalculateWordsInUse_16 : decode cJ21_recalculateWordsInUse 16 = .ok (.laload, 1) := dk_47 (dk_at dksJ21_recalculateWordsInUse_0 16 rfl rfl)
theorem dJ21_recalculateWordsInUse_17 : decode cJ21_recalculateWordsInUse 17 = .ok (.lconst 0, 1) := dk_9 (dk_at dksJ21_recalculateWordsInUse_0 17 rfl rfl)
theorem dJ21_recalculateWordsInUse_18 : decode cJ21_recalculateWordsInUse 18 = .ok (.lcmp, 1) := dk_148 (dk_at dksJ21_recalculateWordsInUse_0 18 rfl rfl)
theorem dJ21_recalculateWordsInUse_19 : decode cJ21_recalculateWordsInUse 19 = .ok (.ifCond .eq 6, 3) := dk_153 0 6 (dk_at dksJ21_recalculateWordsInUse_0 19 rfl rfl)
theorem dJ21_recalculateWordsInUse_22 : decode cJ21_recalculateWordsInUse 22 = .ok (.goto 9, 3) := dk_167 0 9 (dk_at dksJ21_recalculateWordsInUse_1 0 rfl rfl)
theorem dJ21_recalculateWordsInUse_25 : decode cJ21_recalculateWordsInUse 25 = .ok (.iinc 1 (-1), 3) := dk_132 1 255 (dk_at dksJ21_recalculateWordsInUse_1 3 rfl rfl)
theorem dJ21_recalculateWordsInUse_28 : decode cJ21_recalculateWordsInUse 28 = .ok (.goto (-21), 3) := dk_167 255 235 (dk_at dksJ21_recalculateWordsInUse_1 6 rfl rfl)
theorem dJ21_recalculateWordsInUse_31 : decode cJ21_recalculateWordsInUse 31 = .ok (.aload_n 0, 1) := dk_42 (dk_at dksJ21_recalculateWordsInUse_1 9 rfl rfl)
theorem dJ21_recalculateWordsInUse_32 : decode cJ21_recalculateWordsInUse 32 = .ok (.iload_n 1, 1) := dk_27 (dk_at dksJ21_recalculateWordsInUse_1 10 rfl rfl)
theorem dJ21_recalculateWordsInUse_33 : decode cJ21_recalculateWordsInUse 33 = .ok (.iconst 1, 1) := dk_4 (dk_at dksJ21_recalculateWordsInUse_1 11 rfl rfl)
theorem dJ21_recalculateWordsInUse_34 : decode cJ21_recalculateWordsInUse 34 = .ok (.iadd, 1) := dk_96 (dk_at dksJ21_recalculateWordsInUse_1 12 rfl rfl)
theorem dJ21_recalculateWordsInUse_35 : decode cJ21_recalculateWordsInUse 35 = .ok (.putfield 7, 3) := dk_181 0 7 (dk_at dksJ21_recalculateWordsInUse_1 13 rfl rfl)
theorem dJ21_recalculateWordsInUse_38 : decode cJ21_recalculateWordsInUse 38 = .ok (.return_, 1) := dk_177 (dk_at dksJ21_recalculateWordsInUse_1 16 rfl rfl)
def dkwJ21_set_2 : List UInt8 := [10, 27, 121, 129, 80, 42, 182, 0, 56, 177]
abbrev dktJ21_set_2 : List UInt8 := dkwJ21_set_2 ++ []
def dkwJ21_set_1 : List UInt8 := [182, 0, 45, 183, 0, 146, 191, 27, 184, 0, 52, 61, 42, 28, 182, 0, 155, 42, 180, 0, 11, 28, 92, 47]
abbrev dktJ21_set_1 : List UInt8 := dkwJ21_set_1 ++ dktJ21_set_2
def dkwJ21_set_0 : List UInt8 := [27, 156, 0, 30, 187, 0, 142, 89, 187, 0, 33, 89, 183, 0, 35, 18, 153, 182, 0, 38, 27, 182, 0, 42]
abbrev dktJ21_set_0 : List UInt8 := dkwJ21_set_0 ++ dktJ21_set_1
theorem dksJ21_set_0 : cJ21_set.data.toList.drop 0 = dktJ21_set_0 := by decide +kernel
theorem dksJ21_set_1 : cJ21_set.data.toList.drop 24 = dktJ21_set_1 := dk_seg dksJ21_set_0 24 rfl rfl
theorem dksJ21_set_2 : cJ21_set.data.toList.drop 48 = dktJ21_set_2 := dk_seg dksJ21_set_1 24 rfl rfl
theorem dJ21_set_0 : decode cJ21_set 0 = .ok (.iload_n 1, 1) := dk_27 (dk_at dksJ21_set_0 0 rfl rfl)
theorem dJ21_set_1 : decode cJ21_set 1 = .ok (.ifCond .ge 30, 3) := dk_156 0 30 (dk_at dksJ21_set_0 1 rfl rfl)
theorem dJ21_set_4 : decode cJ21_set 4 = .ok (.new 142, 3) := dk_187 0 142 (dk_at dksJ21_set_0 4 rfl rfl)
theorem dJ21_set_7 : decode cJ21_set 7 = .ok (.dup, 1) := dk_89 (dk_at dksJ21_set_0 7 rfl rfl)
theorem dJ21_set_8 : decode cJ21_set 8 = .ok (.new 33, 3) := dk_187 0 33 (dk_at dksJ21_set_0 8 rfl rfl)
theorem dJ21_set_11 : decode cJ21_set 11 = .ok (.dup, 1) := dk_89 (dk_at dksJ21_set_0 11 rfl rfl)
theorem dJ21_set_12 : decode cJ21_set 12 = .ok (.invokespecial 35, 3) := dk_183 0 35 (dk_at dksJ21_set_0 12 rfl rfl)
theorem dJ21_set_15 : decode cJ21_set 15 = .ok (.ldc 153, 2) := dk_18 153 (dk_at dksJ21_set_0 15 rfl rfl)
theorem dJ21_set_17 : decode cJ21_set 17 = .ok (.invokevirtual 38, 3) := dk_182 0 38 (dk_at dksJ21_set_0 17 rfl rfl)
theorem dJ21_set_20 : decode cJ21_set 20 = .ok (.iload_n 1, 1) := dk_27 (dk_at dksJ21_set_0 20 rfl rfl)
theorem dJ21_set_21 : decode cJ21_set 21 = .ok (.invokevirtual 42, 3) := dk_182 0 42 (dk_at dksJ21_set_0 21 rfl rfl)
theorem dJ21_set_24 : decode cJ21_set 24 = .ok (.invokevirtual 45, 3) := dk_182 0 45 (dk_at dksJ21_set_1 0 rfl rfl)
theorem dJ21_set_27 : decode cJ21_set 27 = .ok (.invokespecial 146, 3) := dk_183 0 146 (dk_at dksJ21_set_1 3 rfl rfl)
theorem dJ21_set_30 : decode cJ21_set 30 = .ok (.athrow, 1) := dk_191 (dk_at dksJ21_set_1 6 rfl rfl)
theorem dJ21_set_31 : decode cJ21_set 31 = .ok (.iload_n 1, 1) := dk_27 (dk_at dksJ21_set_1 7 rfl rfl)
theorem dJ21_set_32 : decode cJ21_set 32 = .ok (.invokestatic 52, 3) := dk_184 0 52 (dk_at dksJ21_set_1 8 rfl rfl)
theorem dJ21_set_35 : decode cJ21_set 35 = .ok (.istore_n 2, 1) := dk_61 (dk_at dksJ21_set_1 11 rfl rfl)
theorem dJ21_set_36 : decode cJ21_set 36 = .ok (.aload_n 0, 1) := dk_42 (dk_at dksJ21_set_1 12 rfl rfl)
theorem dJ21_set_37 : decode cJ21_set 37 = .ok (.iload_n 2, 1) := dk_28 (dk_at dksJ21_set_1 13 rfl rfl)
theorem dJ21_set_38 : decode cJ21_set 38 = .ok (.invokevirtual 155, 3) := dk_182 0 155 (dk_at dksJ21_set_1 14 rfl rfl)
theorem dJ21_set_41 : decode cJ21_set 41 = .ok (.aload_n 0, 1) := dk_42 (dk_at dksJ21_set_1 17 rfl rfl)
theorem dJ21_set_42 : decode cJ21_set 42 = .ok (.getfield 11, 3) := dk_180 0 11 (dk_at dksJ21_set_1 18 rfl rfl)
theorem dJ21_set_45 : decode cJ21_set 45 = .ok (.iload_n 2, 1) := dk_28 (dk_at dksJ21_set_1 21 rfl rfl)
theorem dJ21_set_46 : decode cJ21_set 46 = .ok (.dup2, 1) := dk_92 (dk_at dksJ21_set_1 22 rfl rfl)
theorem dJ21_set_47 : decode cJ21_set 47 = .ok (.laload, 1) := dk_47 (dk_at dksJ21_set_1 23 rfl rfl)
theorem dJ21_set_48 : decode cJ21_set 48 = .ok (.lconst 1, 1) := dk_10 (dk_at dksJ21_set_2 0 rfl rfl)
theorem dJ21_set_49 : decode cJ21_set 49 = .ok (.iload_n 1, 1) := dk_27 (dk_at dksJ21_set_2 1 rfl rfl)
theorem dJ21_set_50 : decode cJ21_set 50 = .ok (.lshl, 1) := dk_121 (dk_at dksJ21_set_2 2 rfl rfl)
theorem dJ21_set_51 : decode cJ21_set 51 = .ok (.lor, 1) := dk_129 (dk_at dksJ21_set_2 3 rfl rfl)
theorem dJ21_set_52 : decode cJ21_set 52 = .ok (.lastore, 1) := dk_80 (dk_at dksJ21_set_2 4 rfl rfl)
theorem dJ21_set_53 : decode cJ21_set 53 = .ok (.aload_n 0, 1) := dk_42 (dk_at dksJ21_set_2 5 rfl rfl)
theorem dJ21_set_54 : decode cJ21_set 54 = .ok (.invokevirtual 56, 3) := dk_182 0 56 (dk_at dksJ21_set_2 6 rfl rfl)
theorem dJ21_set_57 : decode cJ21_set 57 = .ok (.return_, 1) := dk_177 (dk_at dksJ21_set_2 9 rfl rfl)
def dkwJ21_expandTo_0 : List UInt8 := [27, 4, 96, 61, 42, 180, 0, 7, 28, 162, 0, 13, 42, 28, 182, 0, 139, 42, 28, 181, 0, 7, 177]
abbrev dktJ21_expandTo_0 : List UInt8 := dkwJ21_expandTo_0 ++ []
theorem dksJ21_expandTo_0 : cJ21_expandTo.data.toList.drop 0 = dktJ21_expandTo_0 := by decide +kernel
theorem dJ21_expandTo_0 : decode cJ21_expandTo 0 = .ok (.iload_n 1, 1) := dk_27 (dk_at dksJ21_expandTo_0 0 rfl rfl)
theorem dJ21_expandTo_1 : decode cJ21_expandTo 1 = .ok (.iconst 1, 1) := dk_4 (dk_at dksJ21_expandTo_0 1 rfl rfl)
theorem dJ21_expandTo_2 : decode cJ21_expandTo 2 = .ok (.iadd, 1) := dk_96 (dk_at dksJ21_expandTo_0 2 rfl rfl)
theorem dJ21_expandTo_3 : decode cJ21_expandTo 3 = .ok (.istore_n 2, 1) := dk_61 (dk_at dksJ21_expandTo_0 3 rfl rfl)
theorem dJ21_expandTo_4 : decode cJ21_expandTo 4 = .ok (.aload_n 0, 1) := dk_42 (dk_at dksJ21_expandTo_0 4 rfl rfl)
theorem dJ21_expandTo_5 : decode cJ21_expandTo 5 = .ok (.getfield 7, 3) := dk_180 0 7 (dk_at dksJ21_expandTo_0 5 rfl rfl)
theorem dJ21_expandTo_8 : decode cJ21_expandTo 8 = .ok (.iload_n 2, 1) := dk_28 (dk_at dksJ21_expandTo_0 8 rfl rfl)
theorem dJ21_expandTo_9 : decode cJ21_expandTo 9 = .ok (.if_icmp .ge 13, 3) := dk_162 0 13 (dk_at dksJ21_expandTo_0 9 rfl rfl)
theorem dJ21_expandTo_12 : decode cJ21_expandTo 12 = .ok (.aload_n 0, 1) := dk_42 (dk_at dksJ21_expandTo_0 12 rfl rfl)
theorem dJ21_expandTo_13 : decode cJ21_expandTo 13 = .ok (.iload_n 2, 1) := dk_28 (dk_at dksJ21_expandTo_0 13 rfl rfl)
theorem dJ21_expandTo_14 : decode cJ21_expandTo 14 = .ok (.invokevirtual 139, 3) := dk_182 0 139 (dk_at dksJ21_expandTo_0 14 rfl rfl)
theorem dJ21_expandTo_17 : decode cJ21_expandTo 17 = .ok (.aload_n 0, 1) := dk_42 (dk_at dksJ21_expandTo_0 17 rfl rfl)
theorem dJ21_expandTo_18 : decode cJ21_expandTo 18 = .ok (.iload_n 2, 1) := dk_28 (dk_at dksJ21_expandTo_0 18 rfl rfl)
theorem dJ21_expandTo_19 : decode cJ21_expandTo 19 = .ok (.putfield 7, 3) := dk_181 0 7 (dk_at dksJ21_expandTo_0 19 rfl rfl)
theorem dJ21_expandTo_22 : decode cJ21_expandTo 22 = .ok (.return_, 1) := dk_177 (dk_at dksJ21_expandTo_0 22 rfl rfl)
def dkwJ21_length_1 : List UInt8 := [42, 180, 0, 7, 4, 100, 47, 184, 0, 190, 100, 96, 172]
abbrev dktJ21_length_1 : List UInt8 := dkwJ21_length_1 ++ []
def dkwJ21_length_0 : List UInt8 := [42, 180, 0, 7, 154, 0, 5, 3, 172, 16, 64, 42, 180, 0, 7, 4, 100, 104, 16, 64, 42, 180, 0, 11]
abbrev dktJ21_length_0 : List UInt8 := dkwJ21_length_0 ++ dktJ21_length_1
theorem dksJ21_length_0 : cJ21_length.data.toList.drop 0 = dktJ21_length_0 := by decide +kernel
theorem dksJ21_length_1 : cJ21_length.data.toList.drop 24 = dktJ21_length_1 := dk_seg dksJ21_length_0 24 rfl rfl
theorem dJ21_length_0 : decode cJ21_length 0 = .ok (.aload_n 0, 1) := dk_42 (dk_at dksJ21_length_0 0 rfl rfl)
theorem dJ21_length_1 : decode cJ21_length 1 = .ok (.getfield 7, 3) := dk_180 0 7 (dk_at dksJ21_length_0 1 rfl rfl)
theorem dJ21_length_4 : decode cJ21_length 4 = .ok (.ifCond .ne 5, 3) := dk_154 0 5 (dk_at dksJ21_length_0 4 rfl rfl)
theorem dJ21_length_7 : decode cJ21_length 7 = .ok (.iconst 0, 1) := dk_3 (dk_at dksJ21_length_0 7 rfl rfl)
theorem dJ21_length_8 : decode cJ21_length 8 = .ok (.ireturn, 1) := dk_172 (dk_at dksJ21_length_0 8 rfl rfl)
theorem dJ21_length_9 : decode cJ21_length 9 = .ok (.bipush 64, 2) := dk_16 64 (dk_at dksJ21_length_0 9 rfl rfl)
theorem dJ21_length_11 : decode cJ21_length 11 = .ok (.aload_n 0, 1) := dk_42 (dk_at dksJ21_length_0 11 rfl rfl)
theorem dJ21_length_12 : decode cJ21_length 12 = .ok (.getfield 7, 3) := dk_180 0 7 (dk_at dksJ21_length_0 12 rfl rfl)
theorem dJ21_length_15 : decode cJ21_length 15 = .ok (.iconst 1, 1) := dk_4 (dk_at dksJ21_length_0 15 rfl rfl)
theorem dJ21_length_16 : decode cJ21_length 16 = .ok (.isub, 1) := dk_100 (dk_at dksJ21_length_0 16 rfl rfl)
theorem dJ21_length_17 : decode cJ21_length 17 = .ok (.imul, 1) := dk_104 (dk_at dksJ21_length_0 17 rfl rfl)
theorem dJ21_length_18 : decode cJ21_length 18 = .ok (.bipush 64, 2) := dk_16 64 (dk_at dksJ21_length_0 18 rfl rfl)
theorem dJ21_length_20 : decode cJ21_length 20 = .ok (.aload_n 0, 1) := dk_42 (dk_at dksJ21_length_0 20 rfl rfl)
theorem dJ21_length_21 : decode cJ21_length 21 = .ok (.getfield 11, 3) := dk_180 0 11 (dk_at dksJ21_length_0 21 rfl rfl)
theorem dJ21_length_24 : decode cJ21_length 24 = .ok (.aload_n 0, 1) := dk_42 (dk_at dksJ21_length_1 0 rfl rfl)
theorem dJ21_length_25 : decode cJ21_length 25 = .ok (.getfield 7, 3) := dk_180 0 7 (dk_at dksJ21_length_1 1 rfl rfl)
theorem dJ21_length_28 : decode cJ21_length 28 = .ok (.iconst 1, 1) := dk_4 (dk_at dksJ21_length_1 4 rfl rfl)
theorem dJ21_length_29 : decode cJ21_length 29 = .ok (.isub, 1) := dk_100 (dk_at dksJ21_length_1 5 rfl rfl)
theorem dJ21_length_30 : decode cJ21_length 30 = .ok (.laload, 1) := dk_47 (dk_at dksJ21_length_1 6 rfl rfl)
theorem dJ21_length_31 : decode cJ21_length 31 = .ok (.invokestatic 190, 3) := dk_184 0 190 (dk_at dksJ21_length_1 7 rfl rfl)
theorem dJ21_length_34 : decode cJ21_length 34 = .ok (.isub, 1) := dk_100 (dk_at dksJ21_length_1 10 rfl rfl)
theorem dJ21_length_35 : decode cJ21_length 35 = .ok (.iadd, 1) := dk_96 (dk_at dksJ21_length_1 11 rfl rfl)
theorem dJ21_length_36 : decode cJ21_length 36 = .ok (.ireturn, 1) := dk_172 (dk_at dksJ21_length_1 12 rfl rfl)
def dkwJ22_checkIndex_0 : List UInt8 := [26, 27, 1, 184, 0, 105, 172]
abbrev dktJ22_checkIndex_0 : List UInt8 := dkwJ22_checkIndex_0 ++ []
theorem dksJ22_checkIndex_0 : cJ22_checkIndex.data.toList.drop 0 = dktJ22_checkIndex_0 := by decide +kernel
theorem dJ22_checkIndex_0 : decode cJ22_checkIndex 0 = .ok (.iload_n 0, 1) := dk_26 (dk_at dksJ22_checkIndex_0 0 rfl rfl)
theorem dJ22_checkIndex_1 : decode cJ22_checkIndex 1 = .ok (.iload_n 1, 1) := dk_27 (dk_at dksJ22_checkIndex_0 1 rfl rfl)
theorem dJ22_checkIndex_2 : decode cJ22_checkIndex 2 = .ok (.aconst_null, 1) := dk_1 (dk_at dksJ22_checkIndex_0 2 rfl rfl)
theorem dJ22_checkIndex_3 : decode cJ22_checkIndex 3 = .ok (.invokestatic 105, 3) := dk_184 0 105 (dk_at dksJ22_checkIndex_0 3 rfl rfl)
theorem dJ22_checkIndex_6 : decode cJ22_checkIndex 6 = .ok (.ireturn, 1) := dk_172 (dk_at dksJ22_checkIndex_0 6 rfl rfl)
def dkwJ22_requireNonNull_0 : List UInt8 := [42, 199, 0, 11, 187, 0, 84, 89, 183, 0, 86, 191, 42, 176]
abbrev dktJ22_requireNonNull_0 : List UInt8 := dkwJ22_requireNonNull_0 ++ []
theorem dksJ22_requireNonNull_0 : cJ22_requireNonNull.data.toList.drop 0 = dktJ22_requireNonNull_0 := by decide +kernel
theorem dJ22_requireNonNull_0 : decode cJ22_requireNonNull 0 = .ok (.aload_n 0, 1) := dk_42 (dk_at dksJ22_requireNonNull_0 0 rfl rfl)
theorem dJ22_requireNonNull_1 : decode cJ22_requireNonNull 1 = .ok (.ifnonnull 11, 3) := dk_199 0 11 (dk_at dksJ22_requireNonNull_0 1 rfl rfl)
theorem dJ22_requireNonNull_4 : decode cJ22_requireNonNull 4 = .ok (.new 84, 3) := dk_187 0 84 (dk_at dksJ22_requireNonNull_0 4 rfl rfl)
theorem dJ22_requireNonNull_7 : decode cJ22_requireNonNull 7 = .ok (.dup, 1) := dk_89 (dk_at dksJ22_requireNonNull_0 7 rfl rfl)
theorem dJ22_requireNonNull_8 : decode cJ22_requireNonNull 8 = .ok (.invokespecial 86, 3) := dk_183 0 86 (dk_at dksJ22_requireNonNull_0 8 rfl rfl)
theorem dJ22_requireNonNull_11 : decode cJ22_requireNonNull 11 = .ok (.athrow, 1) := dk_191 (dk_at dksJ22_requireNonNull_0 11 rfl rfl)
theorem dJ22_requireNonNull_12 : decode cJ22_requireNonNull 12 = .ok (.aload_n 0, 1) := dk_42 (dk_at dksJ22_requireNonNull_0 12 rfl rfl)
theorem dJ22_requireNonNull_13 : decode cJ22_requireNonNull 13 = .ok (.areturn, 1) := dk_176 (dk_at dksJ22_requireNonNull_0 13 rfl rfl)
def dkwJ22_equals_0 : List UInt8 := [42, 43, 165, 0, 15, 42, 198, 0, 15, 42, 43, 182, 0, 14, 153, 0, 7, 4, 167, 0, 4, 3, 172]
abbrev dktJ22_equals_0 : List UInt8 := dkwJ22_equals_0 ++ []
theorem dksJ22_equals_0 : cJ22_equals.data.toList.drop 0 = dktJ22_equals_0 := by decide +kernel
theorem dJ22_equals_0 : decode cJ22_equals 0 = .ok (.aload_n 0, 1) := dk_42 (dk_at dksJ22_equals_0 0 rfl rfl)
theorem dJ22_equals_1 : decode cJ22_equals 1 = .ok (.aload_n 1, 1) := dk_43 (dk_at dksJ22_equals_0 1 rfl rfl)
theorem dJ22_equals_2 : decode cJ22_equals 2 = .ok (.if_acmp .eq 15, 3) := dk_165 0 15 (dk_at dksJ22_equals_0 2 rfl rfl)
theorem dJ22_equals_5 : decode cJ22_equals 5 = .ok (.aload_n 0, 1) := dk_42 (dk_at dksJ22_equals_0 5 rfl rfl)
theorem dJ22_equals_6 : decode cJ22_equals 6 = .ok (.ifnull 15, 3) := dk_198 0 15 (dk_at dksJ22_equals_0 6 rfl rfl)
theorem dJ22_equals_9 : decode cJ22_equals 9 = .ok (.aload_n 0, 1) := dk_42 (dk_at dksJ22_equals_0 9 rfl rfl)
theorem dJ22_equals_10 : decode cJ22_equals 10 = .ok (.aload_n 1, 1) := dk_43 (dk_at dksJ22_equals_0 10 rfl rfl)
theorem dJ22_equals_11 : decode cJ22_equals 11 = .ok (.invokevirtual 14, 3) := dk_182 0 14 (dk_at dksJ22_equals_0 11 rfl rfl)
theorem dJ22_equals_14 : decode cJ22_equals 14 = .ok (.ifCond .eq 7, 3) := dk_153 0 7 (dk_at dksJ22_equals_0 14 rfl rfl)
theorem dJ22_equals_17 : decode cJ22_equals 17 = .ok (.iconst 1, 1) := dk_4 (dk_at dksJ22_equals_0 17 rfl rfl)
theorem dJ22_equals_18 : decode cJ22_equals 18 = .ok (.goto 4, 3) := dk_167 0 4 (dk_at dksJ22_equals_0 18 rfl rfl)
theorem dJ22_equals_21 : decode cJ22_equals 21 = .ok (.iconst 0, 1) := dk_3 (dk_at dksJ22_equals_0 21 rfl rfl)
theorem dJ22_equals_22 : decode cJ22_equals 22 = .ok (.ireturn, 1) := dk_172 (dk_at dksJ22_equals_0 22 rfl rfl)
theorem dJ23_init_0 : decode cJ23_init 0 = .ok (.aload_n 0, 1) := by decide +kernel
theorem dJ23_init_1 : decode cJ23_init 1 = .ok (.invokespecial 1, 3) := by decide +kernel
theorem dJ23_init_4 : decode cJ23_init 4 = .ok (.return_, 1) := by decide +kernel
def dkwJ23_init_2_0 : List UInt8 := [42, 43, 183, 0, 10, 177]
abbrev dktJ23_init_2_0 : List UInt8 := dkwJ23_init_2_0 ++ []
theorem dksJ23_init_2_0 : cJ23_init_2.data.toList.drop 0 = dktJ23_init_2_0 := by decide +kernel
theorem dJ23_init_2_0 : decode cJ23_init_2 0 = .ok (.aload_n 0, 1) := dk_42 (dk_at dksJ23_init_2_0 0 rfl rfl)
theorem dJ23_init_2_1 : decode cJ23_init_2 1 = .ok (.aload_n 1, 1) := dk_43 (dk_at dksJ23_init_2_0 1 rfl rfl)
theorem dJ23_init_2_2 : decode cJ23_init_2 2 = .ok (.invokespecial 10, 3) := dk_183 0 10 (dk_at dksJ23_init_2_0 2 rfl rfl)
theorem dJ23_init_2_5 : decode cJ23_init_2 5 = .ok (.return_, 1) := dk_177 (dk_at dksJ23_init_2_0 5 rfl rfl)
def dkwJ24_numberOfTrailingZeros_1 : List UInt8 := [184, 1, 55, 172]
abbrev dktJ24_numberOfTrailingZeros_1 : List UInt8 := dkwJ24_numberOfTrailingZeros_1 ++ []
def dkwJ24_numberOfTrailingZeros_0 : List UInt8 := [30, 136, 61, 28, 154, 0, 17, 16, 32, 30, 16, 32, 125, 136, 184, 1, 55, 96, 167, 0, 7, 28]
abbrev dktJ24_numberOfTrailingZeros_0 : List UInt8 := dkwJ24_numberOfTrailingZeros_0 ++ dktJ24_numberOfTrailingZeros_1
theorem dksJ24_numberOfTrailingZeros_0 : cJ24_numberOfTrailingZeros.data.toList.drop 0 = dktJ24_numberOfTrailingZeros_0 := by decide +kernel
theorem dksJ24_numberOfTrailingZeros_1 : cJ24_numberOfTrailingZeros.data.toList.drop 22 = dktJ24_numberOfTrailingZeros_1 := dk_seg dksJ24_numberOfTrailingZeros_0 22 rfl rfl
theorem dJ24_numberOfTrailingZeros_0 : decode cJ24_numberOfTrailingZeros 0 = .ok (.lload_n 0, 1) := dk_30 (dk_at dksJ24_numberOfTrailingZeros_0 0 rfl rfl)
theorem dJ24_numberOfTrailingZeros_1 : decode cJ24_numberOfTrailingZeros 1 = .ok (.l2i, 1) := dk_136 (dk_at dksJ24_numberOfTrailingZeros_0 1 rfl rfl)
theorem dJ24_numberOfTrailingZeros_2 : decode cJ24_numberOfTrailingZeros 2 = .ok (.istore_n 2, 1) := dk_61 (dk_at dksJ24_numberOfTrailingZeros_0 2 rfl rfl)
theorem dJ24_numberOfTrailingZeros_3 : decode cJ24_numberOfTrailingZeros 3 = .ok (.iload_n 2, 1) := dk_28 (dk_at dksJ24_numberOfTrailingZeros_0 3 rfl rfl)
theorem dJ24_numberOfTrailingZeros_4 : decode cJ24_numberOfTrailingZeros 4 = .ok (.ifCond .ne 17, 3) := dk_154 0 17 (dk_at dksJ24_numberOfTrailingZeros_0 4 rfl rfl)
theorem dJ24_numberOfTrailingZeros_7 : decode cJ24_numberOfTrailingZeros 7 = .ok (.bipush 32, 2) := dk_16 32 (dk_at dksJ24_numberOfTrailingZeros_0 7 rfl rfl)
theorem dJ24_numberOfTrailingZeros_9 : decode cJ24_numberOfTrailingZeros 9 = .ok (.lload_n 0, 1) := dk_30 (dk_at dksJ24_numberOfTrailingZeros_0 9 rfl rfl)
theorem dJ24_numberOfTrailingZeros_10 : decode cJ24_numberOfTrailingZeros 10 = .ok (.bipush 32, 2) := dk_16 32 (dk_at dksJ24_numberOfTrailingZeros_0 10 rfl rfl)
theorem dJ24_numberOfTrailingZeros_12 : decode cJ24_numberOfTrailingZeros 12 = .ok (.lushr, 1) := dk_125 (dk_at dksJ24_numberOfTrailingZeros_0 12 rfl rfl)
theorem dJ24_numberOfTrailingZeros_13 : decode cJ24_numberOfTrailingZeros 13 = .ok (.l2i, 1) := dk_136 (dk_at dksJ24_numberOfTrailingZeros_0 13 rfl rfl)
theorem dJ24_numberOfTrailingZeros_14 : decode cJ24_numberOfTrailingZeros 14 = .ok (.invokestatic 311, 3) := dk_184 1 55 (dk_at dksJ24_numberOfTrailingZeros_0 14 rfl rfl)
theorem dJ24_numberOfTrailingZeros_17 : decode cJ24_numberOfTrailingZeros 17 = .ok (.iadd, 1) := dk_96 (dk_at dksJ24_numberOfTrailingZeros_0 17 rfl rfl)
theorem dJ24_numberOfTrailingZeros_18 : decode cJ24_numberOfTrailingZeros 18 = .ok (.goto 7, 3) := dk_167 0 7 (dk_at dksJ24_numberOfTrailingZeros_0 18 rfl rfl)
theorem dJ24_numberOfTrailingZeros_21 : decode cJ24_numberOfTrailingZeros 21 = .ok (.iload_n 2, 1) := dk_28 (dk_at dksJ24_numberOfTrailingZeros_0 21 rfl rfl)
theorem dJ24_numberOfTrailingZeros_22 : decode cJ24_numberOfTrailingZeros 22 = .ok (.invokestatic 311, 3) := dk_184 1 55 (dk_at dksJ24_numberOfTrailingZeros_1 0 rfl rfl)
theorem dJ24_numberOfTrailingZeros_25 : decode cJ24_numberOfTrailingZeros 25 = .ok (.ireturn, 1) := dk_172 (dk_at dksJ24_numberOfTrailingZeros_1 3 rfl rfl)
def dkwJ24_bitCount_2 : List UInt8 := [30, 30, 16, 32, 125, 97, 63, 30, 136, 16, 127, 126, 172]
abbrev dktJ24_bitCount_2 : List UInt8 := dkwJ24_bitCount_2 ++ []
def dkwJ24_bitCount_1 : List UInt8 := [30, 30, 7, 125, 97, 20, 1, 62, 127, 63, 30, 30, 16, 8, 125, 97, 63, 30, 30, 16, 16, 125, 97, 63]
abbrev dktJ24_bitCount_1 : List UInt8 := dkwJ24_bitCount_1 ++ dktJ24_bitCount_2
def dkwJ24_bitCount_0 : List UInt8 := [30, 30, 4, 125, 20, 1, 58, 127, 101, 63, 30, 20, 1, 60, 127, 30, 5, 125, 20, 1, 60, 127, 97, 63]
abbrev dktJ24_bitCount_0 : List UInt8 := dkwJ24_bitCount_0 ++ dktJ24_bitCount_1
theorem dksJ24_bitCount_0 : cJ24_bitCount.data.toList.drop 0 = dktJ24_bitCount_0 := by decide +kernel
theorem dksJ24_bitCount_1 : cJ24_bitCount.data.toList.drop 24 = dktJ24_bitCount_1 := dk_seg dksJ24_bitCount_0 24 rfl rfl
theorem dksJ24_bitCount_2 : cJ24_bitCount.data.toList.drop 48 = dktJ24_bitCount_2 := dk_seg dksJ24_bitCount_1 24 rfl rfl
theorem dJ24_bitCount_0 : decode cJ24_bitCount 0 = .ok (.lload_n 0, 1) := dk_30 (dk_at dksJ24_bitCount_0 0 rfl rfl)
theorem dJ24_bitCount_1 : decode cJ24_bitCount 1 = .ok (.lload_n 0, 1) := dk_30 (dk_at dksJ24_bitCount_0 1 rfl rfl)
theorem dJ24_bitCount_2 : decode cJ24_bitCount 2 = .ok (.iconst 1, 1) := dk_4 (dk_at dksJ24_bitCount_0 2 rfl rfl)
theorem dJ24_bitCount_3 : decode cJ24_bitCount 3 = .ok (.lushr, 1) := dk_125 (dk_at dksJ24_bitCount_0 3 rfl rfl)
theorem dJ24_bitCount_4 : decode cJ24_bitCount 4 = .ok (.ldc2_w 314, 3) := dk_20 1 58 (dk_at dksJ24_bitCount_0 4 rfl rfl)
theorem dJ24_bitCount_7 : decode cJ24_bitCount 7 = .ok (.land, 1) := dk_127 (dk_at dksJ24_bitCount_0 7 rfl rfl)
theorem dJ24_bitCount_8 : decode cJ24_bitCount 8 = .ok (.lsub, 1) := dk_101 (dk_at dksJ24_bitCount_0 8 rfl rfl)
theorem dJ24_bitCount_9 : decode cJ24_bitCount 9 = .ok (.lstore_n 0, 1) := dk_63 (dk_at dksJ24_bitCount_0 9 rfl rfl)
theorem dJ24_bitCount_10 : decode cJ24_bitCount 10 = .ok (.lload_n 0, 1) := dk_30 (dk_at dksJ24_bitCount_0 10 rfl rfl)
theorem dJ24_bitCount_11 : decode cJ24_bitCount 11 = .ok (.ldc2_w 316, 3) := dk_20 1 60 (dk_at dksJ24_bitCount_0 11 rfl rfl)
theorem dJ24_bitCount_14 : decode cJ24_bitCount 14 = .ok (.land, 1) := dk_127 (dk_at dksJ24_bitCount_0 14 rfl rfl)
theorem dJ24_bitCount_15 : decode cJ24_bitCount 15 = .ok (.lload_n 0, 1) := dk_30 (dk_at dksJ24_bitCount_0 15 rfl rfl)
theorem dJ24_bitCount_16 : decode cJ24_bitCount 16 = .ok (.iconst 2, 1) := dk_5 (dk_at dksJ24_bitCount_0 16 rfl rfl)
theorem dJ24_bitCount_17 : decode cJ24_bitCount 17 = .ok (.lushr, 1) := dk_125 (dk_at dksJ24_bitCount_0 17 rfl rfl)
theorem dJ24_bitCount_18 : decode cJ24_bitCount 18 = .ok (.ldc2_w 316, 3) := dk_20 1 60 (dk_at dksJ24_bitCount_0 18 rfl rfl)
theorem dJ24_bitCount_21 : decode cJ24_bitCount 21 = .ok (.land, 1) := dk_127 (dk_at dksJ24_bitCount_0 21 rfl rfl)
theorem dJ24_bitCount_22 : decode cJ24_bitCount 22 = .ok (.ladd, 1) := dk_97 (dk_at dksJ24_bitCount_0 22 rfl rfl)
theorem dJ24_bitCount_23 : decode cJ24_bitCount 23 = .ok (.lstore_n 0, 1) := dk_63 (dk_at dksJ24_bitCount_0 23 rfl rfl)
theorem dJ24_bitCount_24 : decode cJ24_bitCount 24 = .ok (.lload_n 0, 1) := dk_30 (dk_at dksJ24_bitCount_1 0 rfl rfl)
theorem dJ24_bitCount_25 : decode cJ24_bitCount 25 = .ok (.lload_n 0, 1) := dk_30 (dk_at dksJ24_bitCount_1 1 rfl rfl)
theorem dJ24_bitCount_26 : decode cJ24_bitCount 26 = .ok (.iconst 4, 1) := dk_7 (dk_at dksJ24_bitCount_1 2 rfl rfl)
theorem dJ24_bitCount_27 : decode cJ24_bitCount 27 = .ok (.lushr, 1) := dk_125 (dk_at dksJ24_bitCount_1 3 rfl rfl)
theorem dJ24_bitCount_28 : decode cJ24_bitCount 28 = .ok (.ladd, 1) := dk_97 (dk_at dksJ24_bitCount_1 4 rfl rfl)
theorem dJ24_bitCount_29 : decode cJ24_bitCount 29 = .ok (.ldc2_w 318, 3) := dk_20 1 62 (dk_at dksJ24_bitCount_1 5 rfl rfl)
theorem dJ24_bitCount_32 : decode cJ24_bitCount 32 = .ok (.land, 1) := dk_127 (dk_at dksJ24_bitCount_1 8 rfl rfl)
theorem dJ24_bitCount_33 : decode cJ24_bitCount 33 = .ok (.lstore_n 0, 1) := dk_63 (dk_at dksJ24_bitCount_1 9 rfl rfl)
theorem dJ24_bitCount_34 : decode cJ24_bitCount 34 = .ok (.lload_n 0, 1) := dk_30 (dk_at dksJ24_bitCount_1 10 rfl rfl)
theorem dJ24_bitCount_35 : decode cJ24_bitCount 35 = .ok (.lload_n 0, 1) := dk_30 (dk_at dksJ24_bitCount_1 11 rfl rfl)
theorem dJ24_bitCount_36 : decode cJ24_bitCount 36 = .ok (.bipush 8, 2) := dk_16 8 (dk_at dksJ24_bitCount_1 12 rfl rfl)
theorem dJ24_bitCount_38 : decode cJ24_bitCount 38 = .ok (.lushr, 1) := dk_125 (dk_at dksJ24_bitCount_1 14 rfl rfl)
theorem dJ24_bitCount_39 : decode cJ24_bitCount 39 = .ok (.ladd, 1) := dk_97 (dk_at dksJ24_bitCount_1 15 rfl rfl)
theorem dJ24_bitCount_40 : decode cJ24_bitCount 40 = .ok (.lstore_n 0, 1) := dk_63 (dk_at dksJ24_bitCount_1 16 rfl rfl)
theorem dJ24_bitCount_41 : decode cJ24_bitCount 41 = .ok (.lload_n 0, 1) := dk_30 (dk_at dksJ24_bitCount_1 17 rfl rfl)
theorem dJ24_bitCount_42 : decode cJ24_bitCount 42 = .ok (.lload_n 0, 1) := dk_30 (dk_at dksJ24_bitCount_1 18 rfl rfl)
theorem dJ24_bitCount_43 : decode cJ24_bitCount 43 = .ok (.bipush 16, 2) := dk_16 16 (dk_at dksJ24_bitCount_1 19 rfl rfl)
theorem dJ24_bitCount_45 : decode cJ24_bitCount 45 = .ok (.lushr, 1) := dk_125 (dk_at dksJ24_bitCount_1 21 rfl rfl)
theorem dJ24_bitCount_46 : decode cJ24_bitCount 46 = .ok (.ladd, 1) := dk_97 (dk_at dksJ24_bitCount_1 22 rfl rfl)
theorem dJ24_bitCount_47 : decode cJ24_bitCount 47 = .ok (.lstore_n 0, 1) := dk_63 (dk_at dksJ24_bitCount_1 23 rfl rfl)
theorem dJ24_bitCount_48 : decode cJ24_bitCount 48 = .ok (.lload_n 0, 1) := dk_30 (dk_at dksJ24_bitCount_2 0 rfl rfl)
theorem dJ24_bitCount_49 : decode cJ24_bitCount 49 = .ok (.lload_n 0, 1) := dk_30 (dk_at dksJ24_bitCount_2 1 rfl rfl)
theorem dJ24_bitCount_50 : decode cJ24_bitCount 50 = .ok (.bipush 32, 2) := dk_16 32 (dk_at dksJ24_bitCount_2 2 rfl rfl)
theorem dJ24_bitCount_52 : decode cJ24_bitCount 52 = .ok (.lushr, 1) := dk_125 (dk_at dksJ24_bitCount_2 4 rfl rfl)
theorem dJ24_bitCount_53 : decode cJ24_bitCount 53 = .ok (.ladd, 1) := dk_97 (dk_at dksJ24_bitCount_2 5 rfl rfl)
theorem dJ24_bitCount_54 : decode cJ24_bitCount 54 = .ok (.lstore_n 0, 1) := dk_63 (dk_at dksJ24_bitCount_2 6 rfl rfl)
theorem dJ24_bitCount_55 : decode cJ24_bitCount 55 = .ok (.lload_n 0, 1) := dk_30 (dk_at dksJ24_bitCount_2 7 rfl rfl)
theorem dJ24_bitCount_56 : decode cJ24_bitCount 56 = .ok (.l2i, 1) := dk_136 (dk_at dksJ24_bitCount_2 8 rfl rfl)
theorem dJ24_bitCount_57 : decode cJ24_bitCount 57 = .ok (.bipush 127, 2) := dk_16 127 (dk_at dksJ24_bitCount_2 9 rfl rfl)
theorem dJ24_bitCount_59 : decode cJ24_bitCount 59 = .ok (.iand, 1) := dk_126 (dk_at dksJ24_bitCount_2 11 rfl rfl)
theorem dJ24_bitCount_60 : decode cJ24_bitCount 60 = .ok (.ireturn, 1) := dk_172 (dk_at dksJ24_bitCount_2 12 rfl rfl)
def dkwJ24_numberOfLeadingZeros_1 : List UInt8 := [184, 1, 52, 172]
abbrev dktJ24_numberOfLeadingZeros_1 : List UInt8 := dkwJ24_numberOfLeadingZeros_1 ++ []
def dkwJ24_numberOfLeadingZeros_0 : List UInt8 := [30, 16, 32, 125, 136, 61, 28, 154, 0, 14, 16, 32, 30, 136, 184, 1, 52, 96, 167, 0, 7, 28]
abbrev dktJ24_numberOfLeadingZeros_0 : List UInt8 := dkwJ24_numberOfLeadingZeros_0 ++ dktJ24_numberOfLeadingZeros_1
theorem dksJ24_numberOfLeadingZeros_0 : cJ24_numberOfLeadingZeros.data.toList.drop 0 = dktJ24_numberOfLeadingZeros_0 := by decide +kernel
theorem dksJ24_numberOfLeadingZeros_1 : cJ24_numberOfLeadingZeros.data.toList.drop 22 = dktJ24_numberOfLeadingZeros_1 := dk_seg dksJ24_numberOfLeadingZeros_0 22 rfl rfl
theorem dJ24_numberOfLeadingZeros_0 : decode cJ24_numberOfLeadingZeros 0 = .ok (.lload_n 0, 1) := dk_30 (dk_at dksJ24_numberOfLeadingZeros_0 0 rfl rfl)
theorem dJ24_numberOfLeadingZeros_1 : decode cJ24_numberOfLeadingZeros 1 = .ok (.bipush 32, 2) := dk_16 32 (dk_at dksJ24_numberOfLeadingZeros_0 1 rfl rfl)
theorem dJ24_numberOfLeadingZeros_3 : decode cJ24_numberOfLeadingZeros 3 = .ok (.lushr, 1) := dk_125 (dk_at dksJ24_numberOfLeadingZeros_0 3 rfl rfl)
theorem dJ24_numberOfLeadingZeros_4 : decode cJ24_numberOfLeadingZeros 4 = .ok (.l2i, 1) := dk_136 (dk_at dksJ24_numberOfLeadingZeros_0 4 rfl rfl)
theorem dJ24_numberOfLeadingZeros_5 : decode cJ24_numberOfLeadingZeros 5 = .ok (.istore_n 2, 1) := dk_61 (dk_at dksJ24_numberOfLeadingZeros_0 5 rfl rfl)
theorem dJ24_numberOfLeadingZeros_6 : decode cJ24_numberOfLeadingZeros 6 = .ok (.iload_n 2, 1) := dk_28 (dk_at dksJ24_numberOfLeadingZeros_0 6 rfl rfl)
theorem dJ24_numberOfLeadingZeros_7 : decode cJ24_numberOfLeadingZeros 7 = .ok (.ifCond .ne 14, 3) := dk_154 0 14 (dk_at dksJ24_numberOfLeadingZeros_0 7 rfl rfl)
theorem dJ24_numberOfLeadingZeros_10 : decode cJ24_numberOfLeadingZeros 10 = .ok (.bipush 32, 2) := dk_16 32 (dk_at dksJ24_numberOfLeadingZeros_0 10 rfl rfl)
theorem dJ24_numberOfLeadingZeros_12 : decode cJ24_numberOfLeadingZeros 12 = .ok (.lload_n 0, 1) := dk_30 (dk_at dksJ24_numberOfLeadingZeros_0 12 rfl rfl)
theorem dJ24_numberOfLeadingZeros_13 : decode cJ24_numberOfLeadingZeros 13 = .ok (.l2i, 1) := dk_136 (dk_at dksJ24_numberOfLeadingZeros_0 13 rfl rfl)
theorem dJ24_numberOfLeadingZeros_14 : decode cJ24_numberOfLeadingZeros 14 = .ok (.invokestatic 308, 3) := dk_184 1 52 (dk_at dksJ24_numberOfLeadingZeros_0 14 rfl rfl)
theorem dJ24_numberOfLeadingZeros_17 : decode cJ24_numberOfLeadingZeros 17 = .ok (.iadd, 1) := dk_96 (dk_at dksJ24_numberOfLeadingZeros_0 17 rfl rfl)
theorem dJ24_numberOfLeadingZeros_18 : decode cJ24_numberOfLeadingZeros 18 = .ok (.goto 7, 3) := dk_167 0 7 (dk_at dksJ24_numberOfLeadingZeros_0 18 rfl rfl)
theorem dJ24_numberOfLeadingZeros_21 : decode cJ24_numberOfLeadingZeros 21 = .ok (.iload_n 2, 1) := dk_28 (dk_at dksJ24_numberOfLeadingZeros_0 21 rfl rfl)
theorem dJ24_numberOfLeadingZeros_22 : decode cJ24_numberOfLeadingZeros 22 = .ok (.invokestatic 308, 3) := dk_184 1 52 (dk_at dksJ24_numberOfLeadingZeros_1 0 rfl rfl)
theorem dJ24_numberOfLeadingZeros_25 : decode cJ24_numberOfLeadingZeros 25 = .ok (.ireturn, 1) := dk_172 (dk_at dksJ24_numberOfLeadingZeros_1 3 rfl rfl)
def dkwJ25_hasNext_0 : List UInt8 := [42, 180, 0, 13, 42, 180, 0, 1, 182, 0, 28, 159, 0, 7, 4, 167, 0, 4, 3, 172]
abbrev dktJ25_hasNext_0 : List UInt8 := dkwJ25_hasNext_0 ++ []
theorem dksJ25_hasNext_0 : cJ25_hasNext.data.toList.drop 0 = dktJ25_hasNext_0 := by decide +kernel
theorem dJ25_hasNext_0 : decode cJ25_hasNext 0 = .ok (.aload_n 0, 1) := dk_42 (dk_at dksJ25_hasNext_0 0 rfl rfl)
theorem dJ25_hasNext_1 : decode cJ25_hasNext 1 = .ok (.getfield 13, 3) := dk_180 0 13 (dk_at dksJ25_hasNext_0 1 rfl rfl)
theorem dJ25_hasNext_4 : decode cJ25_hasNext 4 = .ok (.aload_n 0, 1) := dk_42 (dk_at dksJ25_hasNext_0 4 rfl rfl)
theorem dJ25_hasNext_5 : decode cJ25_hasNext 5 = .ok (.getfield 1, 3) := dk_180 0 1 (dk_at dksJ25_hasNext_0 5 rfl rfl)
theorem dJ25_hasNext_8 : decode cJ25_hasNext 8 = .ok (.invokevirtual 28, 3) := dk_182 0 28 (dk_at dksJ25_hasNext_0 8 rfl rfl)
theorem dJ25_hasNext_11 : decode cJ25_hasNext 11 = .ok (.if_icmp .eq 7, 3) := dk_159 0 7 (dk_at dksJ25_hasNext_0 11 rfl rfl)
theorem dJ25_hasNext_14 : decode cJ25_hasNext 14 = .ok (.iconst 1, 1) := dk_4 (dk_at dksJ25_hasNext_0 14 rfl rfl)
theorem dJ25_hasNext_15 : decode cJ25_hasNext 15 = .ok (.goto 4, 3) := dk_167 0 4 (dk_at dksJ25_hasNext_0 15 rfl rfl)
theorem dJ25_hasNext_18 : decode cJ25_hasNext 18 = .ok (.iconst 0, 1) := dk_3 (dk_at dksJ25_hasNext_0 18 rfl rfl)
theorem dJ25_hasNext_19 : decode cJ25_hasNext 19 = .ok (.ireturn, 1) := dk_172 (dk_at dksJ25_hasNext_0 19 rfl rfl)
def dkwJ25_next_1 : List UInt8 := [27, 4, 96, 181, 0, 13, 44, 176, 76, 42, 182, 0, 32, 187, 0, 41, 89, 43, 183, 0, 43, 191]
abbrev dktJ25_next_1 : List UInt8 := dkwJ25_next_1 ++ []
def dkwJ25_next_0 : List UInt8 := [42, 182, 0, 32, 42, 180, 0, 13, 60, 42, 180, 0, 1, 27, 182, 0, 35, 77, 42, 27, 181, 0, 17, 42]
abbrev dktJ25_next_0 : List UInt8 := dkwJ25_next_0 ++ dktJ25_next_1
theorem dksJ25_next_0 : cJ25_next.data.toList.drop 0 = dktJ25_next_0 := by decide +kernel
theorem dksJ25_next_1 : cJ25_next.data.toList.drop 24 = dktJ25_next_1 := dk_seg dksJ25_next_0 24 rfl rfl
theorem dJ25_next_0 : decode cJ25_next 0 = .ok (.aload_n 0, 1) := dk_42 (dk_at dksJ25_next_0 0 rfl rfl)
theorem dJ25_next_1 : decode cJ25_next 1 = .ok (.invokevirtual 32, 3) := dk_182 0 32 (dk_at dksJ25_next_0 1 rfl rfl)
theorem dJ25_next_4 : decode cJ25_next 4 = .ok (.aload_n 0, 1) := dk_42 (dk_at dksJ25_next_0 4 rfl rfl)
theorem dJ25_next_5 : decode cJ25_next 5 = .ok (.getfield 13, 3) := dk_180 0 13 (dk_at dksJ25_next_0 5 rfl rfl)
theorem dJ25_next_8 : decode cJ25_next 8 = .ok (.istore_n 1, 1) := dk_60 (dk_at dksJ25_next_0 8 rfl rfl)
theorem dJ25_next_9 : decode cJ25_next 9 = .ok (.aload_n 0, 1) := dk_42 (dk_at dksJ25_next_0 9 rfl rfl)
theorem dJ25_next_10 : decode cJ25_next 10 = .ok (.getfield 1, 3) := dk_180 0 1 (dk_at dksJ25_next_0 10 rfl rfl)
theorem dJ25_next_13 : decode cJ25_next 13 = .ok (.iload_n 1, 1) := dk_27 (dk_at dksJ25_next_0 13 rfl rfl)
theorem dJ25_next_14 : decode cJ25_next 14 = .ok (.invokevirtual 35, 3) := dk_182 0 35 (dk_at dksJ25_next_0 14 rfl rfl)
theorem dJ25_next_17 : decode cJ25_next 17 = .ok (.astore_n 2, 1) := dk_77 (dk_at dksJ25_next_0 17 rfl rfl)
theorem dJ25_next_18 : decode cJ25_next 18 = .ok (.aload_n 0, 1) := dk_42 (dk_at dksJ25_next_0 18 rfl rfl)
theorem dJ25_next_19 : decode cJ25_next 19 = .ok (.iload_n 1, 1) := dk_27 (dk_at dksJ25_next_0 19 rfl rfl)
theorem dJ25_next_20 : decode cJ25_next 20 = .ok (.putfield 17, 3) := dk_181 0 17 (dk_at dksJ25_next_0 20 rfl rfl)
theorem dJ25_next_23 : decode cJ25_next 23 = .ok (.aload_n 0, 1) := dk_42 (dk_at dksJ25_next_0 23 rfl rfl)
theorem dJ25_next_24 : decode cJ25_next 24 = .ok (.iload_n 1, 1) := dk_27 (dk_at dksJ25_next_1 0 rfl rfl)
theorem dJ25_next_25 : decode cJ25_next 25 = .ok (.iconst 1, 1) := dk_4 (dk_at dksJ25_next_1 1 rfl rfl)
theorem dJ25_next_26 : decode cJ25_next 26 = .ok (.iadd, 1) := dk_96 (dk_at dksJ25_next_1 2 rfl rfl)
theorem dJ25_next_27 : decode cJ25_next 27 = .ok (.putfield 13, 3) := dk_181 0 13 (dk_at dksJ25_next_1 3 rfl rfl)
theorem dJ25_next_30 : decode cJ25_next 30 = .ok (.aload_n 2, 1) := dk_44 (dk_at dksJ25_next_1 6 rfl rfl)
theorem dJ25_next_31 : decode cJ25_next 31 = .ok (.areturn, 1) := dk_176 (dk_at dksJ25_next_1 7 rfl rfl)
theorem dJ25_next_32 : decode cJ25_next 32 = .ok (.astore_n 1, 1) := dk_76 (dk_at dksJ25_next_1 8 rfl rfl)
theorem dJ25_next_33 : decode cJ25_next 33 = .ok (.aload_n 0, 1) := dk_42 (dk_at dksJ25_next_1 9 rfl rfl)
theorem dJ25_next_34 : decode cJ25_next 34 = .ok (.invokevirtual 32, 3) := dk_182 0 32 (dk_at dksJ25_next_1 10 rfl rfl)
theorem dJ25_next_37 : decode cJ25_next 37 = .ok (.new 41, 3) := dk_187 0 41 (dk_at dksJ25_next_1 13 rfl rfl)
theorem dJ25_next_40 : decode cJ25_next 40 = .ok (.dup, 1) := dk_89 (dk_at dksJ25_next_1 16 rfl rfl)
theorem dJ25_next_41 : decode cJ25_next 41 = .ok (.aload_n 1, 1) := dk_43 (dk_at dksJ25_next_1 17 rfl rfl)
theorem dJ25_next_42 : decode cJ25_next 42 = .ok (.invokespecial 43, 3) := dk_183 0 43 (dk_at dksJ25_next_1 18 rfl rfl)
theorem dJ25_next_45 : decode cJ25_next 45 = .ok (.athrow, 1) := dk_191 (dk_at dksJ25_next_1 21 rfl rfl)
def dkwJ25_checkForComodification_0 : List UInt8 := [42, 180, 0, 1, 180, 0, 20, 42, 180, 0, 25, 159, 0, 11, 187, 0, 52, 89, 183, 0, 54, 191, 177]
abbrev dktJ25_checkForComodification_0 : List UInt8 := dkwJ25_checkForComodification_0 ++ []
theorem dksJ25_checkForComodification_0 : cJ25_checkForComodification.data.toList.drop 0 = dktJ25_checkForComodification_0 := by decide +kernel
theorem dJ25_checkForComodification_0 : decode cJ25_checkForComodification 0 = .ok (.aload_n 0, 1) := dk_42 (dk_at dksJ25_checkForComodification_0 0 rfl rfl)
theorem dJ25_checkForComodification_1 : decode cJ25_checkForComodification 1 = .ok (.getfield 1, 3) := dk_180 0 1 (dk_at dksJ25_checkForComodification_0 1 rfl rfl)
theorem dJ25_checkForComodification_4 : decode cJ25_checkForComodification 4 = .ok (.getfield 20, 3) := dk_180 0 20 (dk_at dksJ25_checkForComodification_0 4 rfl rfl)
theorem dJ25_checkForComodification_7 : decode cJ25_checkForComodification 7 = .ok (.aload_n 0, 1) := dk_42 (dk_at dksJ25_checkForComodification_0 7 rfl rfl)
theorem dJ25_checkForComodification_8 : decode cJ25_checkForComodification 8 = .ok (.getfield 25, 3) := dk_180 0 25 (dk_at dksJ25_checkForComodification_0 8 rfl rfl)
theorem dJ25_checkForComodification_11 : decode cJ25_checkForComodification 11 = .ok (.if_icmp .eq 11, 3) := dk_159 0 11 (dk_at dksJ25_checkForComodification_0 11 rfl rfl)
theorem dJ25_checkForComodification_14 : decode cJ25_checkForComodification 14 = .ok (.new 52, 3) := dk_187 0 52 (dk_at dksJ25_checkForComodification_0 14 rfl rfl)
theorem dJ25_checkForComodification_17 : decode cJ25_checkForComodification 17 = .ok (.dup, 1) := dk_89 (dk_at dksJ25_checkForComodification_0 17 rfl rfl)
theorem dJ25_checkForComodification_18 : decode cJ25_checkForComodification 18 = .ok (.invokespecial 54, 3) := dk_183 0 54 (dk_at dksJ25_checkForComodification_0 18 rfl rfl)
theorem dJ25_checkForComodification_21 : decode cJ25_checkForComodification 21 = .ok (.athrow, 1) := dk_191 (dk_at dksJ25_checkForComodification_0 21 rfl rfl)
theorem dJ25_checkForComodification_22 : decode cJ25_checkForComodification 22 = .ok (.return_, 1) := dk_177 (dk_at dksJ25_checkForComodification_0 22 rfl rfl)
def dkwJ26_init_1 : List UInt8 := [181, 0, 22, 177]
abbrev dktJ26_init_1 : List UInt8 := dkwJ26_init_1 ++ []
def dkwJ26_init_0 : List UInt8 := [42, 43, 181, 0, 1, 42, 183, 0, 7, 42, 2, 181, 0, 13, 42, 42, 180, 0, 1, 180, 0, 17]
abbrev dktJ26_init_0 : List UInt8 := dkwJ26_init_0 ++ dktJ26_init_1
theorem dksJ26_init_0 : cJ26_init.data.toList.drop 0 = dktJ26_init_0 := by decide +kernel
theorem dksJ26_init_1 : cJ26_init.data.toList.drop 22 = dktJ26_init_1 := dk_seg dksJ26_init_0 22 rfl rfl
theorem dJ26_init_0 : decode cJ26_init 0 = .ok (.aload_n 0, 1) := dk_42 (dk_at dksJ26_init_0 0 rfl rfl)
theorem dJ26_init_1 : decode cJ26_init 1 = .ok (.aload_n 1, 1) := dk_43 (dk_at dksJ26_init_0 1 rfl rfl)
theorem dJ26_init_2 : decode cJ26_init 2 = .ok (.putfield 1, 3) := dk_181 0 1 (dk_at dksJ26_init_0 2 rfl rfl)
theorem dJ26_init_5 : decode cJ26_init 5 = .ok (.aload_n 0, 1) := dk_42 (dk_at dksJ26_init_0 5 rfl rfl)
theorem dJ26_init_6 : decode cJ26_init 6 = .ok (.invokespecial 7, 3) := dk_183 0 7 (dk_at dksJ26_init_0 6 rfl rfl)
theorem dJ26_init_9 : decode cJ26_init 9 = .ok (.aload_n 0, 1) := dk_42 (dk_at dksJ26_init_0 9 rfl rfl)
theorem dJ26_init_10 : decode cJ26_init 10 = .ok (.iconst (-1), 1) := dk_2 (dk_at dksJ26_init_0 10 rfl rfl)
theorem dJ26_init_11 : decode cJ26_init 11 = .ok (.putfield 13, 3) := dk_181 0 13 (dk_at dksJ26_init_0 11 rfl rfl)
theorem dJ26_init_14 : decode cJ26_init 14 = .ok (.aload_n 0, 1) := dk_42 (dk_at dksJ26_init_0 14 rfl rfl)
theorem dJ26_init_15 : decode cJ26_init 15 = .ok (.aload_n 0, 1) := dk_42 (dk_at dksJ26_init_0 15 rfl rfl)
theorem dJ26_init_16 : decode cJ26_init 16 = .ok (.getfield 1, 3) := dk_180 0 1 (dk_at dksJ26_init_0 16 rfl rfl)
theorem dJ26_init_19 : decode cJ26_init 19 = .ok (.getfield 17, 3) := dk_180 0 17 (dk_at dksJ26_init_0 19 rfl rfl)
theorem dJ26_init_22 : decode cJ26_init 22 = .ok (.putfield 22, 3) := dk_181 0 22 (dk_at dksJ26_init_1 0 rfl rfl)
theorem dJ26_init_25 : decode cJ26_init 25 = .ok (.return_, 1) := dk_177 (dk_at dksJ26_init_1 3 rfl rfl)
def dkwJ26_hasNext_0 : List UInt8 := [42, 180, 0, 25, 42, 180, 0, 1, 180, 0, 28, 159, 0, 7, 4, 167, 0, 4, 3, 172]
abbrev dktJ26_hasNext_0 : List UInt8 := dkwJ26_hasNext_0 ++ []
theorem dksJ26_hasNext_0 : cJ26_hasNext.data.toList.drop 0 = dktJ26_hasNext_0 := by decide +kernel
theorem dJ26_hasNext_0 : decode cJ26_hasNext 0 = .ok (.aload_n 0, 1) := dk_42 (dk_at dksJ26_hasNext_0 0 rfl rfl)
theorem dJ26_hasNext_1 : decode cJ26_hasNext 1 = .ok (.getfield 25, 3) := dk_180 0 25 (dk_at dksJ26_hasNext_0 1 rfl rfl)
theorem dJ26_hasNext_4 : decode cJ26_hasNext 4 = .ok (.aload_n 0, 1) := dk_42 (dk_at dksJ26_hasNext_0 4 rfl rfl)
theorem dJ26_hasNext_5 : decode cJ26_hasNext 5 = .ok (.getfield 1, 3) := dk_180 0 1 (dk_at dksJ26_hasNext_0 5 rfl rfl)
theorem dJ26_hasNext_8 : decode cJ26_hasNext 8 = .ok (.getfield 28, 3) := dk_180 0 28 (dk_at dksJ26_hasNext_0 8 rfl rfl)
theorem dJ26_hasNext_11 : decode cJ26_hasNext 11 = .ok (.if_icmp .eq 7, 3) := dk_159 0 7 (dk_at dksJ26_hasNext_0 11 rfl rfl)
theorem dJ26_hasNext_14 : decode cJ26_hasNext 14 = .ok (.iconst 1, 1) := dk_4 (dk_at dksJ26_hasNext_0 14 rfl rfl)
theorem dJ26_hasNext_15 : decode cJ26_hasNext 15 = .ok (.goto 4, 3) := dk_167 0 4 (dk_at dksJ26_hasNext_0 15 rfl rfl)
theorem dJ26_hasNext_18 : decode cJ26_hasNext 18 = .ok (.iconst 0, 1) := dk_3 (dk_at dksJ26_hasNext_0 18 rfl rfl)
theorem dJ26_hasNext_19 : decode cJ26_hasNext 19 = .ok (.ireturn, 1) := dk_172 (dk_at dksJ26_hasNext_0 19 rfl rfl)
def dkwJ26_next_2 : List UInt8 := [183, 0, 43, 191, 42, 27, 4, 96, 181, 0, 25, 44, 42, 27, 90, 181, 0, 13, 50, 176]
abbrev dktJ26_next_2 : List UInt8 := dkwJ26_next_2 ++ []
def dkwJ26_next_1 : List UInt8 := [183, 0, 36, 191, 42, 180, 0, 1, 180, 0, 37, 77, 27, 44, 190, 161, 0, 11, 187, 0, 41, 89]
abbrev dktJ26_next_1 : List UInt8 := dkwJ26_next_1 ++ dktJ26_next_2
def dkwJ26_next_0 : List UInt8 := [42, 182, 0, 31, 42, 180, 0, 25, 60, 27, 42, 180, 0, 1, 180, 0, 28, 161, 0, 11, 187, 0, 34, 89]
abbrev dktJ26_next_0 : List UInt8 := dkwJ26_next_0 ++ dktJ26_next_1
theorem dksJ26_next_0 : cJ26_next.data.toList.drop 0 = dktJ26_next_0 := by decide +kernel
theorem dksJ26_next_1 : cJ26_next.data.toList.drop 24 = dktJ26_next_1 := dk_seg dksJ26_next_0 24 rfl rfl
theorem dksJ26_next_2 : cJ26_next.data.toList.drop 46 = dktJ26_next_2 := dk_seg dksJ26_next_1 22 rfl rfl
theorem dJ26_next_0 : decode cJ26_next 0 = .ok (.aload_n 0, 1) := dk_42 (dk_at dksJ26_next_0 0 rfl rfl)
theorem dJ26_next_1 : decode cJ26_next 1 = .ok (.invokevirtual 31, 3) := dk_182 0 31 (dk_at dksJ26_next_0 1 rfl rfl)
theorem dJ26_next_4 : decode cJ26_next 4 = .ok (.aload_n 0, 1) := dk_42 (dk_at dksJ26_next_0 4 rfl rfl)
theorem dJ26_next_5 : decode cJ26_next 5 = .ok (.getfield 25, 3) := dk_180 0 25 (dk_at dksJ26_next_0 5 rfl rfl)
theorem dJ26_next_8 : decode cJ26_next 8 = .ok (.istore_n 1, 1) := dk_60 (dk_at dksJ26_next_0 8 rfl rfl)
theorem dJ26_next_9 : decode cJ26_next 9 = .ok (.iload_n 1, 1) := dk_27 (dk_at dksJ26_next_0 9 rfl rfl)
theorem dJ26_next_10 : decode cJ26_next 10 = .ok (.aload_n 0, 1) := dk_42 (dk_at dksJ26_next_0 10 rfl rfl)
theorem dJ26_next_11 : decode cJ26_next 11 = .ok (.getfield 1, 3) := dk_180 0 1 (dk_at dksJ26_next_0 11 rfl rfl)
theorem dJ26_next_14 : decode cJ26_next 14 = .ok (.getfield 28, 3) := dk_180 0 28 (dk_at dksJ26_next_0 14 rfl rfl)
theorem dJ26_next_17 : decode cJ26_next 17 = .ok (.if_icmp .lt 11, 3) := dk_161 0 11 (dk_at dksJ26_next_0 17 rfl rfl)
theorem dJ26_next_20 : decode cJ26_next 20 = .ok (.new 34, 3) := dk_187 0 34 (dk_at dksJ26_next_0 20 rfl rfl)
theorem dJ26_next_23 : decode cJ26_next 23 = .ok (.dup, 1) := dk_89 (dk_at dksJ26_next_0 23 rfl rfl)
theorem dJ26_next_24 : decode cJ26_next 24 = .ok (.invokespecial 36, 3) := dk_183 0 36 (dk_at dksJ26_next_1 0 rfl rfl)
theorem dJ26_next_27 : decode cJ26_next 27 = .ok (.athrow, 1) := dk_191 (dk_at dksJ26_next_1 3 rfl rfl)
theorem dJ26_next_28 : decode cJ26_next 28 = .ok (.aload_n 0, 1) := dk_42 (dk_at dksJ26_next_1 4 rfl rfl)
theorem dJ26_next_29 : decode cJ26_next 29 = .ok (.getfield 1, 3) := dk_180 0 1 (dk_at dksJ26_next_1 5 rfl rfl)
theorem dJ26_next_32 : decode cJ26_next 32 = .ok (.getfield 37, 3) := dk_180 0 37 (dk_at dksJ26_next_1 8 rfl rfl)
theorem dJ26_next_35 : decode cJ26_next 35 = .ok (.astore_n 2, 1) := dk_77 (dk_at dksJ26_next_1 11 rfl rfl)
theorem dJ26_next_36 : decode cJ26_next 36 = .ok (.iload_n 1, 1) := dk_27 (dk_at dksJ26_next_1 12 rfl rfl)
theorem dJ26_next_37 : decode cJ26_next 37 = .ok (.aload_n 2, 1) := dk_44 (dk_at dksJ26_next_1 13 rfl rfl)
theorem dJ26_next_38 : decode cJ26_next 38 = .ok (.arraylength, 1) := dk_190 (dk_at dksJ26_next_1 14 rfl rfl)
theorem dJ26_next_39 : decode cJ26_next 39 = .ok (.if_icmp .lt 11, 3) := dk_161 0 11 (dk_at dksJ26_next_1 15 rfl rfl)
theorem dJ26_next_42 : decode cJ26_next 42 = .ok (.new 41, 3) := dk_187 0 41 (dk_at dksJ26_next_1 18 rfl rfl)
theorem dJ26_next_45 : decode cJ26_next 45 = .ok (.dup, 1) := dk_89 (dk_at dksJ26_next_1 21 rfl rfl)
theorem dJ26_next_46 : decode cJ26_next 46 = .ok (.invokespecial 43, 3) := dk_183 0 43 (dk_at dksJ26_next_2 0 rfl rfl)
theorem dJ26_next_49 : decode cJ26_next 49 = .ok (.athrow, 1) := dk_191 (dk_at dksJ26_next_2 3 rfl rfl)
theorem dJ26_next_50 : decode cJ26_next 50 = .ok (.aload_n 0, 1) := dk_42 (dk_at dksJ26_next_2 4 rfl rfl)
theorem dJ26_next_51 : decode cJ26_next 51 = .ok (.iload_n 1, 1) := dk_27 (dk_at dksJ26_next_2 5 rfl rfl)
theorem dJ26_next_52 : decode cJ26_next 52 = .ok (.iconst 1, 1) := dk_4 (dk_at dksJ26_next_2 6 rfl rfl)
theorem dJ26_next_53 : decode cJ26_next 53 = .ok (.iadd, 1) := dk_96 (dk_at dksJ26_next_2 7 rfl rfl)
theorem dJ26_next_54 : decode cJ26_next 54 = .ok (.putfield 25, 3) := dk_181 0 25 (dk_at dksJ26_next_2 8 rfl rfl)
theorem dJ26_next_57 : decode cJ26_next 57 = .ok (.aload_n 2, 1) := dk_44 (dk_at dksJ26_next_2 11 rfl rfl)
theorem dJ26_next_58 : decode cJ26_next 58 = .ok (.aload_n 0, 1) := dk_42 (dk_at dksJ26_next_2 12 rfl rfl)
theorem dJ26_next_59 : decode cJ26_next 59 = .ok (.iload_n 1, 1) := dk_27 (dk_at dksJ26_next_2 13 rfl rfl)
theorem dJ26_next_60 : decode cJ26_next 60 = .ok (.dup_x1, 1) := dk_90 (dk_at dksJ26_next_2 14 rfl rfl)
theorem dJ26_next_61 : decode cJ26_next 61 = .ok (.putfield 13, 3) := dk_181 0 13 (dk_at dksJ26_next_2 15 rfl rfl)
theorem dJ26_next_64 : decode cJ26_next 64 = .ok (.aaload, 1) := dk_50 (dk_at dksJ26_next_2 18 rfl rfl)
theorem dJ26_next_65 : decode cJ26_next 65 = .ok (.areturn, 1) := dk_176 (dk_at dksJ26_next_2 19 rfl rfl)
def dkwJ26_checkForComodification_0 : List UInt8 := [42, 180, 0, 1, 180, 0, 17, 42, 180, 0, 22, 159, 0, 11, 187, 0, 41, 89, 183, 0, 43, 191, 177]
abbrev dktJ26_checkForComodification_0 : List UInt8 := dkwJ26_checkForComodification_0 ++ []
theorem dksJ26_checkForComodification_0 : cJ26_checkForComodification.data.toList.drop 0 = dktJ26_checkForComodification_0 := by decide +kernel
theorem dJ26_checkForComodification_0 : decode cJ26_checkForComodification 0 = .ok (.aload_n 0, 1) := dk_42 (dk_at dksJ26_checkForComodification_0 0 rfl rfl)
theorem dJ26_checkForComodification_1 : decode cJ26_checkForComodification 1 = .ok (.getfield 1, 3) := dk_180 0 1 (dk_at dksJ26_checkForComodification_0 1 rfl rfl)
theorem dJ26_checkForComodification_4 : decode cJ26_checkForComodification 4 = .ok (.getfield 17, 3) := dk_180 0 17 (dk_at dksJ26_checkForComodification_0 4 rfl rfl)
theorem dJ26_checkForComodification_7 : decode cJ26_checkForComodification 7 = .ok (.aload_n 0, 1) := dk_42 (dk_at dksJ26_checkForComodification_0 7 rfl rfl)
theorem dJ26_checkForComodification_8 : decode cJ26_checkForComodification 8 = .ok (.getfield 22, 3) := dk_180 0 22 (dk_at dksJ26_checkForComodification_0 8 rfl rfl)
theorem dJ26_checkForComodification_11 : decode cJ26_checkForComodification 11 = .ok (.if_icmp .eq 11, 3) := dk_159 0 11 (dk_at dksJ26_checkForComodification_0 11 rfl rfl)
theorem dJ26_checkForComodification_14 : decode cJ26_checkForComodification 14 = .ok (.new 41, 3) := dk_187 0 41 (dk_at dksJ26_checkForComodification_0 14 rfl rfl)
theorem dJ26_checkForComodification_17 : decode cJ26_checkForComodification 17 = .ok (.dup, 1) := dk_89 (dk_at dksJ26_checkForComodification_0 17 rfl rfl)
theorem dJ26_checkForComodification_18 : decode cJ26_checkForComodification 18 = .ok (.invokespecial 43, 3) := dk_183 0 43 (dk_at dksJ26_checkForComodification_0 18 rfl rfl)
theorem dJ26_checkForComodification_21 : decode cJ26_checkForComodification 21 = .ok (.athrow, 1) := dk_191 (dk_at dksJ26_checkForComodification_0 21 rfl rfl)
theorem dJ26_checkForComodification_22 : decode cJ26_checkForComodification 22 = .ok (.return_, 1) := dk_177 (dk_at dksJ26_checkForComodification_0 22 rfl rfl)
def dkwJ27_init_0 : List UInt8 := [42, 43, 181, 0, 1, 42, 43, 183, 0, 7, 42, 28, 181, 0, 13, 177]
abbrev dktJ27_init_0 : List UInt8 := dkwJ27_init_0 ++ []
theorem dksJ27_init_0 : cJ27_init.data.toList.drop 0 = dktJ27_init_0 := by decide +kernel
theorem dJ27_init_0 : decode cJ27_init 0 = .ok (.aload_n 0, 1) := dk_42 (dk_at dksJ27_init_0 0 rfl rfl)
theorem dJ27_init_1 : decode cJ27_init 1 = .ok (.aload_n 1, 1) := dk_43 (dk_at dksJ27_init_0 1 rfl rfl)
theorem dJ27_init_2 : decode cJ27_init 2 = .ok (.putfield 1, 3) := dk_181 0 1 (dk_at dksJ27_init_0 2 rfl rfl)
theorem dJ27_init_5 : decode cJ27_init 5 = .ok (.aload_n 0, 1) := dk_42 (dk_at dksJ27_init_0 5 rfl rfl)
theorem dJ27_init_6 : decode cJ27_init 6 = .ok (.aload_n 1, 1) := dk_43 (dk_at dksJ27_init_0 6 rfl rfl)
theorem dJ27_init_7 : decode cJ27_init 7 = .ok (.invokespecial 7, 3) := dk_183 0 7 (dk_at dksJ27_init_0 7 rfl rfl)
theorem dJ27_init_10 : decode cJ27_init 10 = .ok (.aload_n 0, 1) := dk_42 (dk_at dksJ27_init_0 10 rfl rfl)
theorem dJ27_init_11 : decode cJ27_init 11 = .ok (.iload_n 2, 1) := dk_28 (dk_at dksJ27_init_0 11 rfl rfl)
theorem dJ27_init_12 : decode cJ27_init 12 = .ok (.putfield 13, 3) := dk_181 0 13 (dk_at dksJ27_init_0 12 rfl rfl)
theorem dJ27_init_15 : decode cJ27_init 15 = .ok (.return_, 1) := dk_177 (dk_at dksJ27_init_0 15 rfl rfl)
def dkwJ28_init_1 : List UInt8 := [180, 0, 22, 160, 0, 7, 1, 167, 0, 8, 43, 28, 182, 0, 25, 181, 0, 29, 42, 28, 181, 0, 33, 177]
abbrev dktJ28_init_1 : List UInt8 := dkwJ28_init_1 ++ []
def dkwJ28_init_0 : List UInt8 := [42, 43, 181, 0, 1, 42, 183, 0, 7, 42, 42, 180, 0, 1, 180, 0, 13, 181, 0, 19, 42, 28, 43]
abbrev dktJ28_init_0 : List UInt8 := dkwJ28_init_0 ++ dktJ28_init_1
theorem dksJ28_init_0 : cJ28_init.data.toList.drop 0 = dktJ28_init_0 := by decide +kernel
theorem dksJ28_init_1 : cJ28_init.data.toList.drop 23 = dktJ28_init_1 := dk_seg dksJ28_init_0 23 rfl rfl
theorem dJ28_init_0 : decode cJ28_init 0 = .ok (.aload_n 0, 1) := dk_42 (dk_at dksJ28_init_0 0 rfl rfl)
theorem dJ28_init_1 : decode cJ28_init 1 = .ok (.aload_n 1, 1) := dk_43 (dk_at dksJ28_init_0 1 rfl rfl)
theorem dJ28_init_2 : decode cJ28_init 2 = .ok (.putfield 1, 3) := dk_181 0 1 (dk_at dksJ28_init_0 2 rfl rfl)
theorem dJ28_init_5 : decode cJ28_init 5 = .ok (.aload_n 0, 1) := dk_42 (dk_at dksJ28_init_0 5 rfl rfl)
theorem dJ28_init_6 : decode cJ28_init 6 = .ok (.invokespecial 7, 3) := dk_183 0 7 (dk_at dksJ28_init_0 6 rfl rfl)
theorem dJ28_init_9 : decode cJ28_init 9 = .ok (.aload_n 0, 1) := dk_42 (dk_at dksJ28_init_0 9 rfl rfl)
theorem dJ28_init_10 : decode cJ28_init 10 = .ok (.aload_n 0, 1) := dk_42 (dk_at dksJ28_init_0 10 rfl rfl)
theorem dJ28_init_11 : decode cJ28_init 11 = .ok (.getfield 1, 3) := dk_180 0 1 (dk_at dksJ28_init_0 11 rfl rfl)
theorem dJ28_init_14 : decode cJ28_init 14 = .ok (.getfield 13, 3) := dk_180 0 13 (dk_at dksJ28_init_0 14 rfl rfl)
theorem dJ28_init_17 : decode cJ28_init 17 = .ok (.putfield 19, 3) := dk_181 0 19 (dk_at dksJ28_init_0 17 rfl rfl)
theorem dJ28_init_20 : decode cJ28_init 20 = .ok (.aload_n 0, 1) := dk_42 (dk_at dksJ28_init_0 20 rfl rfl)
theorem dJ28_init_21 : decode cJ28_init 21 = .ok (.iload_n 2, 1) := dk_28 (dk_at dksJ28_init_0 21 rfl rfl)
theorem dJ28_init_22 : decode cJ28_init 22 = .ok (.aload_n 1, 1) := dk_43 (dk_at dksJ28_init_0 22 rfl rfl)
theorem dJ28_init_23 : decode cJ28_init 23 = .ok (.getfield 22, 3) := dk_180 0 22 (dk_at dksJ28_init_1 0 rfl rfl)
theorem dJ28_init_26 : decode cJ28_init 26 = .ok (.if_icmp .ne 7, 3) := dk_160 0 7 (dk_at dksJ28_init_1 3 rfl rfl)
theorem dJ28_init_29 : decode cJ28_init 29 = .ok (.aconst_null, 1) := dk_1 (dk_at dksJ28_init_1 6 rfl rfl)
theorem dJ28_init_30 : decode cJ28_init 30 = .ok (.goto 8, 3) := dk_167 0 8 (dk_at dksJ28_init_1 7 rfl rfl)
theorem dJ28_init_33 : decode cJ28_init 33 = .ok (.aload_n 1, 1) := dk_43 (dk_at dksJ28_init_1 10 rfl rfl)
theorem dJ28_init_34 : decode cJ28_init 34 = .ok (.iload_n 2, 1) := dk_28 (dk_at dksJ28_init_1 11 rfl rfl)
theorem dJ28_init_35 : decode cJ28_init 35 = .ok (.invokevirtual 25, 3) := dk_182 0 25 (dk_at dksJ28_init_1 12 rfl rfl)
theorem dJ28_init_38 : decode cJ28_init 38 = .ok (.putfield 29, 3) := dk_181 0 29 (dk_at dksJ28_init_1 15 rfl rfl)
theorem dJ28_init_41 : decode cJ28_init 41 = .ok (.aload_n 0, 1) := dk_42 (dk_at dksJ28_init_1 18 rfl rfl)
theorem dJ28_init_42 : decode cJ28_init 42 = .ok (.iload_n 2, 1) := dk_28 (dk_at dksJ28_init_1 19 rfl rfl)
theorem dJ28_init_43 : decode cJ28_init 43 = .ok (.putfield 33, 3) := dk_181 0 33 (dk_at dksJ28_init_1 20 rfl rfl)
theorem dJ28_init_46 : decode cJ28_init 46 = .ok (.return_, 1) := dk_177 (dk_at dksJ28_init_1 23 rfl rfl)
def dkwJ28_hasNext_0 : List UInt8 := [42, 180, 0, 33, 42, 180, 0, 1, 180, 0, 22, 162, 0, 7, 4, 167, 0, 4, 3, 172]
abbrev dktJ28_hasNext_0 : List UInt8 := dkwJ28_hasNext_0 ++ []
theorem dksJ28_hasNext_0 : cJ28_hasNext.data.toList.drop 0 = dktJ28_hasNext_0 := by decide +kernel
theorem dJ28_hasNext_0 : decode cJ28_hasNext 0 = .ok (.aload_n 0, 1) := dk_42 (dk_at dksJ28_hasNext_0 0 rfl rfl)
theorem dJ28_hasNext_1 : decode cJ28_hasNext 1 = .ok (.getfield 33, 3) := dk_180 0 33 (dk_at dksJ28_hasNext_0 1 rfl rfl)
theorem dJ28_hasNext_4 : decode cJ28_hasNext 4 = .ok (.aload_n 0, 1) := dk_42 (dk_at dksJ28_hasNext_0 4 rfl rfl)
theorem dJ28_hasNext_5 : decode cJ28_hasNext 5 = .ok (.getfield 1, 3) := dk_180 0 1 (dk_at dksJ28_hasNext_0 5 rfl rfl)
theorem dJ28_hasNext_8 : decode cJ28_hasNext 8 = .ok (.getfield 22, 3) := dk_180 0 22 (dk_at dksJ28_hasNext_0 8 rfl rfl)
theorem dJ28_hasNext_11 : decode cJ28_hasNext 11 = .ok (.if_icmp .ge 7, 3) := dk_162 0 7 (dk_at dksJ28_hasNext_0 11 rfl rfl)
theorem dJ28_hasNext_14 : decode cJ28_hasNext 14 = .ok (.iconst 1, 1) := dk_4 (dk_at dksJ28_hasNext_0 14 rfl rfl)
theorem dJ28_hasNext_15 : decode cJ28_hasNext 15 = .ok (.goto 4, 3) := dk_167 0 4 (dk_at dksJ28_hasNext_0 15 rfl rfl)
theorem dJ28_hasNext_18 : decode cJ28_hasNext 18 = .ok (.iconst 0, 1) := dk_3 (dk_at dksJ28_hasNext_0 18 rfl rfl)
theorem dJ28_hasNext_19 : decode cJ28_hasNext 19 = .ok (.ireturn, 1) := dk_172 (dk_at dksJ28_hasNext_0 19 rfl rfl)
def dkwJ28_next_2 : List UInt8 := [42, 180, 0, 46, 180, 0, 52, 176]
abbrev dktJ28_next_2 : List UInt8 := dkwJ28_next_2 ++ []
def dkwJ28_next_1 : List UInt8 := [181, 0, 46, 42, 42, 180, 0, 29, 180, 0, 49, 181, 0, 29, 42, 89, 180, 0, 33, 4, 96, 181, 0, 33]
abbrev dktJ28_next_1 : List UInt8 := dkwJ28_next_1 ++ dktJ28_next_2
def dkwJ28_next_0 : List UInt8 := [42, 182, 0, 36, 42, 182, 0, 39, 154, 0, 11, 187, 0, 43, 89, 183, 0, 45, 191, 42, 42, 180, 0, 29]
abbrev dktJ28_next_0 : List UInt8 := dkwJ28_next_0 ++ dktJ28_next_1
theorem dksJ28_next_0 : cJ28_next.data.toList.drop 0 = dktJ28_next_0 := by decide +kernel
theorem dksJ28_next_1 : cJ28_next.data.toList.drop 24 = dktJ28_next_1 := dk_seg dksJ28_next_0 24 rfl rfl
theorem dksJ28_next_2 : cJ28_next.data.toList.drop 48 = dktJ28_next_2 := dk_seg dksJ28_next_1 24 rfl rfl
theorem dJ28_next_0 : decode cJ28_next 0 = .ok (.aload_n 0, 1) := dk_42 (dk_at dksJ28_next_0 0 rfl rfl)
theorem dJ28_next_1 : decode cJ28_next 1 = .ok (.invokevirtual 36, 3) := dk_182 0 36 (dk_at dksJ28_next_0 1 rfl rfl)
theorem dJ28_next_4 : decode cJ28_next 4 = .ok (.aload_n 0, 1) := dk_42 (dk_at dksJ28_next_0 4 rfl rfl)
theorem dJ28_next_5 : decode cJ28_next 5 = .ok (.invokevirtual 39, 3) := dk_182 0 39 (dk_at dksJ28_next_0 5 rfl rfl)
theorem dJ28_next_8 : decode cJ28_next 8 = .ok (.ifCond .ne 11, 3) := dk_154 0 11 (dk_at dksJ28_next_0 8 rfl rfl)
theorem dJ28_next_11 : decode cJ28_next 11 = .ok (.new 43, 3) := dk_187 0 43 (dk_at dksJ28_next_0 11 rfl rfl)
theorem dJ28_next_14 : decode cJ28_next 14 = .ok (.dup, 1) := dk_89 (dk_at dksJ28_next_0 14 rfl rfl)
theorem dJ28_next_15 : decode cJ28_next 15 = .ok (.invokespecial 45, 3) := dk_183 0 45 (dk_at dksJ28_next_0 15 rfl rfl)
theorem dJ28_next_18 : decode cJ28_next 18 = .ok (.athrow, 1) := dk_191 (dk_at dksJ28_next_0 18 rfl rfl)
theorem dJ28_next_19 : decode cJ28_next 19 = .ok (.aload_n 0, 1) := dk_42 (dk_at dksJ28_next_0 19 rfl rfl)
theorem dJ28_next_20 : decode cJ28_next 20 = .ok (.aload_n 0, 1) := dk_42 (dk_at dksJ28_next_0 20 rfl rfl)
theorem dJ28_next_21 : decode cJ28_next 21 = .ok (.getfield 29, 3) := dk_180 0 29 (dk_at dksJ28_next_0 21 rfl rfl)
theorem dJ28_next_24 : decode cJ28_next 24 = .ok (.putfield 46, 3) := dk_181 0 46 (dk_at dksJ28_next_1 0 rfl rfl)
theorem dJ28_next_27 : decode cJ28_next 27 = .ok (.aload_n 0, 1) := dk_42 (dk_at dksJ28_next_1 3 rfl rfl)
theorem dJ28_next_28 : decode cJ28_next 28 = .ok (.aload_n 0, 1) := dk_42 (dk_at dksJ28_next_1 4 rfl rfl)
theorem dJ28_next_29 : decode cJ28_next 29 = .ok (.getfield 29, 3) := dk_180 0 29 (dk_at dksJ28_next_1 5 rfl rfl)
theorem dJ28_next_32 : decode cJ28_next 32 = .ok (.getfield 49, 3) := dk_180 0 49 (dk_at dksJ28_next_1 8 rfl rfl)
theorem dJ28_next_35 : decode cJ28_next 35 = .ok (.putfield 29, 3) := dk_181 0 29 (dk_at dksJ28_next_1 11 rfl rfl)
theorem dJ28_next_38 : decode cJ28_next 38 = .ok (.aload_n 0, 1) := dk_42 (dk_at dksJ28_next_1 14 rfl rfl)
theorem dJ28_next_39 : decode cJ28_next 39 = .ok (.dup, 1) := dk_89 (dk_at dksJ28_next_1 15 rfl rfl)
theorem dJ28_next_40 : decode cJ28_next 40 = .ok (.getfield 33, 3) := dk_180 0 33 (dk_at dksJ28_next_1 16 rfl rfl)
theorem dJ28_next_43 : decode cJ28_next 43 = .ok (.iconst 1, 1) := dk_4 (dk_at dksJ28_next_1 19 rfl rfl)
theorem dJ28_next_44 : decode cJ28_next 44 = .ok (.iadd, 1) := dk_96 (dk_at dksJ28_next_1 20 rfl rfl)
theorem dJ28_next_45 : decode cJ28_next 45 = .ok (.putfield 33, 3) := dk_181 0 33 (dk_at dksJ28_next_1 21 rfl rfl)
theorem dJ28_next_48 : decode cJ28_next 48 = .ok (.aload_n 0, 1) := dk_42 (dk_at dksJ28_next_2 0 rfl rfl)
theorem dJ28_next_49 : decode cJ28_next 49 = .ok (.getfield 46, 3) := dk_180 0 46 (dk_at dksJ28_next_2 1 rfl rfl)
theorem dJ28_next_52 : decode cJ28_next 52 = .ok (.getfield 52, 3) := dk_180 0 52 (dk_at dksJ28_next_2 4 rfl rfl)
theorem dJ28_next_55 : decode cJ28_next 55 = .ok (.areturn, 1) := dk_176 (dk_at dksJ28_next_2 7 rfl rfl)
def dkwJ28_checkForComodification_0 : List UInt8 := [42, 180, 0, 1, 180, 0, 13, 42, 180, 0, 19, 159, 0, 11, 187, 0, 91, 89, 183, 0, 93, 191, 177]
abbrev dktJ28_checkForComodification_0 : List UInt8 := dkwJ28_checkForComodification_0 ++ []
theorem dksJ28_checkForComodification_0 : cJ28_checkForComodification.data.toList.drop 0 = dktJ28_checkForComodification_0 := by decide +kernel
theorem dJ28_checkForComodification_0 : decode cJ28_checkForComodification 0 = .ok (.aload_n 0, 1) := dk_42 (dk_at dksJ28_checkForComodification_0 0 rfl rfl)
theorem dJ28_checkForComodification_1 : decode cJ28_checkForComodification 1 = .ok (.getfield 1, 3) := dk_180 0 1 (dk_at dksJ28_checkForComodification_0 1 rfl rfl)
theorem dJ28_checkForComodification_4 : decode cJ28_checkForComodification 4 = .ok (.getfield 13, 3) := dk_180 0 13 (dk_at dksJ28_checkForComodification_0 4 rfl rfl)
theorem dJ28_checkForComodification_7 : decode cJ28_checkForComodification 7 = .ok (.aload_n 0, 1) := dk_42 (dk_at dksJ28_checkForComodification_0 7 rfl rfl)
theorem dJ28_checkForComodification_8 : decode cJ28_checkForComodification 8 = .ok (.getfield 19, 3) := dk_180 0 19 (dk_at dksJ28_checkForComodification_0 8 rfl rfl)
theorem dJ28_checkForComodification_11 : decode cJ28_checkForComodification 11 = .ok (.if_icmp .eq 11, 3) := dk_159 0 11 (dk_at dksJ28_checkForComodification_0 11 rfl rfl)
theorem dJ28_checkForComodification_14 : decode cJ28_checkForComodification 14 = .ok (.new 91, 3) := dk_187 0 91 (dk_at dksJ28_checkForComodification_0 14 rfl rfl)
theorem dJ28_checkForComodification_17 : decode cJ28_checkForComodification 17 = .ok (.dup, 1) := dk_89 (dk_at dksJ28_checkForComodification_0 17 rfl rfl)
theorem dJ28_checkForComodification_18 : decode cJ28_checkForComodification 18 = .ok (.invokespecial 93, 3) := dk_183 0 93 (dk_at dksJ28_checkForComodification_0 18 rfl rfl)
theorem dJ28_checkForComodification_21 : decode cJ28_checkForComodification 21 = .ok (.athrow, 1) := dk_191 (dk_at dksJ28_checkForComodification_0 21 rfl rfl)
theorem dJ28_checkForComodification_22 : decode cJ28_checkForComodification 22 = .ok (.return_, 1) := dk_177 (dk_at dksJ28_checkForComodification_0 22 rfl rfl)
def dkwJ29_init_0 : List UInt8 := [42, 183, 0, 1, 42, 44, 181, 0, 7, 42, 45, 181, 0, 13, 42, 43, 181, 0, 17, 177]
abbrev dktJ29_init_0 : List UInt8 := dkwJ29_init_0 ++ []
theorem dksJ29_init_0 : cJ29_init.data.toList.drop 0 = dktJ29_init_0 := by decide +kernel
theorem dJ29_init_0 : decode cJ29_init 0 = .ok (.aload_n 0, 1) := dk_42 (dk_at dksJ29_init_0 0 rfl rfl)
theorem dJ29_init_1 : decode cJ29_init 1 = .ok (.invokespecial 1, 3) := dk_183 0 1 (dk_at dksJ29_init_0 1 rfl rfl)
theorem dJ29_init_4 : decode cJ29_init 4 = .ok (.aload_n 0, 1) := dk_42 (dk_at dksJ29_init_0 4 rfl rfl)
theorem dJ29_init_5 : decode cJ29_init 5 = .ok (.aload_n 2, 1) := dk_44 (dk_at dksJ29_init_0 5 rfl rfl)
theorem dJ29_init_6 : decode cJ29_init 6 = .ok (.putfield 7, 3) := dk_181 0 7 (dk_at dksJ29_init_0 6 rfl rfl)
theorem dJ29_init_9 : decode cJ29_init 9 = .ok (.aload_n 0, 1) := dk_42 (dk_at dksJ29_init_0 9 rfl rfl)
theorem dJ29_init_10 : decode cJ29_init 10 = .ok (.aload_n 3, 1) := dk_45 (dk_at dksJ29_init_0 10 rfl rfl)
theorem dJ29_init_11 : decode cJ29_init 11 = .ok (.putfield 13, 3) := dk_181 0 13 (dk_at dksJ29_init_0 11 rfl rfl)
theorem dJ29_init_14 : decode cJ29_init 14 = .ok (.aload_n 0, 1) := dk_42 (dk_at dksJ29_init_0 14 rfl rfl)
theorem dJ29_init_15 : decode cJ29_init 15 = .ok (.aload_n 1, 1) := dk_43 (dk_at dksJ29_init_0 15 rfl rfl)
theorem dJ29_init_16 : decode cJ29_init 16 = .ok (.putfield 17, 3) := dk_181 0 17 (dk_at dksJ29_init_0 16 rfl rfl)
theorem dJ29_init_19 : decode cJ29_init 19 = .ok (.return_, 1) := dk_177 (dk_at dksJ29_init_0 19 rfl rfl)
def dkwJ30_floatToIntBits_0 : List UInt8 := [34, 184, 0, 59, 154, 0, 8, 34, 184, 0, 74, 172, 18, 77, 172]
abbrev dktJ30_floatToIntBits_0 : List UInt8 := dkwJ30_floatToIntBits_0 ++ []
theorem dksJ30_floatToIntBits_0 : cJ30_floatToIntBits.data.toList.drop 0 = dktJ30_floatToIntBits_0 := by decide +kernel
theorem dJ30_floatToIntBits_0 : decode cJ30_floatToIntBits 0 = .ok (.fload_n 0, 1) := dk_34 (dk_at dksJ30_floatToIntBits_0 0 rfl rfl)
theorem dJ30_floatToIntBits_1 : decode cJ30_floatToIntBits 1 = .ok (.invokestatic 59, 3) := dk_184 0 59 (dk_at dksJ30_floatToIntBits_0 1 rfl rfl)
theorem dJ30_floatToIntBits_4 : decode cJ30_floatToIntBits 4 = .ok (.ifCond .ne 8, 3) := dk_154 0 8 (dk_at dksJ30_floatToIntBits_0 4 rfl rfl)
theorem dJ30_floatToIntBits_7 : decode cJ30_floatToIntBits 7 = .ok (.fload_n 0, 1) := dk_34 (dk_at dksJ30_floatToIntBits_0 7 rfl rfl)
theorem dJ30_floatToIntBits_8 : decode cJ30_floatToIntBits 8 = .ok (.invokestatic 74, 3) := dk_184 0 74 (dk_at dksJ30_floatToIntBits_0 8 rfl rfl)
theorem dJ30_floatToIntBits_11 : decode cJ30_floatToIntBits 11 = .ok (.ireturn, 1) := dk_172 (dk_at dksJ30_floatToIntBits_0 11 rfl rfl)
theorem dJ30_floatToIntBits_12 : decode cJ30_floatToIntBits 12 = .ok (.ldc 77, 2) := dk_18 77 (dk_at dksJ30_floatToIntBits_0 12 rfl rfl)
theorem dJ30_floatToIntBits_14 : decode cJ30_floatToIntBits 14 = .ok (.ireturn, 1) := dk_172 (dk_at dksJ30_floatToIntBits_0 14 rfl rfl)
def dkwJ30_isNaN_0 : List UInt8 := [34, 34, 149, 153, 0, 7, 4, 167, 0, 4, 3, 172]
abbrev dktJ30_isNaN_0 : List UInt8 := dkwJ30_isNaN_0 ++ []
theorem dksJ30_isNaN_0 : cJ30_isNaN.data.toList.drop 0 = dktJ30_isNaN_0 := by decide +kernel
theorem dJ30_isNaN_0 : decode cJ30_isNaN 0 = .ok (.fload_n 0, 1) := dk_34 (dk_at dksJ30_isNaN_0 0 rfl rfl)
theorem dJ30_isNaN_1 : decode cJ30_isNaN 1 = .ok (.fload_n 0, 1) := dk_34 (dk_at dksJ30_isNaN_0 1 rfl rfl)
theorem dJ30_isNaN_2 : decode cJ30_isNaN 2 = .ok (.fcmp .l, 1) := dk_149 (dk_at dksJ30_isNaN_0 2 rfl rfl)
theorem dJ30_isNaN_3 : decode cJ30_isNaN 3 = .ok (.ifCond .eq 7, 3) := dk_153 0 7 (dk_at dksJ30_isNaN_0 3 rfl rfl)
theorem dJ30_isNaN_6 : decode cJ30_isNaN 6 = .ok (.iconst 1, 1) := dk_4 (dk_at dksJ30_isNaN_0 6 rfl rfl)
theorem dJ30_isNaN_7 : decode cJ30_isNaN 7 = .ok (.goto 4, 3) := dk_167 0 4 (dk_at dksJ30_isNaN_0 7 rfl rfl)
theorem dJ30_isNaN_10 : decode cJ30_isNaN 10 = .ok (.iconst 0, 1) := dk_3 (dk_at dksJ30_isNaN_0 10 rfl rfl)
theorem dJ30_isNaN_11 : decode cJ30_isNaN 11 = .ok (.ireturn, 1) := dk_172 (dk_at dksJ30_isNaN_0 11 rfl rfl)
def dkwJ31_of_1 : List UInt8 := [25, 4, 83, 89, 8, 25, 5, 83, 89, 16, 6, 25, 6, 83, 89, 16, 7, 25, 7, 83, 184, 0, 105, 176]
abbrev dktJ31_of_1 : List UInt8 := dkwJ31_of_1 ++ []
def dkwJ31_of_0 : List UInt8 := [16, 8, 189, 0, 103, 89, 3, 42, 83, 89, 4, 43, 83, 89, 5, 44, 83, 89, 6, 45, 83, 89, 7]
abbrev dktJ31_of_0 : List UInt8 := dkwJ31_of_0 ++ dktJ31_of_1
theorem dksJ31_of_0 : cJ31_of.data.toList.drop 0 = dktJ31_of_0 := by decide +kernel
theorem dksJ31_of_1 : cJ31_of.data.toList.drop 23 = dktJ31_of_1 := dk_seg dksJ31_of_0 23 rfl rfl
theorem dJ31_of_0 : decode cJ31_of 0 = .ok (.bipush 8, 2) := dk_16 8 (dk_at dksJ31_of_0 0 rfl rfl)
theorem dJ31_of_2 : decode cJ31_of 2 = .ok (.anewarray 103, 3) := dk_189 0 103 (dk_at dksJ31_of_0 2 rfl rfl)
theorem dJ31_of_5 : decode cJ31_of 5 = .ok (.dup, 1) := dk_89 (dk_at dksJ31_of_0 5 rfl rfl)
theorem dJ31_of_6 : decode cJ31_of 6 = .ok (.iconst 0, 1) := dk_3 (dk_at dksJ31_of_0 6 rfl rfl)
theorem dJ31_of_7 : decode cJ31_of 7 = .ok (.aload_n 0, 1) := dk_42 (dk_at dksJ31_of_0 7 rfl rfl)
theorem dJ31_of_8 : decode cJ31_of 8 = .ok (.aastore, 1) := dk_83 (dk_at dksJ31_of_0 8 rfl rfl)
theorem dJ31_of_9 : decode cJ31_of 9 = .ok (.dup, 1) := dk_89 (dk_at dksJ31_of_0 9 rfl rfl)
theorem dJ31_of_10 : decode cJ31_of 10 = .ok (.iconst 1, 1) := dk_4 (dk_at dksJ31_of_0 10 rfl rfl)
theorem dJ31_of_11 : decode cJ31_of 11 = .ok (.aload_n 1, 1) := dk_43 (dk_at dksJ31_of_0 11 rfl rfl)
theorem dJ31_of_12 : decode cJ31_of 12 = .ok (.aastore, 1) := dk_83 (dk_at dksJ31_of_0 12 rfl rfl)
theorem dJ31_of_13 : decode cJ31_of 13 = .ok (.dup, 1) := dk_89 (dk_at dksJ31_of_0 13 rfl rfl)
theorem dJ31_of_14 : decode cJ31_of 14 = .ok (.iconst 2, 1) := dk_5 (dk_at dksJ31_of_0 14 rfl rfl)
theorem dJ31_of_15 : decode cJ31_of 15 = .ok (.aload_n 2, 1) := dk_44 (dk_at dksJ31_of_0 15 rfl rfl)
theorem dJ31_of_16 : decode cJ31_of 16 = .ok (.aastore, 1) := dk_83 (dk_at dksJ31_of_0 16 rfl rfl)
theorem dJ31_of_17 : decode cJ31_of 17 = .ok (.dup, 1) := dk_89 (dk_at dksJ31_of_0 17 rfl rfl)
theorem dJ31_of_18 : decode cJ31_of 18 = .ok (.iconst 3, 1) := dk_6 (dk_at dksJ31_of_0 18 rfl rfl)
theorem dJ31_of_19 : decode cJ31_of 19 = .ok (.aload_n 3, 1) := dk_45 (dk_at dksJ31_of_0 19 rfl rfl)
theorem dJ31_of_20 : decode cJ31_of 20 = .ok (.aastore, 1) := dk_83 (dk_at dksJ31_of_0 20 rfl rfl)
theorem dJ31_of_21 : decode cJ31_of 21 = .ok (.dup, 1) := dk_89 (dk_at dksJ31_of_0 21 rfl rfl)
theorem dJ31_of_22 : decode cJ31_of 22 = .ok (.iconst 4, 1) := dk_7 (dk_at dksJ31_of_0 22 rfl rfl)
theorem dJ31_of_23 : decode cJ31_of 23 = .ok (.aload 4, 2) := dk_25 4 (dk_at dksJ31_of_1 0 rfl rfl)
theorem dJ31_of_25 : decode cJ31_of 25 = .ok (.aastore, 1) := dk_83 (dk_at dksJ31_of_1 2 rfl rfl)
theorem dJ31_of_26 : decode cJ31_of 26 = .ok (.dup, 1) := dk_89 (dk_at dksJ31_of_1 3 rfl rfl)
theorem dJ31_of_27 : decode cJ31_of 27 = .ok (.iconst 5, 1) := dk_8 (dk_at dksJ31_of_1 4 rfl rfl)
theorem dJ31_of_28 : decode cJ31_of 28 = .ok (.aload 5, 2) := dk_25 5 (dk_at dksJ31_of_1 5 rfl rfl)
theorem dJ31_of_30 : decode cJ31_of 30 = .ok (.aastore, 1) := dk_83 (dk_at dksJ31_of_1 7 rfl rfl)
theorem dJ31_of_31 : decode cJ31_of 31 = .ok (.dup, 1) := dk_89 (dk_at dksJ31_of_1 8 rfl rfl)
theorem dJ31_of_32 : decode cJ31_of 32 = .ok (.bipush 6, 2) := dk_16 6 (dk_at dksJ31_of_1 9 rfl rfl)
theorem dJ31_of_34 : decode cJ31_of 34 = .ok (.aload 6, 2) := dk_25 6 (dk_at dksJ31_of_1 11 rfl rfl)
theorem dJ31_of_36 : decode cJ31_of 36 = .ok (.aastore, 1) := dk_83 (dk_at dksJ31_of_1 13 rfl rfl)
theorem dJ31_of_37 : decode cJ31_of 37 = .ok (.dup, 1) := dk_89 (dk_at dksJ31_of_1 14 rfl rfl)
theorem dJ31_of_38 : decode cJ31_of 38 = .ok (.bipush 7, 2) := dk_16 7 (dk_at dksJ31_of_1 15 rfl rfl)
theorem dJ31_of_40 : decode cJ31_of 40 = .ok (.aload 7, 2) := dk_25 7 (dk_at dksJ31_of_1 17 rfl rfl)
theorem dJ31_of_42 : decode cJ31_of 42 = .ok (.aastore, 1) := dk_83 (dk_at dksJ31_of_1 19 rfl rfl)
theorem dJ31_of_43 : decode cJ31_of 43 = .ok (.invokestatic 105, 3) := dk_184 0 105 (dk_at dksJ31_of_1 20 rfl rfl)
theorem dJ31_of_46 : decode cJ31_of 46 = .ok (.areturn, 1) := dk_176 (dk_at dksJ31_of_1 23 rfl rfl)
def dkwJ32_listFromTrustedArray_5 : List UInt8 := [3, 50, 42, 4, 50, 183, 0, 67, 167, 0, 12, 187, 0, 12, 89, 42, 3, 183, 0, 43, 176]
abbrev dktJ32_listFromTrustedArray_5 : List UInt8 := dkwJ32_listFromTrustedArray_5 ++ []
def dkwJ32_listFromTrustedArray_4 : List UInt8 := [178, 0, 60, 167, 0, 41, 187, 0, 10, 89, 42, 3, 50, 183, 0, 64, 167, 0, 28, 187, 0, 10, 89, 42]
abbrev dktJ32_listFromTrustedArray_4 : List UInt8 := dkwJ32_listFromTrustedArray_4 ++ dktJ32_listFromTrustedArray_5
def dkwJ32_listFromTrustedArray_3 : List UInt8 := [170, 0, 0, 0, 0, 61, 0, 0, 0, 0, 0, 0, 0, 2, 0, 0, 0, 26, 0, 0, 0, 32, 0, 0, 0, 45]
abbrev dktJ32_listFromTrustedArray_3 : List UInt8 := dkwJ32_listFromTrustedArray_3 ++ dktJ32_listFromTrustedArray_4
def dkwJ32_listFromTrustedArray_2 : List UInt8 := [132, 3, 1, 167, 255, 237, 42, 190]
abbrev dktJ32_listFromTrustedArray_2 : List UInt8 := dkwJ32_listFromTrustedArray_2 ++ dktJ32_listFromTrustedArray_3
def dkwJ32_listFromTrustedArray_1 : List UInt8 := [76, 43, 190, 61, 3, 62, 29, 28, 162, 0, 20, 43, 29, 50, 58, 4, 25, 4, 184, 0, 37, 87]
abbrev dktJ32_listFromTrustedArray_1 : List UInt8 := dkwJ32_listFromTrustedArray_1 ++ dktJ32_listFromTrustedArray_2
def dkwJ32_listFromTrustedArray_0 : List UInt8 := [178, 0, 46, 154, 0, 20, 42, 182, 0, 51, 18, 55, 165, 0, 11, 187, 0, 57, 89, 183, 0, 59, 191, 42]
abbrev dktJ32_listFromTrustedArray_0 : List UInt8 := dkwJ32_listFromTrustedArray_0 ++ dktJ32_listFromTrustedArray_1
theorem dksJ32_listFromTrustedArray_0 : cJ32_listFromTrustedArray.data.toList.drop 0 = dktJ32_listFromTrustedArray_0 := by decide +kernel
theorem dksJ32_listFromTrustedArray_1 : cJ32_listFromTrustedArray.data.toList.drop 24 = dktJ32_listFromTrustedArray_1 := dk_seg dksJ32_listFromTrustedArray_0 24 rfl rfl
theorem dksJ32_listFromTrustedArray_2 : cJ32_listFromTrustedArray.data.toList.drop 46 = dktJ32_listFromTrustedArray_2 := dk_seg dksJ32_listFromTrustedArray_1 22 rfl rfl
theorem dksJ32_listFromTrustedArray_3 : cJ32_listFromTrustedArray.data.toList.drop 54 = dktJ32_listFromTrustedArray_3 := dk_seg dksJ32_listFromTrustedArray_2 8 rfl rfl
theorem dksJ32_listFromTrustedArray_4 : cJ32_listFromTrustedArray.data.toList.drop 80 = dktJ32_listFromTrustedArray_4 := dk_seg dksJ32_listFromTrustedArray_3 26 rfl rfl
theorem dksJ32_listFromTrustedArray_5 : cJ32_listFromTrustedArray.data.toList.drop 104 = dktJ32_listFromTrustedArray_5 := dk_seg dksJ32_listFromTrustedArray_4 24 rfl rfl
theorem dJ32_listFromTrustedArray_0 : decode cJ32_listFromTrustedArray 0 = .ok (.getstatic 46, 3) := dk_178 0 46 (dk_at dksJ32_listFromTrustedArray_0 0 rfl rfl)
theorem dJ32_listFromTrustedArray_3 : decode cJ32_listFromTrustedArray 3 = .ok (.ifCond .ne 20, 3) := dk_154 0 20 (dk_at dksJ32_listFromTrustedArray_0 3 rfl rfl)
theorem dJ32_listFromTrustedArray_6 : decode cJ32_listFromTrustedArray 6 = .ok (.aload_n 0, 1) := dk_42 (dk_at dksJ32_listFromTrustedArray_0 6 rfl rfl)
theorem dJ32_listFromTrustedArray_7 : decode cJ32_listFromTrustedArray 7 = .ok (.invokevirtual 51, 3) := dk_182 0 51 (dk_at dksJ32_listFromTrustedArray_0 7 rfl rfl)
theorem dJ32_listFromTrustedArray_10 : decode cJ32_listFromTrustedArray 10 = .ok (.ldc 55, 2) := dk_18 55 (dk_at dksJ32_listFromTrustedArray_0 10 rfl rfl)
theorem dJ32_listFromTrustedArray_12 : decode cJ32_listFromTrustedArray 12 = .ok (.if_acmp .eq 11, 3) := dk_165 0 11 (dk_at dksJ32_listFromTrustedArray_0 12 rfl rfl)
theorem dJ32_listFromTrustedArray_15 : decode cJ32_listFromTrustedArray 15 = .ok (.new 57, 3) := dk_187 0 57 (dk_at dksJ32_listFromTrustedArray_0 15 rfl rfl)
theorem dJ32_listFromTrustedArray_18 : decode cJ32_listFromTrustedArray 18 = .ok (.dup, 1) := dk_89 (dk_at dksJ32_listFromTrustedArray_0 18 rfl rfl)
theorem dJ32_listFromTrustedArray_19 : decode cJ32_listFromTrustedArray 19 = .ok (.invokespecial 59, 3) := dk_183 0 59 (dk_at dksJ32_listFromTrustedArray_0 19 rfl rfl)
theorem dJ32_listFromTrustedArray_22 : decode cJ32_listFromTrustedArray 22 = .ok (.athrow, 1) := dk_191 (dk_at dksJ32_listFromTrustedArray_0 22 rfl rfl)
theorem dJ32_listFromTrustedArray_23 : decode cJ32_listFromTrustedArray 23 = .ok (.aload_n 0, 1) := dk_42 (dk_at dksJ32_listFromTrustedArray_0 23 rfl rfl)
theorem dJ32_listFromTrustedArray_24 : decode cJ32_listFromTrustedArray 24 = .ok (.astore_n 1, 1) := dk_76 (dk_at dksJ32_listFromTrustedArray_1 0 rfl rfl)
theorem dJ32_listFromTrustedArray_25 : decode cJ32_listFromTrustedArray 25 = .ok (.aload_n 1, 1) := dk_43 (dk_at dksJ32_listFromTrustedArray_1 1 rfl rfl)
theorem dJ32_listFromTrustedArray_26 : decode cJ32_listFromTrustedArray 26 = .ok (.arraylength, 1) := dk_190 (dk_at dksJ32_listFromTrustedArray_1 2 rfl rfl)
theorem dJ32_listFromTrustedArray_27 : decode cJ32_listFromTrustedArray 27 = .ok (.istore_n 2, 1) := dk_61 (dk_at dksJ32_listFromTrustedArray_1 3 rfl rfl)
theorem dJ32_listFromTrustedArray_28 : decode cJ32_listFromTrustedArray 28 = .ok (.iconst 0, 1) := dk_3 (dk_at dksJ32_listFromTrustedArray_1 4 rfl rfl)
theorem dJ32_listFromTrustedArray_29 : decode cJ32_listFromTrustedArray 29 = .ok (.istore_n 3, 1) := dk_62 (dk_at dksJ32_listFromTrustedArray_1 5 rfl rfl)
theorem dJ32_listFromTrustedArray_30 : decode cJ32_listFromTrustedArray 30 = .ok (.iload_n 3, 1) := dk_29 (dk_at dksJ32_listFromTrustedArray_1 6 rfl rfl)
theorem dJ32_listFromTrustedArray_31 : decode cJ32_listFromTrustedArray 31 = .ok (.iload_n 2, 1) := dk_28 (dk_at dksJ32_listFromTrustedArray_1 7 rfl rfl)
theorem dJ32_listFromTrustedArray_32 : decode cJ32_listFromTrustedArray 32 = .ok (.if_icmp .ge 20, 3) := dk_162 0 20 (dk_at dksJ32_listFromTrustedArray_1 8 rfl rfl)
theorem dJ32_listFromTrustedArray_35 : decode cJ32_listFromTrustedArray 35 = .ok (.aload_n 1, 1) := dk_43 (dk_at dksJ32_listFromTrustedArray_1 11 rfl rfl)
theorem dJ32_listFromTrustedArray_36 : decode cJ32_listFromTrustedArray 36 = .ok (.iload_n 3, 1) := dk_29 (dk_at dksJ32_listFromTrustedArray_1 12 rfl rfl)
theorem dJ32_listFromTrustedArray_37 : decode cJ32_listFromTrustedArray 37 = .ok (.aaload, 1) := dk_50 (dk_at dksJ32_listFromTrustedArray_1 13 rfl rfl)
theorem dJ32_listFromTrustedArray_38 : decode cJ32_listFromTrustedArray 38 = .ok (.astore 4, 2) := dk_58 4 (dk_at dksJ32_listFromTrustedArray_1 14 rfl rfl)
theorem dJ32_listFromTrustedArray_40 : decode cJ32_listFromTrustedArray 40 = .ok (.aload 4, 2) := dk_25 4 (dk_at dksJ32_listFromTrustedArray_1 16 rfl rfl)
theorem dJ32_listFromTrustedArray_42 : decode cJ32_listFromTrustedArray 42 = .ok (.invokestatic 37, 3) := dk_184 0 37 (dk_at dksJ32_listFromTrustedArray_1 18 rfl rfl)
theorem dJ32_listFromTrustedArray_45 : decode cJ32_listFromTrustedArray 45 = .ok (.pop, 1) := dk_87 (dk_at dksJ32_listFromTrustedArray_1 21 rfl rfl)
theorem dJ32_listFromTrustedArray_46 : decode cJ32_listFromTrustedArray 46 = .ok (.iinc 3 1, 3) := dk_132 3 1 (dk_at dksJ32_listFromTrustedArray_2 0 rfl rfl)
theorem dJ32_listFromTrustedArray_49 : decode cJ32_listFromTrustedArray 49 = .ok (.goto (-19), 3) := dk_167 255 237 (dk_at dksJ32_listFromTrustedArray_2 3 rfl rfl)
theorem dJ32_listFromTrustedArray_52 : decode cJ32_listFromTrustedArray 52 = .ok (.aload_n 0, 1) := dk_42 (dk_at dksJ32_listFromTrustedArray_2 6 rfl rfl)
theorem dJ32_listFromTrustedArray_53 : decode cJ32_listFromTrustedArray 53 = .ok (.arraylength, 1) := dk_190 (dk_at dksJ32_listFromTrustedArray_2 7 rfl rfl)
theorem dJ32_listFromTrustedArray_54 : decode cJ32_listFromTrustedArray 54 = .ok (.tableswitch 61 0 2 #[26, 32, 45], 26) := by decide +kernel
theorem dJ32_listFromTrustedArray_80 : decode cJ32_listFromTrustedArray 80 = .ok (.getstatic 60, 3) := dk_178 0 60 (dk_at dksJ32_listFromTrustedArray_4 0 rfl rfl)
theorem dJ32_listFromTrustedArray_83 : decode cJ32_listFromTrustedArray 83 = .ok (.goto 41, 3) := dk_167 0 41 (dk_at dksJ32_listFromTrustedArray_4 3 rfl rfl)
theorem dJ32_listFromTrustedArray_86 : decode cJ32_listFromTrustedArray 86 = .ok (.new 10, 3) := dk_187 0 10 (dk_at dksJ32_listFromTrustedArray_4 6 rfl rfl)
theorem dJ32_listFromTrustedArray_89 : decode cJ32_listFromTrustedArray 89 = .ok (.dup, 1) := dk_89 (dk_at dksJ32_listFromTrustedArray_4 9 rfl rfl)
theorem dJ32_listFromTrustedArray_90 : decode cJ32_listFromTrustedArray 90 = .ok (.aload_n 0, 1) := dk_42 (dk_at dksJ32_listFromTrustedArray_4 10 rfl rfl)
theorem dJ32_listFromTrustedArray_91 : decode cJ32_listFromTrustedArray 91 = .ok (.iconst 0, 1) := dk_3 (dk_at dksJ32_listFromTrustedArray_4 11 rfl rfl)
theorem dJ32_listFromTrustedArray_92 : decode cJ32_listFromTrustedArray 92 = .ok (.aaload, 1) := dk_50 (dk_at dksJ32_listFromTrustedArray_4 12 rfl rfl)
theorem dJ32_listFromTrustedArray_93 : decode cJ32_listFromTrustedArray 93 = .ok (.invokespecial 64, 3) := dk_183 0 64 (dk_at dksJ32_listFromTrustedArray_4 13 rfl rfl)
theorem dJ32_listFromTrustedArray_96 : decode cJ32_listFromTrustedArray 96 = .ok (.goto 28, 3) := dk_167 0 28 (dk_at dksJ32_listFromTrustedArray_4 16 rfl rfl)
theorem dJ32_listFromTrustedArray_99 : decode cJ32_listFromTrustedArray 99 = .ok (.new 10, 3) := dk_187 0 10 (dk_at dksJ32_listFromTrustedArray_4 19 rfl rfl)
theorem dJ32_listFromTrustedArray_102 : decode cJ32_listFromTrustedArray 102 = .ok (.dup, 1) := dk_89 (dk_at dksJ32_listFromTrustedArray_4 22 rfl rfl)
theorem dJ32_listFromTrustedArray_103 : decode cJ32_listFromTrustedArray 103 = .ok (.aload_n 0, 1) := dk_42 (dk_at dksJ32_listFromTrustedArray_4 23 rfl rfl)
theorem dJ32_listFromTrustedArray_104 : decode cJ32_listFromTrustedArray 104 = .ok (.iconst 0, 1) := dk_3 (dk_at dksJ32_listFromTrustedArray_5 0 rfl rfl)
theorem dJ32_listFromTrustedArray_105 : decode cJ32_listFromTrustedArray 105 = .ok (.aaload, 1) := dk_50 (dk_at dksJ32_listFromTrustedArray_5 1 rfl rfl)
theorem dJ32_listFromTrustedArray_106 : decode cJ32_listFromTrustedArray 106 = .ok (.aload_n 0, 1) := dk_42 (dk_at dksJ32_listFromTrustedArray_5 2 rfl rfl)
theorem dJ32_listFromTrustedArray_107 : decode cJ32_listFromTrustedArray 107 = .ok (.iconst 1, 1) := dk_4 (dk_at dksJ32_listFromTrustedArray_5 3 rfl rfl)
theorem dJ32_listFromTrustedArray_108 : decode cJ32_listFromTrustedArray 108 = .ok (.aaload, 1) := dk_50 (dk_at dksJ32_listFromTrustedArray_5 4 rfl rfl)
theorem dJ32_listFromTrustedArray_109 : decode cJ32_listFromTrustedArray 109 = .ok (.invokespecial 67, 3) := dk_183 0 67 (dk_at dksJ32_listFromTrustedArray_5 5 rfl rfl)
theorem dJ32_listFromTrustedArray_112 : decode cJ32_listFromTrustedArray 112 = .ok (.goto 12, 3) := dk_167 0 12 (dk_at dksJ32_listFromTrustedArray_5 8 rfl rfl)
theorem dJ32_listFromTrustedArray_115 : decode cJ32_listFromTrustedArray 115 = .ok (.new 12, 3) := dk_187 0 12 (dk_at dksJ32_listFromTrustedArray_5 11 rfl rfl)
theorem dJ32_listFromTrustedArray_118 : decode cJ32_listFromTrustedArray 118 = .ok (.dup, 1) := dk_89 (dk_at dksJ32_listFromTrustedArray_5 14 rfl rfl)
theorem dJ32_listFromTrustedArray_119 : decode cJ32_listFromTrustedArray 119 = .ok (.aload_n 0, 1) := dk_42 (dk_at dksJ32_listFromTrustedArray_5 15 rfl rfl)
theorem dJ32_listFromTrustedArray_120 : decode cJ32_listFromTrustedArray 120 = .ok (.iconst 0, 1) := dk_3 (dk_at dksJ32_listFromTrustedArray_5 16 rfl rfl)
theorem dJ32_listFromTrustedArray_121 : decode cJ32_listFromTrustedArray 121 = .ok (.invokespecial 43, 3) := dk_183 0 43 (dk_at dksJ32_listFromTrustedArray_5 17 rfl rfl)
theorem dJ32_listFromTrustedArray_124 : decode cJ32_listFromTrustedArray 124 = .ok (.areturn, 1) := dk_176 (dk_at dksJ32_listFromTrustedArray_5 20 rfl rfl)
theorem dJ33_init_0 : decode cJ33_init 0 = .ok (.aload_n 0, 1) := by decide +kernel
theorem dJ33_init_1 : decode cJ33_init 1 = .ok (.invokespecial 1, 3) := by decide +kernel
theorem dJ33_init_4 : decode cJ33_init 4 = .ok (.return_, 1) := by decide +kernel
theorem dJ34_init_0 : decode cJ34_init 0 = .ok (.aload_n 0, 1) := by decide +kernel
theorem dJ34_init_1 : decode cJ34_init 1 = .ok (.invokespecial 1, 3) := by decide +kernel
theorem dJ34_init_4 : decode cJ34_init 4 = .ok (.return_, 1) := by decide +kernel
def dkwJ35_init_0 : List UInt8 := [42, 183, 0, 1, 42, 43, 184, 0, 7, 181, 0, 13, 42, 178, 0, 19, 181, 0, 24, 177]
abbrev dktJ35_init_0 : List UInt8 := dkwJ35_init_0 ++ []
theorem dksJ35_init_0 : cJ35_init.data.toList.drop 0 = dktJ35_init_0 := by decide +kernel
theorem dJ35_init_0 : decode cJ35_init 0 = .ok (.aload_n 0, 1) := dk_42 (dk_at dksJ35_init_0 0 rfl rfl)
theorem dJ35_init_1 : decode cJ35_init 1 = .ok (.invokespecial 1, 3) := dk_183 0 1 (dk_at dksJ35_init_0 1 rfl rfl)
theorem dJ35_init_4 : decode cJ35_init 4 = .ok (.aload_n 0, 1) := dk_42 (dk_at dksJ35_init_0 4 rfl rfl)
theorem dJ35_init_5 : decode cJ35_init 5 = .ok (.aload_n 1, 1) := dk_43 (dk_at dksJ35_init_0 5 rfl rfl)
theorem dJ35_init_6 : decode cJ35_init 6 = .ok (.invokestatic 7, 3) := dk_184 0 7 (dk_at dksJ35_init_0 6 rfl rfl)
theorem dJ35_init_9 : decode cJ35_init 9 = .ok (.putfield 13, 3) := dk_181 0 13 (dk_at dksJ35_init_0 9 rfl rfl)
theorem dJ35_init_12 : decode cJ35_init 12 = .ok (.aload_n 0, 1) := dk_42 (dk_at dksJ35_init_0 12 rfl rfl)
theorem dJ35_init_13 : decode cJ35_init 13 = .ok (.getstatic 19, 3) := dk_178 0 19 (dk_at dksJ35_init_0 13 rfl rfl)
theorem dJ35_init_16 : decode cJ35_init 16 = .ok (.putfield 24, 3) := dk_181 0 24 (dk_at dksJ35_init_0 16 rfl rfl)
theorem dJ35_init_19 : decode cJ35_init 19 = .ok (.return_, 1) := dk_177 (dk_at dksJ35_init_0 19 rfl rfl)
def dkwJ35_init_2_0 : List UInt8 := [42, 183, 0, 1, 42, 43, 184, 0, 7, 181, 0, 13, 42, 44, 184, 0, 7, 181, 0, 24, 177]
abbrev dktJ35_init_2_0 : List UInt8 := dkwJ35_init_2_0 ++ []
theorem dksJ35_init_2_0 : cJ35_init_2.data.toList.drop 0 = dktJ35_init_2_0 := by decide +kernel
theorem dJ35_init_2_0 : decode cJ35_init_2 0 = .ok (.aload_n 0, 1) := dk_42 (dk_at dksJ35_init_2_0 0 rfl rfl)
theorem dJ35_init_2_1 : decode cJ35_init_2 1 = .ok (.invokespecial 1, 3) := dk_183 0 1 (dk_at dksJ35_init_2_0 1 rfl rfl)
theorem dJ35_init_2_4 : decode cJ35_init_2 4 = .ok (.aload_n 0, 1) := dk_42 (dk_at dksJ35_init_2_0 4 rfl rfl)
theorem dJ35_init_2_5 : decode cJ35_init_2 5 = .ok (.aload_n 1, 1) := dk_43 (dk_at dksJ35_init_2_0 5 rfl rfl)
theorem dJ35_init_2_6 : decode cJ35_init_2 6 = .ok (.invokestatic 7, 3) := dk_184 0 7 (dk_at dksJ35_init_2_0 6 rfl rfl)
theorem dJ35_init_2_9 : decode cJ35_init_2 9 = .ok (.putfield 13, 3) := dk_181 0 13 (dk_at dksJ35_init_2_0 9 rfl rfl)
theorem dJ35_init_2_12 : decode cJ35_init_2 12 = .ok (.aload_n 0, 1) := dk_42 (dk_at dksJ35_init_2_0 12 rfl rfl)
theorem dJ35_init_2_13 : decode cJ35_init_2 13 = .ok (.aload_n 2, 1) := dk_44 (dk_at dksJ35_init_2_0 13 rfl rfl)
theorem dJ35_init_2_14 : decode cJ35_init_2 14 = .ok (.invokestatic 7, 3) := dk_184 0 7 (dk_at dksJ35_init_2_0 14 rfl rfl)
theorem dJ35_init_2_17 : decode cJ35_init_2 17 = .ok (.putfield 24, 3) := dk_181 0 24 (dk_at dksJ35_init_2_0 17 rfl rfl)
theorem dJ35_init_2_20 : decode cJ35_init_2 20 = .ok (.return_, 1) := dk_177 (dk_at dksJ35_init_2_0 20 rfl rfl)
def dkwJ35_indexOf_1 : List UInt8 := [178, 0, 19, 165, 0, 16, 43, 42, 180, 0, 24, 182, 0, 31, 153, 0, 5, 4, 172, 2, 172]
abbrev dktJ35_indexOf_1 : List UInt8 := dkwJ35_indexOf_1 ++ []
def dkwJ35_indexOf_0 : List UInt8 := [43, 184, 0, 7, 87, 43, 42, 180, 0, 13, 182, 0, 31, 153, 0, 5, 3, 172, 42, 180, 0, 24]
abbrev dktJ35_indexOf_0 : List UInt8 := dkwJ35_indexOf_0 ++ dktJ35_indexOf_1
theorem dksJ35_indexOf_0 : cJ35_indexOf.data.toList.drop 0 = dktJ35_indexOf_0 := by decide +kernel
theorem dksJ35_indexOf_1 : cJ35_indexOf.data.toList.drop 22 = dktJ35_indexOf_1 := dk_seg dksJ35_indexOf_0 22 rfl rfl
theorem dJ35_indexOf_0 : decode cJ35_indexOf 0 = .ok (.aload_n 1, 1) := dk_43 (dk_at dksJ35_indexOf_0 0 rfl rfl)
theorem dJ35_indexOf_1 : decode cJ35_indexOf 1 = .ok (.invokestatic 7, 3) := dk_184 0 7 (dk_at dksJ35_indexOf_0 1 rfl rfl)
theorem dJ35_indexOf_4 : decode cJ35_indexOf 4 = .ok (.pop, 1) := dk_87 (dk_at dksJ35_indexOf_0 4 rfl rfl)
theorem dJ35_indexOf_5 : decode cJ35_indexOf 5 = .ok (.aload_n 1, 1) := dk_43 (dk_at dksJ35_indexOf_0 5 rfl rfl)
theorem dJ35_indexOf_6 : decode cJ35_indexOf 6 = .ok (.aload_n 0, 1) := dk_42 (dk_at dksJ35_indexOf_0 6 rfl rfl)
theorem dJ35_indexOf_7 : decode cJ35_indexOf 7 = .ok (.getfield 13, 3) := dk_180 0 13 (dk_at dksJ35_indexOf_0 7 rfl rfl)
theorem dJ35_indexOf_10 : decode cJ35_indexOf 10 = .ok (.invokevirtual 31, 3) := dk_182 0 31 (dk_at dksJ35_indexOf_0 10 rfl rfl)
theorem dJ35_indexOf_13 : decode cJ35_indexOf 13 = .ok (.ifCond .eq 5, 3) := dk_153 0 5 (dk_at dksJ35_indexOf_0 13 rfl rfl)
theorem dJ35_indexOf_16 : decode cJ35_indexOf 16 = .ok (.iconst 0, 1) := dk_3 (dk_at dksJ35_indexOf_0 16 rfl rfl)
theorem dJ35_indexOf_17 : decode cJ35_indexOf 17 = .ok (.ireturn, 1) := dk_172 (dk_at dksJ35_indexOf_0 17 rfl rfl)
theorem dJ35_indexOf_18 : decode cJ35_indexOf 18 = .ok (.aload_n 0, 1) := dk_42 (dk_at dksJ35_indexOf_0 18 rfl rfl)
theorem dJ35_indexOf_19 : decode cJ35_indexOf 19 = .ok (.getfield 24, 3) := dk_180 0 24 (dk_at dksJ35_indexOf_0 19 rfl rfl)
theorem dJ35_indexOf_22 : decode cJ35_indexOf 22 = .ok (.getstatic 19, 3) := dk_178 0 19 (dk_at dksJ35_indexOf_1 0 rfl rfl)
theorem dJ35_indexOf_25 : decode cJ35_indexOf 25 = .ok (.if_acmp .eq 16, 3) := dk_165 0 16 (dk_at dksJ35_indexOf_1 3 rfl rfl)
theorem dJ35_indexOf_28 : decode cJ35_indexOf 28 = .ok (.aload_n 1, 1) := dk_43 (dk_at dksJ35_indexOf_1 6 rfl rfl)
theorem dJ35_indexOf_29 : decode cJ35_indexOf 29 = .ok (.aload_n 0, 1) := dk_42 (dk_at dksJ35_indexOf_1 7 rfl rfl)
theorem dJ35_indexOf_30 : decode cJ35_indexOf 30 = .ok (.getfield 24, 3) := dk_180 0 24 (dk_at dksJ35_indexOf_1 8 rfl rfl)
theorem dJ35_indexOf_33 : decode cJ35_indexOf 33 = .ok (.invokevirtual 31, 3) := dk_182 0 31 (dk_at dksJ35_indexOf_1 11 rfl rfl)
theorem dJ35_indexOf_36 : decode cJ35_indexOf 36 = .ok (.ifCond .eq 5, 3) := dk_153 0 5 (dk_at dksJ35_indexOf_1 14 rfl rfl)
theorem dJ35_indexOf_39 : decode cJ35_indexOf 39 = .ok (.iconst 1, 1) := dk_4 (dk_at dksJ35_indexOf_1 17 rfl rfl)
theorem dJ35_indexOf_40 : decode cJ35_indexOf 40 = .ok (.ireturn, 1) := dk_172 (dk_at dksJ35_indexOf_1 18 rfl rfl)
theorem dJ35_indexOf_41 : decode cJ35_indexOf 41 = .ok (.iconst (-1), 1) := dk_2 (dk_at dksJ35_indexOf_1 19 rfl rfl)
theorem dJ35_indexOf_42 : decode cJ35_indexOf 42 = .ok (.ireturn, 1) := dk_172 (dk_at dksJ35_indexOf_1 20 rfl rfl)
def dkwJ36_init_0 : List UInt8 := [42, 183, 0, 1, 42, 43, 181, 0, 7, 42, 28, 181, 0, 13, 177]
abbrev dktJ36_init_0 : List UInt8 := dkwJ36_init_0 ++ []
theorem dksJ36_init_0 : cJ36_init.data.toList.drop 0 = dktJ36_init_0 := by decide +kernel
theorem dJ36_init_0 : decode cJ36_init 0 = .ok (.aload_n 0, 1) := dk_42 (dk_at dksJ36_init_0 0 rfl rfl)
theorem dJ36_init_1 : decode cJ36_init 1 = .ok (.invokespecial 1, 3) := dk_183 0 1 (dk_at dksJ36_init_0 1 rfl rfl)
theorem dJ36_init_4 : decode cJ36_init 4 = .ok (.aload_n 0, 1) := dk_42 (dk_at dksJ36_init_0 4 rfl rfl)
theorem dJ36_init_5 : decode cJ36_init 5 = .ok (.aload_n 1, 1) := dk_43 (dk_at dksJ36_init_0 5 rfl rfl)
theorem dJ36_init_6 : decode cJ36_init 6 = .ok (.putfield 7, 3) := dk_181 0 7 (dk_at dksJ36_init_0 6 rfl rfl)
theorem dJ36_init_9 : decode cJ36_init 9 = .ok (.aload_n 0, 1) := dk_42 (dk_at dksJ36_init_0 9 rfl rfl)
theorem dJ36_init_10 : decode cJ36_init 10 = .ok (.iload_n 2, 1) := dk_28 (dk_at dksJ36_init_0 10 rfl rfl)
theorem dJ36_init_11 : decode cJ36_init 11 = .ok (.putfield 13, 3) := dk_181 0 13 (dk_at dksJ36_init_0 11 rfl rfl)
theorem dJ36_init_14 : decode cJ36_init 14 = .ok (.return_, 1) := dk_177 (dk_at dksJ36_init_0 14 rfl rfl)
def dkwJ36_indexOf_2 : List UInt8 := [167, 255, 235, 2, 172]
abbrev dktJ36_indexOf_2 : List UInt8 := dkwJ36_indexOf_2 ++ []
def dkwJ36_indexOf_1 : List UInt8 := [3, 62, 29, 44, 190, 162, 0, 21, 43, 44, 29, 50, 184, 0, 53, 153, 0, 5, 29, 172, 132, 3, 1]
abbrev dktJ36_indexOf_1 : List UInt8 := dkwJ36_indexOf_1 ++ dktJ36_indexOf_2
def dkwJ36_indexOf_0 : List UInt8 := [42, 180, 0, 13, 154, 0, 15, 43, 199, 0, 11, 187, 0, 50, 89, 183, 0, 52, 191, 42, 180, 0, 7, 77]
abbrev dktJ36_indexOf_0 : List UInt8 := dkwJ36_indexOf_0 ++ dktJ36_indexOf_1
theorem dksJ36_indexOf_0 : cJ36_indexOf.data.toList.drop 0 = dktJ36_indexOf_0 := by decide +kernel
theorem dksJ36_indexOf_1 : cJ36_indexOf.data.toList.drop 24 = dktJ36_indexOf_1 := dk_seg dksJ36_indexOf_0 24 rfl rfl
theorem dksJ36_indexOf_2 : cJ36_indexOf.data.toList.drop 47 = dktJ36_indexOf_2 := dk_seg dksJ36_indexOf_1 23 rfl rfl
theorem dJ36_indexOf_0 : decode cJ36_indexOf 0 = .ok (.aload_n 0, 1) := dk_42 (dk_at dksJ36_indexOf_0 0 rfl rfl)
theorem dJ36_indexOf_1 : decode cJ36_indexOf 1 = .ok (.getfield 13, 3) := dk_180 0 13 (dk_at dksJ36_indexOf_0 1 rfl rfl)
theorem dJ36_indexOf_4 : decode cJ36_indexOf 4 = .ok (.ifCond .ne 15, 3) := dk_154 0 15 (dk_at dksJ36_indexOf_0 4 rfl rfl)
theorem dJ36_indexOf_7 : decode cJ36_indexOf 7 = .ok (.aload_n 1, 1) := dk_43 (dk_at dksJ36_indexOf_0 7 rfl rfl)
theorem dJ36_indexOf_8 : decode cJ36_indexOf 8 = .ok (.ifnonnull 11, 3) := dk_199 0 11 (dk_at dksJ36_indexOf_0 8 rfl rfl)
theorem dJ36_indexOf_11 : decode cJ36_indexOf 11 = .ok (.new 50, 3) := dk_187 0 50 (dk_at dksJ36_indexOf_0 11 rfl rfl)
theorem dJ36_indexOf_14 : decode cJ36_indexOf 14 = .ok (.dup, 1) := dk_89 (dk_at dksJ36_indexOf_0 14 rfl rfl)
theorem dJ36_indexOf_15 : decode cJ36_indexOf 15 = .ok (.invokespecial 52, 3) := dk_183 0 52 (dk_at dksJ36_indexOf_0 15 rfl rfl)
theorem dJ36_indexOf_18 : decode cJ36_indexOf 18 = .ok (.athrow, 1) := dk_191 (dk_at dksJ36_indexOf_0 18 rfl rfl)
theorem dJ36_indexOf_19 : decode cJ36_indexOf 19 = .ok (.aload_n 0, 1) := dk_42 (dk_at dksJ36_indexOf_0 19 rfl rfl)
theorem dJ36_indexOf_20 : decode cJ36_indexOf 20 = .ok (.getfield 7, 3) := dk_180 0 7 (dk_at dksJ36_indexOf_0 20 rfl rfl)
theorem dJ36_indexOf_23 : decode cJ36_indexOf 23 = .ok (.astore_n 2, 1) := dk_77 (dk_at dksJ36_indexOf_0 23 rfl rfl)
theorem dJ36_indexOf_24 : decode cJ36_indexOf 24 = .ok (.iconst 0, 1) := dk_3 (dk_at dksJ36_indexOf_1 0 rfl rfl)
theorem dJ36_indexOf_25 : decode cJ36_indexOf 25 = .ok (.istore_n 3, 1) := dk_62 (dk_at dksJ36_indexOf_1 1 rfl rfl)
theorem dJ36_indexOf_26 : decode cJ36_indexOf 26 = .ok (.iload_n 3, 1) := dk_29 (dk_at dksJ36_indexOf_1 2 rfl rfl)
theorem dJ36_indexOf_27 : decode cJ36_indexOf 27 = .ok (.aload_n 2, 1) := dk_44 (dk_at dksJ36_indexOf_1 3 rfl rfl)
theorem dJ36_indexOf_28 : decode cJ36_indexOf 28 = .ok (.arraylength, 1) := dk_190 (dk_at dksJ36_indexOf_1 4 rfl rfl)
theorem dJ36_indexOf_29 : decode cJ36_indexOf 29 = .ok (.if_icmp .ge 21, 3) := dk_162 0 21 (dk_at dksJ36_indexOf_1 5 rfl rfl)
theorem dJ36_indexOf_32 : decode cJ36_indexOf 32 = .ok (.aload_n 1, 1) := dk_43 (dk_at dksJ36_indexOf_1 8 rfl rfl)
theorem dJ36_indexOf_33 : decode cJ36_indexOf 33 = .ok (.aload_n 2, 1) := dk_44 (dk_at dksJ36_indexOf_1 9 rfl rfl)
theorem dJ36_indexOf_34 : decode cJ36_indexOf 34 = .ok (.iload_n 3, 1) := dk_29 (dk_at dksJ36_indexOf_1 10 rfl rfl)
theorem dJ36_indexOf_35 : decode cJ36_indexOf 35 = .ok (.aaload, 1) := dk_50 (dk_at dksJ36_indexOf_1 11 rfl rfl)
theorem dJ36_indexOf_36 : decode cJ36_indexOf 36 = .ok (.invokestatic 53, 3) := dk_184 0 53 (dk_at dksJ36_indexOf_1 12 rfl rfl)
theorem dJ36_indexOf_39 : decode cJ36_indexOf 39 = .ok (.ifCond .eq 5, 3) := dk_153 0 5 (dk_at dksJ36_indexOf_1 15 rfl rfl)
theorem dJ36_indexOf_42 : decode cJ36_indexOf 42 = .ok (.iload_n 3, 1) := dk_29 (dk_at dksJ36_indexOf_1 18 rfl rfl)
theorem dJ36_indexOf_43 : decode cJ36_indexOf 43 = .ok (.ireturn, 1) := dk_172 (dk_at dksJ36_indexOf_1 19 rfl rfl)
theorem dJ36_indexOf_44 : decode cJ36_indexOf 44 = .ok (.iinc 3 1, 3) := dk_132 3 1 (dk_at dksJ36_indexOf_1 20 rfl rfl)
theorem dJ36_indexOf_47 : decode cJ36_indexOf 47 = .ok (.goto (-21), 3) := dk_167 255 235 (dk_at dksJ36_indexOf_2 0 rfl rfl)
theorem dJ36_indexOf_50 : decode cJ36_indexOf 50 = .ok (.iconst (-1), 1) := dk_2 (dk_at dksJ36_indexOf_2 3 rfl rfl)
theorem dJ36_indexOf_51 : decode cJ36_indexOf 51 = .ok (.ireturn, 1) := dk_172 (dk_at dksJ36_indexOf_2 4 rfl rfl)
theorem dJ37_init_0 : decode cJ37_init 0 = .ok (.return_, 1) := by decide +kernel
def dkwJ37_equals_0 : List UInt8 := [42, 43, 166, 0, 7, 4, 167, 0, 4, 3, 172]
abbrev dktJ37_equals_0 : List UInt8 := dkwJ37_equals_0 ++ []
theorem dksJ37_equals_0 : cJ37_equals.data.toList.drop 0 = dktJ37_equals_0 := by decide +kernel
theorem dJ37_equals_0 : decode cJ37_equals 0 = .ok (.aload_n 0, 1) := dk_42 (dk_at dksJ37_equals_0 0 rfl rfl)
theorem dJ37_equals_1 : decode cJ37_equals 1 = .ok (.aload_n 1, 1) := dk_43 (dk_at dksJ37_equals_0 1 rfl rfl)
theorem dJ37_equals_2 : decode cJ37_equals 2 = .ok (.if_acmp .ne 7, 3) := dk_166 0 7 (dk_at dksJ37_equals_0 2 rfl rfl)
theorem dJ37_equals_5 : decode cJ37_equals 5 = .ok (.iconst 1, 1) := dk_4 (dk_at dksJ37_equals_0 5 rfl rfl)
theorem dJ37_equals_6 : decode cJ37_equals 6 = .ok (.goto 4, 3) := dk_167 0 4 (dk_at dksJ37_equals_0 6 rfl rfl)
theorem dJ37_equals_9 : decode cJ37_equals 9 = .ok (.iconst 0, 1) := dk_3 (dk_at dksJ37_equals_0 9 rfl rfl)
theorem dJ37_equals_10 : decode cJ37_equals 10 = .ok (.ireturn, 1) := dk_172 (dk_at dksJ37_equals_0 10 rfl rfl)
def dkwJ38_getUTF16Char_0 : List UInt8 := [43, 28, 184, 0, 185, 172]
abbrev dktJ38_getUTF16Char_0 : List UInt8 := dkwJ38_getUTF16Char_0 ++ []
theorem dksJ38_getUTF16Char_0 : cJ38_getUTF16Char.data.toList.drop 0 = dktJ38_getUTF16Char_0 := by decide +kernel
theorem dJ38_getUTF16Char_0 : decode cJ38_getUTF16Char 0 = .ok (.aload_n 1, 1) := dk_43 (dk_at dksJ38_getUTF16Char_0 0 rfl rfl)
theorem dJ38_getUTF16Char_1 : decode cJ38_getUTF16Char 1 = .ok (.iload_n 2, 1) := dk_28 (dk_at dksJ38_getUTF16Char_0 1 rfl rfl)
theorem dJ38_getUTF16Char_2 : decode cJ38_getUTF16Char 2 = .ok (.invokestatic 185, 3) := dk_184 0 185 (dk_at dksJ38_getUTF16Char_0 2 rfl rfl)
theorem dJ38_getUTF16Char_5 : decode cJ38_getUTF16Char 5 = .ok (.ireturn, 1) := dk_172 (dk_at dksJ38_getUTF16Char_0 5 rfl rfl)
