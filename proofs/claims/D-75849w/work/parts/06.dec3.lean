/-! decode rows: out of claim/names -/
set_option maxRecDepth 100000
def dkwX5_init_6 : List UInt8 := [17, 0, 200, 188, 11, 181, 0, 63, 42, 16, 100, 16, 10, 8, 4, 182, 0, 67, 177]
abbrev dktX5_init_6 : List UInt8 := dkwX5_init_6 ++ []
def dkwX5_init_5 : List UInt8 := [16, 6, 18, 52, 83, 89, 16, 7, 18, 54, 83, 181, 0, 56, 42, 17, 0, 200, 188, 10, 181, 0, 60, 42]
abbrev dktX5_init_5 : List UInt8 := dkwX5_init_5 ++ dktX5_init_6
def dkwX5_init_4 : List UInt8 := [18, 42, 83, 89, 5, 18, 44, 83, 89, 6, 18, 46, 83, 89, 7, 18, 48, 83, 89, 8, 18, 50, 83, 89]
abbrev dktX5_init_4 : List UInt8 := dkwX5_init_4 ++ dktX5_init_5
def dkwX5_init_3 : List UInt8 := [188, 10, 181, 0, 31, 42, 2, 181, 0, 34, 42, 16, 8, 189, 0, 38, 89, 3, 18, 40, 83, 89, 4]
abbrev dktX5_init_3 : List UInt8 := dkwX5_init_3 ++ dktX5_init_4
def dkwX5_init_2 : List UInt8 := [181, 0, 22, 42, 42, 180, 0, 9, 181, 0, 25, 42, 17, 0, 160, 188, 10, 181, 0, 28, 42, 17, 1, 144]
abbrev dktX5_init_2 : List UInt8 := dkwX5_init_2 ++ dktX5_init_3
def dkwX5_init_1 : List UInt8 := [17, 8, 181, 188, 10, 181, 0, 16, 42, 17, 8, 181, 188, 10, 181, 0, 19, 42, 17, 87, 18, 188, 10]
abbrev dktX5_init_1 : List UInt8 := dkwX5_init_1 ++ dktX5_init_2
def dkwX5_init_0 : List UInt8 := [42, 183, 0, 1, 42, 17, 8, 181, 188, 10, 181, 0, 9, 42, 17, 8, 181, 188, 10, 181, 0, 13, 42]
abbrev dktX5_init_0 : List UInt8 := dkwX5_init_0 ++ dktX5_init_1
theorem dksX5_init_0 : cX5_init.data.toList.drop 0 = dktX5_init_0 := by decide +kernel
theorem dksX5_init_1 : cX5_init.data.toList.drop 23 = dktX5_init_1 := dk_seg dksX5_init_0 23 rfl rfl
theorem dksX5_init_2 : cX5_init.data.toList.drop 46 = dktX5_init_2 := dk_seg dksX5_init_1 23 rfl rfl
theorem dksX5_init_3 : cX5_init.data.toList.drop 70 = dktX5_init_3 := dk_seg dksX5_init_2 24 rfl rfl
theorem dksX5_init_4 : cX5_init.data.toList.drop 93 = dktX5_init_4 := dk_seg dksX5_init_3 23 rfl rfl
theorem dksX5_init_5 : cX5_init.data.toList.drop 117 = dktX5_init_5 := dk_seg dksX5_init_4 24 rfl rfl
theorem dksX5_init_6 : cX5_init.data.toList.drop 141 = dktX5_init_6 := dk_seg dksX5_init_5 24 rfl rfl
theorem dX5_init_0 : decode cX5_init 0 = .ok (.aload_n 0, 1) := dk_42 (dk_at dksX5_init_0 0 rfl rfl)
theorem dX5_init_1 : decode cX5_init 1 = .ok (.invokespecial 1, 3) := dk_183 0 1 (dk_at dksX5_init_0 1 rfl rfl)
theorem dX5_init_4 : decode cX5_init 4 = .ok (.aload_n 0, 1) := dk_42 (dk_at dksX5_init_0 4 rfl rfl)
theorem dX5_init_5 : decode cX5_init 5 = .ok (.sipush 2229, 3) := dk_17 8 181 (dk_at dksX5_init_0 5 rfl rfl)
theorem dX5_init_8 : decode cX5_init 8 = .ok (.newarray .int, 2) := dk_188_10 (dk_at dksX5_init_0 8 rfl rfl)
theorem dX5_init_10 : decode cX5_init 10 = .ok (.putfield 9, 3) := dk_181 0 9 (dk_at dksX5_init_0 10 rfl rfl)
theorem dX5_init_13 : decode cX5_init 13 = .ok (.aload_n 0, 1) := dk_42 (dk_at dksX5_init_0 13 rfl rfl)
theorem dX5_init_14 : decode cX5_init 14 = .ok (.sipush 2229, 3) := dk_17 8 181 (dk_at dksX5_init_0 14 rfl rfl)
theorem dX5_init_17 : decode cX5_init 17 = .ok (.newarray .int, 2) := dk_188_10 (dk_at dksX5_init_0 17 rfl rfl)
theorem dX5_init_19 : decode cX5_init 19 = .ok (.putfield 13, 3) := dk_181 0 13 (dk_at dksX5_init_0 19 rfl rfl)
theorem dX5_init_22 : decode cX5_init 22 = .ok (.aload_n 0, 1) := dk_42 (dk_at dksX5_init_0 22 rfl rfl)
theorem dX5_init_23 : decode cX5_init 23 = .ok (.sipush 2229, 3) := dk_17 8 181 (dk_at dksX5_init_1 0 rfl rfl)
theorem dX5_init_26 : decode cX5_init 26 = .ok (.newarray .int, 2) := dk_188_10 (dk_at dksX5_init_1 3 rfl rfl)
theorem dX5_init_28 : decode cX5_init 28 = .ok (.putfield 16, 3) := dk_181 0 16 (dk_at dksX5_init_1 5 rfl rfl)
theorem dX5_init_31 : decode cX5_init 31 = .ok (.aload_n 0, 1) := dk_42 (dk_at dksX5_init_1 8 rfl rfl)
theorem dX5_init_32 : decode cX5_init 32 = .ok (.sipush 2229, 3) := dk_17 8 181 (dk_at dksX5_init_1 9 rfl rfl)
theorem dX5_init_35 : decode cX5_init 35 = .ok (.newarray .int, 2) := dk_188_10 (dk_at dksX5_init_1 12 rfl rfl)
theorem dX5_init_37 : decode cX5_init 37 = .ok (.putfield 19, 3) := dk_181 0 19 (dk_at dksX5_init_1 14 rfl rfl)
theorem dX5_init_40 : decode cX5_init 40 = .ok (.aload_n 0, 1) := dk_42 (dk_at dksX5_init_1 17 rfl rfl)
theorem dX5_init_41 : decode cX5_init 41 = .ok (.sipush 22290, 3) := dk_17 87 18 (dk_at dksX5_init_1 18 rfl rfl)
theorem dX5_init_44 : decode cX5_init 44 = .ok (.newarray .int, 2) := dk_188_10 (dk_at dksX5_init_1 21 rfl rfl)
theorem dX5_init_46 : decode cX5_init 46 = .ok (.putfield 22, 3) := dk_181 0 22 (dk_at dksX5_init_2 0 rfl rfl)
theorem dX5_init_49 : decode cX5_init 49 = .ok (.aload_n 0, 1) := dk_42 (dk_at dksX5_init_2 3 rfl rfl)
theorem dX5_init_50 : decode cX5_init 50 = .ok (.aload_n 0, 1) := dk_42 (dk_at dksX5_init_2 4 rfl rfl)
theorem dX5_init_51 : decode cX5_init 51 = .ok (.getfield 9, 3) := dk_180 0 9 (dk_at dksX5_init_2 5 rfl rfl)
theorem dX5_init_54 : decode cX5_init 54 = .ok (.putfield 25, 3) := dk_181 0 25 (dk_at dksX5_init_2 8 rfl rfl)
theorem dX5_init_57 : decode cX5_init 57 = .ok (.aload_n 0, 1) := dk_42 (dk_at dksX5_init_2 11 rfl rfl)
theorem dX5_init_58 : decode cX5_init 58 = .ok (.sipush 160, 3) := dk_17 0 160 (dk_at dksX5_init_2 12 rfl rfl)
theorem dX5_init_61 : decode cX5_init 61 = .ok (.newarray .int, 2) := dk_188_10 (dk_at dksX5_init_2 15 rfl rfl)
theorem dX5_init_63 : decode cX5_init 63 = .ok (.putfield 28, 3) := dk_181 0 28 (dk_at dksX5_init_2 17 rfl rfl)
theorem dX5_init_66 : decode cX5_init 66 = .ok (.aload_n 0, 1) := dk_42 (dk_at dksX5_init_2 20 rfl rfl)
theorem dX5_init_67 : decode cX5_init 67 = .ok (.sipush 400, 3) := dk_17 1 144 (dk_at dksX5_init_2 21 rfl rfl)
theorem dX5_init_70 : decode cX5_init 70 = .ok (.newarray .int, 2) := dk_188_10 (dk_at dksX5_init_3 0 rfl rfl)
theorem dX5_init_72 : decode cX5_init 72 = .ok (.putfield 31, 3) := dk_181 0 31 (dk_at dksX5_init_3 2 rfl rfl)
theorem dX5_init_75 : decode cX5_init 75 = .ok (.aload_n 0, 1) := dk_42 (dk_at dksX5_init_3 5 rfl rfl)
theorem dX5_init_76 : decode cX5_init 76 = .ok (.iconst (-1), 1) := dk_2 (dk_at dksX5_init_3 6 rfl rfl)
theorem dX5_init_77 : decode cX5_init 77 = .ok (.putfield 34, 3) := dk_181 0 34 (dk_at dksX5_init_3 7 rfl rfl)
theorem dX5_init_80 : decode cX5_init 80 = .ok (.aload_n 0, 1) := dk_42 (dk_at dksX5_init_3 10 rfl rfl)
theorem dX5_init_81 : decode cX5_init 81 = .ok (.bipush 8, 2) := dk_16 8 (dk_at dksX5_init_3 11 rfl rfl)
theorem dX5_init_83 : decode cX5_init 83 = .ok (.anewarray 38, 3) := dk_189 0 38 (dk_at dksX5_init_3 13 rfl rfl)
theorem dX5_init_86 : decode cX5_init 86 = .ok (.dup, 1) := dk_89 (dk_at dksX5_init_3 16 rfl rfl)
theorem dX5_init_87 : decode cX5_init 87 = .ok (.iconst 0, 1) := dk_3 (dk_at dksX5_init_3 17 rfl rfl)
theorem dX5_init_88 : decode cX5_init 88 = .ok (.ldc 40, 2) := dk_18 40 (dk_at dksX5_init_3 18 rfl rfl)
theorem dX5_init_90 : decode cX5_init 90 = .ok (.aastore, 1) := dk_83 (dk_at dksX5_init_3 20 rfl rfl)
theorem dX5_init_91 : decode cX5_init 91 = .ok (.dup, 1) := dk_89 (dk_at dksX5_init_3 21 rfl rfl)
theorem dX5_init_92 : decode cX5_init 92 = .ok (.iconst 1, 1) := dk_4 (dk_at dksX5_init_3 22 rfl rfl)
theorem dX5_init_93 : decode cX5_init 93 = .ok (.ldc 42, 2) := dk_18 42 (dk_at dksX5_init_4 0 rfl rfl)
theorem dX5_init_95 : decode cX5_init 95 = .ok (.aastore, 1) := dk_83 (dk_at dksX5_init_4 2 rfl rfl)
theorem dX5_init_96 : decode cX5_init 96 = .ok (.dup, 1) := dk_89 (dk_at dksX5_init_4 3 rfl rfl)
theorem dX5_init_97 : decode cX5_init 97 = .ok (.iconst 2, 1) := dk_5 (dk_at dksX5_init_4 4 rfl rfl)
theorem dX5_init_98 : decode cX5_init 98 = .ok (.ldc 44, 2) := dk_18 44 (dk_at dksX5_init_4 5 rfl rfl)
theorem dX5_init_100 : decode cX5_init 100 = .ok (.aastore, 1) := dk_83 (dk_at dksX5_init_4 7 rfl rfl)
theorem dX5_init_101 : decode cX5_init 101 = .ok (.dup, 1) := dk_89 (dk_at dksX5_init_4 8 rfl rfl)
theorem dX5_init_102 : decode cX5_init 102 = .ok (.iconst 3, 1) := dk_6 (dk_at dksX5_init_4 9 rfl rfl)
theorem dX5_init_103 : decode cX5_init 103 = .ok (.ldc 46, 2) := dk_18 46 (dk_at dksX5_init_4 10 rfl rfl)
theorem dX5_init_105 : decode cX5_init 105 = .ok (.aastore, 1) := dk_83 (dk_at dksX5_init_4 12 rfl rfl)
theorem dX5_init_106 : decode cX5_init 106 = .ok (.dup, 1) := dk_89 (dk_at dksX5_init_4 13 rfl rfl)
theorem dX5_init_107 : decode cX5_init 107 = .ok (.iconst 4, 1) := dk_7 (dk_at dksX5_init_4 14 rfl rfl)
theorem dX5_init_108 : decode cX5_init 108 = .ok (.ldc 48, 2) := dk_18 48 (dk_at dksX5_init_4 15 rfl rfl)
theorem dX5_init_110 : decode cX5_init 110 = .ok (.aastore, 1) := dk_83 (dk_at dksX5_init_4 17 rfl rfl)
theorem dX5_init_111 : decode cX5_init 111 = .ok (.dup, 1) := dk_89 (dk_at dksX5_init_4 18 rfl rfl)
theorem dX5_init_112 : decode cX5_init 112 = .ok (.iconst 5, 1) := dk_8 (dk_at dksX5_init_4 19 rfl rfl)
theorem dX5_init_113 : decode cX5_init 113 = .ok (.ldc 50, 2) := dk_18 50 (dk_at dksX5_init_4 20 rfl rfl)
theorem dX5_init_115 : decode cX5_init 115 = .ok (.aastore, 1) := dk_83 (dk_at dksX5_init_4 22 rfl rfl)
theorem dX5_init_116 : decode cX5_init 116 = .ok (.dup, 1) := dk_89 (dk_at dksX5_init_4 23 rfl rfl)
theorem dX5_init_117 : decode cX5_init 117 = .ok (.bipush 6, 2) := dk_16 6 (dk_at dksX5_init_5 0 rfl rfl)
theorem dX5_init_119 : decode cX5_init 119 = .ok (.ldc 52, 2) := dk_18 52 (dk_at dksX5_init_5 2 rfl rfl)
theorem dX5_init_121 : decode cX5_init 121 = .ok (.aastore, 1) := dk_83 (dk_at dksX5_init_5 4 rfl rfl)
theorem dX5_init_122 : decode cX5_init 122 = .ok (.dup, 1) := dk_89 (dk_at dksX5_init_5 5 rfl rfl)
theorem dX5_init_123 : decode cX5_init 123 = .ok (.bipush 7, 2) := dk_16 7 (dk_at dksX5_init_5 6 rfl rfl)
theorem dX5_init_125 : decode cX5_init 125 = .ok (.ldc 54, 2) := dk_18 54 (dk_at dksX5_init_5 8 rfl rfl)
theorem dX5_init_127 : decode cX5_init 127 = .ok (.aastore, 1) := dk_83 (dk_at dksX5_init_5 10 rfl rfl)
theorem dX5_init_128 : decode cX5_init 128 = .ok (.putfield 56, 3) := dk_181 0 56 (dk_at dksX5_init_5 11 rfl rfl)
theorem dX5_init_131 : decode cX5_init 131 = .ok (.aload_n 0, 1) := dk_42 (dk_at dksX5_init_5 14 rfl rfl)
theorem dX5_init_132 : decode cX5_init 132 = .ok (.sipush 200, 3) := dk_17 0 200 (dk_at dksX5_init_5 15 rfl rfl)
theorem dX5_init_135 : decode cX5_init 135 = .ok (.newarray .int, 2) := dk_188_10 (dk_at dksX5_init_5 18 rfl rfl)
theorem dX5_init_137 : decode cX5_init 137 = .ok (.putfield 60, 3) := dk_181 0 60 (dk_at dksX5_init_5 20 rfl rfl)
theorem dX5_init_140 : decode cX5_init 140 = .ok (.aload_n 0, 1) := dk_42 (dk_at dksX5_init_5 23 rfl rfl)
theorem dX5_init_141 : decode cX5_init 141 = .ok (.sipush 200, 3) := dk_17 0 200 (dk_at dksX5_init_6 0 rfl rfl)
theorem dX5_init_144 : decode cX5_init 144 = .ok (.newarray .long, 2) := dk_188_11 (dk_at dksX5_init_6 3 rfl rfl)
theorem dX5_init_146 : decode cX5_init 146 = .ok (.putfield 63, 3) := dk_181 0 63 (dk_at dksX5_init_6 5 rfl rfl)
theorem dX5_init_149 : decode cX5_init 149 = .ok (.aload_n 0, 1) := dk_42 (dk_at dksX5_init_6 8 rfl rfl)
theorem dX5_init_150 : decode cX5_init 150 = .ok (.bipush 100, 2) := dk_16 100 (dk_at dksX5_init_6 9 rfl rfl)
theorem dX5_init_152 : decode cX5_init 152 = .ok (.bipush 10, 2) := dk_16 10 (dk_at dksX5_init_6 11 rfl rfl)
theorem dX5_init_154 : decode cX5_init 154 = .ok (.iconst 5, 1) := dk_8 (dk_at dksX5_init_6 13 rfl rfl)
theorem dX5_init_155 : decode cX5_init 155 = .ok (.iconst 1, 1) := dk_4 (dk_at dksX5_init_6 14 rfl rfl)
theorem dX5_init_156 : decode cX5_init 156 = .ok (.invokevirtual 67, 3) := dk_182 0 67 (dk_at dksX5_init_6 15 rfl rfl)
theorem dX5_init_159 : decode cX5_init 159 = .ok (.return_, 1) := dk_177 (dk_at dksX5_init_6 18 rfl rfl)
def dkwX5_clear_2 : List UInt8 := [79, 42, 180, 0, 25, 16, 7, 21, 4, 79, 42, 3, 182, 0, 74, 177]
abbrev dktX5_clear_2 : List UInt8 := dkwX5_clear_2 ++ []
def dkwX5_clear_1 : List UInt8 := [167, 255, 237, 42, 180, 0, 25, 7, 27, 79, 42, 180, 0, 25, 8, 28, 79, 42, 180, 0, 25, 16, 6, 29]
abbrev dktX5_clear_1 : List UInt8 := dkwX5_clear_1 ++ dktX5_clear_2
def dkwX5_clear_0 : List UInt8 := [3, 54, 5, 21, 5, 17, 8, 181, 162, 0, 17, 42, 180, 0, 25, 21, 5, 3, 79, 132, 5, 1]
abbrev dktX5_clear_0 : List UInt8 := dkwX5_clear_0 ++ dktX5_clear_1
theorem dksX5_clear_0 : cX5_clear.data.toList.drop 0 = dktX5_clear_0 := by decide +kernel
theorem dksX5_clear_1 : cX5_clear.data.toList.drop 22 = dktX5_clear_1 := dk_seg dksX5_clear_0 22 rfl rfl
theorem dksX5_clear_2 : cX5_clear.data.toList.drop 46 = dktX5_clear_2 := dk_seg dksX5_clear_1 24 rfl rfl
theorem dX5_clear_0 : decode cX5_clear 0 = .ok (.iconst 0, 1) := dk_3 (dk_at dksX5_clear_0 0 rfl rfl)
theorem dX5_clear_1 : decode cX5_clear 1 = .ok (.istore 5, 2) := dk_54 5 (dk_at dksX5_clear_0 1 rfl rfl)
theorem dX5_clear_3 : decode cX5_clear 3 = .ok (.iload 5, 2) := dk_21 5 (dk_at dksX5_clear_0 3 rfl rfl)
theorem dX5_clear_5 : decode cX5_clear 5 = .ok (.sipush 2229, 3) := dk_17 8 181 (dk_at dksX5_clear_0 5 rfl rfl)
theorem dX5_clear_8 : decode cX5_clear 8 = .ok (.if_icmp .ge 17, 3) := dk_162 0 17 (dk_at dksX5_clear_0 8 rfl rfl)
theorem dX5_clear_11 : decode cX5_clear 11 = .ok (.aload_n 0, 1) := dk_42 (dk_at dksX5_clear_0 11 rfl rfl)
theorem dX5_clear_12 : decode cX5_clear 12 = .ok (.getfield 25, 3) := dk_180 0 25 (dk_at dksX5_clear_0 12 rfl rfl)
theorem dX5_clear_15 : decode cX5_clear 15 = .ok (.iload 5, 2) := dk_21 5 (dk_at dksX5_clear_0 15 rfl rfl)
theorem dX5_clear_17 : decode cX5_clear 17 = .ok (.iconst 0, 1) := dk_3 (dk_at dksX5_clear_0 17 rfl rfl)
theorem dX5_clear_18 : decode cX5_clear 18 = .ok (.iastore, 1) := dk_79 (dk_at dksX5_clear_0 18 rfl rfl)
theorem dX5_clear_19 : decode cX5_clear 19 = .ok (.iinc 5 1, 3) := dk_132 5 1 (dk_at dksX5_clear_0 19 rfl rfl)
theorem dX5_clear_22 : decode cX5_clear 22 = .ok (.goto (-19), 3) := dk_167 255 237 (dk_at dksX5_clear_1 0 rfl rfl)
theorem dX5_clear_25 : decode cX5_clear 25 = .ok (.aload_n 0, 1) := dk_42 (dk_at dksX5_clear_1 3 rfl rfl)
theorem dX5_clear_26 : decode cX5_clear 26 = .ok (.getfield 25, 3) := dk_180 0 25 (dk_at dksX5_clear_1 4 rfl rfl)
theorem dX5_clear_29 : decode cX5_clear 29 = .ok (.iconst 4, 1) := dk_7 (dk_at dksX5_clear_1 7 rfl rfl)
theorem dX5_clear_30 : decode cX5_clear 30 = .ok (.iload_n 1, 1) := dk_27 (dk_at dksX5_clear_1 8 rfl rfl)
theorem dX5_clear_31 : decode cX5_clear 31 = .ok (.iastore, 1) := dk_79 (dk_at dksX5_clear_1 9 rfl rfl)
theorem dX5_clear_32 : decode cX5_clear 32 = .ok (.aload_n 0, 1) := dk_42 (dk_at dksX5_clear_1 10 rfl rfl)
theorem dX5_clear_33 : decode cX5_clear 33 = .ok (.getfield 25, 3) := dk_180 0 25 (dk_at dksX5_clear_1 11 rfl rfl)
theorem dX5_clear_36 : decode cX5_clear 36 = .ok (.iconst 5, 1) := dk_8 (dk_at dksX5_clear_1 14 rfl rfl)
theorem dX5_clear_37 : decode cX5_clear 37 = .ok (.iload_n 2, 1) := dk_28 (dk_at dksX5_clear_1 15 rfl rfl)
theorem dX5_clear_38 : decode cX5_clear 38 = .ok (.iastore, 1) := dk_79 (dk_at dksX5_clear_1 16 rfl rfl)
theorem dX5_clear_39 : decode cX5_clear 39 = .ok (.aload_n 0, 1) := dk_42 (dk_at dksX5_clear_1 17 rfl rfl)
theorem dX5_clear_40 : decode cX5_clear 40 = .ok (.getfield 25, 3) := dk_180 0 25 (dk_at dksX5_clear_1 18 rfl rfl)
theorem dX5_clear_43 : decode cX5_clear 43 = .ok (.bipush 6, 2) := dk_16 6 (dk_at dksX5_clear_1 21 rfl rfl)
theorem dX5_clear_45 : decode cX5_clear 45 = .ok (.iload_n 3, 1) := dk_29 (dk_at dksX5_clear_1 23 rfl rfl)
theorem dX5_clear_46 : decode cX5_clear 46 = .ok (.iastore, 1) := dk_79 (dk_at dksX5_clear_2 0 rfl rfl)
theorem dX5_clear_47 : decode cX5_clear 47 = .ok (.aload_n 0, 1) := dk_42 (dk_at dksX5_clear_2 1 rfl rfl)
theorem dX5_clear_48 : decode cX5_clear 48 = .ok (.getfield 25, 3) := dk_180 0 25 (dk_at dksX5_clear_2 2 rfl rfl)
theorem dX5_clear_51 : decode cX5_clear 51 = .ok (.bipush 7, 2) := dk_16 7 (dk_at dksX5_clear_2 5 rfl rfl)
theorem dX5_clear_53 : decode cX5_clear 53 = .ok (.iload 4, 2) := dk_21 4 (dk_at dksX5_clear_2 7 rfl rfl)
theorem dX5_clear_55 : decode cX5_clear 55 = .ok (.iastore, 1) := dk_79 (dk_at dksX5_clear_2 9 rfl rfl)
theorem dX5_clear_56 : decode cX5_clear 56 = .ok (.aload_n 0, 1) := dk_42 (dk_at dksX5_clear_2 10 rfl rfl)
theorem dX5_clear_57 : decode cX5_clear 57 = .ok (.iconst 0, 1) := dk_3 (dk_at dksX5_clear_2 11 rfl rfl)
theorem dX5_clear_58 : decode cX5_clear 58 = .ok (.invokevirtual 74, 3) := dk_182 0 74 (dk_at dksX5_clear_2 12 rfl rfl)
theorem dX5_clear_61 : decode cX5_clear 61 = .ok (.return_, 1) := dk_177 (dk_at dksX5_clear_2 15 rfl rfl)
def dkwX5_issue_4 : List UInt8 := [46, 4, 96, 79, 177]
abbrev dktX5_issue_4 : List UInt8 := dkwX5_issue_4 ++ []
def dkwX5_issue_3 : List UInt8 := [184, 0, 78, 17, 39, 15, 79, 42, 180, 0, 25, 28, 5, 184, 0, 78, 2, 79, 42, 180, 0, 25, 4, 92]
abbrev dktX5_issue_3 : List UInt8 := dkwX5_issue_3 ++ dktX5_issue_4
def dkwX5_issue_2 : List UInt8 := [132, 3, 1, 167, 255, 215, 42, 180, 0, 25, 28, 3, 184, 0, 78, 27, 79, 42, 180, 0, 25, 28, 4]
abbrev dktX5_issue_2 : List UInt8 := dkwX5_issue_2 ++ dktX5_issue_3
def dkwX5_issue_1 : List UInt8 := [54, 4, 42, 180, 0, 25, 29, 4, 184, 0, 78, 42, 29, 4, 182, 0, 99, 21, 4, 184, 0, 112, 79]
abbrev dktX5_issue_1 : List UInt8 := dkwX5_issue_1 ++ dktX5_issue_2
def dkwX5_issue_0 : List UInt8 := [42, 180, 0, 25, 4, 46, 61, 3, 62, 29, 28, 162, 0, 42, 27, 42, 180, 0, 25, 8, 46, 96, 4, 100]
abbrev dktX5_issue_0 : List UInt8 := dkwX5_issue_0 ++ dktX5_issue_1
theorem dksX5_issue_0 : cX5_issue.data.toList.drop 0 = dktX5_issue_0 := by decide +kernel
theorem dksX5_issue_1 : cX5_issue.data.toList.drop 24 = dktX5_issue_1 := dk_seg dksX5_issue_0 24 rfl rfl
theorem dksX5_issue_2 : cX5_issue.data.toList.drop 47 = dktX5_issue_2 := dk_seg dksX5_issue_1 23 rfl rfl
theorem dksX5_issue_3 : cX5_issue.data.toList.drop 70 = dktX5_issue_3 := dk_seg dksX5_issue_2 23 rfl rfl
theorem dksX5_issue_4 : cX5_issue.data.toList.drop 94 = dktX5_issue_4 := dk_seg dksX5_issue_3 24 rfl rfl
theorem dX5_issue_0 : decode cX5_issue 0 = .ok (.aload_n 0, 1) := dk_42 (dk_at dksX5_issue_0 0 rfl rfl)
theorem dX5_issue_1 : decode cX5_issue 1 = .ok (.getfield 25, 3) := dk_180 0 25 (dk_at dksX5_issue_0 1 rfl rfl)
theorem dX5_issue_4 : decode cX5_issue 4 = .ok (.iconst 1, 1) := dk_4 (dk_at dksX5_issue_0 4 rfl rfl)
theorem dX5_issue_5 : decode cX5_issue 5 = .ok (.iaload, 1) := dk_46 (dk_at dksX5_issue_0 5 rfl rfl)
theorem dX5_issue_6 : decode cX5_issue 6 = .ok (.istore_n 2, 1) := dk_61 (dk_at dksX5_issue_0 6 rfl rfl)
theorem dX5_issue_7 : decode cX5_issue 7 = .ok (.iconst 0, 1) := dk_3 (dk_at dksX5_issue_0 7 rfl rfl)
theorem dX5_issue_8 : decode cX5_issue 8 = .ok (.istore_n 3, 1) := dk_62 (dk_at dksX5_issue_0 8 rfl rfl)
theorem dX5_issue_9 : decode cX5_issue 9 = .ok (.iload_n 3, 1) := dk_29 (dk_at dksX5_issue_0 9 rfl rfl)
theorem dX5_issue_10 : decode cX5_issue 10 = .ok (.iload_n 2, 1) := dk_28 (dk_at dksX5_issue_0 10 rfl rfl)
theorem dX5_issue_11 : decode cX5_issue 11 = .ok (.if_icmp .ge 42, 3) := dk_162 0 42 (dk_at dksX5_issue_0 11 rfl rfl)
theorem dX5_issue_14 : decode cX5_issue 14 = .ok (.iload_n 1, 1) := dk_27 (dk_at dksX5_issue_0 14 rfl rfl)
theorem dX5_issue_15 : decode cX5_issue 15 = .ok (.aload_n 0, 1) := dk_42 (dk_at dksX5_issue_0 15 rfl rfl)
theorem dX5_issue_16 : decode cX5_issue 16 = .ok (.getfield 25, 3) := dk_180 0 25 (dk_at dksX5_issue_0 16 rfl rfl)
theorem dX5_issue_19 : decode cX5_issue 19 = .ok (.iconst 5, 1) := dk_8 (dk_at dksX5_issue_0 19 rfl rfl)
theorem dX5_issue_20 : decode cX5_issue 20 = .ok (.iaload, 1) := dk_46 (dk_at dksX5_issue_0 20 rfl rfl)
theorem dX5_issue_21 : decode cX5_issue 21 = .ok (.iadd, 1) := dk_96 (dk_at dksX5_issue_0 21 rfl rfl)
theorem dX5_issue_22 : decode cX5_issue 22 = .ok (.iconst 1, 1) := dk_4 (dk_at dksX5_issue_0 22 rfl rfl)
theorem dX5_issue_23 : decode cX5_issue 23 = .ok (.isub, 1) := dk_100 (dk_at dksX5_issue_0 23 rfl rfl)
theorem dX5_issue_24 : decode cX5_issue 24 = .ok (.istore 4, 2) := dk_54 4 (dk_at dksX5_issue_1 0 rfl rfl)
theorem dX5_issue_26 : decode cX5_issue 26 = .ok (.aload_n 0, 1) := dk_42 (dk_at dksX5_issue_1 2 rfl rfl)
theorem dX5_issue_27 : decode cX5_issue 27 = .ok (.getfield 25, 3) := dk_180 0 25 (dk_at dksX5_issue_1 3 rfl rfl)
theorem dX5_issue_30 : decode cX5_issue 30 = .ok (.iload_n 3, 1) := dk_29 (dk_at dksX5_issue_1 6 rfl rfl)
theorem dX5_issue_31 : decode cX5_issue 31 = .ok (.iconst 1, 1) := dk_4 (dk_at dksX5_issue_1 7 rfl rfl)
theorem dX5_issue_32 : decode cX5_issue 32 = .ok (.invokestatic 78, 3) := dk_184 0 78 (dk_at dksX5_issue_1 8 rfl rfl)
theorem dX5_issue_35 : decode cX5_issue 35 = .ok (.aload_n 0, 1) := dk_42 (dk_at dksX5_issue_1 11 rfl rfl)
theorem dX5_issue_36 : decode cX5_issue 36 = .ok (.iload_n 3, 1) := dk_29 (dk_at dksX5_issue_1 12 rfl rfl)
theorem dX5_issue_37 : decode cX5_issue 37 = .ok (.iconst 1, 1) := dk_4 (dk_at dksX5_issue_1 13 rfl rfl)
theorem dX5_issue_38 : decode cX5_issue 38 = .ok (.invokevirtual 99, 3) := dk_182 0 99 (dk_at dksX5_issue_1 14 rfl rfl)
theorem dX5_issue_41 : decode cX5_issue 41 = .ok (.iload 4, 2) := dk_21 4 (dk_at dksX5_issue_1 17 rfl rfl)
theorem dX5_issue_43 : decode cX5_issue 43 = .ok (.invokestatic 112, 3) := dk_184 0 112 (dk_at dksX5_issue_1 19 rfl rfl)
theorem dX5_issue_46 : decode cX5_issue 46 = .ok (.iastore, 1) := dk_79 (dk_at dksX5_issue_1 22 rfl rfl)
theorem dX5_issue_47 : decode cX5_issue 47 = .ok (.iinc 3 1, 3) := dk_132 3 1 (dk_at dksX5_issue_2 0 rfl rfl)
theorem dX5_issue_50 : decode cX5_issue 50 = .ok (.goto (-41), 3) := dk_167 255 215 (dk_at dksX5_issue_2 3 rfl rfl)
theorem dX5_issue_53 : decode cX5_issue 53 = .ok (.aload_n 0, 1) := dk_42 (dk_at dksX5_issue_2 6 rfl rfl)
theorem dX5_issue_54 : decode cX5_issue 54 = .ok (.getfield 25, 3) := dk_180 0 25 (dk_at dksX5_issue_2 7 rfl rfl)
theorem dX5_issue_57 : decode cX5_issue 57 = .ok (.iload_n 2, 1) := dk_28 (dk_at dksX5_issue_2 10 rfl rfl)
theorem dX5_issue_58 : decode cX5_issue 58 = .ok (.iconst 0, 1) := dk_3 (dk_at dksX5_issue_2 11 rfl rfl)
theorem dX5_issue_59 : decode cX5_issue 59 = .ok (.invokestatic 78, 3) := dk_184 0 78 (dk_at dksX5_issue_2 12 rfl rfl)
theorem dX5_issue_62 : decode cX5_issue 62 = .ok (.iload_n 1, 1) := dk_27 (dk_at dksX5_issue_2 15 rfl rfl)
theorem dX5_issue_63 : decode cX5_issue 63 = .ok (.iastore, 1) := dk_79 (dk_at dksX5_issue_2 16 rfl rfl)
theorem dX5_issue_64 : decode cX5_issue 64 = .ok (.aload_n 0, 1) := dk_42 (dk_at dksX5_issue_2 17 rfl rfl)
theorem dX5_issue_65 : decode cX5_issue 65 = .ok (.getfield 25, 3) := dk_180 0 25 (dk_at dksX5_issue_2 18 rfl rfl)
theorem dX5_issue_68 : decode cX5_issue 68 = .ok (.iload_n 2, 1) := dk_28 (dk_at dksX5_issue_2 21 rfl rfl)
theorem dX5_issue_69 : decode cX5_issue 69 = .ok (.iconst 1, 1) := dk_4 (dk_at dksX5_issue_2 22 rfl rfl)
theorem dX5_issue_70 : decode cX5_issue 70 = .ok (.invokestatic 78, 3) := dk_184 0 78 (dk_at dksX5_issue_3 0 rfl rfl)
theorem dX5_issue_73 : decode cX5_issue 73 = .ok (.sipush 9999, 3) := dk_17 39 15 (dk_at dksX5_issue_3 3 rfl rfl)
theorem dX5_issue_76 : decode cX5_issue 76 = .ok (.iastore, 1) := dk_79 (dk_at dksX5_issue_3 6 rfl rfl)
theorem dX5_issue_77 : decode cX5_issue 77 = .ok (.aload_n 0, 1) := dk_42 (dk_at dksX5_issue_3 7 rfl rfl)
theorem dX5_issue_78 : decode cX5_issue 78 = .ok (.getfield 25, 3) := dk_180 0 25 (dk_at dksX5_issue_3 8 rfl rfl)
theorem dX5_issue_81 : decode cX5_issue 81 = .ok (.iload_n 2, 1) := dk_28 (dk_at dksX5_issue_3 11 rfl rfl)
theorem dX5_issue_82 : decode cX5_issue 82 = .ok (.iconst 2, 1) := dk_5 (dk_at dksX5_issue_3 12 rfl rfl)
theorem dX5_issue_83 : decode cX5_issue 83 = .ok (.invokestatic 78, 3) := dk_184 0 78 (dk_at dksX5_issue_3 13 rfl rfl)
theorem dX5_issue_86 : decode cX5_issue 86 = .ok (.iconst (-1), 1) := dk_2 (dk_at dksX5_issue_3 16 rfl rfl)
theorem dX5_issue_87 : decode cX5_issue 87 = .ok (.iastore, 1) := dk_79 (dk_at dksX5_issue_3 17 rfl rfl)
theorem dX5_issue_88 : decode cX5_issue 88 = .ok (.aload_n 0, 1) := dk_42 (dk_at dksX5_issue_3 18 rfl rfl)
theorem dX5_issue_89 : decode cX5_issue 89 = .ok (.getfield 25, 3) := dk_180 0 25 (dk_at dksX5_issue_3 19 rfl rfl)
theorem dX5_issue_92 : decode cX5_issue 92 = .ok (.iconst 1, 1) := dk_4 (dk_at dksX5_issue_3 22 rfl rfl)
theorem dX5_issue_93 : decode cX5_issue 93 = .ok (.dup2, 1) := dk_92 (dk_at dksX5_issue_3 23 rfl rfl)
theorem dX5_issue_94 : decode cX5_issue 94 = .ok (.iaload, 1) := dk_46 (dk_at dksX5_issue_4 0 rfl rfl)
theorem dX5_issue_95 : decode cX5_issue 95 = .ok (.iconst 1, 1) := dk_4 (dk_at dksX5_issue_4 1 rfl rfl)
theorem dX5_issue_96 : decode cX5_issue 96 = .ok (.iadd, 1) := dk_96 (dk_at dksX5_issue_4 2 rfl rfl)
theorem dX5_issue_97 : decode cX5_issue 97 = .ok (.iastore, 1) := dk_79 (dk_at dksX5_issue_4 3 rfl rfl)
theorem dX5_issue_98 : decode cX5_issue 98 = .ok (.return_, 1) := dk_177 (dk_at dksX5_issue_4 4 rfl rfl)
def dkwX5_versionAt_0 : List UInt8 := [16, 11, 6, 26, 104, 96, 27, 96, 172]
abbrev dktX5_versionAt_0 : List UInt8 := dkwX5_versionAt_0 ++ []
theorem dksX5_versionAt_0 : cX5_versionAt.data.toList.drop 0 = dktX5_versionAt_0 := by decide +kernel
theorem dX5_versionAt_0 : decode cX5_versionAt 0 = .ok (.bipush 11, 2) := dk_16 11 (dk_at dksX5_versionAt_0 0 rfl rfl)
theorem dX5_versionAt_2 : decode cX5_versionAt 2 = .ok (.iconst 3, 1) := dk_6 (dk_at dksX5_versionAt_0 2 rfl rfl)
theorem dX5_versionAt_3 : decode cX5_versionAt 3 = .ok (.iload_n 0, 1) := dk_26 (dk_at dksX5_versionAt_0 3 rfl rfl)
theorem dX5_versionAt_4 : decode cX5_versionAt 4 = .ok (.imul, 1) := dk_104 (dk_at dksX5_versionAt_0 4 rfl rfl)
theorem dX5_versionAt_5 : decode cX5_versionAt 5 = .ok (.iadd, 1) := dk_96 (dk_at dksX5_versionAt_0 5 rfl rfl)
theorem dX5_versionAt_6 : decode cX5_versionAt 6 = .ok (.iload_n 1, 1) := dk_27 (dk_at dksX5_versionAt_0 6 rfl rfl)
theorem dX5_versionAt_7 : decode cX5_versionAt 7 = .ok (.iadd, 1) := dk_96 (dk_at dksX5_versionAt_0 7 rfl rfl)
theorem dX5_versionAt_8 : decode cX5_versionAt 8 = .ok (.ireturn, 1) := dk_172 (dk_at dksX5_versionAt_0 8 rfl rfl)
def dkwX5_ofVersion_0 : List UInt8 := [42, 180, 0, 25, 27, 28, 184, 0, 78, 46, 172]
abbrev dktX5_ofVersion_0 : List UInt8 := dkwX5_ofVersion_0 ++ []
theorem dksX5_ofVersion_0 : cX5_ofVersion.data.toList.drop 0 = dktX5_ofVersion_0 := by decide +kernel
theorem dX5_ofVersion_0 : decode cX5_ofVersion 0 = .ok (.aload_n 0, 1) := dk_42 (dk_at dksX5_ofVersion_0 0 rfl rfl)
theorem dX5_ofVersion_1 : decode cX5_ofVersion 1 = .ok (.getfield 25, 3) := dk_180 0 25 (dk_at dksX5_ofVersion_0 1 rfl rfl)
theorem dX5_ofVersion_4 : decode cX5_ofVersion 4 = .ok (.iload_n 1, 1) := dk_27 (dk_at dksX5_ofVersion_0 4 rfl rfl)
theorem dX5_ofVersion_5 : decode cX5_ofVersion 5 = .ok (.iload_n 2, 1) := dk_28 (dk_at dksX5_ofVersion_0 5 rfl rfl)
theorem dX5_ofVersion_6 : decode cX5_ofVersion 6 = .ok (.invokestatic 78, 3) := dk_184 0 78 (dk_at dksX5_ofVersion_0 6 rfl rfl)
theorem dX5_ofVersion_9 : decode cX5_ofVersion 9 = .ok (.iaload, 1) := dk_46 (dk_at dksX5_ofVersion_0 9 rfl rfl)
theorem dX5_ofVersion_10 : decode cX5_ofVersion 10 = .ok (.ireturn, 1) := dk_172 (dk_at dksX5_ofVersion_0 10 rfl rfl)
theorem dX5_thrown_0 : decode cX5_thrown 0 = .ok (.aload_n 0, 1) := by decide +kernel
theorem dX5_thrown_1 : decode cX5_thrown 1 = .ok (.getfield 71, 3) := by decide +kernel
theorem dX5_thrown_4 : decode cX5_thrown 4 = .ok (.ireturn, 1) := by decide +kernel
def dkwX5_size_4 : List UInt8 := [5, 46, 172, 42, 4, 182, 0, 197, 172]
abbrev dktX5_size_4 : List UInt8 := dkwX5_size_4 ++ []
def dkwX5_size_3 : List UInt8 := [182, 0, 194, 172, 42, 180, 0, 9, 16, 8, 46, 172, 42, 180, 0, 9, 16, 9, 46, 172, 42, 180, 0, 9]
abbrev dktX5_size_3 : List UInt8 := dkwX5_size_3 ++ dktX5_size_4
def dkwX5_size_2 : List UInt8 := [42, 180, 0, 9, 27, 46, 172, 42, 182, 0, 188, 172, 42, 182, 0, 127, 172, 42, 182, 0, 191, 172, 42]
abbrev dktX5_size_2 : List UInt8 := dkwX5_size_2 ++ dktX5_size_3
def dkwX5_size_1 : List UInt8 := [170, 0, 0, 0, 0, 120, 0, 0, 0, 0, 0, 0, 0, 13, 0, 0, 0, 70, 0, 0, 0, 70, 0, 0, 0, 77, 0, 0, 0, 70, 0, 0, 0, 70, 0, 0, 0, 70, 0, 0, 0, 70, 0, 0, 0, 70, 0, 0, 0, 82, 0, 0, 0, 87, 0, 0, 0, 92, 0, 0, 0, 97, 0, 0, 0, 105, 0, 0, 0, 113]
abbrev dktX5_size_1 : List UInt8 := dkwX5_size_1 ++ dktX5_size_2
def dkwX5_size_0 : List UInt8 := [42, 3, 181, 0, 71, 27]
abbrev dktX5_size_0 : List UInt8 := dkwX5_size_0 ++ dktX5_size_1
theorem dksX5_size_0 : cX5_size.data.toList.drop 0 = dktX5_size_0 := by decide +kernel
theorem dksX5_size_1 : cX5_size.data.toList.drop 6 = dktX5_size_1 := dk_seg dksX5_size_0 6 rfl rfl
theorem dksX5_size_2 : cX5_size.data.toList.drop 76 = dktX5_size_2 := dk_seg dksX5_size_1 70 rfl rfl
theorem dksX5_size_3 : cX5_size.data.toList.drop 99 = dktX5_size_3 := dk_seg dksX5_size_2 23 rfl rfl
theorem dksX5_size_4 : cX5_size.data.toList.drop 123 = dktX5_size_4 := dk_seg dksX5_size_3 24 rfl rfl
theorem dX5_size_0 : decode cX5_size 0 = .ok (.aload_n 0, 1) := dk_42 (dk_at dksX5_size_0 0 rfl rfl)
theorem dX5_size_1 : decode cX5_size 1 = .ok (.iconst 0, 1) := dk_3 (dk_at dksX5_size_0 1 rfl rfl)
theorem dX5_size_2 : decode cX5_size 2 = .ok (.putfield 71, 3) := dk_181 0 71 (dk_at dksX5_size_0 2 rfl rfl)
theorem dX5_size_5 : decode cX5_size 5 = .ok (.iload_n 1, 1) := dk_27 (dk_at dksX5_size_0 5 rfl rfl)
theorem dX5_size_6 : decode cX5_size 6 = .ok (.tableswitch 120 0 13 #[70, 70, 77, 70, 70, 70, 70, 70, 82, 87, 92, 97, 105, 113], 70) := by decide +kernel
theorem dX5_size_76 : decode cX5_size 76 = .ok (.aload_n 0, 1) := dk_42 (dk_at dksX5_size_2 0 rfl rfl)
theorem dX5_size_77 : decode cX5_size 77 = .ok (.getfield 9, 3) := dk_180 0 9 (dk_at dksX5_size_2 1 rfl rfl)
theorem dX5_size_80 : decode cX5_size 80 = .ok (.iload_n 1, 1) := dk_27 (dk_at dksX5_size_2 4 rfl rfl)
theorem dX5_size_81 : decode cX5_size 81 = .ok (.iaload, 1) := dk_46 (dk_at dksX5_size_2 5 rfl rfl)
theorem dX5_size_82 : decode cX5_size 82 = .ok (.ireturn, 1) := dk_172 (dk_at dksX5_size_2 6 rfl rfl)
theorem dX5_size_83 : decode cX5_size 83 = .ok (.aload_n 0, 1) := dk_42 (dk_at dksX5_size_2 7 rfl rfl)
theorem dX5_size_84 : decode cX5_size 84 = .ok (.invokevirtual 188, 3) := dk_182 0 188 (dk_at dksX5_size_2 8 rfl rfl)
theorem dX5_size_87 : decode cX5_size 87 = .ok (.ireturn, 1) := dk_172 (dk_at dksX5_size_2 11 rfl rfl)
theorem dX5_size_88 : decode cX5_size 88 = .ok (.aload_n 0, 1) := dk_42 (dk_at dksX5_size_2 12 rfl rfl)
theorem dX5_size_89 : decode cX5_size 89 = .ok (.invokevirtual 127, 3) := dk_182 0 127 (dk_at dksX5_size_2 13 rfl rfl)
theorem dX5_size_92 : decode cX5_size 92 = .ok (.ireturn, 1) := dk_172 (dk_at dksX5_size_2 16 rfl rfl)
theorem dX5_size_93 : decode cX5_size 93 = .ok (.aload_n 0, 1) := dk_42 (dk_at dksX5_size_2 17 rfl rfl)
theorem dX5_size_94 : decode cX5_size 94 = .ok (.invokevirtual 191, 3) := dk_182 0 191 (dk_at dksX5_size_2 18 rfl rfl)
theorem dX5_size_97 : decode cX5_size 97 = .ok (.ireturn, 1) := dk_172 (dk_at dksX5_size_2 21 rfl rfl)
theorem dX5_size_98 : decode cX5_size 98 = .ok (.aload_n 0, 1) := dk_42 (dk_at dksX5_size_2 22 rfl rfl)
theorem dX5_size_99 : decode cX5_size 99 = .ok (.invokevirtual 194, 3) := dk_182 0 194 (dk_at dksX5_size_3 0 rfl rfl)
theorem dX5_size_102 : decode cX5_size 102 = .ok (.ireturn, 1) := dk_172 (dk_at dksX5_size_3 3 rfl rfl)
theorem dX5_size_103 : decode cX5_size 103 = .ok (.aload_n 0, 1) := dk_42 (dk_at dksX5_size_3 4 rfl rfl)
theorem dX5_size_104 : decode cX5_size 104 = .ok (.getfield 9, 3) := dk_180 0 9 (dk_at dksX5_size_3 5 rfl rfl)
theorem dX5_size_107 : decode cX5_size 107 = .ok (.bipush 8, 2) := dk_16 8 (dk_at dksX5_size_3 8 rfl rfl)
theorem dX5_size_109 : decode cX5_size 109 = .ok (.iaload, 1) := dk_46 (dk_at dksX5_size_3 10 rfl rfl)
theorem dX5_size_110 : decode cX5_size 110 = .ok (.ireturn, 1) := dk_172 (dk_at dksX5_size_3 11 rfl rfl)
theorem dX5_size_111 : decode cX5_size 111 = .ok (.aload_n 0, 1) := dk_42 (dk_at dksX5_size_3 12 rfl rfl)
theorem dX5_size_112 : decode cX5_size 112 = .ok (.getfield 9, 3) := dk_180 0 9 (dk_at dksX5_size_3 13 rfl rfl)
theorem dX5_size_115 : decode cX5_size 115 = .ok (.bipush 9, 2) := dk_16 9 (dk_at dksX5_size_3 16 rfl rfl)
theorem dX5_size_117 : decode cX5_size 117 = .ok (.iaload, 1) := dk_46 (dk_at dksX5_size_3 18 rfl rfl)
theorem dX5_size_118 : decode cX5_size 118 = .ok (.ireturn, 1) := dk_172 (dk_at dksX5_size_3 19 rfl rfl)
theorem dX5_size_119 : decode cX5_size 119 = .ok (.aload_n 0, 1) := dk_42 (dk_at dksX5_size_3 20 rfl rfl)
theorem dX5_size_120 : decode cX5_size 120 = .ok (.getfield 9, 3) := dk_180 0 9 (dk_at dksX5_size_3 21 rfl rfl)
theorem dX5_size_123 : decode cX5_size 123 = .ok (.iconst 2, 1) := dk_5 (dk_at dksX5_size_4 0 rfl rfl)
theorem dX5_size_124 : decode cX5_size 124 = .ok (.iaload, 1) := dk_46 (dk_at dksX5_size_4 1 rfl rfl)
theorem dX5_size_125 : decode cX5_size 125 = .ok (.ireturn, 1) := dk_172 (dk_at dksX5_size_4 2 rfl rfl)
theorem dX5_size_126 : decode cX5_size 126 = .ok (.aload_n 0, 1) := dk_42 (dk_at dksX5_size_4 3 rfl rfl)
theorem dX5_size_127 : decode cX5_size 127 = .ok (.iconst 1, 1) := dk_4 (dk_at dksX5_size_4 4 rfl rfl)
theorem dX5_size_128 : decode cX5_size 128 = .ok (.invokevirtual 197, 3) := dk_182 0 197 (dk_at dksX5_size_4 5 rfl rfl)
theorem dX5_size_131 : decode cX5_size 131 = .ok (.ireturn, 1) := dk_172 (dk_at dksX5_size_4 8 rfl rfl)
def dkwX5_present_1 : List UInt8 := [60, 132, 2, 1, 167, 255, 232, 27, 172]
abbrev dktX5_present_1 : List UInt8 := dkwX5_present_1 ++ []
def dkwX5_present_0 : List UInt8 := [3, 60, 3, 61, 28, 42, 180, 0, 25, 5, 46, 162, 0, 20, 27, 4, 42, 28, 6, 182, 0, 96, 100, 96]
abbrev dktX5_present_0 : List UInt8 := dkwX5_present_0 ++ dktX5_present_1
theorem dksX5_present_0 : cX5_present.data.toList.drop 0 = dktX5_present_0 := by decide +kernel
theorem dksX5_present_1 : cX5_present.data.toList.drop 24 = dktX5_present_1 := dk_seg dksX5_present_0 24 rfl rfl
theorem dX5_present_0 : decode cX5_present 0 = .ok (.iconst 0, 1) := dk_3 (dk_at dksX5_present_0 0 rfl rfl)
theorem dX5_present_1 : decode cX5_present 1 = .ok (.istore_n 1, 1) := dk_60 (dk_at dksX5_present_0 1 rfl rfl)
theorem dX5_present_2 : decode cX5_present 2 = .ok (.iconst 0, 1) := dk_3 (dk_at dksX5_present_0 2 rfl rfl)
theorem dX5_present_3 : decode cX5_present 3 = .ok (.istore_n 2, 1) := dk_61 (dk_at dksX5_present_0 3 rfl rfl)
theorem dX5_present_4 : decode cX5_present 4 = .ok (.iload_n 2, 1) := dk_28 (dk_at dksX5_present_0 4 rfl rfl)
theorem dX5_present_5 : decode cX5_present 5 = .ok (.aload_n 0, 1) := dk_42 (dk_at dksX5_present_0 5 rfl rfl)
theorem dX5_present_6 : decode cX5_present 6 = .ok (.getfield 25, 3) := dk_180 0 25 (dk_at dksX5_present_0 6 rfl rfl)
theorem dX5_present_9 : decode cX5_present 9 = .ok (.iconst 2, 1) := dk_5 (dk_at dksX5_present_0 9 rfl rfl)
theorem dX5_present_10 : decode cX5_present 10 = .ok (.iaload, 1) := dk_46 (dk_at dksX5_present_0 10 rfl rfl)
theorem dX5_present_11 : decode cX5_present 11 = .ok (.if_icmp .ge 20, 3) := dk_162 0 20 (dk_at dksX5_present_0 11 rfl rfl)
theorem dX5_present_14 : decode cX5_present 14 = .ok (.iload_n 1, 1) := dk_27 (dk_at dksX5_present_0 14 rfl rfl)
theorem dX5_present_15 : decode cX5_present 15 = .ok (.iconst 1, 1) := dk_4 (dk_at dksX5_present_0 15 rfl rfl)
theorem dX5_present_16 : decode cX5_present 16 = .ok (.aload_n 0, 1) := dk_42 (dk_at dksX5_present_0 16 rfl rfl)
theorem dX5_present_17 : decode cX5_present 17 = .ok (.iload_n 2, 1) := dk_28 (dk_at dksX5_present_0 17 rfl rfl)
theorem dX5_present_18 : decode cX5_present 18 = .ok (.iconst 3, 1) := dk_6 (dk_at dksX5_present_0 18 rfl rfl)
theorem dX5_present_19 : decode cX5_present 19 = .ok (.invokevirtual 96, 3) := dk_182 0 96 (dk_at dksX5_present_0 19 rfl rfl)
theorem dX5_present_22 : decode cX5_present 22 = .ok (.isub, 1) := dk_100 (dk_at dksX5_present_0 22 rfl rfl)
theorem dX5_present_23 : decode cX5_present 23 = .ok (.iadd, 1) := dk_96 (dk_at dksX5_present_0 23 rfl rfl)
theorem dX5_present_24 : decode cX5_present 24 = .ok (.istore_n 1, 1) := dk_60 (dk_at dksX5_present_1 0 rfl rfl)
theorem dX5_present_25 : decode cX5_present 25 = .ok (.iinc 2 1, 3) := dk_132 2 1 (dk_at dksX5_present_1 1 rfl rfl)
theorem dX5_present_28 : decode cX5_present 28 = .ok (.goto (-24), 3) := dk_167 255 232 (dk_at dksX5_present_1 4 rfl rfl)
theorem dX5_present_31 : decode cX5_present 31 = .ok (.iload_n 1, 1) := dk_27 (dk_at dksX5_present_1 7 rfl rfl)
theorem dX5_present_32 : decode cX5_present 32 = .ok (.ireturn, 1) := dk_172 (dk_at dksX5_present_1 8 rfl rfl)
def dkwX5_ofRecord_0 : List UInt8 := [42, 180, 0, 25, 27, 28, 184, 0, 82, 46, 172]
abbrev dktX5_ofRecord_0 : List UInt8 := dkwX5_ofRecord_0 ++ []
theorem dksX5_ofRecord_0 : cX5_ofRecord.data.toList.drop 0 = dktX5_ofRecord_0 := by decide +kernel
theorem dX5_ofRecord_0 : decode cX5_ofRecord 0 = .ok (.aload_n 0, 1) := dk_42 (dk_at dksX5_ofRecord_0 0 rfl rfl)
theorem dX5_ofRecord_1 : decode cX5_ofRecord 1 = .ok (.getfield 25, 3) := dk_180 0 25 (dk_at dksX5_ofRecord_0 1 rfl rfl)
theorem dX5_ofRecord_4 : decode cX5_ofRecord 4 = .ok (.iload_n 1, 1) := dk_27 (dk_at dksX5_ofRecord_0 4 rfl rfl)
theorem dX5_ofRecord_5 : decode cX5_ofRecord 5 = .ok (.iload_n 2, 1) := dk_28 (dk_at dksX5_ofRecord_0 5 rfl rfl)
theorem dX5_ofRecord_6 : decode cX5_ofRecord 6 = .ok (.invokestatic 82, 3) := dk_184 0 82 (dk_at dksX5_ofRecord_0 6 rfl rfl)
theorem dX5_ofRecord_9 : decode cX5_ofRecord 9 = .ok (.iaload, 1) := dk_46 (dk_at dksX5_ofRecord_0 9 rfl rfl)
theorem dX5_ofRecord_10 : decode cX5_ofRecord 10 = .ok (.ireturn, 1) := dk_172 (dk_at dksX5_ofRecord_0 10 rfl rfl)
def dkwX5_recordAt_0 : List UInt8 := [16, 101, 7, 26, 104, 96, 27, 96, 172]
abbrev dktX5_recordAt_0 : List UInt8 := dkwX5_recordAt_0 ++ []
theorem dksX5_recordAt_0 : cX5_recordAt.data.toList.drop 0 = dktX5_recordAt_0 := by decide +kernel
theorem dX5_recordAt_0 : decode cX5_recordAt 0 = .ok (.bipush 101, 2) := dk_16 101 (dk_at dksX5_recordAt_0 0 rfl rfl)
theorem dX5_recordAt_2 : decode cX5_recordAt 2 = .ok (.iconst 4, 1) := dk_7 (dk_at dksX5_recordAt_0 2 rfl rfl)
theorem dX5_recordAt_3 : decode cX5_recordAt 3 = .ok (.iload_n 0, 1) := dk_26 (dk_at dksX5_recordAt_0 3 rfl rfl)
theorem dX5_recordAt_4 : decode cX5_recordAt 4 = .ok (.imul, 1) := dk_104 (dk_at dksX5_recordAt_0 4 rfl rfl)
theorem dX5_recordAt_5 : decode cX5_recordAt 5 = .ok (.iadd, 1) := dk_96 (dk_at dksX5_recordAt_0 5 rfl rfl)
theorem dX5_recordAt_6 : decode cX5_recordAt 6 = .ok (.iload_n 1, 1) := dk_27 (dk_at dksX5_recordAt_0 6 rfl rfl)
theorem dX5_recordAt_7 : decode cX5_recordAt 7 = .ok (.iadd, 1) := dk_96 (dk_at dksX5_recordAt_0 7 rfl rfl)
theorem dX5_recordAt_8 : decode cX5_recordAt 8 = .ok (.ireturn, 1) := dk_172 (dk_at dksX5_recordAt_0 8 rfl rfl)
def dkwX5_writing_1 : List UInt8 := [167, 0, 4, 27, 60, 132, 2, 1, 167, 255, 229, 27, 172]
abbrev dktX5_writing_1 : List UInt8 := dkwX5_writing_1 ++ []
def dkwX5_writing_0 : List UInt8 := [2, 60, 3, 61, 28, 42, 180, 0, 25, 4, 46, 162, 0, 23, 42, 28, 182, 0, 109, 153, 0, 7, 28]
abbrev dktX5_writing_0 : List UInt8 := dkwX5_writing_0 ++ dktX5_writing_1
theorem dksX5_writing_0 : cX5_writing.data.toList.drop 0 = dktX5_writing_0 := by decide +kernel
theorem dksX5_writing_1 : cX5_writing.data.toList.drop 23 = dktX5_writing_1 := dk_seg dksX5_writing_0 23 rfl rfl
theorem dX5_writing_0 : decode cX5_writing 0 = .ok (.iconst (-1), 1) := dk_2 (dk_at dksX5_writing_0 0 rfl rfl)
theorem dX5_writing_1 : decode cX5_writing 1 = .ok (.istore_n 1, 1) := dk_60 (dk_at dksX5_writing_0 1 rfl rfl)
theorem dX5_writing_2 : decode cX5_writing 2 = .ok (.iconst 0, 1) := dk_3 (dk_at dksX5_writing_0 2 rfl rfl)
theorem dX5_writing_3 : decode cX5_writing 3 = .ok (.istore_n 2, 1) := dk_61 (dk_at dksX5_writing_0 3 rfl rfl)
theorem dX5_writing_4 : decode cX5_writing 4 = .ok (.iload_n 2, 1) := dk_28 (dk_at dksX5_writing_0 4 rfl rfl)
theorem dX5_writing_5 : decode cX5_writing 5 = .ok (.aload_n 0, 1) := dk_42 (dk_at dksX5_writing_0 5 rfl rfl)
theorem dX5_writing_6 : decode cX5_writing 6 = .ok (.getfield 25, 3) := dk_180 0 25 (dk_at dksX5_writing_0 6 rfl rfl)
theorem dX5_writing_9 : decode cX5_writing 9 = .ok (.iconst 1, 1) := dk_4 (dk_at dksX5_writing_0 9 rfl rfl)
theorem dX5_writing_10 : decode cX5_writing 10 = .ok (.iaload, 1) := dk_46 (dk_at dksX5_writing_0 10 rfl rfl)
theorem dX5_writing_11 : decode cX5_writing 11 = .ok (.if_icmp .ge 23, 3) := dk_162 0 23 (dk_at dksX5_writing_0 11 rfl rfl)
theorem dX5_writing_14 : decode cX5_writing 14 = .ok (.aload_n 0, 1) := dk_42 (dk_at dksX5_writing_0 14 rfl rfl)
theorem dX5_writing_15 : decode cX5_writing 15 = .ok (.iload_n 2, 1) := dk_28 (dk_at dksX5_writing_0 15 rfl rfl)
theorem dX5_writing_16 : decode cX5_writing 16 = .ok (.invokevirtual 109, 3) := dk_182 0 109 (dk_at dksX5_writing_0 16 rfl rfl)
theorem dX5_writing_19 : decode cX5_writing 19 = .ok (.ifCond .eq 7, 3) := dk_153 0 7 (dk_at dksX5_writing_0 19 rfl rfl)
theorem dX5_writing_22 : decode cX5_writing 22 = .ok (.iload_n 2, 1) := dk_28 (dk_at dksX5_writing_0 22 rfl rfl)
theorem dX5_writing_23 : decode cX5_writing 23 = .ok (.goto 4, 3) := dk_167 0 4 (dk_at dksX5_writing_1 0 rfl rfl)
theorem dX5_writing_26 : decode cX5_writing 26 = .ok (.iload_n 1, 1) := dk_27 (dk_at dksX5_writing_1 3 rfl rfl)
theorem dX5_writing_27 : decode cX5_writing 27 = .ok (.istore_n 1, 1) := dk_60 (dk_at dksX5_writing_1 4 rfl rfl)
theorem dX5_writing_28 : decode cX5_writing 28 = .ok (.iinc 2 1, 3) := dk_132 2 1 (dk_at dksX5_writing_1 5 rfl rfl)
theorem dX5_writing_31 : decode cX5_writing 31 = .ok (.goto (-27), 3) := dk_167 255 229 (dk_at dksX5_writing_1 8 rfl rfl)
theorem dX5_writing_34 : decode cX5_writing 34 = .ok (.iload_n 1, 1) := dk_27 (dk_at dksX5_writing_1 11 rfl rfl)
theorem dX5_writing_35 : decode cX5_writing 35 = .ok (.ireturn, 1) := dk_172 (dk_at dksX5_writing_1 12 rfl rfl)
def dkwX5_isForced_1 : List UInt8 := [184, 0, 88, 153, 0, 7, 4, 167, 0, 4, 3, 172]
abbrev dktX5_isForced_1 : List UInt8 := dkwX5_isForced_1 ++ []
def dkwX5_isForced_0 : List UInt8 := [42, 27, 182, 0, 102, 154, 0, 29, 42, 182, 0, 105, 42, 27, 3, 182, 0, 99, 42, 27, 4, 182, 0, 99]
abbrev dktX5_isForced_0 : List UInt8 := dkwX5_isForced_0 ++ dktX5_isForced_1
theorem dksX5_isForced_0 : cX5_isForced.data.toList.drop 0 = dktX5_isForced_0 := by decide +kernel
theorem dksX5_isForced_1 : cX5_isForced.data.toList.drop 24 = dktX5_isForced_1 := dk_seg dksX5_isForced_0 24 rfl rfl
theorem dX5_isForced_0 : decode cX5_isForced 0 = .ok (.aload_n 0, 1) := dk_42 (dk_at dksX5_isForced_0 0 rfl rfl)
theorem dX5_isForced_1 : decode cX5_isForced 1 = .ok (.iload_n 1, 1) := dk_27 (dk_at dksX5_isForced_0 1 rfl rfl)
theorem dX5_isForced_2 : decode cX5_isForced 2 = .ok (.invokevirtual 102, 3) := dk_182 0 102 (dk_at dksX5_isForced_0 2 rfl rfl)
theorem dX5_isForced_5 : decode cX5_isForced 5 = .ok (.ifCond .ne 29, 3) := dk_154 0 29 (dk_at dksX5_isForced_0 5 rfl rfl)
theorem dX5_isForced_8 : decode cX5_isForced 8 = .ok (.aload_n 0, 1) := dk_42 (dk_at dksX5_isForced_0 8 rfl rfl)
theorem dX5_isForced_9 : decode cX5_isForced 9 = .ok (.invokevirtual 105, 3) := dk_182 0 105 (dk_at dksX5_isForced_0 9 rfl rfl)
theorem dX5_isForced_12 : decode cX5_isForced 12 = .ok (.aload_n 0, 1) := dk_42 (dk_at dksX5_isForced_0 12 rfl rfl)
theorem dX5_isForced_13 : decode cX5_isForced 13 = .ok (.iload_n 1, 1) := dk_27 (dk_at dksX5_isForced_0 13 rfl rfl)
theorem dX5_isForced_14 : decode cX5_isForced 14 = .ok (.iconst 0, 1) := dk_3 (dk_at dksX5_isForced_0 14 rfl rfl)
theorem dX5_isForced_15 : decode cX5_isForced 15 = .ok (.invokevirtual 99, 3) := dk_182 0 99 (dk_at dksX5_isForced_0 15 rfl rfl)
theorem dX5_isForced_18 : decode cX5_isForced 18 = .ok (.aload_n 0, 1) := dk_42 (dk_at dksX5_isForced_0 18 rfl rfl)
theorem dX5_isForced_19 : decode cX5_isForced 19 = .ok (.iload_n 1, 1) := dk_27 (dk_at dksX5_isForced_0 19 rfl rfl)
theorem dX5_isForced_20 : decode cX5_isForced 20 = .ok (.iconst 1, 1) := dk_4 (dk_at dksX5_isForced_0 20 rfl rfl)
theorem dX5_isForced_21 : decode cX5_isForced 21 = .ok (.invokevirtual 99, 3) := dk_182 0 99 (dk_at dksX5_isForced_0 21 rfl rfl)
theorem dX5_isForced_24 : decode cX5_isForced 24 = .ok (.invokestatic 88, 3) := dk_184 0 88 (dk_at dksX5_isForced_1 0 rfl rfl)
theorem dX5_isForced_27 : decode cX5_isForced 27 = .ok (.ifCond .eq 7, 3) := dk_153 0 7 (dk_at dksX5_isForced_1 3 rfl rfl)
theorem dX5_isForced_30 : decode cX5_isForced 30 = .ok (.iconst 1, 1) := dk_4 (dk_at dksX5_isForced_1 6 rfl rfl)
theorem dX5_isForced_31 : decode cX5_isForced 31 = .ok (.goto 4, 3) := dk_167 0 4 (dk_at dksX5_isForced_1 7 rfl rfl)
theorem dX5_isForced_34 : decode cX5_isForced 34 = .ok (.iconst 0, 1) := dk_3 (dk_at dksX5_isForced_1 10 rfl rfl)
theorem dX5_isForced_35 : decode cX5_isForced 35 = .ok (.ireturn, 1) := dk_172 (dk_at dksX5_isForced_1 11 rfl rfl)
def dkwX5_isGone_0 : List UInt8 := [42, 27, 5, 182, 0, 99, 2, 159, 0, 7, 4, 167, 0, 4, 3, 172]
abbrev dktX5_isGone_0 : List UInt8 := dkwX5_isGone_0 ++ []
theorem dksX5_isGone_0 : cX5_isGone.data.toList.drop 0 = dktX5_isGone_0 := by decide +kernel
theorem dX5_isGone_0 : decode cX5_isGone 0 = .ok (.aload_n 0, 1) := dk_42 (dk_at dksX5_isGone_0 0 rfl rfl)
theorem dX5_isGone_1 : decode cX5_isGone 1 = .ok (.iload_n 1, 1) := dk_27 (dk_at dksX5_isGone_0 1 rfl rfl)
theorem dX5_isGone_2 : decode cX5_isGone 2 = .ok (.iconst 2, 1) := dk_5 (dk_at dksX5_isGone_0 2 rfl rfl)
theorem dX5_isGone_3 : decode cX5_isGone 3 = .ok (.invokevirtual 99, 3) := dk_182 0 99 (dk_at dksX5_isGone_0 3 rfl rfl)
theorem dX5_isGone_6 : decode cX5_isGone 6 = .ok (.iconst (-1), 1) := dk_2 (dk_at dksX5_isGone_0 6 rfl rfl)
theorem dX5_isGone_7 : decode cX5_isGone 7 = .ok (.if_icmp .eq 7, 3) := dk_159 0 7 (dk_at dksX5_isGone_0 7 rfl rfl)
theorem dX5_isGone_10 : decode cX5_isGone 10 = .ok (.iconst 1, 1) := dk_4 (dk_at dksX5_isGone_0 10 rfl rfl)
theorem dX5_isGone_11 : decode cX5_isGone 11 = .ok (.goto 4, 3) := dk_167 0 4 (dk_at dksX5_isGone_0 11 rfl rfl)
theorem dX5_isGone_14 : decode cX5_isGone 14 = .ok (.iconst 0, 1) := dk_3 (dk_at dksX5_isGone_0 14 rfl rfl)
theorem dX5_isGone_15 : decode cX5_isGone 15 = .ok (.ireturn, 1) := dk_172 (dk_at dksX5_isGone_0 15 rfl rfl)
def dkwX5_hour_0 : List UInt8 := [42, 180, 0, 25, 3, 46, 172]
abbrev dktX5_hour_0 : List UInt8 := dkwX5_hour_0 ++ []
theorem dksX5_hour_0 : cX5_hour.data.toList.drop 0 = dktX5_hour_0 := by decide +kernel
theorem dX5_hour_0 : decode cX5_hour 0 = .ok (.aload_n 0, 1) := dk_42 (dk_at dksX5_hour_0 0 rfl rfl)
theorem dX5_hour_1 : decode cX5_hour 1 = .ok (.getfield 25, 3) := dk_180 0 25 (dk_at dksX5_hour_0 1 rfl rfl)
theorem dX5_hour_4 : decode cX5_hour 4 = .ok (.iconst 0, 1) := dk_3 (dk_at dksX5_hour_0 4 rfl rfl)
theorem dX5_hour_5 : decode cX5_hour 5 = .ok (.iaload, 1) := dk_46 (dk_at dksX5_hour_0 5 rfl rfl)
theorem dX5_hour_6 : decode cX5_hour 6 = .ok (.ireturn, 1) := dk_172 (dk_at dksX5_hour_0 6 rfl rfl)
def dkwX5_inRange_0 : List UInt8 := [26, 27, 161, 0, 12, 26, 28, 163, 0, 7, 4, 167, 0, 4, 3, 172]
abbrev dktX5_inRange_0 : List UInt8 := dkwX5_inRange_0 ++ []
theorem dksX5_inRange_0 : cX5_inRange.data.toList.drop 0 = dktX5_inRange_0 := by decide +kernel
theorem dX5_inRange_0 : decode cX5_inRange 0 = .ok (.iload_n 0, 1) := dk_26 (dk_at dksX5_inRange_0 0 rfl rfl)
theorem dX5_inRange_1 : decode cX5_inRange 1 = .ok (.iload_n 1, 1) := dk_27 (dk_at dksX5_inRange_0 1 rfl rfl)
theorem dX5_inRange_2 : decode cX5_inRange 2 = .ok (.if_icmp .lt 12, 3) := dk_161 0 12 (dk_at dksX5_inRange_0 2 rfl rfl)
theorem dX5_inRange_5 : decode cX5_inRange 5 = .ok (.iload_n 0, 1) := dk_26 (dk_at dksX5_inRange_0 5 rfl rfl)
theorem dX5_inRange_6 : decode cX5_inRange 6 = .ok (.iload_n 2, 1) := dk_28 (dk_at dksX5_inRange_0 6 rfl rfl)
theorem dX5_inRange_7 : decode cX5_inRange 7 = .ok (.if_icmp .gt 7, 3) := dk_163 0 7 (dk_at dksX5_inRange_0 7 rfl rfl)
theorem dX5_inRange_10 : decode cX5_inRange 10 = .ok (.iconst 1, 1) := dk_4 (dk_at dksX5_inRange_0 10 rfl rfl)
theorem dX5_inRange_11 : decode cX5_inRange 11 = .ok (.goto 4, 3) := dk_167 0 4 (dk_at dksX5_inRange_0 11 rfl rfl)
theorem dX5_inRange_14 : decode cX5_inRange 14 = .ok (.iconst 0, 1) := dk_3 (dk_at dksX5_inRange_0 14 rfl rfl)
theorem dX5_inRange_15 : decode cX5_inRange 15 = .ok (.ireturn, 1) := dk_172 (dk_at dksX5_inRange_0 15 rfl rfl)
def dkwX5_inForce_1 : List UInt8 := [167, 0, 4, 3, 96, 60, 132, 2, 1, 167, 255, 227, 27, 172]
abbrev dktX5_inForce_1 : List UInt8 := dkwX5_inForce_1 ++ []
def dkwX5_inForce_0 : List UInt8 := [3, 60, 3, 61, 28, 42, 180, 0, 25, 4, 46, 162, 0, 25, 27, 42, 28, 182, 0, 109, 153, 0, 7, 4]
abbrev dktX5_inForce_0 : List UInt8 := dkwX5_inForce_0 ++ dktX5_inForce_1
theorem dksX5_inForce_0 : cX5_inForce.data.toList.drop 0 = dktX5_inForce_0 := by decide +kernel
theorem dksX5_inForce_1 : cX5_inForce.data.toList.drop 24 = dktX5_inForce_1 := dk_seg dksX5_inForce_0 24 rfl rfl
theorem dX5_inForce_0 : decode cX5_inForce 0 = .ok (.iconst 0, 1) := dk_3 (dk_at dksX5_inForce_0 0 rfl rfl)
theorem dX5_inForce_1 : decode cX5_inForce 1 = .ok (.istore_n 1, 1) := dk_60 (dk_at dksX5_inForce_0 1 rfl rfl)
theorem dX5_inForce_2 : decode cX5_inForce 2 = .ok (.iconst 0, 1) := dk_3 (dk_at dksX5_inForce_0 2 rfl rfl)
theorem dX5_inForce_3 : decode cX5_inForce 3 = .ok (.istore_n 2, 1) := dk_61 (dk_at dksX5_inForce_0 3 rfl rfl)
theorem dX5_inForce_4 : decode cX5_inForce 4 = .ok (.iload_n 2, 1) := dk_28 (dk_at dksX5_inForce_0 4 rfl rfl)
theorem dX5_inForce_5 : decode cX5_inForce 5 = .ok (.aload_n 0, 1) := dk_42 (dk_at dksX5_inForce_0 5 rfl rfl)
theorem dX5_inForce_6 : decode cX5_inForce 6 = .ok (.getfield 25, 3) := dk_180 0 25 (dk_at dksX5_inForce_0 6 rfl rfl)
theorem dX5_inForce_9 : decode cX5_inForce 9 = .ok (.iconst 1, 1) := dk_4 (dk_at dksX5_inForce_0 9 rfl rfl)
theorem dX5_inForce_10 : decode cX5_inForce 10 = .ok (.iaload, 1) := dk_46 (dk_at dksX5_inForce_0 10 rfl rfl)
theorem dX5_inForce_11 : decode cX5_inForce 11 = .ok (.if_icmp .ge 25, 3) := dk_162 0 25 (dk_at dksX5_inForce_0 11 rfl rfl)
theorem dX5_inForce_14 : decode cX5_inForce 14 = .ok (.iload_n 1, 1) := dk_27 (dk_at dksX5_inForce_0 14 rfl rfl)
theorem dX5_inForce_15 : decode cX5_inForce 15 = .ok (.aload_n 0, 1) := dk_42 (dk_at dksX5_inForce_0 15 rfl rfl)
theorem dX5_inForce_16 : decode cX5_inForce 16 = .ok (.iload_n 2, 1) := dk_28 (dk_at dksX5_inForce_0 16 rfl rfl)
theorem dX5_inForce_17 : decode cX5_inForce 17 = .ok (.invokevirtual 109, 3) := dk_182 0 109 (dk_at dksX5_inForce_0 17 rfl rfl)
theorem dX5_inForce_20 : decode cX5_inForce 20 = .ok (.ifCond .eq 7, 3) := dk_153 0 7 (dk_at dksX5_inForce_0 20 rfl rfl)
theorem dX5_inForce_23 : decode cX5_inForce 23 = .ok (.iconst 1, 1) := dk_4 (dk_at dksX5_inForce_0 23 rfl rfl)
theorem dX5_inForce_24 : decode cX5_inForce 24 = .ok (.goto 4, 3) := dk_167 0 4 (dk_at dksX5_inForce_1 0 rfl rfl)
theorem dX5_inForce_27 : decode cX5_inForce 27 = .ok (.iconst 0, 1) := dk_3 (dk_at dksX5_inForce_1 3 rfl rfl)
theorem dX5_inForce_28 : decode cX5_inForce 28 = .ok (.iadd, 1) := dk_96 (dk_at dksX5_inForce_1 4 rfl rfl)
theorem dX5_inForce_29 : decode cX5_inForce 29 = .ok (.istore_n 1, 1) := dk_60 (dk_at dksX5_inForce_1 5 rfl rfl)
theorem dX5_inForce_30 : decode cX5_inForce 30 = .ok (.iinc 2 1, 3) := dk_132 2 1 (dk_at dksX5_inForce_1 6 rfl rfl)
theorem dX5_inForce_33 : decode cX5_inForce 33 = .ok (.goto (-29), 3) := dk_167 255 227 (dk_at dksX5_inForce_1 9 rfl rfl)
theorem dX5_inForce_36 : decode cX5_inForce 36 = .ok (.iload_n 1, 1) := dk_27 (dk_at dksX5_inForce_1 12 rfl rfl)
theorem dX5_inForce_37 : decode cX5_inForce 37 = .ok (.ireturn, 1) := dk_172 (dk_at dksX5_inForce_1 13 rfl rfl)
def dkwX5_allWraps_1 : List UInt8 := [28, 4, 182, 0, 96, 184, 0, 183, 167, 0, 4, 3, 96, 60, 132, 2, 1, 167, 255, 219, 27, 172]
abbrev dktX5_allWraps_1 : List UInt8 := dkwX5_allWraps_1 ++ []
def dkwX5_allWraps_0 : List UInt8 := [3, 60, 3, 61, 28, 42, 180, 0, 25, 5, 46, 162, 0, 33, 27, 42, 28, 182, 0, 137, 153, 0, 15, 42]
abbrev dktX5_allWraps_0 : List UInt8 := dkwX5_allWraps_0 ++ dktX5_allWraps_1
theorem dksX5_allWraps_0 : cX5_allWraps.data.toList.drop 0 = dktX5_allWraps_0 := by decide +kernel
theorem dksX5_allWraps_1 : cX5_allWraps.data.toList.drop 24 = dktX5_allWraps_1 := dk_seg dksX5_allWraps_0 24 rfl rfl
theorem dX5_allWraps_0 : decode cX5_allWraps 0 = .ok (.iconst 0, 1) := dk_3 (dk_at dksX5_allWraps_0 0 rfl rfl)
theorem dX5_allWraps_1 : decode cX5_allWraps 1 = .ok (.istore_n 1, 1) := dk_60 (dk_at dksX5_allWraps_0 1 rfl rfl)
theorem dX5_allWraps_2 : decode cX5_allWraps 2 = .ok (.iconst 0, 1) := dk_3 (dk_at dksX5_allWraps_0 2 rfl rfl)
theorem dX5_allWraps_3 : decode cX5_allWraps 3 = .ok (.istore_n 2, 1) := dk_61 (dk_at dksX5_allWraps_0 3 rfl rfl)
theorem dX5_allWraps_4 : decode cX5_allWraps 4 = .ok (.iload_n 2, 1) := dk_28 (dk_at dksX5_allWraps_0 4 rfl rfl)
theorem dX5_allWraps_5 : decode cX5_allWraps 5 = .ok (.aload_n 0, 1) := dk_42 (dk_at dksX5_allWraps_0 5 rfl rfl)
theorem dX5_allWraps_6 : decode cX5_allWraps 6 = .ok (.getfield 25, 3) := dk_180 0 25 (dk_at dksX5_allWraps_0 6 rfl rfl)
theorem dX5_allWraps_9 : decode cX5_allWraps 9 = .ok (.iconst 2, 1) := dk_5 (dk_at dksX5_allWraps_0 9 rfl rfl)
theorem dX5_allWraps_10 : decode cX5_allWraps 10 = .ok (.iaload, 1) := dk_46 (dk_at dksX5_allWraps_0 10 rfl rfl)
theorem dX5_allWraps_11 : decode cX5_allWraps 11 = .ok (.if_icmp .ge 33, 3) := dk_162 0 33 (dk_at dksX5_allWraps_0 11 rfl rfl)
theorem dX5_allWraps_14 : decode cX5_allWraps 14 = .ok (.iload_n 1, 1) := dk_27 (dk_at dksX5_allWraps_0 14 rfl rfl)
theorem dX5_allWraps_15 : decode cX5_allWraps 15 = .ok (.aload_n 0, 1) := dk_42 (dk_at dksX5_allWraps_0 15 rfl rfl)
theorem dX5_allWraps_16 : decode cX5_allWraps 16 = .ok (.iload_n 2, 1) := dk_28 (dk_at dksX5_allWraps_0 16 rfl rfl)
theorem dX5_allWraps_17 : decode cX5_allWraps 17 = .ok (.invokevirtual 137, 3) := dk_182 0 137 (dk_at dksX5_allWraps_0 17 rfl rfl)
theorem dX5_allWraps_20 : decode cX5_allWraps 20 = .ok (.ifCond .eq 15, 3) := dk_153 0 15 (dk_at dksX5_allWraps_0 20 rfl rfl)
theorem dX5_allWraps_23 : decode cX5_allWraps 23 = .ok (.aload_n 0, 1) := dk_42 (dk_at dksX5_allWraps_0 23 rfl rfl)
theorem dX5_allWraps_24 : decode cX5_allWraps 24 = .ok (.iload_n 2, 1) := dk_28 (dk_at dksX5_allWraps_1 0 rfl rfl)
theorem dX5_allWraps_25 : decode cX5_allWraps 25 = .ok (.iconst 1, 1) := dk_4 (dk_at dksX5_allWraps_1 1 rfl rfl)
theorem dX5_allWraps_26 : decode cX5_allWraps 26 = .ok (.invokevirtual 96, 3) := dk_182 0 96 (dk_at dksX5_allWraps_1 2 rfl rfl)
theorem dX5_allWraps_29 : decode cX5_allWraps 29 = .ok (.invokestatic 183, 3) := dk_184 0 183 (dk_at dksX5_allWraps_1 5 rfl rfl)
theorem dX5_allWraps_32 : decode cX5_allWraps 32 = .ok (.goto 4, 3) := dk_167 0 4 (dk_at dksX5_allWraps_1 8 rfl rfl)
theorem dX5_allWraps_35 : decode cX5_allWraps 35 = .ok (.iconst 0, 1) := dk_3 (dk_at dksX5_allWraps_1 11 rfl rfl)
theorem dX5_allWraps_36 : decode cX5_allWraps 36 = .ok (.iadd, 1) := dk_96 (dk_at dksX5_allWraps_1 12 rfl rfl)
theorem dX5_allWraps_37 : decode cX5_allWraps 37 = .ok (.istore_n 1, 1) := dk_60 (dk_at dksX5_allWraps_1 13 rfl rfl)
theorem dX5_allWraps_38 : decode cX5_allWraps 38 = .ok (.iinc 2 1, 3) := dk_132 2 1 (dk_at dksX5_allWraps_1 14 rfl rfl)
theorem dX5_allWraps_41 : decode cX5_allWraps 41 = .ok (.goto (-37), 3) := dk_167 255 219 (dk_at dksX5_allWraps_1 17 rfl rfl)
theorem dX5_allWraps_44 : decode cX5_allWraps 44 = .ok (.iload_n 1, 1) := dk_27 (dk_at dksX5_allWraps_1 20 rfl rfl)
theorem dX5_allWraps_45 : decode cX5_allWraps 45 = .ok (.ireturn, 1) := dk_172 (dk_at dksX5_allWraps_1 21 rfl rfl)
def dkwX5_isRecord_0 : List UInt8 := [42, 27, 182, 0, 92, 153, 0, 16, 42, 27, 6, 182, 0, 96, 154, 0, 7, 4, 167, 0, 4, 3, 172]
abbrev dktX5_isRecord_0 : List UInt8 := dkwX5_isRecord_0 ++ []
theorem dksX5_isRecord_0 : cX5_isRecord.data.toList.drop 0 = dktX5_isRecord_0 := by decide +kernel
theorem dX5_isRecord_0 : decode cX5_isRecord 0 = .ok (.aload_n 0, 1) := dk_42 (dk_at dksX5_isRecord_0 0 rfl rfl)
theorem dX5_isRecord_1 : decode cX5_isRecord 1 = .ok (.iload_n 1, 1) := dk_27 (dk_at dksX5_isRecord_0 1 rfl rfl)
theorem dX5_isRecord_2 : decode cX5_isRecord 2 = .ok (.invokevirtual 92, 3) := dk_182 0 92 (dk_at dksX5_isRecord_0 2 rfl rfl)
theorem dX5_isRecord_5 : decode cX5_isRecord 5 = .ok (.ifCond .eq 16, 3) := dk_153 0 16 (dk_at dksX5_isRecord_0 5 rfl rfl)
theorem dX5_isRecord_8 : decode cX5_isRecord 8 = .ok (.aload_n 0, 1) := dk_42 (dk_at dksX5_isRecord_0 8 rfl rfl)
theorem dX5_isRecord_9 : decode cX5_isRecord 9 = .ok (.iload_n 1, 1) := dk_27 (dk_at dksX5_isRecord_0 9 rfl rfl)
theorem dX5_isRecord_10 : decode cX5_isRecord 10 = .ok (.iconst 3, 1) := dk_6 (dk_at dksX5_isRecord_0 10 rfl rfl)
theorem dX5_isRecord_11 : decode cX5_isRecord 11 = .ok (.invokevirtual 96, 3) := dk_182 0 96 (dk_at dksX5_isRecord_0 11 rfl rfl)
theorem dX5_isRecord_14 : decode cX5_isRecord 14 = .ok (.ifCond .ne 7, 3) := dk_154 0 7 (dk_at dksX5_isRecord_0 14 rfl rfl)
theorem dX5_isRecord_17 : decode cX5_isRecord 17 = .ok (.iconst 1, 1) := dk_4 (dk_at dksX5_isRecord_0 17 rfl rfl)
theorem dX5_isRecord_18 : decode cX5_isRecord 18 = .ok (.goto 4, 3) := dk_167 0 4 (dk_at dksX5_isRecord_0 18 rfl rfl)
theorem dX5_isRecord_21 : decode cX5_isRecord 21 = .ok (.iconst 0, 1) := dk_3 (dk_at dksX5_isRecord_0 21 rfl rfl)
theorem dX5_isRecord_22 : decode cX5_isRecord 22 = .ok (.ireturn, 1) := dk_172 (dk_at dksX5_isRecord_0 22 rfl rfl)
def dkwX5_isMade_0 : List UInt8 := [27, 3, 42, 180, 0, 25, 5, 46, 4, 100, 184, 0, 88, 172]
abbrev dktX5_isMade_0 : List UInt8 := dkwX5_isMade_0 ++ []
theorem dksX5_isMade_0 : cX5_isMade.data.toList.drop 0 = dktX5_isMade_0 := by decide +kernel
theorem dX5_isMade_0 : decode cX5_isMade 0 = .ok (.iload_n 1, 1) := dk_27 (dk_at dksX5_isMade_0 0 rfl rfl)
theorem dX5_isMade_1 : decode cX5_isMade 1 = .ok (.iconst 0, 1) := dk_3 (dk_at dksX5_isMade_0 1 rfl rfl)
theorem dX5_isMade_2 : decode cX5_isMade 2 = .ok (.aload_n 0, 1) := dk_42 (dk_at dksX5_isMade_0 2 rfl rfl)
theorem dX5_isMade_3 : decode cX5_isMade 3 = .ok (.getfield 25, 3) := dk_180 0 25 (dk_at dksX5_isMade_0 3 rfl rfl)
theorem dX5_isMade_6 : decode cX5_isMade 6 = .ok (.iconst 2, 1) := dk_5 (dk_at dksX5_isMade_0 6 rfl rfl)
theorem dX5_isMade_7 : decode cX5_isMade 7 = .ok (.iaload, 1) := dk_46 (dk_at dksX5_isMade_0 7 rfl rfl)
theorem dX5_isMade_8 : decode cX5_isMade 8 = .ok (.iconst 1, 1) := dk_4 (dk_at dksX5_isMade_0 8 rfl rfl)
theorem dX5_isMade_9 : decode cX5_isMade 9 = .ok (.isub, 1) := dk_100 (dk_at dksX5_isMade_0 9 rfl rfl)
theorem dX5_isMade_10 : decode cX5_isMade 10 = .ok (.invokestatic 88, 3) := dk_184 0 88 (dk_at dksX5_isMade_0 10 rfl rfl)
theorem dX5_isMade_13 : decode cX5_isMade 13 = .ok (.ireturn, 1) := dk_172 (dk_at dksX5_isMade_0 13 rfl rfl)
def dkwX5_raise_0 : List UInt8 := [42, 27, 181, 0, 71, 3, 172]
abbrev dktX5_raise_0 : List UInt8 := dkwX5_raise_0 ++ []
theorem dksX5_raise_0 : cX5_raise.data.toList.drop 0 = dktX5_raise_0 := by decide +kernel
theorem dX5_raise_0 : decode cX5_raise 0 = .ok (.aload_n 0, 1) := dk_42 (dk_at dksX5_raise_0 0 rfl rfl)
theorem dX5_raise_1 : decode cX5_raise 1 = .ok (.iload_n 1, 1) := dk_27 (dk_at dksX5_raise_0 1 rfl rfl)
theorem dX5_raise_2 : decode cX5_raise 2 = .ok (.putfield 71, 3) := dk_181 0 71 (dk_at dksX5_raise_0 2 rfl rfl)
theorem dX5_raise_5 : decode cX5_raise 5 = .ok (.iconst 0, 1) := dk_3 (dk_at dksX5_raise_0 5 rfl rfl)
theorem dX5_raise_6 : decode cX5_raise 6 = .ok (.ireturn, 1) := dk_172 (dk_at dksX5_raise_0 6 rfl rfl)
def dkwX5_version_2 : List UInt8 := [27, 182, 0, 117, 167, 0, 8, 42, 27, 182, 0, 203, 172]
abbrev dktX5_version_2 : List UInt8 := dkwX5_version_2 ++ []
def dkwX5_version_1 : List UInt8 := [182, 0, 197, 172, 28, 6, 162, 0, 12, 42, 27, 28, 182, 0, 99, 167, 0, 21, 28, 6, 160, 0, 11, 42]
abbrev dktX5_version_1 : List UInt8 := dkwX5_version_1 ++ dktX5_version_2
def dkwX5_version_0 : List UInt8 := [42, 3, 181, 0, 71, 42, 27, 182, 0, 200, 153, 0, 12, 28, 3, 7, 184, 0, 88, 154, 0, 9, 42, 4]
abbrev dktX5_version_0 : List UInt8 := dkwX5_version_0 ++ dktX5_version_1
theorem dksX5_version_0 : cX5_version.data.toList.drop 0 = dktX5_version_0 := by decide +kernel
theorem dksX5_version_1 : cX5_version.data.toList.drop 24 = dktX5_version_1 := dk_seg dksX5_version_0 24 rfl rfl
theorem dksX5_version_2 : cX5_version.data.toList.drop 48 = dktX5_version_2 := dk_seg dksX5_version_1 24 rfl rfl
theorem dX5_version_0 : decode cX5_version 0 = .ok (.aload_n 0, 1) := dk_42 (dk_at dksX5_version_0 0 rfl rfl)
theorem dX5_version_1 : decode cX5_version 1 = .ok (.iconst 0, 1) := dk_3 (dk_at dksX5_version_0 1 rfl rfl)
theorem dX5_version_2 : decode cX5_version 2 = .ok (.putfield 71, 3) := dk_181 0 71 (dk_at dksX5_version_0 2 rfl rfl)
theorem dX5_version_5 : decode cX5_version 5 = .ok (.aload_n 0, 1) := dk_42 (dk_at dksX5_version_0 5 rfl rfl)
theorem dX5_version_6 : decode cX5_version 6 = .ok (.iload_n 1, 1) := dk_27 (dk_at dksX5_version_0 6 rfl rfl)
theorem dX5_version_7 : decode cX5_version 7 = .ok (.invokevirtual 200, 3) := dk_182 0 200 (dk_at dksX5_version_0 7 rfl rfl)
theorem dX5_version_10 : decode cX5_version 10 = .ok (.ifCond .eq 12, 3) := dk_153 0 12 (dk_at dksX5_version_0 10 rfl rfl)
theorem dX5_version_13 : decode cX5_version 13 = .ok (.iload_n 2, 1) := dk_28 (dk_at dksX5_version_0 13 rfl rfl)
theorem dX5_version_14 : decode cX5_version 14 = .ok (.iconst 0, 1) := dk_3 (dk_at dksX5_version_0 14 rfl rfl)
theorem dX5_version_15 : decode cX5_version 15 = .ok (.iconst 4, 1) := dk_7 (dk_at dksX5_version_0 15 rfl rfl)
theorem dX5_version_16 : decode cX5_version 16 = .ok (.invokestatic 88, 3) := dk_184 0 88 (dk_at dksX5_version_0 16 rfl rfl)
theorem dX5_version_19 : decode cX5_version 19 = .ok (.ifCond .ne 9, 3) := dk_154 0 9 (dk_at dksX5_version_0 19 rfl rfl)
theorem dX5_version_22 : decode cX5_version 22 = .ok (.aload_n 0, 1) := dk_42 (dk_at dksX5_version_0 22 rfl rfl)
theorem dX5_version_23 : decode cX5_version 23 = .ok (.iconst 1, 1) := dk_4 (dk_at dksX5_version_0 23 rfl rfl)
theorem dX5_version_24 : decode cX5_version 24 = .ok (.invokevirtual 197, 3) := dk_182 0 197 (dk_at dksX5_version_1 0 rfl rfl)
theorem dX5_version_27 : decode cX5_version 27 = .ok (.ireturn, 1) := dk_172 (dk_at dksX5_version_1 3 rfl rfl)
theorem dX5_version_28 : decode cX5_version 28 = .ok (.iload_n 2, 1) := dk_28 (dk_at dksX5_version_1 4 rfl rfl)
theorem dX5_version_29 : decode cX5_version 29 = .ok (.iconst 3, 1) := dk_6 (dk_at dksX5_version_1 5 rfl rfl)
theorem dX5_version_30 : decode cX5_version 30 = .ok (.if_icmp .ge 12, 3) := dk_162 0 12 (dk_at dksX5_version_1 6 rfl rfl)
theorem dX5_version_33 : decode cX5_version 33 = .ok (.aload_n 0, 1) := dk_42 (dk_at dksX5_version_1 9 rfl rfl)
theorem dX5_version_34 : decode cX5_version 34 = .ok (.iload_n 1, 1) := dk_27 (dk_at dksX5_version_1 10 rfl rfl)
theorem dX5_version_35 : decode cX5_version 35 = .ok (.iload_n 2, 1) := dk_28 (dk_at dksX5_version_1 11 rfl rfl)
theorem dX5_version_36 : decode cX5_version 36 = .ok (.invokevirtual 99, 3) := dk_182 0 99 (dk_at dksX5_version_1 12 rfl rfl)
theorem dX5_version_39 : decode cX5_version 39 = .ok (.goto 21, 3) := dk_167 0 21 (dk_at dksX5_version_1 15 rfl rfl)
theorem dX5_version_42 : decode cX5_version 42 = .ok (.iload_n 2, 1) := dk_28 (dk_at dksX5_version_1 18 rfl rfl)
theorem dX5_version_43 : decode cX5_version 43 = .ok (.iconst 3, 1) := dk_6 (dk_at dksX5_version_1 19 rfl rfl)
theorem dX5_version_44 : decode cX5_version 44 = .ok (.if_icmp .ne 11, 3) := dk_160 0 11 (dk_at dksX5_version_1 20 rfl rfl)
theorem dX5_version_47 : decode cX5_version 47 = .ok (.aload_n 0, 1) := dk_42 (dk_at dksX5_version_1 23 rfl rfl)
theorem dX5_version_48 : decode cX5_version 48 = .ok (.iload_n 1, 1) := dk_27 (dk_at dksX5_version_2 0 rfl rfl)
theorem dX5_version_49 : decode cX5_version 49 = .ok (.invokevirtual 117, 3) := dk_182 0 117 (dk_at dksX5_version_2 1 rfl rfl)
theorem dX5_version_52 : decode cX5_version 52 = .ok (.goto 8, 3) := dk_167 0 8 (dk_at dksX5_version_2 4 rfl rfl)
theorem dX5_version_55 : decode cX5_version 55 = .ok (.aload_n 0, 1) := dk_42 (dk_at dksX5_version_2 7 rfl rfl)
theorem dX5_version_56 : decode cX5_version 56 = .ok (.iload_n 1, 1) := dk_27 (dk_at dksX5_version_2 8 rfl rfl)
theorem dX5_version_57 : decode cX5_version 57 = .ok (.invokevirtual 203, 3) := dk_182 0 203 (dk_at dksX5_version_2 9 rfl rfl)
theorem dX5_version_60 : decode cX5_version 60 = .ok (.ireturn, 1) := dk_172 (dk_at dksX5_version_2 12 rfl rfl)
def dkwX5_isVersion_0 : List UInt8 := [27, 3, 42, 180, 0, 25, 4, 46, 4, 100, 184, 0, 88, 172]
abbrev dktX5_isVersion_0 : List UInt8 := dkwX5_isVersion_0 ++ []
theorem dksX5_isVersion_0 : cX5_isVersion.data.toList.drop 0 = dktX5_isVersion_0 := by decide +kernel
theorem dX5_isVersion_0 : decode cX5_isVersion 0 = .ok (.iload_n 1, 1) := dk_27 (dk_at dksX5_isVersion_0 0 rfl rfl)
theorem dX5_isVersion_1 : decode cX5_isVersion 1 = .ok (.iconst 0, 1) := dk_3 (dk_at dksX5_isVersion_0 1 rfl rfl)
theorem dX5_isVersion_2 : decode cX5_isVersion 2 = .ok (.aload_n 0, 1) := dk_42 (dk_at dksX5_isVersion_0 2 rfl rfl)
theorem dX5_isVersion_3 : decode cX5_isVersion 3 = .ok (.getfield 25, 3) := dk_180 0 25 (dk_at dksX5_isVersion_0 3 rfl rfl)
theorem dX5_isVersion_6 : decode cX5_isVersion 6 = .ok (.iconst 1, 1) := dk_4 (dk_at dksX5_isVersion_0 6 rfl rfl)
theorem dX5_isVersion_7 : decode cX5_isVersion 7 = .ok (.iaload, 1) := dk_46 (dk_at dksX5_isVersion_0 7 rfl rfl)
theorem dX5_isVersion_8 : decode cX5_isVersion 8 = .ok (.iconst 1, 1) := dk_4 (dk_at dksX5_isVersion_0 8 rfl rfl)
theorem dX5_isVersion_9 : decode cX5_isVersion 9 = .ok (.isub, 1) := dk_100 (dk_at dksX5_isVersion_0 9 rfl rfl)
theorem dX5_isVersion_10 : decode cX5_isVersion 10 = .ok (.invokestatic 88, 3) := dk_184 0 88 (dk_at dksX5_isVersion_0 10 rfl rfl)
theorem dX5_isVersion_13 : decode cX5_isVersion 13 = .ok (.ireturn, 1) := dk_172 (dk_at dksX5_isVersion_0 13 rfl rfl)
def dkwX5_stateOf_1 : List UInt8 := [167, 0, 21, 42, 182, 0, 105, 42, 27, 3, 182, 0, 99, 162, 0, 7, 3, 167, 0, 4, 4, 172]
abbrev dktX5_stateOf_1 : List UInt8 := dkwX5_stateOf_1 ++ []
def dkwX5_stateOf_0 : List UInt8 := [42, 27, 182, 0, 102, 153, 0, 5, 6, 172, 42, 182, 0, 105, 42, 27, 4, 182, 0, 99, 164, 0, 7, 5]
abbrev dktX5_stateOf_0 : List UInt8 := dkwX5_stateOf_0 ++ dktX5_stateOf_1
theorem dksX5_stateOf_0 : cX5_stateOf.data.toList.drop 0 = dktX5_stateOf_0 := by decide +kernel
theorem dksX5_stateOf_1 : cX5_stateOf.data.toList.drop 24 = dktX5_stateOf_1 := dk_seg dksX5_stateOf_0 24 rfl rfl
theorem dX5_stateOf_0 : decode cX5_stateOf 0 = .ok (.aload_n 0, 1) := dk_42 (dk_at dksX5_stateOf_0 0 rfl rfl)
theorem dX5_stateOf_1 : decode cX5_stateOf 1 = .ok (.iload_n 1, 1) := dk_27 (dk_at dksX5_stateOf_0 1 rfl rfl)
theorem dX5_stateOf_2 : decode cX5_stateOf 2 = .ok (.invokevirtual 102, 3) := dk_182 0 102 (dk_at dksX5_stateOf_0 2 rfl rfl)
theorem dX5_stateOf_5 : decode cX5_stateOf 5 = .ok (.ifCond .eq 5, 3) := dk_153 0 5 (dk_at dksX5_stateOf_0 5 rfl rfl)
theorem dX5_stateOf_8 : decode cX5_stateOf 8 = .ok (.iconst 3, 1) := dk_6 (dk_at dksX5_stateOf_0 8 rfl rfl)
theorem dX5_stateOf_9 : decode cX5_stateOf 9 = .ok (.ireturn, 1) := dk_172 (dk_at dksX5_stateOf_0 9 rfl rfl)
theorem dX5_stateOf_10 : decode cX5_stateOf 10 = .ok (.aload_n 0, 1) := dk_42 (dk_at dksX5_stateOf_0 10 rfl rfl)
theorem dX5_stateOf_11 : decode cX5_stateOf 11 = .ok (.invokevirtual 105, 3) := dk_182 0 105 (dk_at dksX5_stateOf_0 11 rfl rfl)
theorem dX5_stateOf_14 : decode cX5_stateOf 14 = .ok (.aload_n 0, 1) := dk_42 (dk_at dksX5_stateOf_0 14 rfl rfl)
theorem dX5_stateOf_15 : decode cX5_stateOf 15 = .ok (.iload_n 1, 1) := dk_27 (dk_at dksX5_stateOf_0 15 rfl rfl)
theorem dX5_stateOf_16 : decode cX5_stateOf 16 = .ok (.iconst 1, 1) := dk_4 (dk_at dksX5_stateOf_0 16 rfl rfl)
theorem dX5_stateOf_17 : decode cX5_stateOf 17 = .ok (.invokevirtual 99, 3) := dk_182 0 99 (dk_at dksX5_stateOf_0 17 rfl rfl)
theorem dX5_stateOf_20 : decode cX5_stateOf 20 = .ok (.if_icmp .le 7, 3) := dk_164 0 7 (dk_at dksX5_stateOf_0 20 rfl rfl)
theorem dX5_stateOf_23 : decode cX5_stateOf 23 = .ok (.iconst 2, 1) := dk_5 (dk_at dksX5_stateOf_0 23 rfl rfl)
theorem dX5_stateOf_24 : decode cX5_stateOf 24 = .ok (.goto 21, 3) := dk_167 0 21 (dk_at dksX5_stateOf_1 0 rfl rfl)
theorem dX5_stateOf_27 : decode cX5_stateOf 27 = .ok (.aload_n 0, 1) := dk_42 (dk_at dksX5_stateOf_1 3 rfl rfl)
theorem dX5_stateOf_28 : decode cX5_stateOf 28 = .ok (.invokevirtual 105, 3) := dk_182 0 105 (dk_at dksX5_stateOf_1 4 rfl rfl)
theorem dX5_stateOf_31 : decode cX5_stateOf 31 = .ok (.aload_n 0, 1) := dk_42 (dk_at dksX5_stateOf_1 7 rfl rfl)
theorem dX5_stateOf_32 : decode cX5_stateOf 32 = .ok (.iload_n 1, 1) := dk_27 (dk_at dksX5_stateOf_1 8 rfl rfl)
theorem dX5_stateOf_33 : decode cX5_stateOf 33 = .ok (.iconst 0, 1) := dk_3 (dk_at dksX5_stateOf_1 9 rfl rfl)
theorem dX5_stateOf_34 : decode cX5_stateOf 34 = .ok (.invokevirtual 99, 3) := dk_182 0 99 (dk_at dksX5_stateOf_1 10 rfl rfl)
theorem dX5_stateOf_37 : decode cX5_stateOf 37 = .ok (.if_icmp .ge 7, 3) := dk_162 0 7 (dk_at dksX5_stateOf_1 13 rfl rfl)
theorem dX5_stateOf_40 : decode cX5_stateOf 40 = .ok (.iconst 0, 1) := dk_3 (dk_at dksX5_stateOf_1 16 rfl rfl)
theorem dX5_stateOf_41 : decode cX5_stateOf 41 = .ok (.goto 4, 3) := dk_167 0 4 (dk_at dksX5_stateOf_1 17 rfl rfl)
theorem dX5_stateOf_44 : decode cX5_stateOf 44 = .ok (.iconst 1, 1) := dk_4 (dk_at dksX5_stateOf_1 20 rfl rfl)
theorem dX5_stateOf_45 : decode cX5_stateOf 45 = .ok (.ireturn, 1) := dk_172 (dk_at dksX5_stateOf_1 21 rfl rfl)
def dkwX5_wrappedBy_2 : List UInt8 := [167, 255, 214, 28, 172]
abbrev dktX5_wrappedBy_2 : List UInt8 := dkwX5_wrappedBy_2 ++ []
def dkwX5_wrappedBy_1 : List UInt8 := [29, 4, 182, 0, 96, 27, 184, 0, 130, 153, 0, 7, 4, 167, 0, 4, 3, 96, 61, 132, 3, 1]
abbrev dktX5_wrappedBy_1 : List UInt8 := dkwX5_wrappedBy_1 ++ dktX5_wrappedBy_2
def dkwX5_wrappedBy_0 : List UInt8 := [3, 61, 3, 62, 29, 42, 180, 0, 25, 5, 46, 162, 0, 38, 28, 42, 29, 182, 0, 137, 153, 0, 20, 42]
abbrev dktX5_wrappedBy_0 : List UInt8 := dkwX5_wrappedBy_0 ++ dktX5_wrappedBy_1
theorem dksX5_wrappedBy_0 : cX5_wrappedBy.data.toList.drop 0 = dktX5_wrappedBy_0 := by decide +kernel
theorem dksX5_wrappedBy_1 : cX5_wrappedBy.data.toList.drop 24 = dktX5_wrappedBy_1 := dk_seg dksX5_wrappedBy_0 24 rfl rfl
theorem dksX5_wrappedBy_2 : cX5_wrappedBy.data.toList.drop 46 = dktX5_wrappedBy_2 := dk_seg dksX5_wrappedBy_1 22 rfl rfl
theorem dX5_wrappedBy_0 : decode cX5_wrappedBy 0 = .ok (.iconst 0, 1) := dk_3 (dk_at dksX5_wrappedBy_0 0 rfl rfl)
theorem dX5_wrappedBy_1 : decode cX5_wrappedBy 1 = .ok (.istore_n 2, 1) := dk_61 (dk_at dksX5_wrappedBy_0 1 rfl rfl)
theorem dX5_wrappedBy_2 : decode cX5_wrappedBy 2 = .ok (.iconst 0, 1) := dk_3 (dk_at dksX5_wrappedBy_0 2 rfl rfl)
theorem dX5_wrappedBy_3 : decode cX5_wrappedBy 3 = .ok (.istore_n 3, 1) := dk_62 (dk_at dksX5_wrappedBy_0 3 rfl rfl)
theorem dX5_wrappedBy_4 : decode cX5_wrappedBy 4 = .ok (.iload_n 3, 1) := dk_29 (dk_at dksX5_wrappedBy_0 4 rfl rfl)
theorem dX5_wrappedBy_5 : decode cX5_wrappedBy 5 = .ok (.aload_n 0, 1) := dk_42 (dk_at dksX5_wrappedBy_0 5 rfl rfl)
theorem dX5_wrappedBy_6 : decode cX5_wrappedBy 6 = .ok (.getfield 25, 3) := dk_180 0 25 (dk_at dksX5_wrappedBy_0 6 rfl rfl)
theorem dX5_wrappedBy_9 : decode cX5_wrappedBy 9 = .ok (.iconst 2, 1) := dk_5 (dk_at dksX5_wrappedBy_0 9 rfl rfl)
theorem dX5_wrappedBy_10 : decode cX5_wrappedBy 10 = .ok (.iaload, 1) := dk_46 (dk_at dksX5_wrappedBy_0 10 rfl rfl)
theorem dX5_wrappedBy_11 : decode cX5_wrappedBy 11 = .ok (.if_icmp .ge 38, 3) := dk_162 0 38 (dk_at dksX5_wrappedBy_0 11 rfl rfl)
theorem dX5_wrappedBy_14 : decode cX5_wrappedBy 14 = .ok (.iload_n 2, 1) := dk_28 (dk_at dksX5_wrappedBy_0 14 rfl rfl)
theorem dX5_wrappedBy_15 : decode cX5_wrappedBy 15 = .ok (.aload_n 0, 1) := dk_42 (dk_at dksX5_wrappedBy_0 15 rfl rfl)
theorem dX5_wrappedBy_16 : decode cX5_wrappedBy 16 = .ok (.iload_n 3, 1) := dk_29 (dk_at dksX5_wrappedBy_0 16 rfl rfl)
theorem dX5_wrappedBy_17 : decode cX5_wrappedBy 17 = .ok (.invokevirtual 137, 3) := dk_182 0 137 (dk_at dksX5_wrappedBy_0 17 rfl rfl)
theorem dX5_wrappedBy_20 : decode cX5_wrappedBy 20 = .ok (.ifCond .eq 20, 3) := dk_153 0 20 (dk_at dksX5_wrappedBy_0 20 rfl rfl)
theorem dX5_wrappedBy_23 : decode cX5_wrappedBy 23 = .ok (.aload_n 0, 1) := dk_42 (dk_at dksX5_wrappedBy_0 23 rfl rfl)
theorem dX5_wrappedBy_24 : decode cX5_wrappedBy 24 = .ok (.iload_n 3, 1) := dk_29 (dk_at dksX5_wrappedBy_1 0 rfl rfl)
theorem dX5_wrappedBy_25 : decode cX5_wrappedBy 25 = .ok (.iconst 1, 1) := dk_4 (dk_at dksX5_wrappedBy_1 1 rfl rfl)
theorem dX5_wrappedBy_26 : decode cX5_wrappedBy 26 = .ok (.invokevirtual 96, 3) := dk_182 0 96 (dk_at dksX5_wrappedBy_1 2 rfl rfl)
theorem dX5_wrappedBy_29 : decode cX5_wrappedBy 29 = .ok (.iload_n 1, 1) := dk_27 (dk_at dksX5_wrappedBy_1 5 rfl rfl)
theorem dX5_wrappedBy_30 : decode cX5_wrappedBy 30 = .ok (.invokestatic 130, 3) := dk_184 0 130 (dk_at dksX5_wrappedBy_1 6 rfl rfl)
theorem dX5_wrappedBy_33 : decode cX5_wrappedBy 33 = .ok (.ifCond .eq 7, 3) := dk_153 0 7 (dk_at dksX5_wrappedBy_1 9 rfl rfl)
theorem dX5_wrappedBy_36 : decode cX5_wrappedBy 36 = .ok (.iconst 1, 1) := dk_4 (dk_at dksX5_wrappedBy_1 12 rfl rfl)
theorem dX5_wrappedBy_37 : decode cX5_wrappedBy 37 = .ok (.goto 4, 3) := dk_167 0 4 (dk_at dksX5_wrappedBy_1 13 rfl rfl)
theorem dX5_wrappedBy_40 : decode cX5_wrappedBy 40 = .ok (.iconst 0, 1) := dk_3 (dk_at dksX5_wrappedBy_1 16 rfl rfl)
theorem dX5_wrappedBy_41 : decode cX5_wrappedBy 41 = .ok (.iadd, 1) := dk_96 (dk_at dksX5_wrappedBy_1 17 rfl rfl)
theorem dX5_wrappedBy_42 : decode cX5_wrappedBy 42 = .ok (.istore_n 2, 1) := dk_61 (dk_at dksX5_wrappedBy_1 18 rfl rfl)
theorem dX5_wrappedBy_43 : decode cX5_wrappedBy 43 = .ok (.iinc 3 1, 3) := dk_132 3 1 (dk_at dksX5_wrappedBy_1 19 rfl rfl)
theorem dX5_wrappedBy_46 : decode cX5_wrappedBy 46 = .ok (.goto (-42), 3) := dk_167 255 214 (dk_at dksX5_wrappedBy_2 0 rfl rfl)
theorem dX5_wrappedBy_49 : decode cX5_wrappedBy 49 = .ok (.iload_n 2, 1) := dk_28 (dk_at dksX5_wrappedBy_2 3 rfl rfl)
theorem dX5_wrappedBy_50 : decode cX5_wrappedBy 50 = .ok (.ireturn, 1) := dk_172 (dk_at dksX5_wrappedBy_2 4 rfl rfl)
def dkwX5_has_0 : List UInt8 := [26, 27, 122, 4, 126, 4, 160, 0, 7, 4, 167, 0, 4, 3, 172]
abbrev dktX5_has_0 : List UInt8 := dkwX5_has_0 ++ []
theorem dksX5_has_0 : cX5_has.data.toList.drop 0 = dktX5_has_0 := by decide +kernel
theorem dX5_has_0 : decode cX5_has 0 = .ok (.iload_n 0, 1) := dk_26 (dk_at dksX5_has_0 0 rfl rfl)
theorem dX5_has_1 : decode cX5_has 1 = .ok (.iload_n 1, 1) := dk_27 (dk_at dksX5_has_0 1 rfl rfl)
theorem dX5_has_2 : decode cX5_has 2 = .ok (.ishr, 1) := dk_122 (dk_at dksX5_has_0 2 rfl rfl)
theorem dX5_has_3 : decode cX5_has 3 = .ok (.iconst 1, 1) := dk_4 (dk_at dksX5_has_0 3 rfl rfl)
theorem dX5_has_4 : decode cX5_has 4 = .ok (.iand, 1) := dk_126 (dk_at dksX5_has_0 4 rfl rfl)
theorem dX5_has_5 : decode cX5_has 5 = .ok (.iconst 1, 1) := dk_4 (dk_at dksX5_has_0 5 rfl rfl)
theorem dX5_has_6 : decode cX5_has 6 = .ok (.if_icmp .ne 7, 3) := dk_160 0 7 (dk_at dksX5_has_0 6 rfl rfl)
theorem dX5_has_9 : decode cX5_has 9 = .ok (.iconst 1, 1) := dk_4 (dk_at dksX5_has_0 9 rfl rfl)
theorem dX5_has_10 : decode cX5_has 10 = .ok (.goto 4, 3) := dk_167 0 4 (dk_at dksX5_has_0 10 rfl rfl)
theorem dX5_has_13 : decode cX5_has 13 = .ok (.iconst 0, 1) := dk_3 (dk_at dksX5_has_0 13 rfl rfl)
theorem dX5_has_14 : decode cX5_has 14 = .ok (.ireturn, 1) := dk_172 (dk_at dksX5_has_0 14 rfl rfl)
def dkwX5_record_4 : List UInt8 := [172]
abbrev dktX5_record_4 : List UInt8 := dkwX5_record_4 ++ []
def dkwX5_record_3 : List UInt8 := [42, 27, 182, 0, 144, 172, 42, 27, 5, 182, 0, 96, 172, 42, 27, 182, 0, 181, 172, 42, 4, 182, 0, 197]
abbrev dktX5_record_3 : List UInt8 := dkwX5_record_3 ++ dktX5_record_4
def dkwX5_record_2 : List UInt8 := [42, 27, 3, 182, 0, 96, 172, 42, 27, 4, 182, 0, 96, 184, 0, 183, 172, 42, 27, 4, 182, 0, 96, 172]
abbrev dktX5_record_2 : List UInt8 := dkwX5_record_2 ++ dktX5_record_3
def dkwX5_record_1 : List UInt8 := [170, 0, 0, 0, 0, 0, 0, 83, 0, 0, 0, 0, 0, 0, 0, 5, 0, 0, 0, 40, 0, 0, 0, 47, 0, 0, 0, 57, 0, 0, 0, 64, 0, 0, 0, 70, 0, 0, 0, 77]
abbrev dktX5_record_1 : List UInt8 := dkwX5_record_1 ++ dktX5_record_2
def dkwX5_record_0 : List UInt8 := [42, 3, 181, 0, 71, 42, 27, 182, 0, 137, 154, 0, 9, 42, 4, 182, 0, 197, 172, 28]
abbrev dktX5_record_0 : List UInt8 := dkwX5_record_0 ++ dktX5_record_1
theorem dksX5_record_0 : cX5_record.data.toList.drop 0 = dktX5_record_0 := by decide +kernel
theorem dksX5_record_1 : cX5_record.data.toList.drop 20 = dktX5_record_1 := dk_seg dksX5_record_0 20 rfl rfl
theorem dksX5_record_2 : cX5_record.data.toList.drop 60 = dktX5_record_2 := dk_seg dksX5_record_1 40 rfl rfl
theorem dksX5_record_3 : cX5_record.data.toList.drop 84 = dktX5_record_3 := dk_seg dksX5_record_2 24 rfl rfl
theorem dksX5_record_4 : cX5_record.data.toList.drop 108 = dktX5_record_4 := dk_seg dksX5_record_3 24 rfl rfl
theorem dX5_record_0 : decode cX5_record 0 = .ok (.aload_n 0, 1) := dk_42 (dk_at dksX5_record_0 0 rfl rfl)
theorem dX5_record_1 : decode cX5_record 1 = .ok (.iconst 0, 1) := dk_3 (dk_at dksX5_record_0 1 rfl rfl)
theorem dX5_record_2 : decode cX5_record 2 = .ok (.putfield 71, 3) := dk_181 0 71 (dk_at dksX5_record_0 2 rfl rfl)
theorem dX5_record_5 : decode cX5_record 5 = .ok (.aload_n 0, 1) := dk_42 (dk_at dksX5_record_0 5 rfl rfl)
theorem dX5_record_6 : decode cX5_record 6 = .ok (.iload_n 1, 1) := dk_27 (dk_at dksX5_record_0 6 rfl rfl)
theorem dX5_record_7 : decode cX5_record 7 = .ok (.invokevirtual 137, 3) := dk_182 0 137 (dk_at dksX5_record_0 7 rfl rfl)
theorem dX5_record_10 : decode cX5_record 10 = .ok (.ifCond .ne 9, 3) := dk_154 0 9 (dk_at dksX5_record_0 10 rfl rfl)
theorem dX5_record_13 : decode cX5_record 13 = .ok (.aload_n 0, 1) := dk_42 (dk_at dksX5_record_0 13 rfl rfl)
theorem dX5_record_14 : decode cX5_record 14 = .ok (.iconst 1, 1) := dk_4 (dk_at dksX5_record_0 14 rfl rfl)
theorem dX5_record_15 : decode cX5_record 15 = .ok (.invokevirtual 197, 3) := dk_182 0 197 (dk_at dksX5_record_0 15 rfl rfl)
theorem dX5_record_18 : decode cX5_record 18 = .ok (.ireturn, 1) := dk_172 (dk_at dksX5_record_0 18 rfl rfl)
theorem dX5_record_19 : decode cX5_record 19 = .ok (.iload_n 2, 1) := dk_28 (dk_at dksX5_record_0 19 rfl rfl)
theorem dX5_record_20 : decode cX5_record 20 = .ok (.tableswitch 83 0 5 #[40, 47, 57, 64, 70, 77], 40) := by decide +kernel
theorem dX5_record_60 : decode cX5_record 60 = .ok (.aload_n 0, 1) := dk_42 (dk_at dksX5_record_2 0 rfl rfl)
theorem dX5_record_61 : decode cX5_record 61 = .ok (.iload_n 1, 1) := dk_27 (dk_at dksX5_record_2 1 rfl rfl)
theorem dX5_record_62 : decode cX5_record 62 = .ok (.iconst 0, 1) := dk_3 (dk_at dksX5_record_2 2 rfl rfl)
theorem dX5_record_63 : decode cX5_record 63 = .ok (.invokevirtual 96, 3) := dk_182 0 96 (dk_at dksX5_record_2 3 rfl rfl)
theorem dX5_record_66 : decode cX5_record 66 = .ok (.ireturn, 1) := dk_172 (dk_at dksX5_record_2 6 rfl rfl)
theorem dX5_record_67 : decode cX5_record 67 = .ok (.aload_n 0, 1) := dk_42 (dk_at dksX5_record_2 7 rfl rfl)
theorem dX5_record_68 : decode cX5_record 68 = .ok (.iload_n 1, 1) := dk_27 (dk_at dksX5_record_2 8 rfl rfl)
theorem dX5_record_69 : decode cX5_record 69 = .ok (.iconst 1, 1) := dk_4 (dk_at dksX5_record_2 9 rfl rfl)
theorem dX5_record_70 : decode cX5_record 70 = .ok (.invokevirtual 96, 3) := dk_182 0 96 (dk_at dksX5_record_2 10 rfl rfl)
theorem dX5_record_73 : decode cX5_record 73 = .ok (.invokestatic 183, 3) := dk_184 0 183 (dk_at dksX5_record_2 13 rfl rfl)
theorem dX5_record_76 : decode cX5_record 76 = .ok (.ireturn, 1) := dk_172 (dk_at dksX5_record_2 16 rfl rfl)
theorem dX5_record_77 : decode cX5_record 77 = .ok (.aload_n 0, 1) := dk_42 (dk_at dksX5_record_2 17 rfl rfl)
theorem dX5_record_78 : decode cX5_record 78 = .ok (.iload_n 1, 1) := dk_27 (dk_at dksX5_record_2 18 rfl rfl)
theorem dX5_record_79 : decode cX5_record 79 = .ok (.iconst 1, 1) := dk_4 (dk_at dksX5_record_2 19 rfl rfl)
theorem dX5_record_80 : decode cX5_record 80 = .ok (.invokevirtual 96, 3) := dk_182 0 96 (dk_at dksX5_record_2 20 rfl rfl)
theorem dX5_record_83 : decode cX5_record 83 = .ok (.ireturn, 1) := dk_172 (dk_at dksX5_record_2 23 rfl rfl)
theorem dX5_record_84 : decode cX5_record 84 = .ok (.aload_n 0, 1) := dk_42 (dk_at dksX5_record_3 0 rfl rfl)
theorem dX5_record_85 : decode cX5_record 85 = .ok (.iload_n 1, 1) := dk_27 (dk_at dksX5_record_3 1 rfl rfl)
theorem dX5_record_86 : decode cX5_record 86 = .ok (.invokevirtual 144, 3) := dk_182 0 144 (dk_at dksX5_record_3 2 rfl rfl)
theorem dX5_record_89 : decode cX5_record 89 = .ok (.ireturn, 1) := dk_172 (dk_at dksX5_record_3 5 rfl rfl)
theorem dX5_record_90 : decode cX5_record 90 = .ok (.aload_n 0, 1) := dk_42 (dk_at dksX5_record_3 6 rfl rfl)
theorem dX5_record_91 : decode cX5_record 91 = .ok (.iload_n 1, 1) := dk_27 (dk_at dksX5_record_3 7 rfl rfl)
theorem dX5_record_92 : decode cX5_record 92 = .ok (.iconst 2, 1) := dk_5 (dk_at dksX5_record_3 8 rfl rfl)
theorem dX5_record_93 : decode cX5_record 93 = .ok (.invokevirtual 96, 3) := dk_182 0 96 (dk_at dksX5_record_3 9 rfl rfl)
theorem dX5_record_96 : decode cX5_record 96 = .ok (.ireturn, 1) := dk_172 (dk_at dksX5_record_3 12 rfl rfl)
theorem dX5_record_97 : decode cX5_record 97 = .ok (.aload_n 0, 1) := dk_42 (dk_at dksX5_record_3 13 rfl rfl)
theorem dX5_record_98 : decode cX5_record 98 = .ok (.iload_n 1, 1) := dk_27 (dk_at dksX5_record_3 14 rfl rfl)
theorem dX5_record_99 : decode cX5_record 99 = .ok (.invokevirtual 181, 3) := dk_182 0 181 (dk_at dksX5_record_3 15 rfl rfl)
theorem dX5_record_102 : decode cX5_record 102 = .ok (.ireturn, 1) := dk_172 (dk_at dksX5_record_3 18 rfl rfl)
theorem dX5_record_103 : decode cX5_record 103 = .ok (.aload_n 0, 1) := dk_42 (dk_at dksX5_record_3 19 rfl rfl)
theorem dX5_record_104 : decode cX5_record 104 = .ok (.iconst 1, 1) := dk_4 (dk_at dksX5_record_3 20 rfl rfl)
theorem dX5_record_105 : decode cX5_record 105 = .ok (.invokevirtual 197, 3) := dk_182 0 197 (dk_at dksX5_record_3 21 rfl rfl)
theorem dX5_record_108 : decode cX5_record 108 = .ok (.ireturn, 1) := dk_172 (dk_at dksX5_record_4 0 rfl rfl)
def dkwX5_endOf_2 : List UInt8 := [28, 172]
abbrev dktX5_endOf_2 : List UInt8 := dkwX5_endOf_2 ++ []
def dkwX5_endOf_1 : List UInt8 := [153, 0, 16, 28, 42, 29, 4, 182, 0, 99, 184, 0, 134, 167, 0, 4, 28, 61, 132, 3, 1, 167, 255, 215]
abbrev dktX5_endOf_1 : List UInt8 := dkwX5_endOf_1 ++ dktX5_endOf_2
def dkwX5_endOf_0 : List UInt8 := [2, 61, 3, 62, 29, 42, 180, 0, 25, 4, 46, 162, 0, 37, 42, 27, 4, 182, 0, 96, 29, 184, 0, 130]
abbrev dktX5_endOf_0 : List UInt8 := dkwX5_endOf_0 ++ dktX5_endOf_1
theorem dksX5_endOf_0 : cX5_endOf.data.toList.drop 0 = dktX5_endOf_0 := by decide +kernel
theorem dksX5_endOf_1 : cX5_endOf.data.toList.drop 24 = dktX5_endOf_1 := dk_seg dksX5_endOf_0 24 rfl rfl
theorem dksX5_endOf_2 : cX5_endOf.data.toList.drop 48 = dktX5_endOf_2 := dk_seg dksX5_endOf_1 24 rfl rfl
theorem dX5_endOf_0 : decode cX5_endOf 0 = .ok (.iconst (-1), 1) := dk_2 (dk_at dksX5_endOf_0 0 rfl rfl)
theorem dX5_endOf_1 : decode cX5_endOf 1 = .ok (.istore_n 2, 1) := dk_61 (dk_at dksX5_endOf_0 1 rfl rfl)
theorem dX5_endOf_2 : decode cX5_endOf 2 = .ok (.iconst 0, 1) := dk_3 (dk_at dksX5_endOf_0 2 rfl rfl)
theorem dX5_endOf_3 : decode cX5_endOf 3 = .ok (.istore_n 3, 1) := dk_62 (dk_at dksX5_endOf_0 3 rfl rfl)
theorem dX5_endOf_4 : decode cX5_endOf 4 = .ok (.iload_n 3, 1) := dk_29 (dk_at dksX5_endOf_0 4 rfl rfl)
theorem dX5_endOf_5 : decode cX5_endOf 5 = .ok (.aload_n 0, 1) := dk_42 (dk_at dksX5_endOf_0 5 rfl rfl)
theorem dX5_endOf_6 : decode cX5_endOf 6 = .ok (.getfield 25, 3) := dk_180 0 25 (dk_at dksX5_endOf_0 6 rfl rfl)
theorem dX5_endOf_9 : decode cX5_endOf 9 = .ok (.iconst 1, 1) := dk_4 (dk_at dksX5_endOf_0 9 rfl rfl)
theorem dX5_endOf_10 : decode cX5_endOf 10 = .ok (.iaload, 1) := dk_46 (dk_at dksX5_endOf_0 10 rfl rfl)
theorem dX5_endOf_11 : decode cX5_endOf 11 = .ok (.if_icmp .ge 37, 3) := dk_162 0 37 (dk_at dksX5_endOf_0 11 rfl rfl)
theorem dX5_endOf_14 : decode cX5_endOf 14 = .ok (.aload_n 0, 1) := dk_42 (dk_at dksX5_endOf_0 14 rfl rfl)
theorem dX5_endOf_15 : decode cX5_endOf 15 = .ok (.iload_n 1, 1) := dk_27 (dk_at dksX5_endOf_0 15 rfl rfl)
theorem dX5_endOf_16 : decode cX5_endOf 16 = .ok (.iconst 1, 1) := dk_4 (dk_at dksX5_endOf_0 16 rfl rfl)
theorem dX5_endOf_17 : decode cX5_endOf 17 = .ok (.invokevirtual 96, 3) := dk_182 0 96 (dk_at dksX5_endOf_0 17 rfl rfl)
theorem dX5_endOf_20 : decode cX5_endOf 20 = .ok (.iload_n 3, 1) := dk_29 (dk_at dksX5_endOf_0 20 rfl rfl)
theorem dX5_endOf_21 : decode cX5_endOf 21 = .ok (.invokestatic 130, 3) := dk_184 0 130 (dk_at dksX5_endOf_0 21 rfl rfl)
theorem dX5_endOf_24 : decode cX5_endOf 24 = .ok (.ifCond .eq 16, 3) := dk_153 0 16 (dk_at dksX5_endOf_1 0 rfl rfl)
theorem dX5_endOf_27 : decode cX5_endOf 27 = .ok (.iload_n 2, 1) := dk_28 (dk_at dksX5_endOf_1 3 rfl rfl)
theorem dX5_endOf_28 : decode cX5_endOf 28 = .ok (.aload_n 0, 1) := dk_42 (dk_at dksX5_endOf_1 4 rfl rfl)
theorem dX5_endOf_29 : decode cX5_endOf 29 = .ok (.iload_n 3, 1) := dk_29 (dk_at dksX5_endOf_1 5 rfl rfl)
theorem dX5_endOf_30 : decode cX5_endOf 30 = .ok (.iconst 1, 1) := dk_4 (dk_at dksX5_endOf_1 6 rfl rfl)
theorem dX5_endOf_31 : decode cX5_endOf 31 = .ok (.invokevirtual 99, 3) := dk_182 0 99 (dk_at dksX5_endOf_1 7 rfl rfl)
theorem dX5_endOf_34 : decode cX5_endOf 34 = .ok (.invokestatic 134, 3) := dk_184 0 134 (dk_at dksX5_endOf_1 10 rfl rfl)
theorem dX5_endOf_37 : decode cX5_endOf 37 = .ok (.goto 4, 3) := dk_167 0 4 (dk_at dksX5_endOf_1 13 rfl rfl)
theorem dX5_endOf_40 : decode cX5_endOf 40 = .ok (.iload_n 2, 1) := dk_28 (dk_at dksX5_endOf_1 16 rfl rfl)
theorem dX5_endOf_41 : decode cX5_endOf 41 = .ok (.istore_n 2, 1) := dk_61 (dk_at dksX5_endOf_1 17 rfl rfl)
theorem dX5_endOf_42 : decode cX5_endOf 42 = .ok (.iinc 3 1, 3) := dk_132 3 1 (dk_at dksX5_endOf_1 18 rfl rfl)
theorem dX5_endOf_45 : decode cX5_endOf 45 = .ok (.goto (-41), 3) := dk_167 255 215 (dk_at dksX5_endOf_1 21 rfl rfl)
theorem dX5_endOf_48 : decode cX5_endOf 48 = .ok (.iload_n 2, 1) := dk_28 (dk_at dksX5_endOf_2 0 rfl rfl)
theorem dX5_endOf_49 : decode cX5_endOf 49 = .ok (.ireturn, 1) := dk_172 (dk_at dksX5_endOf_2 1 rfl rfl)
def dkwX5_readers_1 : List UInt8 := [182, 0, 96, 126, 153, 0, 9, 4, 29, 120, 167, 0, 4, 3, 128, 61, 132, 3, 1, 167, 255, 218, 28, 172]
abbrev dktX5_readers_1 : List UInt8 := dkwX5_readers_1 ++ []
def dkwX5_readers_0 : List UInt8 := [3, 61, 3, 62, 29, 42, 180, 0, 25, 6, 46, 162, 0, 34, 28, 42, 29, 182, 0, 159, 42, 27, 4]
abbrev dktX5_readers_0 : List UInt8 := dkwX5_readers_0 ++ dktX5_readers_1
theorem dksX5_readers_0 : cX5_readers.data.toList.drop 0 = dktX5_readers_0 := by decide +kernel
theorem dksX5_readers_1 : cX5_readers.data.toList.drop 23 = dktX5_readers_1 := dk_seg dksX5_readers_0 23 rfl rfl
theorem dX5_readers_0 : decode cX5_readers 0 = .ok (.iconst 0, 1) := dk_3 (dk_at dksX5_readers_0 0 rfl rfl)
theorem dX5_readers_1 : decode cX5_readers 1 = .ok (.istore_n 2, 1) := dk_61 (dk_at dksX5_readers_0 1 rfl rfl)
theorem dX5_readers_2 : decode cX5_readers 2 = .ok (.iconst 0, 1) := dk_3 (dk_at dksX5_readers_0 2 rfl rfl)
theorem dX5_readers_3 : decode cX5_readers 3 = .ok (.istore_n 3, 1) := dk_62 (dk_at dksX5_readers_0 3 rfl rfl)
theorem dX5_readers_4 : decode cX5_readers 4 = .ok (.iload_n 3, 1) := dk_29 (dk_at dksX5_readers_0 4 rfl rfl)
theorem dX5_readers_5 : decode cX5_readers 5 = .ok (.aload_n 0, 1) := dk_42 (dk_at dksX5_readers_0 5 rfl rfl)
theorem dX5_readers_6 : decode cX5_readers 6 = .ok (.getfield 25, 3) := dk_180 0 25 (dk_at dksX5_readers_0 6 rfl rfl)
theorem dX5_readers_9 : decode cX5_readers 9 = .ok (.iconst 3, 1) := dk_6 (dk_at dksX5_readers_0 9 rfl rfl)
theorem dX5_readers_10 : decode cX5_readers 10 = .ok (.iaload, 1) := dk_46 (dk_at dksX5_readers_0 10 rfl rfl)
theorem dX5_readers_11 : decode cX5_readers 11 = .ok (.if_icmp .ge 34, 3) := dk_162 0 34 (dk_at dksX5_readers_0 11 rfl rfl)
theorem dX5_readers_14 : decode cX5_readers 14 = .ok (.iload_n 2, 1) := dk_28 (dk_at dksX5_readers_0 14 rfl rfl)
theorem dX5_readers_15 : decode cX5_readers 15 = .ok (.aload_n 0, 1) := dk_42 (dk_at dksX5_readers_0 15 rfl rfl)
theorem dX5_readers_16 : decode cX5_readers 16 = .ok (.iload_n 3, 1) := dk_29 (dk_at dksX5_readers_0 16 rfl rfl)
theorem dX5_readers_17 : decode cX5_readers 17 = .ok (.invokevirtual 159, 3) := dk_182 0 159 (dk_at dksX5_readers_0 17 rfl rfl)
theorem dX5_readers_20 : decode cX5_readers 20 = .ok (.aload_n 0, 1) := dk_42 (dk_at dksX5_readers_0 20 rfl rfl)
theorem dX5_readers_21 : decode cX5_readers 21 = .ok (.iload_n 1, 1) := dk_27 (dk_at dksX5_readers_0 21 rfl rfl)
theorem dX5_readers_22 : decode cX5_readers 22 = .ok (.iconst 1, 1) := dk_4 (dk_at dksX5_readers_0 22 rfl rfl)
theorem dX5_readers_23 : decode cX5_readers 23 = .ok (.invokevirtual 96, 3) := dk_182 0 96 (dk_at dksX5_readers_1 0 rfl rfl)
theorem dX5_readers_26 : decode cX5_readers 26 = .ok (.iand, 1) := dk_126 (dk_at dksX5_readers_1 3 rfl rfl)
theorem dX5_readers_27 : decode cX5_readers 27 = .ok (.ifCond .eq 9, 3) := dk_153 0 9 (dk_at dksX5_readers_1 4 rfl rfl)
theorem dX5_readers_30 : decode cX5_readers 30 = .ok (.iconst 1, 1) := dk_4 (dk_at dksX5_readers_1 7 rfl rfl)
theorem dX5_readers_31 : decode cX5_readers 31 = .ok (.iload_n 3, 1) := dk_29 (dk_at dksX5_readers_1 8 rfl rfl)
theorem dX5_readers_32 : decode cX5_readers 32 = .ok (.ishl, 1) := dk_120 (dk_at dksX5_readers_1 9 rfl rfl)
theorem dX5_readers_33 : decode cX5_readers 33 = .ok (.goto 4, 3) := dk_167 0 4 (dk_at dksX5_readers_1 10 rfl rfl)
theorem dX5_readers_36 : decode cX5_readers 36 = .ok (.iconst 0, 1) := dk_3 (dk_at dksX5_readers_1 13 rfl rfl)
theorem dX5_readers_37 : decode cX5_readers 37 = .ok (.ior, 1) := dk_128 (dk_at dksX5_readers_1 14 rfl rfl)
theorem dX5_readers_38 : decode cX5_readers 38 = .ok (.istore_n 2, 1) := dk_61 (dk_at dksX5_readers_1 15 rfl rfl)
theorem dX5_readers_39 : decode cX5_readers 39 = .ok (.iinc 3 1, 3) := dk_132 3 1 (dk_at dksX5_readers_1 16 rfl rfl)
theorem dX5_readers_42 : decode cX5_readers 42 = .ok (.goto (-38), 3) := dk_167 255 218 (dk_at dksX5_readers_1 19 rfl rfl)
theorem dX5_readers_45 : decode cX5_readers 45 = .ok (.iload_n 2, 1) := dk_28 (dk_at dksX5_readers_1 22 rfl rfl)
theorem dX5_readers_46 : decode cX5_readers 46 = .ok (.ireturn, 1) := dk_172 (dk_at dksX5_readers_1 23 rfl rfl)
def dkwX5_usable_1 : List UInt8 := [4, 29, 120, 167, 0, 4, 3, 128, 61, 132, 3, 1, 167, 255, 224, 28, 172]
abbrev dktX5_usable_1 : List UInt8 := dkwX5_usable_1 ++ []
def dkwX5_usable_0 : List UInt8 := [3, 61, 3, 62, 29, 42, 180, 0, 25, 4, 46, 162, 0, 28, 28, 42, 27, 29, 182, 0, 156, 153, 0, 9]
abbrev dktX5_usable_0 : List UInt8 := dkwX5_usable_0 ++ dktX5_usable_1
theorem dksX5_usable_0 : cX5_usable.data.toList.drop 0 = dktX5_usable_0 := by decide +kernel
theorem dksX5_usable_1 : cX5_usable.data.toList.drop 24 = dktX5_usable_1 := dk_seg dksX5_usable_0 24 rfl rfl
theorem dX5_usable_0 : decode cX5_usable 0 = .ok (.iconst 0, 1) := dk_3 (dk_at dksX5_usable_0 0 rfl rfl)
theorem dX5_usable_1 : decode cX5_usable 1 = .ok (.istore_n 2, 1) := dk_61 (dk_at dksX5_usable_0 1 rfl rfl)
theorem dX5_usable_2 : decode cX5_usable 2 = .ok (.iconst 0, 1) := dk_3 (dk_at dksX5_usable_0 2 rfl rfl)
theorem dX5_usable_3 : decode cX5_usable 3 = .ok (.istore_n 3, 1) := dk_62 (dk_at dksX5_usable_0 3 rfl rfl)
theorem dX5_usable_4 : decode cX5_usable 4 = .ok (.iload_n 3, 1) := dk_29 (dk_at dksX5_usable_0 4 rfl rfl)
theorem dX5_usable_5 : decode cX5_usable 5 = .ok (.aload_n 0, 1) := dk_42 (dk_at dksX5_usable_0 5 rfl rfl)
theorem dX5_usable_6 : decode cX5_usable 6 = .ok (.getfield 25, 3) := dk_180 0 25 (dk_at dksX5_usable_0 6 rfl rfl)
theorem dX5_usable_9 : decode cX5_usable 9 = .ok (.iconst 1, 1) := dk_4 (dk_at dksX5_usable_0 9 rfl rfl)
theorem dX5_usable_10 : decode cX5_usable 10 = .ok (.iaload, 1) := dk_46 (dk_at dksX5_usable_0 10 rfl rfl)
theorem dX5_usable_11 : decode cX5_usable 11 = .ok (.if_icmp .ge 28, 3) := dk_162 0 28 (dk_at dksX5_usable_0 11 rfl rfl)
theorem dX5_usable_14 : decode cX5_usable 14 = .ok (.iload_n 2, 1) := dk_28 (dk_at dksX5_usable_0 14 rfl rfl)
theorem dX5_usable_15 : decode cX5_usable 15 = .ok (.aload_n 0, 1) := dk_42 (dk_at dksX5_usable_0 15 rfl rfl)
theorem dX5_usable_16 : decode cX5_usable 16 = .ok (.iload_n 1, 1) := dk_27 (dk_at dksX5_usable_0 16 rfl rfl)
theorem dX5_usable_17 : decode cX5_usable 17 = .ok (.iload_n 3, 1) := dk_29 (dk_at dksX5_usable_0 17 rfl rfl)
theorem dX5_usable_18 : decode cX5_usable 18 = .ok (.invokevirtual 156, 3) := dk_182 0 156 (dk_at dksX5_usable_0 18 rfl rfl)
theorem dX5_usable_21 : decode cX5_usable 21 = .ok (.ifCond .eq 9, 3) := dk_153 0 9 (dk_at dksX5_usable_0 21 rfl rfl)
theorem dX5_usable_24 : decode cX5_usable 24 = .ok (.iconst 1, 1) := dk_4 (dk_at dksX5_usable_1 0 rfl rfl)
theorem dX5_usable_25 : decode cX5_usable 25 = .ok (.iload_n 3, 1) := dk_29 (dk_at dksX5_usable_1 1 rfl rfl)
theorem dX5_usable_26 : decode cX5_usable 26 = .ok (.ishl, 1) := dk_120 (dk_at dksX5_usable_1 2 rfl rfl)
theorem dX5_usable_27 : decode cX5_usable 27 = .ok (.goto 4, 3) := dk_167 0 4 (dk_at dksX5_usable_1 3 rfl rfl)
theorem dX5_usable_30 : decode cX5_usable 30 = .ok (.iconst 0, 1) := dk_3 (dk_at dksX5_usable_1 6 rfl rfl)
theorem dX5_usable_31 : decode cX5_usable 31 = .ok (.ior, 1) := dk_128 (dk_at dksX5_usable_1 7 rfl rfl)
theorem dX5_usable_32 : decode cX5_usable 32 = .ok (.istore_n 2, 1) := dk_61 (dk_at dksX5_usable_1 8 rfl rfl)
theorem dX5_usable_33 : decode cX5_usable 33 = .ok (.iinc 3 1, 3) := dk_132 3 1 (dk_at dksX5_usable_1 9 rfl rfl)
theorem dX5_usable_36 : decode cX5_usable 36 = .ok (.goto (-32), 3) := dk_167 255 224 (dk_at dksX5_usable_1 12 rfl rfl)
theorem dX5_usable_39 : decode cX5_usable 39 = .ok (.iload_n 2, 1) := dk_28 (dk_at dksX5_usable_1 15 rfl rfl)
theorem dX5_usable_40 : decode cX5_usable 40 = .ok (.ireturn, 1) := dk_172 (dk_at dksX5_usable_1 16 rfl rfl)
def dkwX5_isUsable_3 : List UInt8 := [172]
abbrev dktX5_isUsable_3 : List UInt8 := dkwX5_isUsable_3 ++ []
def dkwX5_isUsable_2 : List UInt8 := [42, 180, 0, 25, 42, 27, 28, 182, 0, 153, 4, 96, 46, 184, 0, 88, 153, 0, 7, 4, 167, 0, 4, 3]
abbrev dktX5_isUsable_2 : List UInt8 := dkwX5_isUsable_2 ++ dktX5_isUsable_3
def dkwX5_isUsable_1 : List UInt8 := [167, 0, 4, 3, 62, 29, 153, 0, 41, 42, 182, 0, 105, 42, 180, 0, 25, 42, 27, 28, 182, 0, 153, 46]
abbrev dktX5_isUsable_1 : List UInt8 := dkwX5_isUsable_1 ++ dktX5_isUsable_2
def dkwX5_isUsable_0 : List UInt8 := [28, 42, 27, 6, 182, 0, 150, 162, 0, 20, 42, 27, 7, 182, 0, 150, 28, 184, 0, 130, 154, 0, 7, 4]
abbrev dktX5_isUsable_0 : List UInt8 := dkwX5_isUsable_0 ++ dktX5_isUsable_1
theorem dksX5_isUsable_0 : cX5_isUsable.data.toList.drop 0 = dktX5_isUsable_0 := by decide +kernel
theorem dksX5_isUsable_1 : cX5_isUsable.data.toList.drop 24 = dktX5_isUsable_1 := dk_seg dksX5_isUsable_0 24 rfl rfl
theorem dksX5_isUsable_2 : cX5_isUsable.data.toList.drop 48 = dktX5_isUsable_2 := dk_seg dksX5_isUsable_1 24 rfl rfl
theorem dksX5_isUsable_3 : cX5_isUsable.data.toList.drop 72 = dktX5_isUsable_3 := dk_seg dksX5_isUsable_2 24 rfl rfl
theorem dX5_isUsable_0 : decode cX5_isUsable 0 = .ok (.iload_n 2, 1) := dk_28 (dk_at dksX5_isUsable_0 0 rfl rfl)
theorem dX5_isUsable_1 : decode cX5_isUsable 1 = .ok (.aload_n 0, 1) := dk_42 (dk_at dksX5_isUsable_0 1 rfl rfl)
theorem dX5_isUsable_2 : decode cX5_isUsable 2 = .ok (.iload_n 1, 1) := dk_27 (dk_at dksX5_isUsable_0 2 rfl rfl)
theorem dX5_isUsable_3 : decode cX5_isUsable 3 = .ok (.iconst 3, 1) := dk_6 (dk_at dksX5_isUsable_0 3 rfl rfl)
theorem dX5_isUsable_4 : decode cX5_isUsable 4 = .ok (.invokevirtual 150, 3) := dk_182 0 150 (dk_at dksX5_isUsable_0 4 rfl rfl)
theorem dX5_isUsable_7 : decode cX5_isUsable 7 = .ok (.if_icmp .ge 20, 3) := dk_162 0 20 (dk_at dksX5_isUsable_0 7 rfl rfl)
theorem dX5_isUsable_10 : decode cX5_isUsable 10 = .ok (.aload_n 0, 1) := dk_42 (dk_at dksX5_isUsable_0 10 rfl rfl)
theorem dX5_isUsable_11 : decode cX5_isUsable 11 = .ok (.iload_n 1, 1) := dk_27 (dk_at dksX5_isUsable_0 11 rfl rfl)
theorem dX5_isUsable_12 : decode cX5_isUsable 12 = .ok (.iconst 4, 1) := dk_7 (dk_at dksX5_isUsable_0 12 rfl rfl)
theorem dX5_isUsable_13 : decode cX5_isUsable 13 = .ok (.invokevirtual 150, 3) := dk_182 0 150 (dk_at dksX5_isUsable_0 13 rfl rfl)
theorem dX5_isUsable_16 : decode cX5_isUsable 16 = .ok (.iload_n 2, 1) := dk_28 (dk_at dksX5_isUsable_0 16 rfl rfl)
theorem dX5_isUsable_17 : decode cX5_isUsable 17 = .ok (.invokestatic 130, 3) := dk_184 0 130 (dk_at dksX5_isUsable_0 17 rfl rfl)
theorem dX5_isUsable_20 : decode cX5_isUsable 20 = .ok (.ifCond .ne 7, 3) := dk_154 0 7 (dk_at dksX5_isUsable_0 20 rfl rfl)
theorem dX5_isUsable_23 : decode cX5_isUsable 23 = .ok (.iconst 1, 1) := dk_4 (dk_at dksX5_isUsable_0 23 rfl rfl)
theorem dX5_isUsable_24 : decode cX5_isUsable 24 = .ok (.goto 4, 3) := dk_167 0 4 (dk_at dksX5_isUsable_1 0 rfl rfl)
theorem dX5_isUsable_27 : decode cX5_isUsable 27 = .ok (.iconst 0, 1) := dk_3 (dk_at dksX5_isUsable_1 3 rfl rfl)
theorem dX5_isUsable_28 : decode cX5_isUsable 28 = .ok (.istore_n 3, 1) := dk_62 (dk_at dksX5_isUsable_1 4 rfl rfl)
theorem dX5_isUsable_29 : decode cX5_isUsable 29 = .ok (.iload_n 3, 1) := dk_29 (dk_at dksX5_isUsable_1 5 rfl rfl)
theorem dX5_isUsable_30 : decode cX5_isUsable 30 = .ok (.ifCond .eq 41, 3) := dk_153 0 41 (dk_at dksX5_isUsable_1 6 rfl rfl)
theorem dX5_isUsable_33 : decode cX5_isUsable 33 = .ok (.aload_n 0, 1) := dk_42 (dk_at dksX5_isUsable_1 9 rfl rfl)
theorem dX5_isUsable_34 : decode cX5_isUsable 34 = .ok (.invokevirtual 105, 3) := dk_182 0 105 (dk_at dksX5_isUsable_1 10 rfl rfl)
theorem dX5_isUsable_37 : decode cX5_isUsable 37 = .ok (.aload_n 0, 1) := dk_42 (dk_at dksX5_isUsable_1 13 rfl rfl)
theorem dX5_isUsable_38 : decode cX5_isUsable 38 = .ok (.getfield 25, 3) := dk_180 0 25 (dk_at dksX5_isUsable_1 14 rfl rfl)
theorem dX5_isUsable_41 : decode cX5_isUsable 41 = .ok (.aload_n 0, 1) := dk_42 (dk_at dksX5_isUsable_1 17 rfl rfl)
theorem dX5_isUsable_42 : decode cX5_isUsable 42 = .ok (.iload_n 1, 1) := dk_27 (dk_at dksX5_isUsable_1 18 rfl rfl)
theorem dX5_isUsable_43 : decode cX5_isUsable 43 = .ok (.iload_n 2, 1) := dk_28 (dk_at dksX5_isUsable_1 19 rfl rfl)
theorem dX5_isUsable_44 : decode cX5_isUsable 44 = .ok (.invokevirtual 153, 3) := dk_182 0 153 (dk_at dksX5_isUsable_1 20 rfl rfl)
theorem dX5_isUsable_47 : decode cX5_isUsable 47 = .ok (.iaload, 1) := dk_46 (dk_at dksX5_isUsable_1 23 rfl rfl)
theorem dX5_isUsable_48 : decode cX5_isUsable 48 = .ok (.aload_n 0, 1) := dk_42 (dk_at dksX5_isUsable_2 0 rfl rfl)
theorem dX5_isUsable_49 : decode cX5_isUsable 49 = .ok (.getfield 25, 3) := dk_180 0 25 (dk_at dksX5_isUsable_2 1 rfl rfl)
theorem dX5_isUsable_52 : decode cX5_isUsable 52 = .ok (.aload_n 0, 1) := dk_42 (dk_at dksX5_isUsable_2 4 rfl rfl)
theorem dX5_isUsable_53 : decode cX5_isUsable 53 = .ok (.iload_n 1, 1) := dk_27 (dk_at dksX5_isUsable_2 5 rfl rfl)
theorem dX5_isUsable_54 : decode cX5_isUsable 54 = .ok (.iload_n 2, 1) := dk_28 (dk_at dksX5_isUsable_2 6 rfl rfl)
theorem dX5_isUsable_55 : decode cX5_isUsable 55 = .ok (.invokevirtual 153, 3) := dk_182 0 153 (dk_at dksX5_isUsable_2 7 rfl rfl)
theorem dX5_isUsable_58 : decode cX5_isUsable 58 = .ok (.iconst 1, 1) := dk_4 (dk_at dksX5_isUsable_2 10 rfl rfl)
theorem dX5_isUsable_59 : decode cX5_isUsable 59 = .ok (.iadd, 1) := dk_96 (dk_at dksX5_isUsable_2 11 rfl rfl)
theorem dX5_isUsable_60 : decode cX5_isUsable 60 = .ok (.iaload, 1) := dk_46 (dk_at dksX5_isUsable_2 12 rfl rfl)
theorem dX5_isUsable_61 : decode cX5_isUsable 61 = .ok (.invokestatic 88, 3) := dk_184 0 88 (dk_at dksX5_isUsable_2 13 rfl rfl)
theorem dX5_isUsable_64 : decode cX5_isUsable 64 = .ok (.ifCond .eq 7, 3) := dk_153 0 7 (dk_at dksX5_isUsable_2 16 rfl rfl)
theorem dX5_isUsable_67 : decode cX5_isUsable 67 = .ok (.iconst 1, 1) := dk_4 (dk_at dksX5_isUsable_2 19 rfl rfl)
theorem dX5_isUsable_68 : decode cX5_isUsable 68 = .ok (.goto 4, 3) := dk_167 0 4 (dk_at dksX5_isUsable_2 20 rfl rfl)
theorem dX5_isUsable_71 : decode cX5_isUsable 71 = .ok (.iconst 0, 1) := dk_3 (dk_at dksX5_isUsable_2 23 rfl rfl)
theorem dX5_isUsable_72 : decode cX5_isUsable 72 = .ok (.ireturn, 1) := dk_172 (dk_at dksX5_isUsable_3 0 rfl rfl)
def dkwX5_ofClient_0 : List UInt8 := [42, 180, 0, 25, 27, 28, 184, 0, 85, 46, 172]
abbrev dktX5_ofClient_0 : List UInt8 := dkwX5_ofClient_0 ++ []
theorem dksX5_ofClient_0 : cX5_ofClient.data.toList.drop 0 = dktX5_ofClient_0 := by decide +kernel
theorem dX5_ofClient_0 : decode cX5_ofClient 0 = .ok (.aload_n 0, 1) := dk_42 (dk_at dksX5_ofClient_0 0 rfl rfl)
theorem dX5_ofClient_1 : decode cX5_ofClient 1 = .ok (.getfield 25, 3) := dk_180 0 25 (dk_at dksX5_ofClient_0 1 rfl rfl)
theorem dX5_ofClient_4 : decode cX5_ofClient 4 = .ok (.iload_n 1, 1) := dk_27 (dk_at dksX5_ofClient_0 4 rfl rfl)
theorem dX5_ofClient_5 : decode cX5_ofClient 5 = .ok (.iload_n 2, 1) := dk_28 (dk_at dksX5_ofClient_0 5 rfl rfl)
theorem dX5_ofClient_6 : decode cX5_ofClient 6 = .ok (.invokestatic 85, 3) := dk_184 0 85 (dk_at dksX5_ofClient_0 6 rfl rfl)
theorem dX5_ofClient_9 : decode cX5_ofClient 9 = .ok (.iaload, 1) := dk_46 (dk_at dksX5_ofClient_0 9 rfl rfl)
theorem dX5_ofClient_10 : decode cX5_ofClient 10 = .ok (.ireturn, 1) := dk_172 (dk_at dksX5_ofClient_0 10 rfl rfl)
def dkwX5_clientAt_0 : List UInt8 := [17, 0, 221, 16, 71, 26, 104, 96, 27, 96, 172]
abbrev dktX5_clientAt_0 : List UInt8 := dkwX5_clientAt_0 ++ []
theorem dksX5_clientAt_0 : cX5_clientAt.data.toList.drop 0 = dktX5_clientAt_0 := by decide +kernel
theorem dX5_clientAt_0 : decode cX5_clientAt 0 = .ok (.sipush 221, 3) := dk_17 0 221 (dk_at dksX5_clientAt_0 0 rfl rfl)
theorem dX5_clientAt_3 : decode cX5_clientAt 3 = .ok (.bipush 71, 2) := dk_16 71 (dk_at dksX5_clientAt_0 3 rfl rfl)
theorem dX5_clientAt_5 : decode cX5_clientAt 5 = .ok (.iload_n 0, 1) := dk_26 (dk_at dksX5_clientAt_0 5 rfl rfl)
theorem dX5_clientAt_6 : decode cX5_clientAt 6 = .ok (.imul, 1) := dk_104 (dk_at dksX5_clientAt_0 6 rfl rfl)
theorem dX5_clientAt_7 : decode cX5_clientAt 7 = .ok (.iadd, 1) := dk_96 (dk_at dksX5_clientAt_0 7 rfl rfl)
theorem dX5_clientAt_8 : decode cX5_clientAt 8 = .ok (.iload_n 1, 1) := dk_27 (dk_at dksX5_clientAt_0 8 rfl rfl)
theorem dX5_clientAt_9 : decode cX5_clientAt 9 = .ok (.iadd, 1) := dk_96 (dk_at dksX5_clientAt_0 9 rfl rfl)
theorem dX5_clientAt_10 : decode cX5_clientAt 10 = .ok (.ireturn, 1) := dk_172 (dk_at dksX5_clientAt_0 10 rfl rfl)
def dkwX5_knownAt_0 : List UInt8 := [27, 16, 6, 5, 28, 104, 96, 184, 0, 85, 172]
abbrev dktX5_knownAt_0 : List UInt8 := dkwX5_knownAt_0 ++ []
theorem dksX5_knownAt_0 : cX5_knownAt.data.toList.drop 0 = dktX5_knownAt_0 := by decide +kernel
theorem dX5_knownAt_0 : decode cX5_knownAt 0 = .ok (.iload_n 1, 1) := dk_27 (dk_at dksX5_knownAt_0 0 rfl rfl)
theorem dX5_knownAt_1 : decode cX5_knownAt 1 = .ok (.bipush 6, 2) := dk_16 6 (dk_at dksX5_knownAt_0 1 rfl rfl)
theorem dX5_knownAt_3 : decode cX5_knownAt 3 = .ok (.iconst 2, 1) := dk_5 (dk_at dksX5_knownAt_0 3 rfl rfl)
theorem dX5_knownAt_4 : decode cX5_knownAt 4 = .ok (.iload_n 2, 1) := dk_28 (dk_at dksX5_knownAt_0 4 rfl rfl)
theorem dX5_knownAt_5 : decode cX5_knownAt 5 = .ok (.imul, 1) := dk_104 (dk_at dksX5_knownAt_0 5 rfl rfl)
theorem dX5_knownAt_6 : decode cX5_knownAt 6 = .ok (.iadd, 1) := dk_96 (dk_at dksX5_knownAt_0 6 rfl rfl)
theorem dX5_knownAt_7 : decode cX5_knownAt 7 = .ok (.invokestatic 85, 3) := dk_184 0 85 (dk_at dksX5_knownAt_0 7 rfl rfl)
theorem dX5_knownAt_10 : decode cX5_knownAt 10 = .ok (.ireturn, 1) := dk_172 (dk_at dksX5_knownAt_0 10 rfl rfl)
def dkwX5_client_3 : List UInt8 := [27, 8, 182, 0, 150, 172, 42, 27, 182, 0, 159, 184, 0, 212, 172, 42, 4, 182, 0, 197, 172]
abbrev dktX5_client_3 : List UInt8 := dkwX5_client_3 ++ []
def dkwX5_client_2 : List UInt8 := [42, 27, 28, 182, 0, 150, 172, 42, 27, 7, 182, 0, 150, 184, 0, 183, 172, 42, 27, 182, 0, 209, 172, 42]
abbrev dktX5_client_2 : List UInt8 := dkwX5_client_2 ++ dktX5_client_3
def dkwX5_client_1 : List UInt8 := [170, 0, 0, 0, 0, 0, 0, 87, 0, 0, 0, 0, 0, 0, 0, 7, 0, 0, 0, 48, 0, 0, 0, 48, 0, 0, 0, 48, 0, 0, 0, 48, 0, 0, 0, 55, 0, 0, 0, 65, 0, 0, 0, 71, 0, 0, 0, 78]
abbrev dktX5_client_1 : List UInt8 := dkwX5_client_1 ++ dktX5_client_2
def dkwX5_client_0 : List UInt8 := [42, 3, 181, 0, 71, 42, 27, 182, 0, 206, 154, 0, 9, 42, 4, 182, 0, 197, 172, 28]
abbrev dktX5_client_0 : List UInt8 := dkwX5_client_0 ++ dktX5_client_1
theorem dksX5_client_0 : cX5_client.data.toList.drop 0 = dktX5_client_0 := by decide +kernel
theorem dksX5_client_1 : cX5_client.data.toList.drop 20 = dktX5_client_1 := dk_seg dksX5_client_0 20 rfl rfl
theorem dksX5_client_2 : cX5_client.data.toList.drop 68 = dktX5_client_2 := dk_seg dksX5_client_1 48 rfl rfl
theorem dksX5_client_3 : cX5_client.data.toList.drop 92 = dktX5_client_3 := dk_seg dksX5_client_2 24 rfl rfl
theorem dX5_client_0 : decode cX5_client 0 = .ok (.aload_n 0, 1) := dk_42 (dk_at dksX5_client_0 0 rfl rfl)
theorem dX5_client_1 : decode cX5_client 1 = .ok (.iconst 0, 1) := dk_3 (dk_at dksX5_client_0 1 rfl rfl)
theorem dX5_client_2 : decode cX5_client 2 = .ok (.putfield 71, 3) := dk_181 0 71 (dk_at dksX5_client_0 2 rfl rfl)
theorem dX5_client_5 : decode cX5_client 5 = .ok (.aload_n 0, 1) := dk_42 (dk_at dksX5_client_0 5 rfl rfl)
theorem dX5_client_6 : decode cX5_client 6 = .ok (.iload_n 1, 1) := dk_27 (dk_at dksX5_client_0 6 rfl rfl)
theorem dX5_client_7 : decode cX5_client 7 = .ok (.invokevirtual 206, 3) := dk_182 0 206 (dk_at dksX5_client_0 7 rfl rfl)
theorem dX5_client_10 : decode cX5_client 10 = .ok (.ifCond .ne 9, 3) := dk_154 0 9 (dk_at dksX5_client_0 10 rfl rfl)
theorem dX5_client_13 : decode cX5_client 13 = .ok (.aload_n 0, 1) := dk_42 (dk_at dksX5_client_0 13 rfl rfl)
theorem dX5_client_14 : decode cX5_client 14 = .ok (.iconst 1, 1) := dk_4 (dk_at dksX5_client_0 14 rfl rfl)
theorem dX5_client_15 : decode cX5_client 15 = .ok (.invokevirtual 197, 3) := dk_182 0 197 (dk_at dksX5_client_0 15 rfl rfl)
theorem dX5_client_18 : decode cX5_client 18 = .ok (.ireturn, 1) := dk_172 (dk_at dksX5_client_0 18 rfl rfl)
theorem dX5_client_19 : decode cX5_client 19 = .ok (.iload_n 2, 1) := dk_28 (dk_at dksX5_client_0 19 rfl rfl)
theorem dX5_client_20 : decode cX5_client 20 = .ok (.tableswitch 87 0 7 #[48, 48, 48, 48, 55, 65, 71, 78], 48) := by decide +kernel
theorem dX5_client_68 : decode cX5_client 68 = .ok (.aload_n 0, 1) := dk_42 (dk_at dksX5_client_2 0 rfl rfl)
theorem dX5_client_69 : decode cX5_client 69 = .ok (.iload_n 1, 1) := dk_27 (dk_at dksX5_client_2 1 rfl rfl)
theorem dX5_client_70 : decode cX5_client 70 = .ok (.iload_n 2, 1) := dk_28 (dk_at dksX5_client_2 2 rfl rfl)
theorem dX5_client_71 : decode cX5_client 71 = .ok (.invokevirtual 150, 3) := dk_182 0 150 (dk_at dksX5_client_2 3 rfl rfl)
theorem dX5_client_74 : decode cX5_client 74 = .ok (.ireturn, 1) := dk_172 (dk_at dksX5_client_2 6 rfl rfl)
theorem dX5_client_75 : decode cX5_client 75 = .ok (.aload_n 0, 1) := dk_42 (dk_at dksX5_client_2 7 rfl rfl)
theorem dX5_client_76 : decode cX5_client 76 = .ok (.iload_n 1, 1) := dk_27 (dk_at dksX5_client_2 8 rfl rfl)
theorem dX5_client_77 : decode cX5_client 77 = .ok (.iconst 4, 1) := dk_7 (dk_at dksX5_client_2 9 rfl rfl)
theorem dX5_client_78 : decode cX5_client 78 = .ok (.invokevirtual 150, 3) := dk_182 0 150 (dk_at dksX5_client_2 10 rfl rfl)
theorem dX5_client_81 : decode cX5_client 81 = .ok (.invokestatic 183, 3) := dk_184 0 183 (dk_at dksX5_client_2 13 rfl rfl)
theorem dX5_client_84 : decode cX5_client 84 = .ok (.ireturn, 1) := dk_172 (dk_at dksX5_client_2 16 rfl rfl)
theorem dX5_client_85 : decode cX5_client 85 = .ok (.aload_n 0, 1) := dk_42 (dk_at dksX5_client_2 17 rfl rfl)
theorem dX5_client_86 : decode cX5_client 86 = .ok (.iload_n 1, 1) := dk_27 (dk_at dksX5_client_2 18 rfl rfl)
theorem dX5_client_87 : decode cX5_client 87 = .ok (.invokevirtual 209, 3) := dk_182 0 209 (dk_at dksX5_client_2 19 rfl rfl)
theorem dX5_client_90 : decode cX5_client 90 = .ok (.ireturn, 1) := dk_172 (dk_at dksX5_client_2 22 rfl rfl)
theorem dX5_client_91 : decode cX5_client 91 = .ok (.aload_n 0, 1) := dk_42 (dk_at dksX5_client_2 23 rfl rfl)
theorem dX5_client_92 : decode cX5_client 92 = .ok (.iload_n 1, 1) := dk_27 (dk_at dksX5_client_3 0 rfl rfl)
theorem dX5_client_93 : decode cX5_client 93 = .ok (.iconst 5, 1) := dk_8 (dk_at dksX5_client_3 1 rfl rfl)
theorem dX5_client_94 : decode cX5_client 94 = .ok (.invokevirtual 150, 3) := dk_182 0 150 (dk_at dksX5_client_3 2 rfl rfl)
theorem dX5_client_97 : decode cX5_client 97 = .ok (.ireturn, 1) := dk_172 (dk_at dksX5_client_3 5 rfl rfl)
theorem dX5_client_98 : decode cX5_client 98 = .ok (.aload_n 0, 1) := dk_42 (dk_at dksX5_client_3 6 rfl rfl)
theorem dX5_client_99 : decode cX5_client 99 = .ok (.iload_n 1, 1) := dk_27 (dk_at dksX5_client_3 7 rfl rfl)
theorem dX5_client_100 : decode cX5_client 100 = .ok (.invokevirtual 159, 3) := dk_182 0 159 (dk_at dksX5_client_3 8 rfl rfl)
theorem dX5_client_103 : decode cX5_client 103 = .ok (.invokestatic 212, 3) := dk_184 0 212 (dk_at dksX5_client_3 11 rfl rfl)
theorem dX5_client_106 : decode cX5_client 106 = .ok (.ireturn, 1) := dk_172 (dk_at dksX5_client_3 14 rfl rfl)
theorem dX5_client_107 : decode cX5_client 107 = .ok (.aload_n 0, 1) := dk_42 (dk_at dksX5_client_3 15 rfl rfl)
theorem dX5_client_108 : decode cX5_client 108 = .ok (.iconst 1, 1) := dk_4 (dk_at dksX5_client_3 16 rfl rfl)
theorem dX5_client_109 : decode cX5_client 109 = .ok (.invokevirtual 197, 3) := dk_182 0 197 (dk_at dksX5_client_3 17 rfl rfl)
theorem dX5_client_112 : decode cX5_client 112 = .ok (.ireturn, 1) := dk_172 (dk_at dksX5_client_3 20 rfl rfl)
def dkwX5_isClient_0 : List UInt8 := [27, 3, 42, 180, 0, 25, 6, 46, 4, 100, 184, 0, 88, 172]
abbrev dktX5_isClient_0 : List UInt8 := dkwX5_isClient_0 ++ []
theorem dksX5_isClient_0 : cX5_isClient.data.toList.drop 0 = dktX5_isClient_0 := by decide +kernel
theorem dX5_isClient_0 : decode cX5_isClient 0 = .ok (.iload_n 1, 1) := dk_27 (dk_at dksX5_isClient_0 0 rfl rfl)
theorem dX5_isClient_1 : decode cX5_isClient 1 = .ok (.iconst 0, 1) := dk_3 (dk_at dksX5_isClient_0 1 rfl rfl)
theorem dX5_isClient_2 : decode cX5_isClient 2 = .ok (.aload_n 0, 1) := dk_42 (dk_at dksX5_isClient_0 2 rfl rfl)
theorem dX5_isClient_3 : decode cX5_isClient 3 = .ok (.getfield 25, 3) := dk_180 0 25 (dk_at dksX5_isClient_0 3 rfl rfl)
theorem dX5_isClient_6 : decode cX5_isClient 6 = .ok (.iconst 3, 1) := dk_6 (dk_at dksX5_isClient_0 6 rfl rfl)
theorem dX5_isClient_7 : decode cX5_isClient 7 = .ok (.iaload, 1) := dk_46 (dk_at dksX5_isClient_0 7 rfl rfl)
theorem dX5_isClient_8 : decode cX5_isClient 8 = .ok (.iconst 1, 1) := dk_4 (dk_at dksX5_isClient_0 8 rfl rfl)
theorem dX5_isClient_9 : decode cX5_isClient 9 = .ok (.isub, 1) := dk_100 (dk_at dksX5_isClient_0 9 rfl rfl)
theorem dX5_isClient_10 : decode cX5_isClient 10 = .ok (.invokestatic 88, 3) := dk_184 0 88 (dk_at dksX5_isClient_0 10 rfl rfl)
theorem dX5_isClient_13 : decode cX5_isClient 13 = .ok (.ireturn, 1) := dk_172 (dk_at dksX5_isClient_0 13 rfl rfl)
def dkwX5_readableBy_2 : List UInt8 := [3, 96, 62, 132, 4, 1, 167, 255, 213, 29, 172]
abbrev dktX5_readableBy_2 : List UInt8 := dkwX5_readableBy_2 ++ []
def dkwX5_readableBy_1 : List UInt8 := [21, 4, 182, 0, 137, 153, 0, 19, 28, 42, 21, 4, 4, 182, 0, 96, 126, 153, 0, 7, 4, 167, 0, 4]
abbrev dktX5_readableBy_1 : List UInt8 := dkwX5_readableBy_1 ++ dktX5_readableBy_2
def dkwX5_readableBy_0 : List UInt8 := [42, 27, 182, 0, 159, 61, 3, 62, 3, 54, 4, 21, 4, 42, 180, 0, 25, 5, 46, 162, 0, 38, 29, 42]
abbrev dktX5_readableBy_0 : List UInt8 := dkwX5_readableBy_0 ++ dktX5_readableBy_1
theorem dksX5_readableBy_0 : cX5_readableBy.data.toList.drop 0 = dktX5_readableBy_0 := by decide +kernel
theorem dksX5_readableBy_1 : cX5_readableBy.data.toList.drop 24 = dktX5_readableBy_1 := dk_seg dksX5_readableBy_0 24 rfl rfl
theorem dksX5_readableBy_2 : cX5_readableBy.data.toList.drop 48 = dktX5_readableBy_2 := dk_seg dksX5_readableBy_1 24 rfl rfl
theorem dX5_readableBy_0 : decode cX5_readableBy 0 = .ok (.aload_n 0, 1) := dk_42 (dk_at dksX5_readableBy_0 0 rfl rfl)
theorem dX5_readableBy_1 : decode cX5_readableBy 1 = .ok (.iload_n 1, 1) := dk_27 (dk_at dksX5_readableBy_0 1 rfl rfl)
theorem dX5_readableBy_2 : decode cX5_readableBy 2 = .ok (.invokevirtual 159, 3) := dk_182 0 159 (dk_at dksX5_readableBy_0 2 rfl rfl)
theorem dX5_readableBy_5 : decode cX5_readableBy 5 = .ok (.istore_n 2, 1) := dk_61 (dk_at dksX5_readableBy_0 5 rfl rfl)
theorem dX5_readableBy_6 : decode cX5_readableBy 6 = .ok (.iconst 0, 1) := dk_3 (dk_at dksX5_readableBy_0 6 rfl rfl)
theorem dX5_readableBy_7 : decode cX5_readableBy 7 = .ok (.istore_n 3, 1) := dk_62 (dk_at dksX5_readableBy_0 7 rfl rfl)
theorem dX5_readableBy_8 : decode cX5_readableBy 8 = .ok (.iconst 0, 1) := dk_3 (dk_at dksX5_readableBy_0 8 rfl rfl)
theorem dX5_readableBy_9 : decode cX5_readableBy 9 = .ok (.istore 4, 2) := dk_54 4 (dk_at dksX5_readableBy_0 9 rfl rfl)
theorem dX5_readableBy_11 : decode cX5_readableBy 11 = .ok (.iload 4, 2) := dk_21 4 (dk_at dksX5_readableBy_0 11 rfl rfl)
theorem dX5_readableBy_13 : decode cX5_readableBy 13 = .ok (.aload_n 0, 1) := dk_42 (dk_at dksX5_readableBy_0 13 rfl rfl)
theorem dX5_readableBy_14 : decode cX5_readableBy 14 = .ok (.getfield 25, 3) := dk_180 0 25 (dk_at dksX5_readableBy_0 14 rfl rfl)
theorem dX5_readableBy_17 : decode cX5_readableBy 17 = .ok (.iconst 2, 1) := dk_5 (dk_at dksX5_readableBy_0 17 rfl rfl)
theorem dX5_readableBy_18 : decode cX5_readableBy 18 = .ok (.iaload, 1) := dk_46 (dk_at dksX5_readableBy_0 18 rfl rfl)
theorem dX5_readableBy_19 : decode cX5_readableBy 19 = .ok (.if_icmp .ge 38, 3) := dk_162 0 38 (dk_at dksX5_readableBy_0 19 rfl rfl)
theorem dX5_readableBy_22 : decode cX5_readableBy 22 = .ok (.iload_n 3, 1) := dk_29 (dk_at dksX5_readableBy_0 22 rfl rfl)
theorem dX5_readableBy_23 : decode cX5_readableBy 23 = .ok (.aload_n 0, 1) := dk_42 (dk_at dksX5_readableBy_0 23 rfl rfl)
theorem dX5_readableBy_24 : decode cX5_readableBy 24 = .ok (.iload 4, 2) := dk_21 4 (dk_at dksX5_readableBy_1 0 rfl rfl)
theorem dX5_readableBy_26 : decode cX5_readableBy 26 = .ok (.invokevirtual 137, 3) := dk_182 0 137 (dk_at dksX5_readableBy_1 2 rfl rfl)
theorem dX5_readableBy_29 : decode cX5_readableBy 29 = .ok (.ifCond .eq 19, 3) := dk_153 0 19 (dk_at dksX5_readableBy_1 5 rfl rfl)
theorem dX5_readableBy_32 : decode cX5_readableBy 32 = .ok (.iload_n 2, 1) := dk_28 (dk_at dksX5_readableBy_1 8 rfl rfl)
theorem dX5_readableBy_33 : decode cX5_readableBy 33 = .ok (.aload_n 0, 1) := dk_42 (dk_at dksX5_readableBy_1 9 rfl rfl)
theorem dX5_readableBy_34 : decode cX5_readableBy 34 = .ok (.iload 4, 2) := dk_21 4 (dk_at dksX5_readableBy_1 10 rfl rfl)
theorem dX5_readableBy_36 : decode cX5_readableBy 36 = .ok (.iconst 1, 1) := dk_4 (dk_at dksX5_readableBy_1 12 rfl rfl)
theorem dX5_readableBy_37 : decode cX5_readableBy 37 = .ok (.invokevirtual 96, 3) := dk_182 0 96 (dk_at dksX5_readableBy_1 13 rfl rfl)
theorem dX5_readableBy_40 : decode cX5_readableBy 40 = .ok (.iand, 1) := dk_126 (dk_at dksX5_readableBy_1 16 rfl rfl)
theorem dX5_readableBy_41 : decode cX5_readableBy 41 = .ok (.ifCond .eq 7, 3) := dk_153 0 7 (dk_at dksX5_readableBy_1 17 rfl rfl)
theorem dX5_readableBy_44 : decode cX5_readableBy 44 = .ok (.iconst 1, 1) := dk_4 (dk_at dksX5_readableBy_1 20 rfl rfl)
theorem dX5_readableBy_45 : decode cX5_readableBy 45 = .ok (.goto 4, 3) := dk_167 0 4 (dk_at dksX5_readableBy_1 21 rfl rfl)
theorem dX5_readableBy_48 : decode cX5_readableBy 48 = .ok (.iconst 0, 1) := dk_3 (dk_at dksX5_readableBy_2 0 rfl rfl)
theorem dX5_readableBy_49 : decode cX5_readableBy 49 = .ok (.iadd, 1) := dk_96 (dk_at dksX5_readableBy_2 1 rfl rfl)
theorem dX5_readableBy_50 : decode cX5_readableBy 50 = .ok (.istore_n 3, 1) := dk_62 (dk_at dksX5_readableBy_2 2 rfl rfl)
theorem dX5_readableBy_51 : decode cX5_readableBy 51 = .ok (.iinc 4 1, 3) := dk_132 4 1 (dk_at dksX5_readableBy_2 3 rfl rfl)
theorem dX5_readableBy_54 : decode cX5_readableBy 54 = .ok (.goto (-43), 3) := dk_167 255 213 (dk_at dksX5_readableBy_2 6 rfl rfl)
theorem dX5_readableBy_57 : decode cX5_readableBy 57 = .ok (.iload_n 3, 1) := dk_29 (dk_at dksX5_readableBy_2 9 rfl rfl)
theorem dX5_readableBy_58 : decode cX5_readableBy 58 = .ok (.ireturn, 1) := dk_172 (dk_at dksX5_readableBy_2 10 rfl rfl)
def dkwX5_greatestOf_1 : List UInt8 := [132, 2, 1, 167, 255, 233, 27, 172]
abbrev dktX5_greatestOf_1 : List UInt8 := dkwX5_greatestOf_1 ++ []
def dkwX5_greatestOf_0 : List UInt8 := [2, 60, 3, 61, 28, 16, 30, 162, 0, 23, 26, 28, 184, 0, 130, 153, 0, 7, 28, 167, 0, 4, 27, 60]
abbrev dktX5_greatestOf_0 : List UInt8 := dkwX5_greatestOf_0 ++ dktX5_greatestOf_1
theorem dksX5_greatestOf_0 : cX5_greatestOf.data.toList.drop 0 = dktX5_greatestOf_0 := by decide +kernel
theorem dksX5_greatestOf_1 : cX5_greatestOf.data.toList.drop 24 = dktX5_greatestOf_1 := dk_seg dksX5_greatestOf_0 24 rfl rfl
theorem dX5_greatestOf_0 : decode cX5_greatestOf 0 = .ok (.iconst (-1), 1) := dk_2 (dk_at dksX5_greatestOf_0 0 rfl rfl)
theorem dX5_greatestOf_1 : decode cX5_greatestOf 1 = .ok (.istore_n 1, 1) := dk_60 (dk_at dksX5_greatestOf_0 1 rfl rfl)
theorem dX5_greatestOf_2 : decode cX5_greatestOf 2 = .ok (.iconst 0, 1) := dk_3 (dk_at dksX5_greatestOf_0 2 rfl rfl)
theorem dX5_greatestOf_3 : decode cX5_greatestOf 3 = .ok (.istore_n 2, 1) := dk_61 (dk_at dksX5_greatestOf_0 3 rfl rfl)
theorem dX5_greatestOf_4 : decode cX5_greatestOf 4 = .ok (.iload_n 2, 1) := dk_28 (dk_at dksX5_greatestOf_0 4 rfl rfl)
theorem dX5_greatestOf_5 : decode cX5_greatestOf 5 = .ok (.bipush 30, 2) := dk_16 30 (dk_at dksX5_greatestOf_0 5 rfl rfl)
theorem dX5_greatestOf_7 : decode cX5_greatestOf 7 = .ok (.if_icmp .ge 23, 3) := dk_162 0 23 (dk_at dksX5_greatestOf_0 7 rfl rfl)
theorem dX5_greatestOf_10 : decode cX5_greatestOf 10 = .ok (.iload_n 0, 1) := dk_26 (dk_at dksX5_greatestOf_0 10 rfl rfl)
theorem dX5_greatestOf_11 : decode cX5_greatestOf 11 = .ok (.iload_n 2, 1) := dk_28 (dk_at dksX5_greatestOf_0 11 rfl rfl)
theorem dX5_greatestOf_12 : decode cX5_greatestOf 12 = .ok (.invokestatic 130, 3) := dk_184 0 130 (dk_at dksX5_greatestOf_0 12 rfl rfl)
theorem dX5_greatestOf_15 : decode cX5_greatestOf 15 = .ok (.ifCond .eq 7, 3) := dk_153 0 7 (dk_at dksX5_greatestOf_0 15 rfl rfl)
theorem dX5_greatestOf_18 : decode cX5_greatestOf 18 = .ok (.iload_n 2, 1) := dk_28 (dk_at dksX5_greatestOf_0 18 rfl rfl)
theorem dX5_greatestOf_19 : decode cX5_greatestOf 19 = .ok (.goto 4, 3) := dk_167 0 4 (dk_at dksX5_greatestOf_0 19 rfl rfl)
theorem dX5_greatestOf_22 : decode cX5_greatestOf 22 = .ok (.iload_n 1, 1) := dk_27 (dk_at dksX5_greatestOf_0 22 rfl rfl)
theorem dX5_greatestOf_23 : decode cX5_greatestOf 23 = .ok (.istore_n 1, 1) := dk_60 (dk_at dksX5_greatestOf_0 23 rfl rfl)
theorem dX5_greatestOf_24 : decode cX5_greatestOf 24 = .ok (.iinc 2 1, 3) := dk_132 2 1 (dk_at dksX5_greatestOf_1 0 rfl rfl)
theorem dX5_greatestOf_27 : decode cX5_greatestOf 27 = .ok (.goto (-23), 3) := dk_167 255 233 (dk_at dksX5_greatestOf_1 3 rfl rfl)
theorem dX5_greatestOf_30 : decode cX5_greatestOf 30 = .ok (.iload_n 1, 1) := dk_27 (dk_at dksX5_greatestOf_1 6 rfl rfl)
theorem dX5_greatestOf_31 : decode cX5_greatestOf 31 = .ok (.ireturn, 1) := dk_172 (dk_at dksX5_greatestOf_1 7 rfl rfl)
def dkwX5_canUse_2 : List UInt8 := [172]
abbrev dktX5_canUse_2 : List UInt8 := dkwX5_canUse_2 ++ []
def dkwX5_canUse_1 : List UInt8 := [181, 0, 71, 42, 180, 0, 71, 154, 0, 16, 42, 27, 28, 182, 0, 156, 153, 0, 7, 4, 167, 0, 4, 3]
abbrev dktX5_canUse_1 : List UInt8 := dkwX5_canUse_1 ++ dktX5_canUse_2
def dkwX5_canUse_0 : List UInt8 := [42, 42, 27, 182, 0, 206, 153, 0, 15, 42, 28, 182, 0, 200, 153, 0, 7, 3, 167, 0, 4, 4]
abbrev dktX5_canUse_0 : List UInt8 := dkwX5_canUse_0 ++ dktX5_canUse_1
theorem dksX5_canUse_0 : cX5_canUse.data.toList.drop 0 = dktX5_canUse_0 := by decide +kernel
theorem dksX5_canUse_1 : cX5_canUse.data.toList.drop 22 = dktX5_canUse_1 := dk_seg dksX5_canUse_0 22 rfl rfl
theorem dksX5_canUse_2 : cX5_canUse.data.toList.drop 46 = dktX5_canUse_2 := dk_seg dksX5_canUse_1 24 rfl rfl
theorem dX5_canUse_0 : decode cX5_canUse 0 = .ok (.aload_n 0, 1) := dk_42 (dk_at dksX5_canUse_0 0 rfl rfl)
theorem dX5_canUse_1 : decode cX5_canUse 1 = .ok (.aload_n 0, 1) := dk_42 (dk_at dksX5_canUse_0 1 rfl rfl)
theorem dX5_canUse_2 : decode cX5_canUse 2 = .ok (.iload_n 1, 1) := dk_27 (dk_at dksX5_canUse_0 2 rfl rfl)
theorem dX5_canUse_3 : decode cX5_canUse 3 = .ok (.invokevirtual 206, 3) := dk_182 0 206 (dk_at dksX5_canUse_0 3 rfl rfl)
theorem dX5_canUse_6 : decode cX5_canUse 6 = .ok (.ifCond .eq 15, 3) := dk_153 0 15 (dk_at dksX5_canUse_0 6 rfl rfl)
theorem dX5_canUse_9 : decode cX5_canUse 9 = .ok (.aload_n 0, 1) := dk_42 (dk_at dksX5_canUse_0 9 rfl rfl)
theorem dX5_canUse_10 : decode cX5_canUse 10 = .ok (.iload_n 2, 1) := dk_28 (dk_at dksX5_canUse_0 10 rfl rfl)
theorem dX5_canUse_11 : decode cX5_canUse 11 = .ok (.invokevirtual 200, 3) := dk_182 0 200 (dk_at dksX5_canUse_0 11 rfl rfl)
theorem dX5_canUse_14 : decode cX5_canUse 14 = .ok (.ifCond .eq 7, 3) := dk_153 0 7 (dk_at dksX5_canUse_0 14 rfl rfl)
theorem dX5_canUse_17 : decode cX5_canUse 17 = .ok (.iconst 0, 1) := dk_3 (dk_at dksX5_canUse_0 17 rfl rfl)
theorem dX5_canUse_18 : decode cX5_canUse 18 = .ok (.goto 4, 3) := dk_167 0 4 (dk_at dksX5_canUse_0 18 rfl rfl)
theorem dX5_canUse_21 : decode cX5_canUse 21 = .ok (.iconst 1, 1) := dk_4 (dk_at dksX5_canUse_0 21 rfl rfl)
theorem dX5_canUse_22 : decode cX5_canUse 22 = .ok (.putfield 71, 3) := dk_181 0 71 (dk_at dksX5_canUse_1 0 rfl rfl)
theorem dX5_canUse_25 : decode cX5_canUse 25 = .ok (.aload_n 0, 1) := dk_42 (dk_at dksX5_canUse_1 3 rfl rfl)
theorem dX5_canUse_26 : decode cX5_canUse 26 = .ok (.getfield 71, 3) := dk_180 0 71 (dk_at dksX5_canUse_1 4 rfl rfl)
theorem dX5_canUse_29 : decode cX5_canUse 29 = .ok (.ifCond .ne 16, 3) := dk_154 0 16 (dk_at dksX5_canUse_1 7 rfl rfl)
theorem dX5_canUse_32 : decode cX5_canUse 32 = .ok (.aload_n 0, 1) := dk_42 (dk_at dksX5_canUse_1 10 rfl rfl)
theorem dX5_canUse_33 : decode cX5_canUse 33 = .ok (.iload_n 1, 1) := dk_27 (dk_at dksX5_canUse_1 11 rfl rfl)
theorem dX5_canUse_34 : decode cX5_canUse 34 = .ok (.iload_n 2, 1) := dk_28 (dk_at dksX5_canUse_1 12 rfl rfl)
theorem dX5_canUse_35 : decode cX5_canUse 35 = .ok (.invokevirtual 156, 3) := dk_182 0 156 (dk_at dksX5_canUse_1 13 rfl rfl)
theorem dX5_canUse_38 : decode cX5_canUse 38 = .ok (.ifCond .eq 7, 3) := dk_153 0 7 (dk_at dksX5_canUse_1 16 rfl rfl)
theorem dX5_canUse_41 : decode cX5_canUse 41 = .ok (.iconst 1, 1) := dk_4 (dk_at dksX5_canUse_1 19 rfl rfl)
theorem dX5_canUse_42 : decode cX5_canUse 42 = .ok (.goto 4, 3) := dk_167 0 4 (dk_at dksX5_canUse_1 20 rfl rfl)
theorem dX5_canUse_45 : decode cX5_canUse 45 = .ok (.iconst 0, 1) := dk_3 (dk_at dksX5_canUse_1 23 rfl rfl)
theorem dX5_canUse_46 : decode cX5_canUse 46 = .ok (.ireturn, 1) := dk_172 (dk_at dksX5_canUse_2 0 rfl rfl)
def dkwX5_readsBy_1 : List UInt8 := [182, 0, 215, 167, 0, 8, 42, 4, 182, 0, 197, 172]
abbrev dktX5_readsBy_1 : List UInt8 := dkwX5_readsBy_1 ++ []
def dkwX5_readsBy_0 : List UInt8 := [42, 3, 181, 0, 71, 42, 27, 182, 0, 206, 153, 0, 20, 42, 28, 182, 0, 137, 153, 0, 12, 42, 27, 28]
abbrev dktX5_readsBy_0 : List UInt8 := dkwX5_readsBy_0 ++ dktX5_readsBy_1
theorem dksX5_readsBy_0 : cX5_readsBy.data.toList.drop 0 = dktX5_readsBy_0 := by decide +kernel
theorem dksX5_readsBy_1 : cX5_readsBy.data.toList.drop 24 = dktX5_readsBy_1 := dk_seg dksX5_readsBy_0 24 rfl rfl
theorem dX5_readsBy_0 : decode cX5_readsBy 0 = .ok (.aload_n 0, 1) := dk_42 (dk_at dksX5_readsBy_0 0 rfl rfl)
theorem dX5_readsBy_1 : decode cX5_readsBy 1 = .ok (.iconst 0, 1) := dk_3 (dk_at dksX5_readsBy_0 1 rfl rfl)
theorem dX5_readsBy_2 : decode cX5_readsBy 2 = .ok (.putfield 71, 3) := dk_181 0 71 (dk_at dksX5_readsBy_0 2 rfl rfl)
theorem dX5_readsBy_5 : decode cX5_readsBy 5 = .ok (.aload_n 0, 1) := dk_42 (dk_at dksX5_readsBy_0 5 rfl rfl)
theorem dX5_readsBy_6 : decode cX5_readsBy 6 = .ok (.iload_n 1, 1) := dk_27 (dk_at dksX5_readsBy_0 6 rfl rfl)
theorem dX5_readsBy_7 : decode cX5_readsBy 7 = .ok (.invokevirtual 206, 3) := dk_182 0 206 (dk_at dksX5_readsBy_0 7 rfl rfl)
theorem dX5_readsBy_10 : decode cX5_readsBy 10 = .ok (.ifCond .eq 20, 3) := dk_153 0 20 (dk_at dksX5_readsBy_0 10 rfl rfl)
theorem dX5_readsBy_13 : decode cX5_readsBy 13 = .ok (.aload_n 0, 1) := dk_42 (dk_at dksX5_readsBy_0 13 rfl rfl)
theorem dX5_readsBy_14 : decode cX5_readsBy 14 = .ok (.iload_n 2, 1) := dk_28 (dk_at dksX5_readsBy_0 14 rfl rfl)
theorem dX5_readsBy_15 : decode cX5_readsBy 15 = .ok (.invokevirtual 137, 3) := dk_182 0 137 (dk_at dksX5_readsBy_0 15 rfl rfl)
theorem dX5_readsBy_18 : decode cX5_readsBy 18 = .ok (.ifCond .eq 12, 3) := dk_153 0 12 (dk_at dksX5_readsBy_0 18 rfl rfl)
theorem dX5_readsBy_21 : decode cX5_readsBy 21 = .ok (.aload_n 0, 1) := dk_42 (dk_at dksX5_readsBy_0 21 rfl rfl)
theorem dX5_readsBy_22 : decode cX5_readsBy 22 = .ok (.iload_n 1, 1) := dk_27 (dk_at dksX5_readsBy_0 22 rfl rfl)
theorem dX5_readsBy_23 : decode cX5_readsBy 23 = .ok (.iload_n 2, 1) := dk_28 (dk_at dksX5_readsBy_0 23 rfl rfl)
theorem dX5_readsBy_24 : decode cX5_readsBy 24 = .ok (.invokevirtual 215, 3) := dk_182 0 215 (dk_at dksX5_readsBy_1 0 rfl rfl)
theorem dX5_readsBy_27 : decode cX5_readsBy 27 = .ok (.goto 8, 3) := dk_167 0 8 (dk_at dksX5_readsBy_1 3 rfl rfl)
theorem dX5_readsBy_30 : decode cX5_readsBy 30 = .ok (.aload_n 0, 1) := dk_42 (dk_at dksX5_readsBy_1 6 rfl rfl)
theorem dX5_readsBy_31 : decode cX5_readsBy 31 = .ok (.iconst 1, 1) := dk_4 (dk_at dksX5_readsBy_1 7 rfl rfl)
theorem dX5_readsBy_32 : decode cX5_readsBy 32 = .ok (.invokevirtual 197, 3) := dk_182 0 197 (dk_at dksX5_readsBy_1 8 rfl rfl)
theorem dX5_readsBy_35 : decode cX5_readsBy 35 = .ok (.ireturn, 1) := dk_172 (dk_at dksX5_readsBy_1 11 rfl rfl)
def dkwX5_readWith_0 : List UInt8 := [42, 27, 182, 0, 159, 42, 28, 4, 182, 0, 96, 126, 184, 0, 212, 172]
abbrev dktX5_readWith_0 : List UInt8 := dkwX5_readWith_0 ++ []
theorem dksX5_readWith_0 : cX5_readWith.data.toList.drop 0 = dktX5_readWith_0 := by decide +kernel
theorem dX5_readWith_0 : decode cX5_readWith 0 = .ok (.aload_n 0, 1) := dk_42 (dk_at dksX5_readWith_0 0 rfl rfl)
theorem dX5_readWith_1 : decode cX5_readWith 1 = .ok (.iload_n 1, 1) := dk_27 (dk_at dksX5_readWith_0 1 rfl rfl)
theorem dX5_readWith_2 : decode cX5_readWith 2 = .ok (.invokevirtual 159, 3) := dk_182 0 159 (dk_at dksX5_readWith_0 2 rfl rfl)
theorem dX5_readWith_5 : decode cX5_readWith 5 = .ok (.aload_n 0, 1) := dk_42 (dk_at dksX5_readWith_0 5 rfl rfl)
theorem dX5_readWith_6 : decode cX5_readWith 6 = .ok (.iload_n 2, 1) := dk_28 (dk_at dksX5_readWith_0 6 rfl rfl)
theorem dX5_readWith_7 : decode cX5_readWith 7 = .ok (.iconst 1, 1) := dk_4 (dk_at dksX5_readWith_0 7 rfl rfl)
theorem dX5_readWith_8 : decode cX5_readWith 8 = .ok (.invokevirtual 96, 3) := dk_182 0 96 (dk_at dksX5_readWith_0 8 rfl rfl)
theorem dX5_readWith_11 : decode cX5_readWith 11 = .ok (.iand, 1) := dk_126 (dk_at dksX5_readWith_0 11 rfl rfl)
theorem dX5_readWith_12 : decode cX5_readWith 12 = .ok (.invokestatic 212, 3) := dk_184 0 212 (dk_at dksX5_readWith_0 12 rfl rfl)
theorem dX5_readWith_15 : decode cX5_readWith 15 = .ok (.ireturn, 1) := dk_172 (dk_at dksX5_readWith_0 15 rfl rfl)
def dkwX5_couldRead_2 : List UInt8 := [28, 27, 184, 0, 178, 46, 167, 0, 4, 2, 172]
abbrev dktX5_couldRead_2 : List UInt8 := dkwX5_couldRead_2 ++ []
def dkwX5_couldRead_1 : List UInt8 := [42, 180, 0, 9, 16, 10, 46, 100, 4, 96, 42, 182, 0, 105, 184, 0, 88, 153, 0, 16, 42, 180, 0, 9]
abbrev dktX5_couldRead_1 : List UInt8 := dkwX5_couldRead_1 ++ dktX5_couldRead_2
def dkwX5_couldRead_0 : List UInt8 := [42, 3, 181, 0, 71, 42, 27, 182, 0, 92, 154, 0, 9, 42, 4, 182, 0, 197, 172, 28, 42, 182, 0, 105]
abbrev dktX5_couldRead_0 : List UInt8 := dkwX5_couldRead_0 ++ dktX5_couldRead_1
theorem dksX5_couldRead_0 : cX5_couldRead.data.toList.drop 0 = dktX5_couldRead_0 := by decide +kernel
theorem dksX5_couldRead_1 : cX5_couldRead.data.toList.drop 24 = dktX5_couldRead_1 := dk_seg dksX5_couldRead_0 24 rfl rfl
theorem dksX5_couldRead_2 : cX5_couldRead.data.toList.drop 48 = dktX5_couldRead_2 := dk_seg dksX5_couldRead_1 24 rfl rfl
theorem dX5_couldRead_0 : decode cX5_couldRead 0 = .ok (.aload_n 0, 1) := dk_42 (dk_at dksX5_couldRead_0 0 rfl rfl)
theorem dX5_couldRead_1 : decode cX5_couldRead 1 = .ok (.iconst 0, 1) := dk_3 (dk_at dksX5_couldRead_0 1 rfl rfl)
theorem dX5_couldRead_2 : decode cX5_couldRead 2 = .ok (.putfield 71, 3) := dk_181 0 71 (dk_at dksX5_couldRead_0 2 rfl rfl)
theorem dX5_couldRead_5 : decode cX5_couldRead 5 = .ok (.aload_n 0, 1) := dk_42 (dk_at dksX5_couldRead_0 5 rfl rfl)
theorem dX5_couldRead_6 : decode cX5_couldRead 6 = .ok (.iload_n 1, 1) := dk_27 (dk_at dksX5_couldRead_0 6 rfl rfl)
theorem dX5_couldRead_7 : decode cX5_couldRead 7 = .ok (.invokevirtual 92, 3) := dk_182 0 92 (dk_at dksX5_couldRead_0 7 rfl rfl)
theorem dX5_couldRead_10 : decode cX5_couldRead 10 = .ok (.ifCond .ne 9, 3) := dk_154 0 9 (dk_at dksX5_couldRead_0 10 rfl rfl)
theorem dX5_couldRead_13 : decode cX5_couldRead 13 = .ok (.aload_n 0, 1) := dk_42 (dk_at dksX5_couldRead_0 13 rfl rfl)
theorem dX5_couldRead_14 : decode cX5_couldRead 14 = .ok (.iconst 1, 1) := dk_4 (dk_at dksX5_couldRead_0 14 rfl rfl)
theorem dX5_couldRead_15 : decode cX5_couldRead 15 = .ok (.invokevirtual 197, 3) := dk_182 0 197 (dk_at dksX5_couldRead_0 15 rfl rfl)
theorem dX5_couldRead_18 : decode cX5_couldRead 18 = .ok (.ireturn, 1) := dk_172 (dk_at dksX5_couldRead_0 18 rfl rfl)
theorem dX5_couldRead_19 : decode cX5_couldRead 19 = .ok (.iload_n 2, 1) := dk_28 (dk_at dksX5_couldRead_0 19 rfl rfl)
theorem dX5_couldRead_20 : decode cX5_couldRead 20 = .ok (.aload_n 0, 1) := dk_42 (dk_at dksX5_couldRead_0 20 rfl rfl)
theorem dX5_couldRead_21 : decode cX5_couldRead 21 = .ok (.invokevirtual 105, 3) := dk_182 0 105 (dk_at dksX5_couldRead_0 21 rfl rfl)
theorem dX5_couldRead_24 : decode cX5_couldRead 24 = .ok (.aload_n 0, 1) := dk_42 (dk_at dksX5_couldRead_1 0 rfl rfl)
theorem dX5_couldRead_25 : decode cX5_couldRead 25 = .ok (.getfield 9, 3) := dk_180 0 9 (dk_at dksX5_couldRead_1 1 rfl rfl)
theorem dX5_couldRead_28 : decode cX5_couldRead 28 = .ok (.bipush 10, 2) := dk_16 10 (dk_at dksX5_couldRead_1 4 rfl rfl)
theorem dX5_couldRead_30 : decode cX5_couldRead 30 = .ok (.iaload, 1) := dk_46 (dk_at dksX5_couldRead_1 6 rfl rfl)
theorem dX5_couldRead_31 : decode cX5_couldRead 31 = .ok (.isub, 1) := dk_100 (dk_at dksX5_couldRead_1 7 rfl rfl)
theorem dX5_couldRead_32 : decode cX5_couldRead 32 = .ok (.iconst 1, 1) := dk_4 (dk_at dksX5_couldRead_1 8 rfl rfl)
theorem dX5_couldRead_33 : decode cX5_couldRead 33 = .ok (.iadd, 1) := dk_96 (dk_at dksX5_couldRead_1 9 rfl rfl)
theorem dX5_couldRead_34 : decode cX5_couldRead 34 = .ok (.aload_n 0, 1) := dk_42 (dk_at dksX5_couldRead_1 10 rfl rfl)
theorem dX5_couldRead_35 : decode cX5_couldRead 35 = .ok (.invokevirtual 105, 3) := dk_182 0 105 (dk_at dksX5_couldRead_1 11 rfl rfl)
theorem dX5_couldRead_38 : decode cX5_couldRead 38 = .ok (.invokestatic 88, 3) := dk_184 0 88 (dk_at dksX5_couldRead_1 14 rfl rfl)
theorem dX5_couldRead_41 : decode cX5_couldRead 41 = .ok (.ifCond .eq 16, 3) := dk_153 0 16 (dk_at dksX5_couldRead_1 17 rfl rfl)
theorem dX5_couldRead_44 : decode cX5_couldRead 44 = .ok (.aload_n 0, 1) := dk_42 (dk_at dksX5_couldRead_1 20 rfl rfl)
theorem dX5_couldRead_45 : decode cX5_couldRead 45 = .ok (.getfield 9, 3) := dk_180 0 9 (dk_at dksX5_couldRead_1 21 rfl rfl)
theorem dX5_couldRead_48 : decode cX5_couldRead 48 = .ok (.iload_n 2, 1) := dk_28 (dk_at dksX5_couldRead_2 0 rfl rfl)
theorem dX5_couldRead_49 : decode cX5_couldRead 49 = .ok (.iload_n 1, 1) := dk_27 (dk_at dksX5_couldRead_2 1 rfl rfl)
theorem dX5_couldRead_50 : decode cX5_couldRead 50 = .ok (.invokestatic 178, 3) := dk_184 0 178 (dk_at dksX5_couldRead_2 2 rfl rfl)
theorem dX5_couldRead_53 : decode cX5_couldRead 53 = .ok (.iaload, 1) := dk_46 (dk_at dksX5_couldRead_2 5 rfl rfl)
theorem dX5_couldRead_54 : decode cX5_couldRead 54 = .ok (.goto 4, 3) := dk_167 0 4 (dk_at dksX5_couldRead_2 6 rfl rfl)
theorem dX5_couldRead_57 : decode cX5_couldRead 57 = .ok (.iconst (-1), 1) := dk_2 (dk_at dksX5_couldRead_2 9 rfl rfl)
theorem dX5_couldRead_58 : decode cX5_couldRead 58 = .ok (.ireturn, 1) := dk_172 (dk_at dksX5_couldRead_2 10 rfl rfl)
def dkwX5_seenAt_0 : List UInt8 := [17, 3, 21, 16, 30, 26, 16, 48, 112, 104, 96, 27, 96, 172]
abbrev dktX5_seenAt_0 : List UInt8 := dkwX5_seenAt_0 ++ []
theorem dksX5_seenAt_0 : cX5_seenAt.data.toList.drop 0 = dktX5_seenAt_0 := by decide +kernel
theorem dX5_seenAt_0 : decode cX5_seenAt 0 = .ok (.sipush 789, 3) := dk_17 3 21 (dk_at dksX5_seenAt_0 0 rfl rfl)
theorem dX5_seenAt_3 : decode cX5_seenAt 3 = .ok (.bipush 30, 2) := dk_16 30 (dk_at dksX5_seenAt_0 3 rfl rfl)
theorem dX5_seenAt_5 : decode cX5_seenAt 5 = .ok (.iload_n 0, 1) := dk_26 (dk_at dksX5_seenAt_0 5 rfl rfl)
theorem dX5_seenAt_6 : decode cX5_seenAt 6 = .ok (.bipush 48, 2) := dk_16 48 (dk_at dksX5_seenAt_0 6 rfl rfl)
theorem dX5_seenAt_8 : decode cX5_seenAt 8 = .ok (.irem, 1) := dk_112 (dk_at dksX5_seenAt_0 8 rfl rfl)
theorem dX5_seenAt_9 : decode cX5_seenAt 9 = .ok (.imul, 1) := dk_104 (dk_at dksX5_seenAt_0 9 rfl rfl)
theorem dX5_seenAt_10 : decode cX5_seenAt 10 = .ok (.iadd, 1) := dk_96 (dk_at dksX5_seenAt_0 10 rfl rfl)
theorem dX5_seenAt_11 : decode cX5_seenAt 11 = .ok (.iload_n 1, 1) := dk_27 (dk_at dksX5_seenAt_0 11 rfl rfl)
theorem dX5_seenAt_12 : decode cX5_seenAt 12 = .ok (.iadd, 1) := dk_96 (dk_at dksX5_seenAt_0 12 rfl rfl)
theorem dX5_seenAt_13 : decode cX5_seenAt 13 = .ok (.ireturn, 1) := dk_172 (dk_at dksX5_seenAt_0 13 rfl rfl)
def dkwX5_sweepAt_2 : List UInt8 := [61, 42, 28, 182, 0, 147, 62, 132, 4, 1, 167, 255, 230, 29, 172]
abbrev dktX5_sweepAt_2 : List UInt8 := dkwX5_sweepAt_2 ++ []
def dkwX5_sweepAt_1 : List UInt8 := [167, 0, 4, 2, 62, 3, 54, 4, 21, 4, 27, 162, 0, 26, 29, 2, 159, 0, 21, 28, 4, 29, 120, 128]
abbrev dktX5_sweepAt_1 : List UInt8 := dkwX5_sweepAt_1 ++ dktX5_sweepAt_2
def dkwX5_sweepAt_0 : List UInt8 := [42, 3, 181, 0, 71, 3, 61, 27, 3, 16, 29, 184, 0, 88, 153, 0, 11, 42, 3, 182, 0, 147]
abbrev dktX5_sweepAt_0 : List UInt8 := dkwX5_sweepAt_0 ++ dktX5_sweepAt_1
theorem dksX5_sweepAt_0 : cX5_sweepAt.data.toList.drop 0 = dktX5_sweepAt_0 := by decide +kernel
theorem dksX5_sweepAt_1 : cX5_sweepAt.data.toList.drop 22 = dktX5_sweepAt_1 := dk_seg dksX5_sweepAt_0 22 rfl rfl
theorem dksX5_sweepAt_2 : cX5_sweepAt.data.toList.drop 46 = dktX5_sweepAt_2 := dk_seg dksX5_sweepAt_1 24 rfl rfl
theorem dX5_sweepAt_0 : decode cX5_sweepAt 0 = .ok (.aload_n 0, 1) := dk_42 (dk_at dksX5_sweepAt_0 0 rfl rfl)
theorem dX5_sweepAt_1 : decode cX5_sweepAt 1 = .ok (.iconst 0, 1) := dk_3 (dk_at dksX5_sweepAt_0 1 rfl rfl)
theorem dX5_sweepAt_2 : decode cX5_sweepAt 2 = .ok (.putfield 71, 3) := dk_181 0 71 (dk_at dksX5_sweepAt_0 2 rfl rfl)
theorem dX5_sweepAt_5 : decode cX5_sweepAt 5 = .ok (.iconst 0, 1) := dk_3 (dk_at dksX5_sweepAt_0 5 rfl rfl)
theorem dX5_sweepAt_6 : decode cX5_sweepAt 6 = .ok (.istore_n 2, 1) := dk_61 (dk_at dksX5_sweepAt_0 6 rfl rfl)
theorem dX5_sweepAt_7 : decode cX5_sweepAt 7 = .ok (.iload_n 1, 1) := dk_27 (dk_at dksX5_sweepAt_0 7 rfl rfl)
theorem dX5_sweepAt_8 : decode cX5_sweepAt 8 = .ok (.iconst 0, 1) := dk_3 (dk_at dksX5_sweepAt_0 8 rfl rfl)
theorem dX5_sweepAt_9 : decode cX5_sweepAt 9 = .ok (.bipush 29, 2) := dk_16 29 (dk_at dksX5_sweepAt_0 9 rfl rfl)
theorem dX5_sweepAt_11 : decode cX5_sweepAt 11 = .ok (.invokestatic 88, 3) := dk_184 0 88 (dk_at dksX5_sweepAt_0 11 rfl rfl)
theorem dX5_sweepAt_14 : decode cX5_sweepAt 14 = .ok (.ifCond .eq 11, 3) := dk_153 0 11 (dk_at dksX5_sweepAt_0 14 rfl rfl)
theorem dX5_sweepAt_17 : decode cX5_sweepAt 17 = .ok (.aload_n 0, 1) := dk_42 (dk_at dksX5_sweepAt_0 17 rfl rfl)
theorem dX5_sweepAt_18 : decode cX5_sweepAt 18 = .ok (.iconst 0, 1) := dk_3 (dk_at dksX5_sweepAt_0 18 rfl rfl)
theorem dX5_sweepAt_19 : decode cX5_sweepAt 19 = .ok (.invokevirtual 147, 3) := dk_182 0 147 (dk_at dksX5_sweepAt_0 19 rfl rfl)
theorem dX5_sweepAt_22 : decode cX5_sweepAt 22 = .ok (.goto 4, 3) := dk_167 0 4 (dk_at dksX5_sweepAt_1 0 rfl rfl)
theorem dX5_sweepAt_25 : decode cX5_sweepAt 25 = .ok (.iconst (-1), 1) := dk_2 (dk_at dksX5_sweepAt_1 3 rfl rfl)
theorem dX5_sweepAt_26 : decode cX5_sweepAt 26 = .ok (.istore_n 3, 1) := dk_62 (dk_at dksX5_sweepAt_1 4 rfl rfl)
theorem dX5_sweepAt_27 : decode cX5_sweepAt 27 = .ok (.iconst 0, 1) := dk_3 (dk_at dksX5_sweepAt_1 5 rfl rfl)
theorem dX5_sweepAt_28 : decode cX5_sweepAt 28 = .ok (.istore 4, 2) := dk_54 4 (dk_at dksX5_sweepAt_1 6 rfl rfl)
theorem dX5_sweepAt_30 : decode cX5_sweepAt 30 = .ok (.iload 4, 2) := dk_21 4 (dk_at dksX5_sweepAt_1 8 rfl rfl)
theorem dX5_sweepAt_32 : decode cX5_sweepAt 32 = .ok (.iload_n 1, 1) := dk_27 (dk_at dksX5_sweepAt_1 10 rfl rfl)
theorem dX5_sweepAt_33 : decode cX5_sweepAt 33 = .ok (.if_icmp .ge 26, 3) := dk_162 0 26 (dk_at dksX5_sweepAt_1 11 rfl rfl)
theorem dX5_sweepAt_36 : decode cX5_sweepAt 36 = .ok (.iload_n 3, 1) := dk_29 (dk_at dksX5_sweepAt_1 14 rfl rfl)
theorem dX5_sweepAt_37 : decode cX5_sweepAt 37 = .ok (.iconst (-1), 1) := dk_2 (dk_at dksX5_sweepAt_1 15 rfl rfl)
theorem dX5_sweepAt_38 : decode cX5_sweepAt 38 = .ok (.if_icmp .eq 21, 3) := dk_159 0 21 (dk_at dksX5_sweepAt_1 16 rfl rfl)
theorem dX5_sweepAt_41 : decode cX5_sweepAt 41 = .ok (.iload_n 2, 1) := dk_28 (dk_at dksX5_sweepAt_1 19 rfl rfl)
theorem dX5_sweepAt_42 : decode cX5_sweepAt 42 = .ok (.iconst 1, 1) := dk_4 (dk_at dksX5_sweepAt_1 20 rfl rfl)
theorem dX5_sweepAt_43 : decode cX5_sweepAt 43 = .ok (.iload_n 3, 1) := dk_29 (dk_at dksX5_sweepAt_1 21 rfl rfl)
theorem dX5_sweepAt_44 : decode cX5_sweepAt 44 = .ok (.ishl, 1) := dk_120 (dk_at dksX5_sweepAt_1 22 rfl rfl)
theorem dX5_sweepAt_45 : decode cX5_sweepAt 45 = .ok (.ior, 1) := dk_128 (dk_at dksX5_sweepAt_1 23 rfl rfl)
theorem dX5_sweepAt_46 : decode cX5_sweepAt 46 = .ok (.istore_n 2, 1) := dk_61 (dk_at dksX5_sweepAt_2 0 rfl rfl)
theorem dX5_sweepAt_47 : decode cX5_sweepAt 47 = .ok (.aload_n 0, 1) := dk_42 (dk_at dksX5_sweepAt_2 1 rfl rfl)
theorem dX5_sweepAt_48 : decode cX5_sweepAt 48 = .ok (.iload_n 2, 1) := dk_28 (dk_at dksX5_sweepAt_2 2 rfl rfl)
theorem dX5_sweepAt_49 : decode cX5_sweepAt 49 = .ok (.invokevirtual 147, 3) := dk_182 0 147 (dk_at dksX5_sweepAt_2 3 rfl rfl)
theorem dX5_sweepAt_52 : decode cX5_sweepAt 52 = .ok (.istore_n 3, 1) := dk_62 (dk_at dksX5_sweepAt_2 6 rfl rfl)
theorem dX5_sweepAt_53 : decode cX5_sweepAt 53 = .ok (.iinc 4 1, 3) := dk_132 4 1 (dk_at dksX5_sweepAt_2 7 rfl rfl)
theorem dX5_sweepAt_56 : decode cX5_sweepAt 56 = .ok (.goto (-26), 3) := dk_167 255 230 (dk_at dksX5_sweepAt_2 10 rfl rfl)
theorem dX5_sweepAt_59 : decode cX5_sweepAt 59 = .ok (.iload_n 3, 1) := dk_29 (dk_at dksX5_sweepAt_2 13 rfl rfl)
theorem dX5_sweepAt_60 : decode cX5_sweepAt 60 = .ok (.ireturn, 1) := dk_172 (dk_at dksX5_sweepAt_2 14 rfl rfl)
def dkwX5_nextSwept_4 : List UInt8 := [61, 132, 4, 1, 167, 255, 167, 28, 172]
abbrev dktX5_nextSwept_4 : List UInt8 := dkwX5_nextSwept_4 ++ []
def dkwX5_nextSwept_3 : List UInt8 := [2, 159, 0, 17, 42, 21, 4, 182, 0, 144, 42, 28, 182, 0, 144, 162, 0, 8, 21, 4, 167, 0, 4, 28]
abbrev dktX5_nextSwept_3 : List UInt8 := dkwX5_nextSwept_3 ++ dktX5_nextSwept_4
def dkwX5_nextSwept_2 : List UInt8 := [4, 182, 0, 96, 29, 184, 0, 130, 154, 0, 7, 4, 167, 0, 4, 3, 54, 5, 21, 5, 153, 0, 27, 28]
abbrev dktX5_nextSwept_2 : List UInt8 := dkwX5_nextSwept_2 ++ dktX5_nextSwept_3
def dkwX5_nextSwept_1 : List UInt8 := [159, 0, 39, 42, 21, 4, 182, 0, 137, 153, 0, 30, 27, 21, 4, 184, 0, 130, 154, 0, 21, 42, 21, 4]
abbrev dktX5_nextSwept_1 : List UInt8 := dkwX5_nextSwept_1 ++ dktX5_nextSwept_2
def dkwX5_nextSwept_0 : List UInt8 := [2, 61, 42, 182, 0, 127, 62, 3, 54, 4, 21, 4, 42, 180, 0, 25, 5, 46, 162, 0, 84, 29, 2]
abbrev dktX5_nextSwept_0 : List UInt8 := dkwX5_nextSwept_0 ++ dktX5_nextSwept_1
theorem dksX5_nextSwept_0 : cX5_nextSwept.data.toList.drop 0 = dktX5_nextSwept_0 := by decide +kernel
theorem dksX5_nextSwept_1 : cX5_nextSwept.data.toList.drop 23 = dktX5_nextSwept_1 := dk_seg dksX5_nextSwept_0 23 rfl rfl
theorem dksX5_nextSwept_2 : cX5_nextSwept.data.toList.drop 47 = dktX5_nextSwept_2 := dk_seg dksX5_nextSwept_1 24 rfl rfl
theorem dksX5_nextSwept_3 : cX5_nextSwept.data.toList.drop 71 = dktX5_nextSwept_3 := dk_seg dksX5_nextSwept_2 24 rfl rfl
theorem dksX5_nextSwept_4 : cX5_nextSwept.data.toList.drop 95 = dktX5_nextSwept_4 := dk_seg dksX5_nextSwept_3 24 rfl rfl
theorem dX5_nextSwept_0 : decode cX5_nextSwept 0 = .ok (.iconst (-1), 1) := dk_2 (dk_at dksX5_nextSwept_0 0 rfl rfl)
theorem dX5_nextSwept_1 : decode cX5_nextSwept 1 = .ok (.istore_n 2, 1) := dk_61 (dk_at dksX5_nextSwept_0 1 rfl rfl)
theorem dX5_nextSwept_2 : decode cX5_nextSwept 2 = .ok (.aload_n 0, 1) := dk_42 (dk_at dksX5_nextSwept_0 2 rfl rfl)
theorem dX5_nextSwept_3 : decode cX5_nextSwept 3 = .ok (.invokevirtual 127, 3) := dk_182 0 127 (dk_at dksX5_nextSwept_0 3 rfl rfl)
theorem dX5_nextSwept_6 : decode cX5_nextSwept 6 = .ok (.istore_n 3, 1) := dk_62 (dk_at dksX5_nextSwept_0 6 rfl rfl)
theorem dX5_nextSwept_7 : decode cX5_nextSwept 7 = .ok (.iconst 0, 1) := dk_3 (dk_at dksX5_nextSwept_0 7 rfl rfl)
theorem dX5_nextSwept_8 : decode cX5_nextSwept 8 = .ok (.istore 4, 2) := dk_54 4 (dk_at dksX5_nextSwept_0 8 rfl rfl)
theorem dX5_nextSwept_10 : decode cX5_nextSwept 10 = .ok (.iload 4, 2) := dk_21 4 (dk_at dksX5_nextSwept_0 10 rfl rfl)
theorem dX5_nextSwept_12 : decode cX5_nextSwept 12 = .ok (.aload_n 0, 1) := dk_42 (dk_at dksX5_nextSwept_0 12 rfl rfl)
theorem dX5_nextSwept_13 : decode cX5_nextSwept 13 = .ok (.getfield 25, 3) := dk_180 0 25 (dk_at dksX5_nextSwept_0 13 rfl rfl)
theorem dX5_nextSwept_16 : decode cX5_nextSwept 16 = .ok (.iconst 2, 1) := dk_5 (dk_at dksX5_nextSwept_0 16 rfl rfl)
theorem dX5_nextSwept_17 : decode cX5_nextSwept 17 = .ok (.iaload, 1) := dk_46 (dk_at dksX5_nextSwept_0 17 rfl rfl)
theorem dX5_nextSwept_18 : decode cX5_nextSwept 18 = .ok (.if_icmp .ge 84, 3) := dk_162 0 84 (dk_at dksX5_nextSwept_0 18 rfl rfl)
theorem dX5_nextSwept_21 : decode cX5_nextSwept 21 = .ok (.iload_n 3, 1) := dk_29 (dk_at dksX5_nextSwept_0 21 rfl rfl)
theorem dX5_nextSwept_22 : decode cX5_nextSwept 22 = .ok (.iconst (-1), 1) := dk_2 (dk_at dksX5_nextSwept_0 22 rfl rfl)
theorem dX5_nextSwept_23 : decode cX5_nextSwept 23 = .ok (.if_icmp .eq 39, 3) := dk_159 0 39 (dk_at dksX5_nextSwept_1 0 rfl rfl)
theorem dX5_nextSwept_26 : decode cX5_nextSwept 26 = .ok (.aload_n 0, 1) := dk_42 (dk_at dksX5_nextSwept_1 3 rfl rfl)
theorem dX5_nextSwept_27 : decode cX5_nextSwept 27 = .ok (.iload 4, 2) := dk_21 4 (dk_at dksX5_nextSwept_1 4 rfl rfl)
theorem dX5_nextSwept_29 : decode cX5_nextSwept 29 = .ok (.invokevirtual 137, 3) := dk_182 0 137 (dk_at dksX5_nextSwept_1 6 rfl rfl)
theorem dX5_nextSwept_32 : decode cX5_nextSwept 32 = .ok (.ifCond .eq 30, 3) := dk_153 0 30 (dk_at dksX5_nextSwept_1 9 rfl rfl)
theorem dX5_nextSwept_35 : decode cX5_nextSwept 35 = .ok (.iload_n 1, 1) := dk_27 (dk_at dksX5_nextSwept_1 12 rfl rfl)
theorem dX5_nextSwept_36 : decode cX5_nextSwept 36 = .ok (.iload 4, 2) := dk_21 4 (dk_at dksX5_nextSwept_1 13 rfl rfl)
theorem dX5_nextSwept_38 : decode cX5_nextSwept 38 = .ok (.invokestatic 130, 3) := dk_184 0 130 (dk_at dksX5_nextSwept_1 15 rfl rfl)
theorem dX5_nextSwept_41 : decode cX5_nextSwept 41 = .ok (.ifCond .ne 21, 3) := dk_154 0 21 (dk_at dksX5_nextSwept_1 18 rfl rfl)
theorem dX5_nextSwept_44 : decode cX5_nextSwept 44 = .ok (.aload_n 0, 1) := dk_42 (dk_at dksX5_nextSwept_1 21 rfl rfl)
theorem dX5_nextSwept_45 : decode cX5_nextSwept 45 = .ok (.iload 4, 2) := dk_21 4 (dk_at dksX5_nextSwept_1 22 rfl rfl)
theorem dX5_nextSwept_47 : decode cX5_nextSwept 47 = .ok (.iconst 1, 1) := dk_4 (dk_at dksX5_nextSwept_2 0 rfl rfl)
theorem dX5_nextSwept_48 : decode cX5_nextSwept 48 = .ok (.invokevirtual 96, 3) := dk_182 0 96 (dk_at dksX5_nextSwept_2 1 rfl rfl)
theorem dX5_nextSwept_51 : decode cX5_nextSwept 51 = .ok (.iload_n 3, 1) := dk_29 (dk_at dksX5_nextSwept_2 4 rfl rfl)
theorem dX5_nextSwept_52 : decode cX5_nextSwept 52 = .ok (.invokestatic 130, 3) := dk_184 0 130 (dk_at dksX5_nextSwept_2 5 rfl rfl)
theorem dX5_nextSwept_55 : decode cX5_nextSwept 55 = .ok (.ifCond .ne 7, 3) := dk_154 0 7 (dk_at dksX5_nextSwept_2 8 rfl rfl)
theorem dX5_nextSwept_58 : decode cX5_nextSwept 58 = .ok (.iconst 1, 1) := dk_4 (dk_at dksX5_nextSwept_2 11 rfl rfl)
theorem dX5_nextSwept_59 : decode cX5_nextSwept 59 = .ok (.goto 4, 3) := dk_167 0 4 (dk_at dksX5_nextSwept_2 12 rfl rfl)
theorem dX5_nextSwept_62 : decode cX5_nextSwept 62 = .ok (.iconst 0, 1) := dk_3 (dk_at dksX5_nextSwept_2 15 rfl rfl)
theorem dX5_nextSwept_63 : decode cX5_nextSwept 63 = .ok (.istore 5, 2) := dk_54 5 (dk_at dksX5_nextSwept_2 16 rfl rfl)
theorem dX5_nextSwept_65 : decode cX5_nextSwept 65 = .ok (.iload 5, 2) := dk_21 5 (dk_at dksX5_nextSwept_2 18 rfl rfl)
theorem dX5_nextSwept_67 : decode cX5_nextSwept 67 = .ok (.ifCond .eq 27, 3) := dk_153 0 27 (dk_at dksX5_nextSwept_2 20 rfl rfl)
theorem dX5_nextSwept_70 : decode cX5_nextSwept 70 = .ok (.iload_n 2, 1) := dk_28 (dk_at dksX5_nextSwept_2 23 rfl rfl)
theorem dX5_nextSwept_71 : decode cX5_nextSwept 71 = .ok (.iconst (-1), 1) := dk_2 (dk_at dksX5_nextSwept_3 0 rfl rfl)
theorem dX5_nextSwept_72 : decode cX5_nextSwept 72 = .ok (.if_icmp .eq 17, 3) := dk_159 0 17 (dk_at dksX5_nextSwept_3 1 rfl rfl)
theorem dX5_nextSwept_75 : decode cX5_nextSwept 75 = .ok (.aload_n 0, 1) := dk_42 (dk_at dksX5_nextSwept_3 4 rfl rfl)
theorem dX5_nextSwept_76 : decode cX5_nextSwept 76 = .ok (.iload 4, 2) := dk_21 4 (dk_at dksX5_nextSwept_3 5 rfl rfl)
theorem dX5_nextSwept_78 : decode cX5_nextSwept 78 = .ok (.invokevirtual 144, 3) := dk_182 0 144 (dk_at dksX5_nextSwept_3 7 rfl rfl)
theorem dX5_nextSwept_81 : decode cX5_nextSwept 81 = .ok (.aload_n 0, 1) := dk_42 (dk_at dksX5_nextSwept_3 10 rfl rfl)
theorem dX5_nextSwept_82 : decode cX5_nextSwept 82 = .ok (.iload_n 2, 1) := dk_28 (dk_at dksX5_nextSwept_3 11 rfl rfl)
theorem dX5_nextSwept_83 : decode cX5_nextSwept 83 = .ok (.invokevirtual 144, 3) := dk_182 0 144 (dk_at dksX5_nextSwept_3 12 rfl rfl)
theorem dX5_nextSwept_86 : decode cX5_nextSwept 86 = .ok (.if_icmp .ge 8, 3) := dk_162 0 8 (dk_at dksX5_nextSwept_3 15 rfl rfl)
theorem dX5_nextSwept_89 : decode cX5_nextSwept 89 = .ok (.iload 4, 2) := dk_21 4 (dk_at dksX5_nextSwept_3 18 rfl rfl)
theorem dX5_nextSwept_91 : decode cX5_nextSwept 91 = .ok (.goto 4, 3) := dk_167 0 4 (dk_at dksX5_nextSwept_3 20 rfl rfl)
theorem dX5_nextSwept_94 : decode cX5_nextSwept 94 = .ok (.iload_n 2, 1) := dk_28 (dk_at dksX5_nextSwept_3 23 rfl rfl)
theorem dX5_nextSwept_95 : decode cX5_nextSwept 95 = .ok (.istore_n 2, 1) := dk_61 (dk_at dksX5_nextSwept_4 0 rfl rfl)
theorem dX5_nextSwept_96 : decode cX5_nextSwept 96 = .ok (.iinc 4 1, 3) := dk_132 4 1 (dk_at dksX5_nextSwept_4 1 rfl rfl)
theorem dX5_nextSwept_99 : decode cX5_nextSwept 99 = .ok (.goto (-89), 3) := dk_167 255 167 (dk_at dksX5_nextSwept_4 4 rfl rfl)
theorem dX5_nextSwept_102 : decode cX5_nextSwept 102 = .ok (.iload_n 2, 1) := dk_28 (dk_at dksX5_nextSwept_4 7 rfl rfl)
theorem dX5_nextSwept_103 : decode cX5_nextSwept 103 = .ok (.ireturn, 1) := dk_172 (dk_at dksX5_nextSwept_4 8 rfl rfl)
def dkwX5_nextIssue_3 : List UInt8 := [159, 0, 10, 29, 17, 39, 15, 164, 0, 7, 2, 167, 0, 4, 28, 172]
abbrev dktX5_nextIssue_3 : List UInt8 := dkwX5_nextIssue_3 ++ []
def dkwX5_nextIssue_2 : List UInt8 := [27, 3, 182, 0, 99, 42, 180, 0, 9, 7, 46, 96, 184, 0, 134, 62, 42, 180, 0, 9, 4, 46, 16, 30]
abbrev dktX5_nextIssue_2 : List UInt8 := dkwX5_nextIssue_2 ++ dktX5_nextIssue_3
def dkwX5_nextIssue_1 : List UInt8 := [182, 0, 99, 42, 180, 0, 9, 7, 46, 96, 42, 180, 0, 9, 16, 6, 46, 100, 184, 0, 134, 61, 28, 42]
abbrev dktX5_nextIssue_1 : List UInt8 := dkwX5_nextIssue_1 ++ dktX5_nextIssue_2
def dkwX5_nextIssue_0 : List UInt8 := [42, 3, 181, 0, 71, 42, 180, 0, 9, 4, 46, 4, 100, 60, 42, 182, 0, 105, 4, 96, 42, 27, 3]
abbrev dktX5_nextIssue_0 : List UInt8 := dkwX5_nextIssue_0 ++ dktX5_nextIssue_1
theorem dksX5_nextIssue_0 : cX5_nextIssue.data.toList.drop 0 = dktX5_nextIssue_0 := by decide +kernel
theorem dksX5_nextIssue_1 : cX5_nextIssue.data.toList.drop 23 = dktX5_nextIssue_1 := dk_seg dksX5_nextIssue_0 23 rfl rfl
theorem dksX5_nextIssue_2 : cX5_nextIssue.data.toList.drop 47 = dktX5_nextIssue_2 := dk_seg dksX5_nextIssue_1 24 rfl rfl
theorem dksX5_nextIssue_3 : cX5_nextIssue.data.toList.drop 71 = dktX5_nextIssue_3 := dk_seg dksX5_nextIssue_2 24 rfl rfl
theorem dX5_nextIssue_0 : decode cX5_nextIssue 0 = .ok (.aload_n 0, 1) := dk_42 (dk_at dksX5_nextIssue_0 0 rfl rfl)
theorem dX5_nextIssue_1 : decode cX5_nextIssue 1 = .ok (.iconst 0, 1) := dk_3 (dk_at dksX5_nextIssue_0 1 rfl rfl)
theorem dX5_nextIssue_2 : decode cX5_nextIssue 2 = .ok (.putfield 71, 3) := dk_181 0 71 (dk_at dksX5_nextIssue_0 2 rfl rfl)
theorem dX5_nextIssue_5 : decode cX5_nextIssue 5 = .ok (.aload_n 0, 1) := dk_42 (dk_at dksX5_nextIssue_0 5 rfl rfl)
theorem dX5_nextIssue_6 : decode cX5_nextIssue 6 = .ok (.getfield 9, 3) := dk_180 0 9 (dk_at dksX5_nextIssue_0 6 rfl rfl)
theorem dX5_nextIssue_9 : decode cX5_nextIssue 9 = .ok (.iconst 1, 1) := dk_4 (dk_at dksX5_nextIssue_0 9 rfl rfl)
theorem dX5_nextIssue_10 : decode cX5_nextIssue 10 = .ok (.iaload, 1) := dk_46 (dk_at dksX5_nextIssue_0 10 rfl rfl)
theorem dX5_nextIssue_11 : decode cX5_nextIssue 11 = .ok (.iconst 1, 1) := dk_4 (dk_at dksX5_nextIssue_0 11 rfl rfl)
theorem dX5_nextIssue_12 : decode cX5_nextIssue 12 = .ok (.isub, 1) := dk_100 (dk_at dksX5_nextIssue_0 12 rfl rfl)
theorem dX5_nextIssue_13 : decode cX5_nextIssue 13 = .ok (.istore_n 1, 1) := dk_60 (dk_at dksX5_nextIssue_0 13 rfl rfl)
theorem dX5_nextIssue_14 : decode cX5_nextIssue 14 = .ok (.aload_n 0, 1) := dk_42 (dk_at dksX5_nextIssue_0 14 rfl rfl)
theorem dX5_nextIssue_15 : decode cX5_nextIssue 15 = .ok (.invokevirtual 105, 3) := dk_182 0 105 (dk_at dksX5_nextIssue_0 15 rfl rfl)
theorem dX5_nextIssue_18 : decode cX5_nextIssue 18 = .ok (.iconst 1, 1) := dk_4 (dk_at dksX5_nextIssue_0 18 rfl rfl)
theorem dX5_nextIssue_19 : decode cX5_nextIssue 19 = .ok (.iadd, 1) := dk_96 (dk_at dksX5_nextIssue_0 19 rfl rfl)
theorem dX5_nextIssue_20 : decode cX5_nextIssue 20 = .ok (.aload_n 0, 1) := dk_42 (dk_at dksX5_nextIssue_0 20 rfl rfl)
theorem dX5_nextIssue_21 : decode cX5_nextIssue 21 = .ok (.iload_n 1, 1) := dk_27 (dk_at dksX5_nextIssue_0 21 rfl rfl)
theorem dX5_nextIssue_22 : decode cX5_nextIssue 22 = .ok (.iconst 0, 1) := dk_3 (dk_at dksX5_nextIssue_0 22 rfl rfl)
theorem dX5_nextIssue_23 : decode cX5_nextIssue 23 = .ok (.invokevirtual 99, 3) := dk_182 0 99 (dk_at dksX5_nextIssue_1 0 rfl rfl)
theorem dX5_nextIssue_26 : decode cX5_nextIssue 26 = .ok (.aload_n 0, 1) := dk_42 (dk_at dksX5_nextIssue_1 3 rfl rfl)
theorem dX5_nextIssue_27 : decode cX5_nextIssue 27 = .ok (.getfield 9, 3) := dk_180 0 9 (dk_at dksX5_nextIssue_1 4 rfl rfl)
theorem dX5_nextIssue_30 : decode cX5_nextIssue 30 = .ok (.iconst 4, 1) := dk_7 (dk_at dksX5_nextIssue_1 7 rfl rfl)
theorem dX5_nextIssue_31 : decode cX5_nextIssue 31 = .ok (.iaload, 1) := dk_46 (dk_at dksX5_nextIssue_1 8 rfl rfl)
theorem dX5_nextIssue_32 : decode cX5_nextIssue 32 = .ok (.iadd, 1) := dk_96 (dk_at dksX5_nextIssue_1 9 rfl rfl)
theorem dX5_nextIssue_33 : decode cX5_nextIssue 33 = .ok (.aload_n 0, 1) := dk_42 (dk_at dksX5_nextIssue_1 10 rfl rfl)
theorem dX5_nextIssue_34 : decode cX5_nextIssue 34 = .ok (.getfield 9, 3) := dk_180 0 9 (dk_at dksX5_nextIssue_1 11 rfl rfl)
theorem dX5_nextIssue_37 : decode cX5_nextIssue 37 = .ok (.bipush 6, 2) := dk_16 6 (dk_at dksX5_nextIssue_1 14 rfl rfl)
theorem dX5_nextIssue_39 : decode cX5_nextIssue 39 = .ok (.iaload, 1) := dk_46 (dk_at dksX5_nextIssue_1 16 rfl rfl)
theorem dX5_nextIssue_40 : decode cX5_nextIssue 40 = .ok (.isub, 1) := dk_100 (dk_at dksX5_nextIssue_1 17 rfl rfl)
theorem dX5_nextIssue_41 : decode cX5_nextIssue 41 = .ok (.invokestatic 134, 3) := dk_184 0 134 (dk_at dksX5_nextIssue_1 18 rfl rfl)
theorem dX5_nextIssue_44 : decode cX5_nextIssue 44 = .ok (.istore_n 2, 1) := dk_61 (dk_at dksX5_nextIssue_1 21 rfl rfl)
theorem dX5_nextIssue_45 : decode cX5_nextIssue 45 = .ok (.iload_n 2, 1) := dk_28 (dk_at dksX5_nextIssue_1 22 rfl rfl)
theorem dX5_nextIssue_46 : decode cX5_nextIssue 46 = .ok (.aload_n 0, 1) := dk_42 (dk_at dksX5_nextIssue_1 23 rfl rfl)
theorem dX5_nextIssue_47 : decode cX5_nextIssue 47 = .ok (.iload_n 1, 1) := dk_27 (dk_at dksX5_nextIssue_2 0 rfl rfl)
theorem dX5_nextIssue_48 : decode cX5_nextIssue 48 = .ok (.iconst 0, 1) := dk_3 (dk_at dksX5_nextIssue_2 1 rfl rfl)
theorem dX5_nextIssue_49 : decode cX5_nextIssue 49 = .ok (.invokevirtual 99, 3) := dk_182 0 99 (dk_at dksX5_nextIssue_2 2 rfl rfl)
theorem dX5_nextIssue_52 : decode cX5_nextIssue 52 = .ok (.aload_n 0, 1) := dk_42 (dk_at dksX5_nextIssue_2 5 rfl rfl)
theorem dX5_nextIssue_53 : decode cX5_nextIssue 53 = .ok (.getfield 9, 3) := dk_180 0 9 (dk_at dksX5_nextIssue_2 6 rfl rfl)
theorem dX5_nextIssue_56 : decode cX5_nextIssue 56 = .ok (.iconst 4, 1) := dk_7 (dk_at dksX5_nextIssue_2 9 rfl rfl)
theorem dX5_nextIssue_57 : decode cX5_nextIssue 57 = .ok (.iaload, 1) := dk_46 (dk_at dksX5_nextIssue_2 10 rfl rfl)
theorem dX5_nextIssue_58 : decode cX5_nextIssue 58 = .ok (.iadd, 1) := dk_96 (dk_at dksX5_nextIssue_2 11 rfl rfl)
theorem dX5_nextIssue_59 : decode cX5_nextIssue 59 = .ok (.invokestatic 134, 3) := dk_184 0 134 (dk_at dksX5_nextIssue_2 12 rfl rfl)
theorem dX5_nextIssue_62 : decode cX5_nextIssue 62 = .ok (.istore_n 3, 1) := dk_62 (dk_at dksX5_nextIssue_2 15 rfl rfl)
theorem dX5_nextIssue_63 : decode cX5_nextIssue 63 = .ok (.aload_n 0, 1) := dk_42 (dk_at dksX5_nextIssue_2 16 rfl rfl)
theorem dX5_nextIssue_64 : decode cX5_nextIssue 64 = .ok (.getfield 9, 3) := dk_180 0 9 (dk_at dksX5_nextIssue_2 17 rfl rfl)
theorem dX5_nextIssue_67 : decode cX5_nextIssue 67 = .ok (.iconst 1, 1) := dk_4 (dk_at dksX5_nextIssue_2 20 rfl rfl)
theorem dX5_nextIssue_68 : decode cX5_nextIssue 68 = .ok (.iaload, 1) := dk_46 (dk_at dksX5_nextIssue_2 21 rfl rfl)
theorem dX5_nextIssue_69 : decode cX5_nextIssue 69 = .ok (.bipush 30, 2) := dk_16 30 (dk_at dksX5_nextIssue_2 22 rfl rfl)
theorem dX5_nextIssue_71 : decode cX5_nextIssue 71 = .ok (.if_icmp .eq 10, 3) := dk_159 0 10 (dk_at dksX5_nextIssue_3 0 rfl rfl)
theorem dX5_nextIssue_74 : decode cX5_nextIssue 74 = .ok (.iload_n 3, 1) := dk_29 (dk_at dksX5_nextIssue_3 3 rfl rfl)
theorem dX5_nextIssue_75 : decode cX5_nextIssue 75 = .ok (.sipush 9999, 3) := dk_17 39 15 (dk_at dksX5_nextIssue_3 4 rfl rfl)
theorem dX5_nextIssue_78 : decode cX5_nextIssue 78 = .ok (.if_icmp .le 7, 3) := dk_164 0 7 (dk_at dksX5_nextIssue_3 7 rfl rfl)
theorem dX5_nextIssue_81 : decode cX5_nextIssue 81 = .ok (.iconst (-1), 1) := dk_2 (dk_at dksX5_nextIssue_3 10 rfl rfl)
theorem dX5_nextIssue_82 : decode cX5_nextIssue 82 = .ok (.goto 4, 3) := dk_167 0 4 (dk_at dksX5_nextIssue_3 11 rfl rfl)
theorem dX5_nextIssue_85 : decode cX5_nextIssue 85 = .ok (.iload_n 2, 1) := dk_28 (dk_at dksX5_nextIssue_3 14 rfl rfl)
theorem dX5_nextIssue_86 : decode cX5_nextIssue 86 = .ok (.ireturn, 1) := dk_172 (dk_at dksX5_nextIssue_3 15 rfl rfl)
def dkwX5_nextAsk_2 : List UInt8 := [167, 255, 236, 28, 17, 39, 15, 164, 0, 7, 2, 167, 0, 4, 28, 172]
abbrev dktX5_nextAsk_2 : List UInt8 := dkwX5_nextAsk_2 ++ []
def dkwX5_nextAsk_1 : List UInt8 := [96, 61, 28, 42, 27, 3, 182, 0, 150, 112, 42, 27, 4, 182, 0, 150, 159, 0, 9, 132, 2, 1]
abbrev dktX5_nextAsk_1 : List UInt8 := dkwX5_nextAsk_1 ++ dktX5_nextAsk_2
def dkwX5_nextAsk_0 : List UInt8 := [42, 3, 181, 0, 71, 42, 27, 182, 0, 206, 154, 0, 9, 42, 4, 182, 0, 197, 172, 42, 182, 0, 105, 4]
abbrev dktX5_nextAsk_0 : List UInt8 := dkwX5_nextAsk_0 ++ dktX5_nextAsk_1
theorem dksX5_nextAsk_0 : cX5_nextAsk.data.toList.drop 0 = dktX5_nextAsk_0 := by decide +kernel
theorem dksX5_nextAsk_1 : cX5_nextAsk.data.toList.drop 24 = dktX5_nextAsk_1 := dk_seg dksX5_nextAsk_0 24 rfl rfl
theorem dksX5_nextAsk_2 : cX5_nextAsk.data.toList.drop 46 = dktX5_nextAsk_2 := dk_seg dksX5_nextAsk_1 22 rfl rfl
theorem dX5_nextAsk_0 : decode cX5_nextAsk 0 = .ok (.aload_n 0, 1) := dk_42 (dk_at dksX5_nextAsk_0 0 rfl rfl)
theorem dX5_nextAsk_1 : decode cX5_nextAsk 1 = .ok (.iconst 0, 1) := dk_3 (dk_at dksX5_nextAsk_0 1 rfl rfl)
theorem dX5_nextAsk_2 : decode cX5_nextAsk 2 = .ok (.putfield 71, 3) := dk_181 0 71 (dk_at dksX5_nextAsk_0 2 rfl rfl)
theorem dX5_nextAsk_5 : decode cX5_nextAsk 5 = .ok (.aload_n 0, 1) := dk_42 (dk_at dksX5_nextAsk_0 5 rfl rfl)
theorem dX5_nextAsk_6 : decode cX5_nextAsk 6 = .ok (.iload_n 1, 1) := dk_27 (dk_at dksX5_nextAsk_0 6 rfl rfl)
theorem dX5_nextAsk_7 : decode cX5_nextAsk 7 = .ok (.invokevirtual 206, 3) := dk_182 0 206 (dk_at dksX5_nextAsk_0 7 rfl rfl)
theorem dX5_nextAsk_10 : decode cX5_nextAsk 10 = .ok (.ifCond .ne 9, 3) := dk_154 0 9 (dk_at dksX5_nextAsk_0 10 rfl rfl)
theorem dX5_nextAsk_13 : decode cX5_nextAsk 13 = .ok (.aload_n 0, 1) := dk_42 (dk_at dksX5_nextAsk_0 13 rfl rfl)
theorem dX5_nextAsk_14 : decode cX5_nextAsk 14 = .ok (.iconst 1, 1) := dk_4 (dk_at dksX5_nextAsk_0 14 rfl rfl)
theorem dX5_nextAsk_15 : decode cX5_nextAsk 15 = .ok (.invokevirtual 197, 3) := dk_182 0 197 (dk_at dksX5_nextAsk_0 15 rfl rfl)
theorem dX5_nextAsk_18 : decode cX5_nextAsk 18 = .ok (.ireturn, 1) := dk_172 (dk_at dksX5_nextAsk_0 18 rfl rfl)
theorem dX5_nextAsk_19 : decode cX5_nextAsk 19 = .ok (.aload_n 0, 1) := dk_42 (dk_at dksX5_nextAsk_0 19 rfl rfl)
theorem dX5_nextAsk_20 : decode cX5_nextAsk 20 = .ok (.invokevirtual 105, 3) := dk_182 0 105 (dk_at dksX5_nextAsk_0 20 rfl rfl)
theorem dX5_nextAsk_23 : decode cX5_nextAsk 23 = .ok (.iconst 1, 1) := dk_4 (dk_at dksX5_nextAsk_0 23 rfl rfl)
theorem dX5_nextAsk_24 : decode cX5_nextAsk 24 = .ok (.iadd, 1) := dk_96 (dk_at dksX5_nextAsk_1 0 rfl rfl)
theorem dX5_nextAsk_25 : decode cX5_nextAsk 25 = .ok (.istore_n 2, 1) := dk_61 (dk_at dksX5_nextAsk_1 1 rfl rfl)
theorem dX5_nextAsk_26 : decode cX5_nextAsk 26 = .ok (.iload_n 2, 1) := dk_28 (dk_at dksX5_nextAsk_1 2 rfl rfl)
theorem dX5_nextAsk_27 : decode cX5_nextAsk 27 = .ok (.aload_n 0, 1) := dk_42 (dk_at dksX5_nextAsk_1 3 rfl rfl)
theorem dX5_nextAsk_28 : decode cX5_nextAsk 28 = .ok (.iload_n 1, 1) := dk_27 (dk_at dksX5_nextAsk_1 4 rfl rfl)
theorem dX5_nextAsk_29 : decode cX5_nextAsk 29 = .ok (.iconst 0, 1) := dk_3 (dk_at dksX5_nextAsk_1 5 rfl rfl)
theorem dX5_nextAsk_30 : decode cX5_nextAsk 30 = .ok (.invokevirtual 150, 3) := dk_182 0 150 (dk_at dksX5_nextAsk_1 6 rfl rfl)
theorem dX5_nextAsk_33 : decode cX5_nextAsk 33 = .ok (.irem, 1) := dk_112 (dk_at dksX5_nextAsk_1 9 rfl rfl)
theorem dX5_nextAsk_34 : decode cX5_nextAsk 34 = .ok (.aload_n 0, 1) := dk_42 (dk_at dksX5_nextAsk_1 10 rfl rfl)
theorem dX5_nextAsk_35 : decode cX5_nextAsk 35 = .ok (.iload_n 1, 1) := dk_27 (dk_at dksX5_nextAsk_1 11 rfl rfl)
theorem dX5_nextAsk_36 : decode cX5_nextAsk 36 = .ok (.iconst 1, 1) := dk_4 (dk_at dksX5_nextAsk_1 12 rfl rfl)
theorem dX5_nextAsk_37 : decode cX5_nextAsk 37 = .ok (.invokevirtual 150, 3) := dk_182 0 150 (dk_at dksX5_nextAsk_1 13 rfl rfl)
theorem dX5_nextAsk_40 : decode cX5_nextAsk 40 = .ok (.if_icmp .eq 9, 3) := dk_159 0 9 (dk_at dksX5_nextAsk_1 16 rfl rfl)
theorem dX5_nextAsk_43 : decode cX5_nextAsk 43 = .ok (.iinc 2 1, 3) := dk_132 2 1 (dk_at dksX5_nextAsk_1 19 rfl rfl)
theorem dX5_nextAsk_46 : decode cX5_nextAsk 46 = .ok (.goto (-20), 3) := dk_167 255 236 (dk_at dksX5_nextAsk_2 0 rfl rfl)
theorem dX5_nextAsk_49 : decode cX5_nextAsk 49 = .ok (.iload_n 2, 1) := dk_28 (dk_at dksX5_nextAsk_2 3 rfl rfl)
theorem dX5_nextAsk_50 : decode cX5_nextAsk 50 = .ok (.sipush 9999, 3) := dk_17 39 15 (dk_at dksX5_nextAsk_2 4 rfl rfl)
theorem dX5_nextAsk_53 : decode cX5_nextAsk 53 = .ok (.if_icmp .le 7, 3) := dk_164 0 7 (dk_at dksX5_nextAsk_2 7 rfl rfl)
theorem dX5_nextAsk_56 : decode cX5_nextAsk 56 = .ok (.iconst (-1), 1) := dk_2 (dk_at dksX5_nextAsk_2 10 rfl rfl)
theorem dX5_nextAsk_57 : decode cX5_nextAsk 57 = .ok (.goto 4, 3) := dk_167 0 4 (dk_at dksX5_nextAsk_2 11 rfl rfl)
theorem dX5_nextAsk_60 : decode cX5_nextAsk 60 = .ok (.iload_n 2, 1) := dk_28 (dk_at dksX5_nextAsk_2 14 rfl rfl)
theorem dX5_nextAsk_61 : decode cX5_nextAsk 61 = .ok (.ireturn, 1) := dk_172 (dk_at dksX5_nextAsk_2 15 rfl rfl)
def dkwX5_readersBehind_3 : List UInt8 := [182, 0, 228, 29, 172]
abbrev dktX5_readersBehind_3 : List UInt8 := dkwX5_readersBehind_3 ++ []
def dkwX5_readersBehind_2 : List UInt8 := [162, 0, 15, 42, 182, 0, 225, 54, 4, 132, 3, 1, 167, 255, 242, 42, 27, 182, 0, 181, 62, 42]
abbrev dktX5_readersBehind_2 : List UInt8 := dkwX5_readersBehind_2 ++ dktX5_readersBehind_3
def dkwX5_readersBehind_1 : List UInt8 := [167, 0, 4, 5, 181, 0, 71, 42, 180, 0, 71, 153, 0, 5, 3, 172, 42, 182, 0, 222, 3, 62, 29, 28]
abbrev dktX5_readersBehind_1 : List UInt8 := dkwX5_readersBehind_1 ++ dktX5_readersBehind_2
def dkwX5_readersBehind_0 : List UInt8 := [42, 42, 27, 182, 0, 137, 154, 0, 7, 4, 167, 0, 18, 28, 3, 16, 100, 184, 0, 88, 153, 0, 7, 3]
abbrev dktX5_readersBehind_0 : List UInt8 := dkwX5_readersBehind_0 ++ dktX5_readersBehind_1
theorem dksX5_readersBehind_0 : cX5_readersBehind.data.toList.drop 0 = dktX5_readersBehind_0 := by decide +kernel
theorem dksX5_readersBehind_1 : cX5_readersBehind.data.toList.drop 24 = dktX5_readersBehind_1 := dk_seg dksX5_readersBehind_0 24 rfl rfl
theorem dksX5_readersBehind_2 : cX5_readersBehind.data.toList.drop 48 = dktX5_readersBehind_2 := dk_seg dksX5_readersBehind_1 24 rfl rfl
theorem dksX5_readersBehind_3 : cX5_readersBehind.data.toList.drop 70 = dktX5_readersBehind_3 := dk_seg dksX5_readersBehind_2 22 rfl rfl
theorem dX5_readersBehind_0 : decode cX5_readersBehind 0 = .ok (.aload_n 0, 1) := dk_42 (dk_at dksX5_readersBehind_0 0 rfl rfl)
theorem dX5_readersBehind_1 : decode cX5_readersBehind 1 = .ok (.aload_n 0, 1) := dk_42 (dk_at dksX5_readersBehind_0 1 rfl rfl)
theorem dX5_readersBehind_2 : decode cX5_readersBehind 2 = .ok (.iload_n 1, 1) := dk_27 (dk_at dksX5_readersBehind_0 2 rfl rfl)
theorem dX5_readersBehind_3 : decode cX5_readersBehind 3 = .ok (.invokevirtual 137, 3) := dk_182 0 137 (dk_at dksX5_readersBehind_0 3 rfl rfl)
theorem dX5_readersBehind_6 : decode cX5_readersBehind 6 = .ok (.ifCond .ne 7, 3) := dk_154 0 7 (dk_at dksX5_readersBehind_0 6 rfl rfl)
theorem dX5_readersBehind_9 : decode cX5_readersBehind 9 = .ok (.iconst 1, 1) := dk_4 (dk_at dksX5_readersBehind_0 9 rfl rfl)
theorem dX5_readersBehind_10 : decode cX5_readersBehind 10 = .ok (.goto 18, 3) := dk_167 0 18 (dk_at dksX5_readersBehind_0 10 rfl rfl)
theorem dX5_readersBehind_13 : decode cX5_readersBehind 13 = .ok (.iload_n 2, 1) := dk_28 (dk_at dksX5_readersBehind_0 13 rfl rfl)
theorem dX5_readersBehind_14 : decode cX5_readersBehind 14 = .ok (.iconst 0, 1) := dk_3 (dk_at dksX5_readersBehind_0 14 rfl rfl)
theorem dX5_readersBehind_15 : decode cX5_readersBehind 15 = .ok (.bipush 100, 2) := dk_16 100 (dk_at dksX5_readersBehind_0 15 rfl rfl)
theorem dX5_readersBehind_17 : decode cX5_readersBehind 17 = .ok (.invokestatic 88, 3) := dk_184 0 88 (dk_at dksX5_readersBehind_0 17 rfl rfl)
theorem dX5_readersBehind_20 : decode cX5_readersBehind 20 = .ok (.ifCond .eq 7, 3) := dk_153 0 7 (dk_at dksX5_readersBehind_0 20 rfl rfl)
theorem dX5_readersBehind_23 : decode cX5_readersBehind 23 = .ok (.iconst 0, 1) := dk_3 (dk_at dksX5_readersBehind_0 23 rfl rfl)
theorem dX5_readersBehind_24 : decode cX5_readersBehind 24 = .ok (.goto 4, 3) := dk_167 0 4 (dk_at dksX5_readersBehind_1 0 rfl rfl)
theorem dX5_readersBehind_27 : decode cX5_readersBehind 27 = .ok (.iconst 2, 1) := dk_5 (dk_at dksX5_readersBehind_1 3 rfl rfl)
theorem dX5_readersBehind_28 : decode cX5_readersBehind 28 = .ok (.putfield 71, 3) := dk_181 0 71 (dk_at dksX5_readersBehind_1 4 rfl rfl)
theorem dX5_readersBehind_31 : decode cX5_readersBehind 31 = .ok (.aload_n 0, 1) := dk_42 (dk_at dksX5_readersBehind_1 7 rfl rfl)
theorem dX5_readersBehind_32 : decode cX5_readersBehind 32 = .ok (.getfield 71, 3) := dk_180 0 71 (dk_at dksX5_readersBehind_1 8 rfl rfl)
theorem dX5_readersBehind_35 : decode cX5_readersBehind 35 = .ok (.ifCond .eq 5, 3) := dk_153 0 5 (dk_at dksX5_readersBehind_1 11 rfl rfl)
theorem dX5_readersBehind_38 : decode cX5_readersBehind 38 = .ok (.iconst 0, 1) := dk_3 (dk_at dksX5_readersBehind_1 14 rfl rfl)
theorem dX5_readersBehind_39 : decode cX5_readersBehind 39 = .ok (.ireturn, 1) := dk_172 (dk_at dksX5_readersBehind_1 15 rfl rfl)
theorem dX5_readersBehind_40 : decode cX5_readersBehind 40 = .ok (.aload_n 0, 1) := dk_42 (dk_at dksX5_readersBehind_1 16 rfl rfl)
theorem dX5_readersBehind_41 : decode cX5_readersBehind 41 = .ok (.invokevirtual 222, 3) := dk_182 0 222 (dk_at dksX5_readersBehind_1 17 rfl rfl)
theorem dX5_readersBehind_44 : decode cX5_readersBehind 44 = .ok (.iconst 0, 1) := dk_3 (dk_at dksX5_readersBehind_1 20 rfl rfl)
theorem dX5_readersBehind_45 : decode cX5_readersBehind 45 = .ok (.istore_n 3, 1) := dk_62 (dk_at dksX5_readersBehind_1 21 rfl rfl)
theorem dX5_readersBehind_46 : decode cX5_readersBehind 46 = .ok (.iload_n 3, 1) := dk_29 (dk_at dksX5_readersBehind_1 22 rfl rfl)
theorem dX5_readersBehind_47 : decode cX5_readersBehind 47 = .ok (.iload_n 2, 1) := dk_28 (dk_at dksX5_readersBehind_1 23 rfl rfl)
theorem dX5_readersBehind_48 : decode cX5_readersBehind 48 = .ok (.if_icmp .ge 15, 3) := dk_162 0 15 (dk_at dksX5_readersBehind_2 0 rfl rfl)
theorem dX5_readersBehind_51 : decode cX5_readersBehind 51 = .ok (.aload_n 0, 1) := dk_42 (dk_at dksX5_readersBehind_2 3 rfl rfl)
theorem dX5_readersBehind_52 : decode cX5_readersBehind 52 = .ok (.invokevirtual 225, 3) := dk_182 0 225 (dk_at dksX5_readersBehind_2 4 rfl rfl)
theorem dX5_readersBehind_55 : decode cX5_readersBehind 55 = .ok (.istore 4, 2) := dk_54 4 (dk_at dksX5_readersBehind_2 7 rfl rfl)
theorem dX5_readersBehind_57 : decode cX5_readersBehind 57 = .ok (.iinc 3 1, 3) := dk_132 3 1 (dk_at dksX5_readersBehind_2 9 rfl rfl)
theorem dX5_readersBehind_60 : decode cX5_readersBehind 60 = .ok (.goto (-14), 3) := dk_167 255 242 (dk_at dksX5_readersBehind_2 12 rfl rfl)
theorem dX5_readersBehind_63 : decode cX5_readersBehind 63 = .ok (.aload_n 0, 1) := dk_42 (dk_at dksX5_readersBehind_2 15 rfl rfl)
theorem dX5_readersBehind_64 : decode cX5_readersBehind 64 = .ok (.iload_n 1, 1) := dk_27 (dk_at dksX5_readersBehind_2 16 rfl rfl)
theorem dX5_readersBehind_65 : decode cX5_readersBehind 65 = .ok (.invokevirtual 181, 3) := dk_182 0 181 (dk_at dksX5_readersBehind_2 17 rfl rfl)
theorem dX5_readersBehind_68 : decode cX5_readersBehind 68 = .ok (.istore_n 3, 1) := dk_62 (dk_at dksX5_readersBehind_2 20 rfl rfl)
theorem dX5_readersBehind_69 : decode cX5_readersBehind 69 = .ok (.aload_n 0, 1) := dk_42 (dk_at dksX5_readersBehind_2 21 rfl rfl)
theorem dX5_readersBehind_70 : decode cX5_readersBehind 70 = .ok (.invokevirtual 228, 3) := dk_182 0 228 (dk_at dksX5_readersBehind_3 0 rfl rfl)
theorem dX5_readersBehind_73 : decode cX5_readersBehind 73 = .ok (.iload_n 3, 1) := dk_29 (dk_at dksX5_readersBehind_3 3 rfl rfl)
theorem dX5_readersBehind_74 : decode cX5_readersBehind 74 = .ok (.ireturn, 1) := dk_172 (dk_at dksX5_readersBehind_3 4 rfl rfl)
def dkwX5_begin_0 : List UInt8 := [42, 180, 0, 9, 3, 42, 180, 0, 16, 3, 184, 0, 218, 177]
abbrev dktX5_begin_0 : List UInt8 := dkwX5_begin_0 ++ []
theorem dksX5_begin_0 : cX5_begin.data.toList.drop 0 = dktX5_begin_0 := by decide +kernel
theorem dX5_begin_0 : decode cX5_begin 0 = .ok (.aload_n 0, 1) := dk_42 (dk_at dksX5_begin_0 0 rfl rfl)
theorem dX5_begin_1 : decode cX5_begin 1 = .ok (.getfield 9, 3) := dk_180 0 9 (dk_at dksX5_begin_0 1 rfl rfl)
theorem dX5_begin_4 : decode cX5_begin 4 = .ok (.iconst 0, 1) := dk_3 (dk_at dksX5_begin_0 4 rfl rfl)
theorem dX5_begin_5 : decode cX5_begin 5 = .ok (.aload_n 0, 1) := dk_42 (dk_at dksX5_begin_0 5 rfl rfl)
theorem dX5_begin_6 : decode cX5_begin 6 = .ok (.getfield 16, 3) := dk_180 0 16 (dk_at dksX5_begin_0 6 rfl rfl)
theorem dX5_begin_9 : decode cX5_begin 9 = .ok (.iconst 0, 1) := dk_3 (dk_at dksX5_begin_0 9 rfl rfl)
theorem dX5_begin_10 : decode cX5_begin 10 = .ok (.invokestatic 218, 3) := dk_184 0 218 (dk_at dksX5_begin_0 10 rfl rfl)
theorem dX5_begin_13 : decode cX5_begin 13 = .ok (.return_, 1) := dk_177 (dk_at dksX5_begin_0 13 rfl rfl)
def dkwX5_copy_1 : List UInt8 := [27, 104, 21, 4, 96, 46, 79, 132, 4, 1, 167, 255, 225, 177]
abbrev dktX5_copy_1 : List UInt8 := dkwX5_copy_1 ++ []
def dkwX5_copy_0 : List UInt8 := [3, 54, 4, 21, 4, 17, 8, 181, 162, 0, 29, 44, 17, 8, 181, 29, 104, 21, 4, 96, 42, 17, 8, 181]
abbrev dktX5_copy_0 : List UInt8 := dkwX5_copy_0 ++ dktX5_copy_1
theorem dksX5_copy_0 : cX5_copy.data.toList.drop 0 = dktX5_copy_0 := by decide +kernel
theorem dksX5_copy_1 : cX5_copy.data.toList.drop 24 = dktX5_copy_1 := dk_seg dksX5_copy_0 24 rfl rfl
theorem dX5_copy_0 : decode cX5_copy 0 = .ok (.iconst 0, 1) := dk_3 (dk_at dksX5_copy_0 0 rfl rfl)
theorem dX5_copy_1 : decode cX5_copy 1 = .ok (.istore 4, 2) := dk_54 4 (dk_at dksX5_copy_0 1 rfl rfl)
theorem dX5_copy_3 : decode cX5_copy 3 = .ok (.iload 4, 2) := dk_21 4 (dk_at dksX5_copy_0 3 rfl rfl)
theorem dX5_copy_5 : decode cX5_copy 5 = .ok (.sipush 2229, 3) := dk_17 8 181 (dk_at dksX5_copy_0 5 rfl rfl)
theorem dX5_copy_8 : decode cX5_copy 8 = .ok (.if_icmp .ge 29, 3) := dk_162 0 29 (dk_at dksX5_copy_0 8 rfl rfl)
theorem dX5_copy_11 : decode cX5_copy 11 = .ok (.aload_n 2, 1) := dk_44 (dk_at dksX5_copy_0 11 rfl rfl)
theorem dX5_copy_12 : decode cX5_copy 12 = .ok (.sipush 2229, 3) := dk_17 8 181 (dk_at dksX5_copy_0 12 rfl rfl)
theorem dX5_copy_15 : decode cX5_copy 15 = .ok (.iload_n 3, 1) := dk_29 (dk_at dksX5_copy_0 15 rfl rfl)
theorem dX5_copy_16 : decode cX5_copy 16 = .ok (.imul, 1) := dk_104 (dk_at dksX5_copy_0 16 rfl rfl)
theorem dX5_copy_17 : decode cX5_copy 17 = .ok (.iload 4, 2) := dk_21 4 (dk_at dksX5_copy_0 17 rfl rfl)
theorem dX5_copy_19 : decode cX5_copy 19 = .ok (.iadd, 1) := dk_96 (dk_at dksX5_copy_0 19 rfl rfl)
theorem dX5_copy_20 : decode cX5_copy 20 = .ok (.aload_n 0, 1) := dk_42 (dk_at dksX5_copy_0 20 rfl rfl)
theorem dX5_copy_21 : decode cX5_copy 21 = .ok (.sipush 2229, 3) := dk_17 8 181 (dk_at dksX5_copy_0 21 rfl rfl)
theorem dX5_copy_24 : decode cX5_copy 24 = .ok (.iload_n 1, 1) := dk_27 (dk_at dksX5_copy_1 0 rfl rfl)
theorem dX5_copy_25 : decode cX5_copy 25 = .ok (.imul, 1) := dk_104 (dk_at dksX5_copy_1 1 rfl rfl)
theorem dX5_copy_26 : decode cX5_copy 26 = .ok (.iload 4, 2) := dk_21 4 (dk_at dksX5_copy_1 2 rfl rfl)
theorem dX5_copy_28 : decode cX5_copy 28 = .ok (.iadd, 1) := dk_96 (dk_at dksX5_copy_1 4 rfl rfl)
theorem dX5_copy_29 : decode cX5_copy 29 = .ok (.iaload, 1) := dk_46 (dk_at dksX5_copy_1 5 rfl rfl)
theorem dX5_copy_30 : decode cX5_copy 30 = .ok (.iastore, 1) := dk_79 (dk_at dksX5_copy_1 6 rfl rfl)
theorem dX5_copy_31 : decode cX5_copy 31 = .ok (.iinc 4 1, 3) := dk_132 4 1 (dk_at dksX5_copy_1 7 rfl rfl)
theorem dX5_copy_34 : decode cX5_copy 34 = .ok (.goto (-31), 3) := dk_167 255 225 (dk_at dksX5_copy_1 10 rfl rfl)
theorem dX5_copy_37 : decode cX5_copy 37 = .ok (.return_, 1) := dk_177 (dk_at dksX5_copy_1 13 rfl rfl)
def dkwX5_passHour_6 : List UInt8 := [180, 0, 25, 16, 10, 46, 4, 96, 184, 0, 112, 79, 27, 172]
abbrev dktX5_passHour_6 : List UInt8 := dkwX5_passHour_6 ++ []
def dkwX5_passHour_5 : List UInt8 := [28, 182, 0, 181, 167, 0, 4, 2, 79, 132, 2, 1, 167, 255, 217, 42, 180, 0, 25, 16, 10, 16, 48, 42]
abbrev dktX5_passHour_5 : List UInt8 := dkwX5_passHour_5 ++ dktX5_passHour_6
def dkwX5_passHour_4 : List UInt8 := [162, 0, 39, 42, 180, 0, 25, 42, 182, 0, 105, 28, 184, 0, 178, 42, 28, 182, 0, 137, 153, 0, 11, 42]
abbrev dktX5_passHour_4 : List UInt8 := dkwX5_passHour_4 ++ dktX5_passHour_5
def dkwX5_passHour_3 : List UInt8 := [4, 182, 0, 150, 160, 0, 9, 42, 28, 182, 0, 175, 87, 132, 2, 1, 167, 255, 217, 3, 61, 28, 16, 30]
abbrev dktX5_passHour_3 : List UInt8 := dkwX5_passHour_3 ++ dktX5_passHour_4
def dkwX5_passHour_2 : List UInt8 := [61, 28, 42, 180, 0, 25, 6, 46, 162, 0, 35, 42, 182, 0, 105, 42, 28, 3, 182, 0, 150, 112, 42, 28]
abbrev dktX5_passHour_2 : List UInt8 := dkwX5_passHour_2 ++ dktX5_passHour_3
def dkwX5_passHour_1 : List UInt8 := [182, 0, 165, 153, 0, 11, 42, 42, 182, 0, 162, 182, 0, 74, 42, 182, 0, 169, 60, 42, 182, 0, 172, 3]
abbrev dktX5_passHour_1 : List UInt8 := dkwX5_passHour_1 ++ dktX5_passHour_2
def dkwX5_passHour_0 : List UInt8 := [42, 182, 0, 105, 17, 39, 15, 160, 0, 5, 3, 172, 42, 180, 0, 25, 3, 92, 46, 4, 96, 79, 42]
abbrev dktX5_passHour_0 : List UInt8 := dkwX5_passHour_0 ++ dktX5_passHour_1
theorem dksX5_passHour_0 : cX5_passHour.data.toList.drop 0 = dktX5_passHour_0 := by decide +kernel
theorem dksX5_passHour_1 : cX5_passHour.data.toList.drop 23 = dktX5_passHour_1 := dk_seg dksX5_passHour_0 23 rfl rfl
theorem dksX5_passHour_2 : cX5_passHour.data.toList.drop 47 = dktX5_passHour_2 := dk_seg dksX5_passHour_1 24 rfl rfl
theorem dksX5_passHour_3 : cX5_passHour.data.toList.drop 71 = dktX5_passHour_3 := dk_seg dksX5_passHour_2 24 rfl rfl
theorem dksX5_passHour_4 : cX5_passHour.data.toList.drop 95 = dktX5_passHour_4 := dk_seg dksX5_passHour_3 24 rfl rfl
theorem dksX5_passHour_5 : cX5_passHour.data.toList.drop 119 = dktX5_passHour_5 := dk_seg dksX5_passHour_4 24 rfl rfl
theorem dksX5_passHour_6 : cX5_passHour.data.toList.drop 143 = dktX5_passHour_6 := dk_seg dksX5_passHour_5 24 rfl rfl
theorem dX5_passHour_0 : decode cX5_passHour 0 = .ok (.aload_n 0, 1) := dk_42 (dk_at dksX5_passHour_0 0 rfl rfl)
theorem dX5_passHour_1 : decode cX5_passHour 1 = .ok (.invokevirtual 105, 3) := dk_182 0 105 (dk_at dksX5_passHour_0 1 rfl rfl)
theorem dX5_passHour_4 : decode cX5_passHour 4 = .ok (.sipush 9999, 3) := dk_17 39 15 (dk_at dksX5_passHour_0 4 rfl rfl)
theorem dX5_passHour_7 : decode cX5_passHour 7 = .ok (.if_icmp .ne 5, 3) := dk_160 0 5 (dk_at dksX5_passHour_0 7 rfl rfl)
theorem dX5_passHour_10 : decode cX5_passHour 10 = .ok (.iconst 0, 1) := dk_3 (dk_at dksX5_passHour_0 10 rfl rfl)
theorem dX5_passHour_11 : decode cX5_passHour 11 = .ok (.ireturn, 1) := dk_172 (dk_at dksX5_passHour_0 11 rfl rfl)
theorem dX5_passHour_12 : decode cX5_passHour 12 = .ok (.aload_n 0, 1) := dk_42 (dk_at dksX5_passHour_0 12 rfl rfl)
theorem dX5_passHour_13 : decode cX5_passHour 13 = .ok (.getfield 25, 3) := dk_180 0 25 (dk_at dksX5_passHour_0 13 rfl rfl)
theorem dX5_passHour_16 : decode cX5_passHour 16 = .ok (.iconst 0, 1) := dk_3 (dk_at dksX5_passHour_0 16 rfl rfl)
theorem dX5_passHour_17 : decode cX5_passHour 17 = .ok (.dup2, 1) := dk_92 (dk_at dksX5_passHour_0 17 rfl rfl)
theorem dX5_passHour_18 : decode cX5_passHour 18 = .ok (.iaload, 1) := dk_46 (dk_at dksX5_passHour_0 18 rfl rfl)
theorem dX5_passHour_19 : decode cX5_passHour 19 = .ok (.iconst 1, 1) := dk_4 (dk_at dksX5_passHour_0 19 rfl rfl)
theorem dX5_passHour_20 : decode cX5_passHour 20 = .ok (.iadd, 1) := dk_96 (dk_at dksX5_passHour_0 20 rfl rfl)
theorem dX5_passHour_21 : decode cX5_passHour 21 = .ok (.iastore, 1) := dk_79 (dk_at dksX5_passHour_0 21 rfl rfl)
theorem dX5_passHour_22 : decode cX5_passHour 22 = .ok (.aload_n 0, 1) := dk_42 (dk_at dksX5_passHour_0 22 rfl rfl)
theorem dX5_passHour_23 : decode cX5_passHour 23 = .ok (.invokevirtual 165, 3) := dk_182 0 165 (dk_at dksX5_passHour_1 0 rfl rfl)
theorem dX5_passHour_26 : decode cX5_passHour 26 = .ok (.ifCond .eq 11, 3) := dk_153 0 11 (dk_at dksX5_passHour_1 3 rfl rfl)
theorem dX5_passHour_29 : decode cX5_passHour 29 = .ok (.aload_n 0, 1) := dk_42 (dk_at dksX5_passHour_1 6 rfl rfl)
theorem dX5_passHour_30 : decode cX5_passHour 30 = .ok (.aload_n 0, 1) := dk_42 (dk_at dksX5_passHour_1 7 rfl rfl)
theorem dX5_passHour_31 : decode cX5_passHour 31 = .ok (.invokevirtual 162, 3) := dk_182 0 162 (dk_at dksX5_passHour_1 8 rfl rfl)
theorem dX5_passHour_34 : decode cX5_passHour 34 = .ok (.invokevirtual 74, 3) := dk_182 0 74 (dk_at dksX5_passHour_1 11 rfl rfl)
theorem dX5_passHour_37 : decode cX5_passHour 37 = .ok (.aload_n 0, 1) := dk_42 (dk_at dksX5_passHour_1 14 rfl rfl)
theorem dX5_passHour_38 : decode cX5_passHour 38 = .ok (.invokevirtual 169, 3) := dk_182 0 169 (dk_at dksX5_passHour_1 15 rfl rfl)
theorem dX5_passHour_41 : decode cX5_passHour 41 = .ok (.istore_n 1, 1) := dk_60 (dk_at dksX5_passHour_1 18 rfl rfl)
theorem dX5_passHour_42 : decode cX5_passHour 42 = .ok (.aload_n 0, 1) := dk_42 (dk_at dksX5_passHour_1 19 rfl rfl)
theorem dX5_passHour_43 : decode cX5_passHour 43 = .ok (.invokevirtual 172, 3) := dk_182 0 172 (dk_at dksX5_passHour_1 20 rfl rfl)
theorem dX5_passHour_46 : decode cX5_passHour 46 = .ok (.iconst 0, 1) := dk_3 (dk_at dksX5_passHour_1 23 rfl rfl)
theorem dX5_passHour_47 : decode cX5_passHour 47 = .ok (.istore_n 2, 1) := dk_61 (dk_at dksX5_passHour_2 0 rfl rfl)
theorem dX5_passHour_48 : decode cX5_passHour 48 = .ok (.iload_n 2, 1) := dk_28 (dk_at dksX5_passHour_2 1 rfl rfl)
theorem dX5_passHour_49 : decode cX5_passHour 49 = .ok (.aload_n 0, 1) := dk_42 (dk_at dksX5_passHour_2 2 rfl rfl)
theorem dX5_passHour_50 : decode cX5_passHour 50 = .ok (.getfield 25, 3) := dk_180 0 25 (dk_at dksX5_passHour_2 3 rfl rfl)
theorem dX5_passHour_53 : decode cX5_passHour 53 = .ok (.iconst 3, 1) := dk_6 (dk_at dksX5_passHour_2 6 rfl rfl)
theorem dX5_passHour_54 : decode cX5_passHour 54 = .ok (.iaload, 1) := dk_46 (dk_at dksX5_passHour_2 7 rfl rfl)
theorem dX5_passHour_55 : decode cX5_passHour 55 = .ok (.if_icmp .ge 35, 3) := dk_162 0 35 (dk_at dksX5_passHour_2 8 rfl rfl)
theorem dX5_passHour_58 : decode cX5_passHour 58 = .ok (.aload_n 0, 1) := dk_42 (dk_at dksX5_passHour_2 11 rfl rfl)
theorem dX5_passHour_59 : decode cX5_passHour 59 = .ok (.invokevirtual 105, 3) := dk_182 0 105 (dk_at dksX5_passHour_2 12 rfl rfl)
theorem dX5_passHour_62 : decode cX5_passHour 62 = .ok (.aload_n 0, 1) := dk_42 (dk_at dksX5_passHour_2 15 rfl rfl)
theorem dX5_passHour_63 : decode cX5_passHour 63 = .ok (.iload_n 2, 1) := dk_28 (dk_at dksX5_passHour_2 16 rfl rfl)
theorem dX5_passHour_64 : decode cX5_passHour 64 = .ok (.iconst 0, 1) := dk_3 (dk_at dksX5_passHour_2 17 rfl rfl)
theorem dX5_passHour_65 : decode cX5_passHour 65 = .ok (.invokevirtual 150, 3) := dk_182 0 150 (dk_at dksX5_passHour_2 18 rfl rfl)
theorem dX5_passHour_68 : decode cX5_passHour 68 = .ok (.irem, 1) := dk_112 (dk_at dksX5_passHour_2 21 rfl rfl)
theorem dX5_passHour_69 : decode cX5_passHour 69 = .ok (.aload_n 0, 1) := dk_42 (dk_at dksX5_passHour_2 22 rfl rfl)
theorem dX5_passHour_70 : decode cX5_passHour 70 = .ok (.iload_n 2, 1) := dk_28 (dk_at dksX5_passHour_2 23 rfl rfl)
theorem dX5_passHour_71 : decode cX5_passHour 71 = .ok (.iconst 1, 1) := dk_4 (dk_at dksX5_passHour_3 0 rfl rfl)
theorem dX5_passHour_72 : decode cX5_passHour 72 = .ok (.invokevirtual 150, 3) := dk_182 0 150 (dk_at dksX5_passHour_3 1 rfl rfl)
theorem dX5_passHour_75 : decode cX5_passHour 75 = .ok (.if_icmp .ne 9, 3) := dk_160 0 9 (dk_at dksX5_passHour_3 4 rfl rfl)
theorem dX5_passHour_78 : decode cX5_passHour 78 = .ok (.aload_n 0, 1) := dk_42 (dk_at dksX5_passHour_3 7 rfl rfl)
theorem dX5_passHour_79 : decode cX5_passHour 79 = .ok (.iload_n 2, 1) := dk_28 (dk_at dksX5_passHour_3 8 rfl rfl)
theorem dX5_passHour_80 : decode cX5_passHour 80 = .ok (.invokevirtual 175, 3) := dk_182 0 175 (dk_at dksX5_passHour_3 9 rfl rfl)
theorem dX5_passHour_83 : decode cX5_passHour 83 = .ok (.pop, 1) := dk_87 (dk_at dksX5_passHour_3 12 rfl rfl)
theorem dX5_passHour_84 : decode cX5_passHour 84 = .ok (.iinc 2 1, 3) := dk_132 2 1 (dk_at dksX5_passHour_3 13 rfl rfl)
theorem dX5_passHour_87 : decode cX5_passHour 87 = .ok (.goto (-39), 3) := dk_167 255 217 (dk_at dksX5_passHour_3 16 rfl rfl)
theorem dX5_passHour_90 : decode cX5_passHour 90 = .ok (.iconst 0, 1) := dk_3 (dk_at dksX5_passHour_3 19 rfl rfl)
theorem dX5_passHour_91 : decode cX5_passHour 91 = .ok (.istore_n 2, 1) := dk_61 (dk_at dksX5_passHour_3 20 rfl rfl)
theorem dX5_passHour_92 : decode cX5_passHour 92 = .ok (.iload_n 2, 1) := dk_28 (dk_at dksX5_passHour_3 21 rfl rfl)
theorem dX5_passHour_93 : decode cX5_passHour 93 = .ok (.bipush 30, 2) := dk_16 30 (dk_at dksX5_passHour_3 22 rfl rfl)
theorem dX5_passHour_95 : decode cX5_passHour 95 = .ok (.if_icmp .ge 39, 3) := dk_162 0 39 (dk_at dksX5_passHour_4 0 rfl rfl)
theorem dX5_passHour_98 : decode cX5_passHour 98 = .ok (.aload_n 0, 1) := dk_42 (dk_at dksX5_passHour_4 3 rfl rfl)
theorem dX5_passHour_99 : decode cX5_passHour 99 = .ok (.getfield 25, 3) := dk_180 0 25 (dk_at dksX5_passHour_4 4 rfl rfl)
theorem dX5_passHour_102 : decode cX5_passHour 102 = .ok (.aload_n 0, 1) := dk_42 (dk_at dksX5_passHour_4 7 rfl rfl)
theorem dX5_passHour_103 : decode cX5_passHour 103 = .ok (.invokevirtual 105, 3) := dk_182 0 105 (dk_at dksX5_passHour_4 8 rfl rfl)
theorem dX5_passHour_106 : decode cX5_passHour 106 = .ok (.iload_n 2, 1) := dk_28 (dk_at dksX5_passHour_4 11 rfl rfl)
theorem dX5_passHour_107 : decode cX5_passHour 107 = .ok (.invokestatic 178, 3) := dk_184 0 178 (dk_at dksX5_passHour_4 12 rfl rfl)
theorem dX5_passHour_110 : decode cX5_passHour 110 = .ok (.aload_n 0, 1) := dk_42 (dk_at dksX5_passHour_4 15 rfl rfl)
theorem dX5_passHour_111 : decode cX5_passHour 111 = .ok (.iload_n 2, 1) := dk_28 (dk_at dksX5_passHour_4 16 rfl rfl)
theorem dX5_passHour_112 : decode cX5_passHour 112 = .ok (.invokevirtual 137, 3) := dk_182 0 137 (dk_at dksX5_passHour_4 17 rfl rfl)
theorem dX5_passHour_115 : decode cX5_passHour 115 = .ok (.ifCond .eq 11, 3) := dk_153 0 11 (dk_at dksX5_passHour_4 20 rfl rfl)
theorem dX5_passHour_118 : decode cX5_passHour 118 = .ok (.aload_n 0, 1) := dk_42 (dk_at dksX5_passHour_4 23 rfl rfl)
theorem dX5_passHour_119 : decode cX5_passHour 119 = .ok (.iload_n 2, 1) := dk_28 (dk_at dksX5_passHour_5 0 rfl rfl)
theorem dX5_passHour_120 : decode cX5_passHour 120 = .ok (.invokevirtual 181, 3) := dk_182 0 181 (dk_at dksX5_passHour_5 1 rfl rfl)
theorem dX5_passHour_123 : decode cX5_passHour 123 = .ok (.goto 4, 3) := dk_167 0 4 (dk_at dksX5_passHour_5 4 rfl rfl)
theorem dX5_passHour_126 : decode cX5_passHour 126 = .ok (.iconst (-1), 1) := dk_2 (dk_at dksX5_passHour_5 7 rfl rfl)
theorem dX5_passHour_127 : decode cX5_passHour 127 = .ok (.iastore, 1) := dk_79 (dk_at dksX5_passHour_5 8 rfl rfl)
theorem dX5_passHour_128 : decode cX5_passHour 128 = .ok (.iinc 2 1, 3) := dk_132 2 1 (dk_at dksX5_passHour_5 9 rfl rfl)
theorem dX5_passHour_131 : decode cX5_passHour 131 = .ok (.goto (-39), 3) := dk_167 255 217 (dk_at dksX5_passHour_5 12 rfl rfl)
theorem dX5_passHour_134 : decode cX5_passHour 134 = .ok (.aload_n 0, 1) := dk_42 (dk_at dksX5_passHour_5 15 rfl rfl)
theorem dX5_passHour_135 : decode cX5_passHour 135 = .ok (.getfield 25, 3) := dk_180 0 25 (dk_at dksX5_passHour_5 16 rfl rfl)
theorem dX5_passHour_138 : decode cX5_passHour 138 = .ok (.bipush 10, 2) := dk_16 10 (dk_at dksX5_passHour_5 19 rfl rfl)
theorem dX5_passHour_140 : decode cX5_passHour 140 = .ok (.bipush 48, 2) := dk_16 48 (dk_at dksX5_passHour_5 21 rfl rfl)
theorem dX5_passHour_142 : decode cX5_passHour 142 = .ok (.aload_n 0, 1) := dk_42 (dk_at dksX5_passHour_5 23 rfl rfl)
theorem dX5_passHour_143 : decode cX5_passHour 143 = .ok (.getfield 25, 3) := dk_180 0 25 (dk_at dksX5_passHour_6 0 rfl rfl)
theorem dX5_passHour_146 : decode cX5_passHour 146 = .ok (.bipush 10, 2) := dk_16 10 (dk_at dksX5_passHour_6 3 rfl rfl)
theorem dX5_passHour_148 : decode cX5_passHour 148 = .ok (.iaload, 1) := dk_46 (dk_at dksX5_passHour_6 5 rfl rfl)
theorem dX5_passHour_149 : decode cX5_passHour 149 = .ok (.iconst 1, 1) := dk_4 (dk_at dksX5_passHour_6 6 rfl rfl)
theorem dX5_passHour_150 : decode cX5_passHour 150 = .ok (.iadd, 1) := dk_96 (dk_at dksX5_passHour_6 7 rfl rfl)
theorem dX5_passHour_151 : decode cX5_passHour 151 = .ok (.invokestatic 112, 3) := dk_184 0 112 (dk_at dksX5_passHour_6 8 rfl rfl)
theorem dX5_passHour_154 : decode cX5_passHour 154 = .ok (.iastore, 1) := dk_79 (dk_at dksX5_passHour_6 11 rfl rfl)
theorem dX5_passHour_155 : decode cX5_passHour 155 = .ok (.iload_n 1, 1) := dk_27 (dk_at dksX5_passHour_6 12 rfl rfl)
theorem dX5_passHour_156 : decode cX5_passHour 156 = .ok (.ireturn, 1) := dk_172 (dk_at dksX5_passHour_6 13 rfl rfl)
def dkwX5_mustIssue_3 : List UInt8 := [167, 0, 4, 3, 172]
abbrev dktX5_mustIssue_3 : List UInt8 := dkwX5_mustIssue_3 ++ []
def dkwX5_mustIssue_2 : List UInt8 := [4, 46, 16, 30, 162, 0, 21, 28, 153, 0, 17, 42, 182, 0, 162, 17, 39, 15, 163, 0, 7, 4]
abbrev dktX5_mustIssue_2 : List UInt8 := dkwX5_mustIssue_2 ++ dktX5_mustIssue_3
def dkwX5_mustIssue_1 : List UInt8 := [180, 0, 25, 16, 6, 46, 100, 42, 182, 0, 105, 163, 0, 7, 4, 167, 0, 4, 3, 61, 42, 180, 0, 25]
abbrev dktX5_mustIssue_1 : List UInt8 := dkwX5_mustIssue_1 ++ dktX5_mustIssue_2
def dkwX5_mustIssue_0 : List UInt8 := [42, 180, 0, 25, 4, 46, 4, 100, 60, 42, 27, 3, 182, 0, 99, 42, 180, 0, 25, 7, 46, 96, 42]
abbrev dktX5_mustIssue_0 : List UInt8 := dkwX5_mustIssue_0 ++ dktX5_mustIssue_1
theorem dksX5_mustIssue_0 : cX5_mustIssue.data.toList.drop 0 = dktX5_mustIssue_0 := by decide +kernel
theorem dksX5_mustIssue_1 : cX5_mustIssue.data.toList.drop 23 = dktX5_mustIssue_1 := dk_seg dksX5_mustIssue_0 23 rfl rfl
theorem dksX5_mustIssue_2 : cX5_mustIssue.data.toList.drop 47 = dktX5_mustIssue_2 := dk_seg dksX5_mustIssue_1 24 rfl rfl
theorem dksX5_mustIssue_3 : cX5_mustIssue.data.toList.drop 69 = dktX5_mustIssue_3 := dk_seg dksX5_mustIssue_2 22 rfl rfl
theorem dX5_mustIssue_0 : decode cX5_mustIssue 0 = .ok (.aload_n 0, 1) := dk_42 (dk_at dksX5_mustIssue_0 0 rfl rfl)
theorem dX5_mustIssue_1 : decode cX5_mustIssue 1 = .ok (.getfield 25, 3) := dk_180 0 25 (dk_at dksX5_mustIssue_0 1 rfl rfl)
theorem dX5_mustIssue_4 : decode cX5_mustIssue 4 = .ok (.iconst 1, 1) := dk_4 (dk_at dksX5_mustIssue_0 4 rfl rfl)
theorem dX5_mustIssue_5 : decode cX5_mustIssue 5 = .ok (.iaload, 1) := dk_46 (dk_at dksX5_mustIssue_0 5 rfl rfl)
theorem dX5_mustIssue_6 : decode cX5_mustIssue 6 = .ok (.iconst 1, 1) := dk_4 (dk_at dksX5_mustIssue_0 6 rfl rfl)
theorem dX5_mustIssue_7 : decode cX5_mustIssue 7 = .ok (.isub, 1) := dk_100 (dk_at dksX5_mustIssue_0 7 rfl rfl)
theorem dX5_mustIssue_8 : decode cX5_mustIssue 8 = .ok (.istore_n 1, 1) := dk_60 (dk_at dksX5_mustIssue_0 8 rfl rfl)
theorem dX5_mustIssue_9 : decode cX5_mustIssue 9 = .ok (.aload_n 0, 1) := dk_42 (dk_at dksX5_mustIssue_0 9 rfl rfl)
theorem dX5_mustIssue_10 : decode cX5_mustIssue 10 = .ok (.iload_n 1, 1) := dk_27 (dk_at dksX5_mustIssue_0 10 rfl rfl)
theorem dX5_mustIssue_11 : decode cX5_mustIssue 11 = .ok (.iconst 0, 1) := dk_3 (dk_at dksX5_mustIssue_0 11 rfl rfl)
theorem dX5_mustIssue_12 : decode cX5_mustIssue 12 = .ok (.invokevirtual 99, 3) := dk_182 0 99 (dk_at dksX5_mustIssue_0 12 rfl rfl)
theorem dX5_mustIssue_15 : decode cX5_mustIssue 15 = .ok (.aload_n 0, 1) := dk_42 (dk_at dksX5_mustIssue_0 15 rfl rfl)
theorem dX5_mustIssue_16 : decode cX5_mustIssue 16 = .ok (.getfield 25, 3) := dk_180 0 25 (dk_at dksX5_mustIssue_0 16 rfl rfl)
theorem dX5_mustIssue_19 : decode cX5_mustIssue 19 = .ok (.iconst 4, 1) := dk_7 (dk_at dksX5_mustIssue_0 19 rfl rfl)
theorem dX5_mustIssue_20 : decode cX5_mustIssue 20 = .ok (.iaload, 1) := dk_46 (dk_at dksX5_mustIssue_0 20 rfl rfl)
theorem dX5_mustIssue_21 : decode cX5_mustIssue 21 = .ok (.iadd, 1) := dk_96 (dk_at dksX5_mustIssue_0 21 rfl rfl)
theorem dX5_mustIssue_22 : decode cX5_mustIssue 22 = .ok (.aload_n 0, 1) := dk_42 (dk_at dksX5_mustIssue_0 22 rfl rfl)
theorem dX5_mustIssue_23 : decode cX5_mustIssue 23 = .ok (.getfield 25, 3) := dk_180 0 25 (dk_at dksX5_mustIssue_1 0 rfl rfl)
theorem dX5_mustIssue_26 : decode cX5_mustIssue 26 = .ok (.bipush 6, 2) := dk_16 6 (dk_at dksX5_mustIssue_1 3 rfl rfl)
theorem dX5_mustIssue_28 : decode cX5_mustIssue 28 = .ok (.iaload, 1) := dk_46 (dk_at dksX5_mustIssue_1 5 rfl rfl)
theorem dX5_mustIssue_29 : decode cX5_mustIssue 29 = .ok (.isub, 1) := dk_100 (dk_at dksX5_mustIssue_1 6 rfl rfl)
theorem dX5_mustIssue_30 : decode cX5_mustIssue 30 = .ok (.aload_n 0, 1) := dk_42 (dk_at dksX5_mustIssue_1 7 rfl rfl)
theorem dX5_mustIssue_31 : decode cX5_mustIssue 31 = .ok (.invokevirtual 105, 3) := dk_182 0 105 (dk_at dksX5_mustIssue_1 8 rfl rfl)
theorem dX5_mustIssue_34 : decode cX5_mustIssue 34 = .ok (.if_icmp .gt 7, 3) := dk_163 0 7 (dk_at dksX5_mustIssue_1 11 rfl rfl)
theorem dX5_mustIssue_37 : decode cX5_mustIssue 37 = .ok (.iconst 1, 1) := dk_4 (dk_at dksX5_mustIssue_1 14 rfl rfl)
theorem dX5_mustIssue_38 : decode cX5_mustIssue 38 = .ok (.goto 4, 3) := dk_167 0 4 (dk_at dksX5_mustIssue_1 15 rfl rfl)
theorem dX5_mustIssue_41 : decode cX5_mustIssue 41 = .ok (.iconst 0, 1) := dk_3 (dk_at dksX5_mustIssue_1 18 rfl rfl)
theorem dX5_mustIssue_42 : decode cX5_mustIssue 42 = .ok (.istore_n 2, 1) := dk_61 (dk_at dksX5_mustIssue_1 19 rfl rfl)
theorem dX5_mustIssue_43 : decode cX5_mustIssue 43 = .ok (.aload_n 0, 1) := dk_42 (dk_at dksX5_mustIssue_1 20 rfl rfl)
theorem dX5_mustIssue_44 : decode cX5_mustIssue 44 = .ok (.getfield 25, 3) := dk_180 0 25 (dk_at dksX5_mustIssue_1 21 rfl rfl)
theorem dX5_mustIssue_47 : decode cX5_mustIssue 47 = .ok (.iconst 1, 1) := dk_4 (dk_at dksX5_mustIssue_2 0 rfl rfl)
theorem dX5_mustIssue_48 : decode cX5_mustIssue 48 = .ok (.iaload, 1) := dk_46 (dk_at dksX5_mustIssue_2 1 rfl rfl)
theorem dX5_mustIssue_49 : decode cX5_mustIssue 49 = .ok (.bipush 30, 2) := dk_16 30 (dk_at dksX5_mustIssue_2 2 rfl rfl)
theorem dX5_mustIssue_51 : decode cX5_mustIssue 51 = .ok (.if_icmp .ge 21, 3) := dk_162 0 21 (dk_at dksX5_mustIssue_2 4 rfl rfl)
theorem dX5_mustIssue_54 : decode cX5_mustIssue 54 = .ok (.iload_n 2, 1) := dk_28 (dk_at dksX5_mustIssue_2 7 rfl rfl)
theorem dX5_mustIssue_55 : decode cX5_mustIssue 55 = .ok (.ifCond .eq 17, 3) := dk_153 0 17 (dk_at dksX5_mustIssue_2 8 rfl rfl)
theorem dX5_mustIssue_58 : decode cX5_mustIssue 58 = .ok (.aload_n 0, 1) := dk_42 (dk_at dksX5_mustIssue_2 11 rfl rfl)
theorem dX5_mustIssue_59 : decode cX5_mustIssue 59 = .ok (.invokevirtual 162, 3) := dk_182 0 162 (dk_at dksX5_mustIssue_2 12 rfl rfl)
theorem dX5_mustIssue_62 : decode cX5_mustIssue 62 = .ok (.sipush 9999, 3) := dk_17 39 15 (dk_at dksX5_mustIssue_2 15 rfl rfl)
theorem dX5_mustIssue_65 : decode cX5_mustIssue 65 = .ok (.if_icmp .gt 7, 3) := dk_163 0 7 (dk_at dksX5_mustIssue_2 18 rfl rfl)
theorem dX5_mustIssue_68 : decode cX5_mustIssue 68 = .ok (.iconst 1, 1) := dk_4 (dk_at dksX5_mustIssue_2 21 rfl rfl)
theorem dX5_mustIssue_69 : decode cX5_mustIssue 69 = .ok (.goto 4, 3) := dk_167 0 4 (dk_at dksX5_mustIssue_3 0 rfl rfl)
theorem dX5_mustIssue_72 : decode cX5_mustIssue 72 = .ok (.iconst 0, 1) := dk_3 (dk_at dksX5_mustIssue_3 3 rfl rfl)
theorem dX5_mustIssue_73 : decode cX5_mustIssue 73 = .ok (.ireturn, 1) := dk_172 (dk_at dksX5_mustIssue_3 4 rfl rfl)
def dkwX5_firstOfNext_1 : List UInt8 := [184, 0, 134, 172]
abbrev dktX5_firstOfNext_1 : List UInt8 := dkwX5_firstOfNext_1 ++ []
def dkwX5_firstOfNext_0 : List UInt8 := [42, 182, 0, 105, 42, 42, 180, 0, 25, 4, 46, 4, 100, 3, 182, 0, 99, 42, 180, 0, 25, 7, 46, 96]
abbrev dktX5_firstOfNext_0 : List UInt8 := dkwX5_firstOfNext_0 ++ dktX5_firstOfNext_1
theorem dksX5_firstOfNext_0 : cX5_firstOfNext.data.toList.drop 0 = dktX5_firstOfNext_0 := by decide +kernel
theorem dksX5_firstOfNext_1 : cX5_firstOfNext.data.toList.drop 24 = dktX5_firstOfNext_1 := dk_seg dksX5_firstOfNext_0 24 rfl rfl
theorem dX5_firstOfNext_0 : decode cX5_firstOfNext 0 = .ok (.aload_n 0, 1) := dk_42 (dk_at dksX5_firstOfNext_0 0 rfl rfl)
theorem dX5_firstOfNext_1 : decode cX5_firstOfNext 1 = .ok (.invokevirtual 105, 3) := dk_182 0 105 (dk_at dksX5_firstOfNext_0 1 rfl rfl)
theorem dX5_firstOfNext_4 : decode cX5_firstOfNext 4 = .ok (.aload_n 0, 1) := dk_42 (dk_at dksX5_firstOfNext_0 4 rfl rfl)
theorem dX5_firstOfNext_5 : decode cX5_firstOfNext 5 = .ok (.aload_n 0, 1) := dk_42 (dk_at dksX5_firstOfNext_0 5 rfl rfl)
theorem dX5_firstOfNext_6 : decode cX5_firstOfNext 6 = .ok (.getfield 25, 3) := dk_180 0 25 (dk_at dksX5_firstOfNext_0 6 rfl rfl)
theorem dX5_firstOfNext_9 : decode cX5_firstOfNext 9 = .ok (.iconst 1, 1) := dk_4 (dk_at dksX5_firstOfNext_0 9 rfl rfl)
theorem dX5_firstOfNext_10 : decode cX5_firstOfNext 10 = .ok (.iaload, 1) := dk_46 (dk_at dksX5_firstOfNext_0 10 rfl rfl)
theorem dX5_firstOfNext_11 : decode cX5_firstOfNext 11 = .ok (.iconst 1, 1) := dk_4 (dk_at dksX5_firstOfNext_0 11 rfl rfl)
theorem dX5_firstOfNext_12 : decode cX5_firstOfNext 12 = .ok (.isub, 1) := dk_100 (dk_at dksX5_firstOfNext_0 12 rfl rfl)
theorem dX5_firstOfNext_13 : decode cX5_firstOfNext 13 = .ok (.iconst 0, 1) := dk_3 (dk_at dksX5_firstOfNext_0 13 rfl rfl)
theorem dX5_firstOfNext_14 : decode cX5_firstOfNext 14 = .ok (.invokevirtual 99, 3) := dk_182 0 99 (dk_at dksX5_firstOfNext_0 14 rfl rfl)
theorem dX5_firstOfNext_17 : decode cX5_firstOfNext 17 = .ok (.aload_n 0, 1) := dk_42 (dk_at dksX5_firstOfNext_0 17 rfl rfl)
theorem dX5_firstOfNext_18 : decode cX5_firstOfNext 18 = .ok (.getfield 25, 3) := dk_180 0 25 (dk_at dksX5_firstOfNext_0 18 rfl rfl)
theorem dX5_firstOfNext_21 : decode cX5_firstOfNext 21 = .ok (.iconst 4, 1) := dk_7 (dk_at dksX5_firstOfNext_0 21 rfl rfl)
theorem dX5_firstOfNext_22 : decode cX5_firstOfNext 22 = .ok (.iaload, 1) := dk_46 (dk_at dksX5_firstOfNext_0 22 rfl rfl)
theorem dX5_firstOfNext_23 : decode cX5_firstOfNext 23 = .ok (.iadd, 1) := dk_96 (dk_at dksX5_firstOfNext_0 23 rfl rfl)
theorem dX5_firstOfNext_24 : decode cX5_firstOfNext 24 = .ok (.invokestatic 134, 3) := dk_184 0 134 (dk_at dksX5_firstOfNext_1 0 rfl rfl)
theorem dX5_firstOfNext_27 : decode cX5_firstOfNext 27 = .ok (.ireturn, 1) := dk_172 (dk_at dksX5_firstOfNext_1 3 rfl rfl)
def dkwX5_clean_7 : List UInt8 := [167, 255, 172, 42, 180, 0, 25, 16, 8, 92, 46, 29, 96, 79, 29, 172]
abbrev dktX5_clean_7 : List UInt8 := dkwX5_clean_7 ++ []
def dkwX5_clean_6 : List UInt8 := [182, 0, 140, 42, 180, 0, 25, 21, 4, 5, 184, 0, 82, 92, 46, 4, 96, 79, 132, 3, 1, 132, 4, 1]
abbrev dktX5_clean_6 : List UInt8 := dkwX5_clean_6 ++ dktX5_clean_7
def dkwX5_clean_5 : List UInt8 := [153, 0, 43, 42, 21, 4, 4, 182, 0, 96, 28, 126, 154, 0, 31, 42, 21, 4, 42, 182, 0, 127]
abbrev dktX5_clean_5 : List UInt8 := dkwX5_clean_5 ++ dktX5_clean_6
def dkwX5_clean_4 : List UInt8 := [21, 4, 4, 184, 0, 82, 92, 46, 27, 2, 130, 126, 79, 42, 21, 4, 182, 0, 137, 153, 0, 47, 28]
abbrev dktX5_clean_4 : List UInt8 := dkwX5_clean_4 ++ dktX5_clean_5
def dkwX5_clean_3 : List UInt8 := [167, 255, 194, 3, 62, 3, 54, 4, 21, 4, 42, 180, 0, 25, 5, 46, 162, 0, 79, 42, 180, 0, 25]
abbrev dktX5_clean_3 : List UInt8 := dkwX5_clean_3 ++ dktX5_clean_4
def dkwX5_clean_2 : List UInt8 := [60, 28, 42, 29, 182, 0, 109, 153, 0, 9, 4, 29, 120, 167, 0, 4, 3, 128, 61, 132, 3, 1]
abbrev dktX5_clean_2 : List UInt8 := dkwX5_clean_2 ++ dktX5_clean_3
def dkwX5_clean_1 : List UInt8 := [154, 0, 16, 42, 29, 4, 182, 0, 99, 42, 182, 0, 105, 162, 0, 9, 4, 29, 120, 167, 0, 4, 3, 128]
abbrev dktX5_clean_1 : List UInt8 := dkwX5_clean_1 ++ dktX5_clean_2
def dkwX5_clean_0 : List UInt8 := [3, 60, 3, 61, 3, 62, 29, 42, 180, 0, 25, 4, 46, 162, 0, 58, 27, 42, 29, 182, 0, 102]
abbrev dktX5_clean_0 : List UInt8 := dkwX5_clean_0 ++ dktX5_clean_1
theorem dksX5_clean_0 : cX5_clean.data.toList.drop 0 = dktX5_clean_0 := by decide +kernel
theorem dksX5_clean_1 : cX5_clean.data.toList.drop 22 = dktX5_clean_1 := dk_seg dksX5_clean_0 22 rfl rfl
theorem dksX5_clean_2 : cX5_clean.data.toList.drop 46 = dktX5_clean_2 := dk_seg dksX5_clean_1 24 rfl rfl
theorem dksX5_clean_3 : cX5_clean.data.toList.drop 68 = dktX5_clean_3 := dk_seg dksX5_clean_2 22 rfl rfl
theorem dksX5_clean_4 : cX5_clean.data.toList.drop 91 = dktX5_clean_4 := dk_seg dksX5_clean_3 23 rfl rfl
theorem dksX5_clean_5 : cX5_clean.data.toList.drop 114 = dktX5_clean_5 := dk_seg dksX5_clean_4 23 rfl rfl
theorem dksX5_clean_6 : cX5_clean.data.toList.drop 136 = dktX5_clean_6 := dk_seg dksX5_clean_5 22 rfl rfl
theorem dksX5_clean_7 : cX5_clean.data.toList.drop 160 = dktX5_clean_7 := dk_seg dksX5_clean_6 24 rfl rfl
theorem dX5_clean_0 : decode cX5_clean 0 = .ok (.iconst 0, 1) := dk_3 (dk_at dksX5_clean_0 0 rfl rfl)
theorem dX5_clean_1 : decode cX5_clean 1 = .ok (.istore_n 1, 1) := dk_60 (dk_at dksX5_clean_0 1 rfl rfl)
theorem dX5_clean_2 : decode cX5_clean 2 = .ok (.iconst 0, 1) := dk_3 (dk_at dksX5_clean_0 2 rfl rfl)
theorem dX5_clean_3 : decode cX5_clean 3 = .ok (.istore_n 2, 1) := dk_61 (dk_at dksX5_clean_0 3 rfl rfl)
theorem dX5_clean_4 : decode cX5_clean 4 = .ok (.iconst 0, 1) := dk_3 (dk_at dksX5_clean_0 4 rfl rfl)
theorem dX5_clean_5 : decode cX5_clean 5 = .ok (.istore_n 3, 1) := dk_62 (dk_at dksX5_clean_0 5 rfl rfl)
theorem dX5_clean_6 : decode cX5_clean 6 = .ok (.iload_n 3, 1) := dk_29 (dk_at dksX5_clean_0 6 rfl rfl)
theorem dX5_clean_7 : decode cX5_clean 7 = .ok (.aload_n 0, 1) := dk_42 (dk_at dksX5_clean_0 7 rfl rfl)
theorem dX5_clean_8 : decode cX5_clean 8 = .ok (.getfield 25, 3) := dk_180 0 25 (dk_at dksX5_clean_0 8 rfl rfl)
theorem dX5_clean_11 : decode cX5_clean 11 = .ok (.iconst 1, 1) := dk_4 (dk_at dksX5_clean_0 11 rfl rfl)
theorem dX5_clean_12 : decode cX5_clean 12 = .ok (.iaload, 1) := dk_46 (dk_at dksX5_clean_0 12 rfl rfl)
theorem dX5_clean_13 : decode cX5_clean 13 = .ok (.if_icmp .ge 58, 3) := dk_162 0 58 (dk_at dksX5_clean_0 13 rfl rfl)
theorem dX5_clean_16 : decode cX5_clean 16 = .ok (.iload_n 1, 1) := dk_27 (dk_at dksX5_clean_0 16 rfl rfl)
theorem dX5_clean_17 : decode cX5_clean 17 = .ok (.aload_n 0, 1) := dk_42 (dk_at dksX5_clean_0 17 rfl rfl)
theorem dX5_clean_18 : decode cX5_clean 18 = .ok (.iload_n 3, 1) := dk_29 (dk_at dksX5_clean_0 18 rfl rfl)
theorem dX5_clean_19 : decode cX5_clean 19 = .ok (.invokevirtual 102, 3) := dk_182 0 102 (dk_at dksX5_clean_0 19 rfl rfl)
theorem dX5_clean_22 : decode cX5_clean 22 = .ok (.ifCond .ne 16, 3) := dk_154 0 16 (dk_at dksX5_clean_1 0 rfl rfl)
theorem dX5_clean_25 : decode cX5_clean 25 = .ok (.aload_n 0, 1) := dk_42 (dk_at dksX5_clean_1 3 rfl rfl)
theorem dX5_clean_26 : decode cX5_clean 26 = .ok (.iload_n 3, 1) := dk_29 (dk_at dksX5_clean_1 4 rfl rfl)
theorem dX5_clean_27 : decode cX5_clean 27 = .ok (.iconst 1, 1) := dk_4 (dk_at dksX5_clean_1 5 rfl rfl)
theorem dX5_clean_28 : decode cX5_clean 28 = .ok (.invokevirtual 99, 3) := dk_182 0 99 (dk_at dksX5_clean_1 6 rfl rfl)
theorem dX5_clean_31 : decode cX5_clean 31 = .ok (.aload_n 0, 1) := dk_42 (dk_at dksX5_clean_1 9 rfl rfl)
theorem dX5_clean_32 : decode cX5_clean 32 = .ok (.invokevirtual 105, 3) := dk_182 0 105 (dk_at dksX5_clean_1 10 rfl rfl)
theorem dX5_clean_35 : decode cX5_clean 35 = .ok (.if_icmp .ge 9, 3) := dk_162 0 9 (dk_at dksX5_clean_1 13 rfl rfl)
theorem dX5_clean_38 : decode cX5_clean 38 = .ok (.iconst 1, 1) := dk_4 (dk_at dksX5_clean_1 16 rfl rfl)
theorem dX5_clean_39 : decode cX5_clean 39 = .ok (.iload_n 3, 1) := dk_29 (dk_at dksX5_clean_1 17 rfl rfl)
theorem dX5_clean_40 : decode cX5_clean 40 = .ok (.ishl, 1) := dk_120 (dk_at dksX5_clean_1 18 rfl rfl)
theorem dX5_clean_41 : decode cX5_clean 41 = .ok (.goto 4, 3) := dk_167 0 4 (dk_at dksX5_clean_1 19 rfl rfl)
theorem dX5_clean_44 : decode cX5_clean 44 = .ok (.iconst 0, 1) := dk_3 (dk_at dksX5_clean_1 22 rfl rfl)
theorem dX5_clean_45 : decode cX5_clean 45 = .ok (.ior, 1) := dk_128 (dk_at dksX5_clean_1 23 rfl rfl)
theorem dX5_clean_46 : decode cX5_clean 46 = .ok (.istore_n 1, 1) := dk_60 (dk_at dksX5_clean_2 0 rfl rfl)
theorem dX5_clean_47 : decode cX5_clean 47 = .ok (.iload_n 2, 1) := dk_28 (dk_at dksX5_clean_2 1 rfl rfl)
theorem dX5_clean_48 : decode cX5_clean 48 = .ok (.aload_n 0, 1) := dk_42 (dk_at dksX5_clean_2 2 rfl rfl)
theorem dX5_clean_49 : decode cX5_clean 49 = .ok (.iload_n 3, 1) := dk_29 (dk_at dksX5_clean_2 3 rfl rfl)
theorem dX5_clean_50 : decode cX5_clean 50 = .ok (.invokevirtual 109, 3) := dk_182 0 109 (dk_at dksX5_clean_2 4 rfl rfl)
theorem dX5_clean_53 : decode cX5_clean 53 = .ok (.ifCond .eq 9, 3) := dk_153 0 9 (dk_at dksX5_clean_2 7 rfl rfl)
theorem dX5_clean_56 : decode cX5_clean 56 = .ok (.iconst 1, 1) := dk_4 (dk_at dksX5_clean_2 10 rfl rfl)
theorem dX5_clean_57 : decode cX5_clean 57 = .ok (.iload_n 3, 1) := dk_29 (dk_at dksX5_clean_2 11 rfl rfl)
theorem dX5_clean_58 : decode cX5_clean 58 = .ok (.ishl, 1) := dk_120 (dk_at dksX5_clean_2 12 rfl rfl)
theorem dX5_clean_59 : decode cX5_clean 59 = .ok (.goto 4, 3) := dk_167 0 4 (dk_at dksX5_clean_2 13 rfl rfl)
theorem dX5_clean_62 : decode cX5_clean 62 = .ok (.iconst 0, 1) := dk_3 (dk_at dksX5_clean_2 16 rfl rfl)
theorem dX5_clean_63 : decode cX5_clean 63 = .ok (.ior, 1) := dk_128 (dk_at dksX5_clean_2 17 rfl rfl)
theorem dX5_clean_64 : decode cX5_clean 64 = .ok (.istore_n 2, 1) := dk_61 (dk_at dksX5_clean_2 18 rfl rfl)
theorem dX5_clean_65 : decode cX5_clean 65 = .ok (.iinc 3 1, 3) := dk_132 3 1 (dk_at dksX5_clean_2 19 rfl rfl)
theorem dX5_clean_68 : decode cX5_clean 68 = .ok (.goto (-62), 3) := dk_167 255 194 (dk_at dksX5_clean_3 0 rfl rfl)
theorem dX5_clean_71 : decode cX5_clean 71 = .ok (.iconst 0, 1) := dk_3 (dk_at dksX5_clean_3 3 rfl rfl)
theorem dX5_clean_72 : decode cX5_clean 72 = .ok (.istore_n 3, 1) := dk_62 (dk_at dksX5_clean_3 4 rfl rfl)
theorem dX5_clean_73 : decode cX5_clean 73 = .ok (.iconst 0, 1) := dk_3 (dk_at dksX5_clean_3 5 rfl rfl)
theorem dX5_clean_74 : decode cX5_clean 74 = .ok (.istore 4, 2) := dk_54 4 (dk_at dksX5_clean_3 6 rfl rfl)
theorem dX5_clean_76 : decode cX5_clean 76 = .ok (.iload 4, 2) := dk_21 4 (dk_at dksX5_clean_3 8 rfl rfl)
theorem dX5_clean_78 : decode cX5_clean 78 = .ok (.aload_n 0, 1) := dk_42 (dk_at dksX5_clean_3 10 rfl rfl)
theorem dX5_clean_79 : decode cX5_clean 79 = .ok (.getfield 25, 3) := dk_180 0 25 (dk_at dksX5_clean_3 11 rfl rfl)
theorem dX5_clean_82 : decode cX5_clean 82 = .ok (.iconst 2, 1) := dk_5 (dk_at dksX5_clean_3 14 rfl rfl)
theorem dX5_clean_83 : decode cX5_clean 83 = .ok (.iaload, 1) := dk_46 (dk_at dksX5_clean_3 15 rfl rfl)
theorem dX5_clean_84 : decode cX5_clean 84 = .ok (.if_icmp .ge 79, 3) := dk_162 0 79 (dk_at dksX5_clean_3 16 rfl rfl)
theorem dX5_clean_87 : decode cX5_clean 87 = .ok (.aload_n 0, 1) := dk_42 (dk_at dksX5_clean_3 19 rfl rfl)
theorem dX5_clean_88 : decode cX5_clean 88 = .ok (.getfield 25, 3) := dk_180 0 25 (dk_at dksX5_clean_3 20 rfl rfl)
theorem dX5_clean_91 : decode cX5_clean 91 = .ok (.iload 4, 2) := dk_21 4 (dk_at dksX5_clean_4 0 rfl rfl)
theorem dX5_clean_93 : decode cX5_clean 93 = .ok (.iconst 1, 1) := dk_4 (dk_at dksX5_clean_4 2 rfl rfl)
theorem dX5_clean_94 : decode cX5_clean 94 = .ok (.invokestatic 82, 3) := dk_184 0 82 (dk_at dksX5_clean_4 3 rfl rfl)
theorem dX5_clean_97 : decode cX5_clean 97 = .ok (.dup2, 1) := dk_92 (dk_at dksX5_clean_4 6 rfl rfl)
theorem dX5_clean_98 : decode cX5_clean 98 = .ok (.iaload, 1) := dk_46 (dk_at dksX5_clean_4 7 rfl rfl)
theorem dX5_clean_99 : decode cX5_clean 99 = .ok (.iload_n 1, 1) := dk_27 (dk_at dksX5_clean_4 8 rfl rfl)
theorem dX5_clean_100 : decode cX5_clean 100 = .ok (.iconst (-1), 1) := dk_2 (dk_at dksX5_clean_4 9 rfl rfl)
theorem dX5_clean_101 : decode cX5_clean 101 = .ok (.ixor, 1) := dk_130 (dk_at dksX5_clean_4 10 rfl rfl)
theorem dX5_clean_102 : decode cX5_clean 102 = .ok (.iand, 1) := dk_126 (dk_at dksX5_clean_4 11 rfl rfl)
theorem dX5_clean_103 : decode cX5_clean 103 = .ok (.iastore, 1) := dk_79 (dk_at dksX5_clean_4 12 rfl rfl)
theorem dX5_clean_104 : decode cX5_clean 104 = .ok (.aload_n 0, 1) := dk_42 (dk_at dksX5_clean_4 13 rfl rfl)
theorem dX5_clean_105 : decode cX5_clean 105 = .ok (.iload 4, 2) := dk_21 4 (dk_at dksX5_clean_4 14 rfl rfl)
theorem dX5_clean_107 : decode cX5_clean 107 = .ok (.invokevirtual 137, 3) := dk_182 0 137 (dk_at dksX5_clean_4 16 rfl rfl)
theorem dX5_clean_110 : decode cX5_clean 110 = .ok (.ifCond .eq 47, 3) := dk_153 0 47 (dk_at dksX5_clean_4 19 rfl rfl)
theorem dX5_clean_113 : decode cX5_clean 113 = .ok (.iload_n 2, 1) := dk_28 (dk_at dksX5_clean_4 22 rfl rfl)
theorem dX5_clean_114 : decode cX5_clean 114 = .ok (.ifCond .eq 43, 3) := dk_153 0 43 (dk_at dksX5_clean_5 0 rfl rfl)
theorem dX5_clean_117 : decode cX5_clean 117 = .ok (.aload_n 0, 1) := dk_42 (dk_at dksX5_clean_5 3 rfl rfl)
theorem dX5_clean_118 : decode cX5_clean 118 = .ok (.iload 4, 2) := dk_21 4 (dk_at dksX5_clean_5 4 rfl rfl)
theorem dX5_clean_120 : decode cX5_clean 120 = .ok (.iconst 1, 1) := dk_4 (dk_at dksX5_clean_5 6 rfl rfl)
theorem dX5_clean_121 : decode cX5_clean 121 = .ok (.invokevirtual 96, 3) := dk_182 0 96 (dk_at dksX5_clean_5 7 rfl rfl)
theorem dX5_clean_124 : decode cX5_clean 124 = .ok (.iload_n 2, 1) := dk_28 (dk_at dksX5_clean_5 10 rfl rfl)
theorem dX5_clean_125 : decode cX5_clean 125 = .ok (.iand, 1) := dk_126 (dk_at dksX5_clean_5 11 rfl rfl)
theorem dX5_clean_126 : decode cX5_clean 126 = .ok (.ifCond .ne 31, 3) := dk_154 0 31 (dk_at dksX5_clean_5 12 rfl rfl)
theorem dX5_clean_129 : decode cX5_clean 129 = .ok (.aload_n 0, 1) := dk_42 (dk_at dksX5_clean_5 15 rfl rfl)
theorem dX5_clean_130 : decode cX5_clean 130 = .ok (.iload 4, 2) := dk_21 4 (dk_at dksX5_clean_5 16 rfl rfl)
theorem dX5_clean_132 : decode cX5_clean 132 = .ok (.aload_n 0, 1) := dk_42 (dk_at dksX5_clean_5 18 rfl rfl)
theorem dX5_clean_133 : decode cX5_clean 133 = .ok (.invokevirtual 127, 3) := dk_182 0 127 (dk_at dksX5_clean_5 19 rfl rfl)
theorem dX5_clean_136 : decode cX5_clean 136 = .ok (.invokevirtual 140, 3) := dk_182 0 140 (dk_at dksX5_clean_6 0 rfl rfl)
theorem dX5_clean_139 : decode cX5_clean 139 = .ok (.aload_n 0, 1) := dk_42 (dk_at dksX5_clean_6 3 rfl rfl)
theorem dX5_clean_140 : decode cX5_clean 140 = .ok (.getfield 25, 3) := dk_180 0 25 (dk_at dksX5_clean_6 4 rfl rfl)
theorem dX5_clean_143 : decode cX5_clean 143 = .ok (.iload 4, 2) := dk_21 4 (dk_at dksX5_clean_6 7 rfl rfl)
theorem dX5_clean_145 : decode cX5_clean 145 = .ok (.iconst 2, 1) := dk_5 (dk_at dksX5_clean_6 9 rfl rfl)
theorem dX5_clean_146 : decode cX5_clean 146 = .ok (.invokestatic 82, 3) := dk_184 0 82 (dk_at dksX5_clean_6 10 rfl rfl)
theorem dX5_clean_149 : decode cX5_clean 149 = .ok (.dup2, 1) := dk_92 (dk_at dksX5_clean_6 13 rfl rfl)
theorem dX5_clean_150 : decode cX5_clean 150 = .ok (.iaload, 1) := dk_46 (dk_at dksX5_clean_6 14 rfl rfl)
theorem dX5_clean_151 : decode cX5_clean 151 = .ok (.iconst 1, 1) := dk_4 (dk_at dksX5_clean_6 15 rfl rfl)
theorem dX5_clean_152 : decode cX5_clean 152 = .ok (.iadd, 1) := dk_96 (dk_at dksX5_clean_6 16 rfl rfl)
theorem dX5_clean_153 : decode cX5_clean 153 = .ok (.iastore, 1) := dk_79 (dk_at dksX5_clean_6 17 rfl rfl)
theorem dX5_clean_154 : decode cX5_clean 154 = .ok (.iinc 3 1, 3) := dk_132 3 1 (dk_at dksX5_clean_6 18 rfl rfl)
theorem dX5_clean_157 : decode cX5_clean 157 = .ok (.iinc 4 1, 3) := dk_132 4 1 (dk_at dksX5_clean_6 21 rfl rfl)
theorem dX5_clean_160 : decode cX5_clean 160 = .ok (.goto (-84), 3) := dk_167 255 172 (dk_at dksX5_clean_7 0 rfl rfl)
theorem dX5_clean_163 : decode cX5_clean 163 = .ok (.aload_n 0, 1) := dk_42 (dk_at dksX5_clean_7 3 rfl rfl)
theorem dX5_clean_164 : decode cX5_clean 164 = .ok (.getfield 25, 3) := dk_180 0 25 (dk_at dksX5_clean_7 4 rfl rfl)
theorem dX5_clean_167 : decode cX5_clean 167 = .ok (.bipush 8, 2) := dk_16 8 (dk_at dksX5_clean_7 7 rfl rfl)
theorem dX5_clean_169 : decode cX5_clean 169 = .ok (.dup2, 1) := dk_92 (dk_at dksX5_clean_7 9 rfl rfl)
theorem dX5_clean_170 : decode cX5_clean 170 = .ok (.iaload, 1) := dk_46 (dk_at dksX5_clean_7 10 rfl rfl)
theorem dX5_clean_171 : decode cX5_clean 171 = .ok (.iload_n 3, 1) := dk_29 (dk_at dksX5_clean_7 11 rfl rfl)
theorem dX5_clean_172 : decode cX5_clean 172 = .ok (.iadd, 1) := dk_96 (dk_at dksX5_clean_7 12 rfl rfl)
theorem dX5_clean_173 : decode cX5_clean 173 = .ok (.iastore, 1) := dk_79 (dk_at dksX5_clean_7 13 rfl rfl)
theorem dX5_clean_174 : decode cX5_clean 174 = .ok (.iload_n 3, 1) := dk_29 (dk_at dksX5_clean_7 14 rfl rfl)
theorem dX5_clean_175 : decode cX5_clean 175 = .ok (.ireturn, 1) := dk_172 (dk_at dksX5_clean_7 15 rfl rfl)
def dkwX5_wrap_0 : List UInt8 := [42, 180, 0, 25, 27, 4, 184, 0, 82, 92, 46, 4, 28, 120, 128, 79, 177]
abbrev dktX5_wrap_0 : List UInt8 := dkwX5_wrap_0 ++ []
theorem dksX5_wrap_0 : cX5_wrap.data.toList.drop 0 = dktX5_wrap_0 := by decide +kernel
theorem dX5_wrap_0 : decode cX5_wrap 0 = .ok (.aload_n 0, 1) := dk_42 (dk_at dksX5_wrap_0 0 rfl rfl)
theorem dX5_wrap_1 : decode cX5_wrap 1 = .ok (.getfield 25, 3) := dk_180 0 25 (dk_at dksX5_wrap_0 1 rfl rfl)
theorem dX5_wrap_4 : decode cX5_wrap 4 = .ok (.iload_n 1, 1) := dk_27 (dk_at dksX5_wrap_0 4 rfl rfl)
theorem dX5_wrap_5 : decode cX5_wrap 5 = .ok (.iconst 1, 1) := dk_4 (dk_at dksX5_wrap_0 5 rfl rfl)
theorem dX5_wrap_6 : decode cX5_wrap 6 = .ok (.invokestatic 82, 3) := dk_184 0 82 (dk_at dksX5_wrap_0 6 rfl rfl)
theorem dX5_wrap_9 : decode cX5_wrap 9 = .ok (.dup2, 1) := dk_92 (dk_at dksX5_wrap_0 9 rfl rfl)
theorem dX5_wrap_10 : decode cX5_wrap 10 = .ok (.iaload, 1) := dk_46 (dk_at dksX5_wrap_0 10 rfl rfl)
theorem dX5_wrap_11 : decode cX5_wrap 11 = .ok (.iconst 1, 1) := dk_4 (dk_at dksX5_wrap_0 11 rfl rfl)
theorem dX5_wrap_12 : decode cX5_wrap 12 = .ok (.iload_n 2, 1) := dk_28 (dk_at dksX5_wrap_0 12 rfl rfl)
theorem dX5_wrap_13 : decode cX5_wrap 13 = .ok (.ishl, 1) := dk_120 (dk_at dksX5_wrap_0 13 rfl rfl)
theorem dX5_wrap_14 : decode cX5_wrap 14 = .ok (.ior, 1) := dk_128 (dk_at dksX5_wrap_0 14 rfl rfl)
theorem dX5_wrap_15 : decode cX5_wrap 15 = .ok (.iastore, 1) := dk_79 (dk_at dksX5_wrap_0 15 rfl rfl)
theorem dX5_wrap_16 : decode cX5_wrap 16 = .ok (.return_, 1) := dk_177 (dk_at dksX5_wrap_0 16 rfl rfl)
def dkwX5_sweep_2 : List UInt8 := [42, 180, 0, 25, 16, 9, 92, 46, 27, 96, 79, 177]
abbrev dktX5_sweep_2 : List UInt8 := dkwX5_sweep_2 ++ []
def dkwX5_sweep_1 : List UInt8 := [16, 7, 46, 162, 0, 21, 42, 29, 28, 182, 0, 140, 132, 1, 1, 42, 3, 182, 0, 147, 62, 167, 255, 225]
abbrev dktX5_sweep_1 : List UInt8 := dkwX5_sweep_1 ++ dktX5_sweep_2
def dkwX5_sweep_0 : List UInt8 := [3, 60, 42, 182, 0, 127, 61, 42, 3, 182, 0, 147, 62, 29, 2, 159, 0, 32, 27, 42, 180, 0, 25]
abbrev dktX5_sweep_0 : List UInt8 := dkwX5_sweep_0 ++ dktX5_sweep_1
theorem dksX5_sweep_0 : cX5_sweep.data.toList.drop 0 = dktX5_sweep_0 := by decide +kernel
theorem dksX5_sweep_1 : cX5_sweep.data.toList.drop 23 = dktX5_sweep_1 := dk_seg dksX5_sweep_0 23 rfl rfl
theorem dksX5_sweep_2 : cX5_sweep.data.toList.drop 47 = dktX5_sweep_2 := dk_seg dksX5_sweep_1 24 rfl rfl
theorem dX5_sweep_0 : decode cX5_sweep 0 = .ok (.iconst 0, 1) := dk_3 (dk_at dksX5_sweep_0 0 rfl rfl)
theorem dX5_sweep_1 : decode cX5_sweep 1 = .ok (.istore_n 1, 1) := dk_60 (dk_at dksX5_sweep_0 1 rfl rfl)
theorem dX5_sweep_2 : decode cX5_sweep 2 = .ok (.aload_n 0, 1) := dk_42 (dk_at dksX5_sweep_0 2 rfl rfl)
theorem dX5_sweep_3 : decode cX5_sweep 3 = .ok (.invokevirtual 127, 3) := dk_182 0 127 (dk_at dksX5_sweep_0 3 rfl rfl)
theorem dX5_sweep_6 : decode cX5_sweep 6 = .ok (.istore_n 2, 1) := dk_61 (dk_at dksX5_sweep_0 6 rfl rfl)
theorem dX5_sweep_7 : decode cX5_sweep 7 = .ok (.aload_n 0, 1) := dk_42 (dk_at dksX5_sweep_0 7 rfl rfl)
theorem dX5_sweep_8 : decode cX5_sweep 8 = .ok (.iconst 0, 1) := dk_3 (dk_at dksX5_sweep_0 8 rfl rfl)
theorem dX5_sweep_9 : decode cX5_sweep 9 = .ok (.invokevirtual 147, 3) := dk_182 0 147 (dk_at dksX5_sweep_0 9 rfl rfl)
theorem dX5_sweep_12 : decode cX5_sweep 12 = .ok (.istore_n 3, 1) := dk_62 (dk_at dksX5_sweep_0 12 rfl rfl)
theorem dX5_sweep_13 : decode cX5_sweep 13 = .ok (.iload_n 3, 1) := dk_29 (dk_at dksX5_sweep_0 13 rfl rfl)
theorem dX5_sweep_14 : decode cX5_sweep 14 = .ok (.iconst (-1), 1) := dk_2 (dk_at dksX5_sweep_0 14 rfl rfl)
theorem dX5_sweep_15 : decode cX5_sweep 15 = .ok (.if_icmp .eq 32, 3) := dk_159 0 32 (dk_at dksX5_sweep_0 15 rfl rfl)
theorem dX5_sweep_18 : decode cX5_sweep 18 = .ok (.iload_n 1, 1) := dk_27 (dk_at dksX5_sweep_0 18 rfl rfl)
theorem dX5_sweep_19 : decode cX5_sweep 19 = .ok (.aload_n 0, 1) := dk_42 (dk_at dksX5_sweep_0 19 rfl rfl)
theorem dX5_sweep_20 : decode cX5_sweep 20 = .ok (.getfield 25, 3) := dk_180 0 25 (dk_at dksX5_sweep_0 20 rfl rfl)
theorem dX5_sweep_23 : decode cX5_sweep 23 = .ok (.bipush 7, 2) := dk_16 7 (dk_at dksX5_sweep_1 0 rfl rfl)
theorem dX5_sweep_25 : decode cX5_sweep 25 = .ok (.iaload, 1) := dk_46 (dk_at dksX5_sweep_1 2 rfl rfl)
theorem dX5_sweep_26 : decode cX5_sweep 26 = .ok (.if_icmp .ge 21, 3) := dk_162 0 21 (dk_at dksX5_sweep_1 3 rfl rfl)
theorem dX5_sweep_29 : decode cX5_sweep 29 = .ok (.aload_n 0, 1) := dk_42 (dk_at dksX5_sweep_1 6 rfl rfl)
theorem dX5_sweep_30 : decode cX5_sweep 30 = .ok (.iload_n 3, 1) := dk_29 (dk_at dksX5_sweep_1 7 rfl rfl)
theorem dX5_sweep_31 : decode cX5_sweep 31 = .ok (.iload_n 2, 1) := dk_28 (dk_at dksX5_sweep_1 8 rfl rfl)
theorem dX5_sweep_32 : decode cX5_sweep 32 = .ok (.invokevirtual 140, 3) := dk_182 0 140 (dk_at dksX5_sweep_1 9 rfl rfl)
theorem dX5_sweep_35 : decode cX5_sweep 35 = .ok (.iinc 1 1, 3) := dk_132 1 1 (dk_at dksX5_sweep_1 12 rfl rfl)
theorem dX5_sweep_38 : decode cX5_sweep 38 = .ok (.aload_n 0, 1) := dk_42 (dk_at dksX5_sweep_1 15 rfl rfl)
theorem dX5_sweep_39 : decode cX5_sweep 39 = .ok (.iconst 0, 1) := dk_3 (dk_at dksX5_sweep_1 16 rfl rfl)
theorem dX5_sweep_40 : decode cX5_sweep 40 = .ok (.invokevirtual 147, 3) := dk_182 0 147 (dk_at dksX5_sweep_1 17 rfl rfl)
theorem dX5_sweep_43 : decode cX5_sweep 43 = .ok (.istore_n 3, 1) := dk_62 (dk_at dksX5_sweep_1 20 rfl rfl)
theorem dX5_sweep_44 : decode cX5_sweep 44 = .ok (.goto (-31), 3) := dk_167 255 225 (dk_at dksX5_sweep_1 21 rfl rfl)
theorem dX5_sweep_47 : decode cX5_sweep 47 = .ok (.aload_n 0, 1) := dk_42 (dk_at dksX5_sweep_2 0 rfl rfl)
theorem dX5_sweep_48 : decode cX5_sweep 48 = .ok (.getfield 25, 3) := dk_180 0 25 (dk_at dksX5_sweep_2 1 rfl rfl)
theorem dX5_sweep_51 : decode cX5_sweep 51 = .ok (.bipush 9, 2) := dk_16 9 (dk_at dksX5_sweep_2 4 rfl rfl)
theorem dX5_sweep_53 : decode cX5_sweep 53 = .ok (.dup2, 1) := dk_92 (dk_at dksX5_sweep_2 6 rfl rfl)
theorem dX5_sweep_54 : decode cX5_sweep 54 = .ok (.iaload, 1) := dk_46 (dk_at dksX5_sweep_2 7 rfl rfl)
theorem dX5_sweep_55 : decode cX5_sweep 55 = .ok (.iload_n 1, 1) := dk_27 (dk_at dksX5_sweep_2 8 rfl rfl)
theorem dX5_sweep_56 : decode cX5_sweep 56 = .ok (.iadd, 1) := dk_96 (dk_at dksX5_sweep_2 9 rfl rfl)
theorem dX5_sweep_57 : decode cX5_sweep 57 = .ok (.iastore, 1) := dk_79 (dk_at dksX5_sweep_2 10 rfl rfl)
theorem dX5_sweep_58 : decode cX5_sweep 58 = .ok (.return_, 1) := dk_177 (dk_at dksX5_sweep_2 11 rfl rfl)
def dkwX5_learn_5 : List UInt8 := [180, 0, 25, 27, 5, 184, 0, 85, 42, 182, 0, 105, 79, 42, 180, 0, 25, 4, 46, 28, 100, 172]
abbrev dktX5_learn_5 : List UInt8 := dkwX5_learn_5 ++ []
def dkwX5_learn_4 : List UInt8 := [7, 184, 0, 85, 29, 79, 42, 180, 0, 25, 27, 6, 184, 0, 85, 42, 180, 0, 25, 4, 46, 79, 42]
abbrev dktX5_learn_4 : List UInt8 := dkwX5_learn_4 ++ dktX5_learn_5
def dkwX5_learn_3 : List UInt8 := [182, 0, 153, 4, 96, 42, 21, 4, 4, 182, 0, 99, 79, 132, 4, 1, 167, 255, 182, 42, 180, 0, 25, 27]
abbrev dktX5_learn_3 : List UInt8 := dkwX5_learn_3 ++ dktX5_learn_4
def dkwX5_learn_2 : List UInt8 := [27, 21, 4, 182, 0, 153, 42, 21, 4, 3, 182, 0, 99, 79, 42, 180, 0, 25, 42, 27, 21, 4]
abbrev dktX5_learn_2 : List UInt8 := dkwX5_learn_2 ++ dktX5_learn_3
def dkwX5_learn_1 : List UInt8 := [42, 21, 4, 182, 0, 102, 153, 0, 10, 4, 21, 4, 120, 167, 0, 4, 3, 128, 62, 42, 180, 0, 25, 42]
abbrev dktX5_learn_1 : List UInt8 := dkwX5_learn_1 ++ dktX5_learn_2
def dkwX5_learn_0 : List UInt8 := [42, 27, 6, 182, 0, 150, 61, 3, 62, 3, 54, 4, 21, 4, 42, 180, 0, 25, 4, 46, 162, 0, 69, 29]
abbrev dktX5_learn_0 : List UInt8 := dkwX5_learn_0 ++ dktX5_learn_1
theorem dksX5_learn_0 : cX5_learn.data.toList.drop 0 = dktX5_learn_0 := by decide +kernel
theorem dksX5_learn_1 : cX5_learn.data.toList.drop 24 = dktX5_learn_1 := dk_seg dksX5_learn_0 24 rfl rfl
theorem dksX5_learn_2 : cX5_learn.data.toList.drop 48 = dktX5_learn_2 := dk_seg dksX5_learn_1 24 rfl rfl
theorem dksX5_learn_3 : cX5_learn.data.toList.drop 70 = dktX5_learn_3 := dk_seg dksX5_learn_2 22 rfl rfl
theorem dksX5_learn_4 : cX5_learn.data.toList.drop 94 = dktX5_learn_4 := dk_seg dksX5_learn_3 24 rfl rfl
theorem dksX5_learn_5 : cX5_learn.data.toList.drop 117 = dktX5_learn_5 := dk_seg dksX5_learn_4 23 rfl rfl
theorem dX5_learn_0 : decode cX5_learn 0 = .ok (.aload_n 0, 1) := dk_42 (dk_at dksX5_learn_0 0 rfl rfl)
theorem dX5_learn_1 : decode cX5_learn 1 = .ok (.iload_n 1, 1) := dk_27 (dk_at dksX5_learn_0 1 rfl rfl)
theorem dX5_learn_2 : decode cX5_learn 2 = .ok (.iconst 3, 1) := dk_6 (dk_at dksX5_learn_0 2 rfl rfl)
theorem dX5_learn_3 : decode cX5_learn 3 = .ok (.invokevirtual 150, 3) := dk_182 0 150 (dk_at dksX5_learn_0 3 rfl rfl)
theorem dX5_learn_6 : decode cX5_learn 6 = .ok (.istore_n 2, 1) := dk_61 (dk_at dksX5_learn_0 6 rfl rfl)
theorem dX5_learn_7 : decode cX5_learn 7 = .ok (.iconst 0, 1) := dk_3 (dk_at dksX5_learn_0 7 rfl rfl)
theorem dX5_learn_8 : decode cX5_learn 8 = .ok (.istore_n 3, 1) := dk_62 (dk_at dksX5_learn_0 8 rfl rfl)
theorem dX5_learn_9 : decode cX5_learn 9 = .ok (.iconst 0, 1) := dk_3 (dk_at dksX5_learn_0 9 rfl rfl)
theorem dX5_learn_10 : decode cX5_learn 10 = .ok (.istore 4, 2) := dk_54 4 (dk_at dksX5_learn_0 10 rfl rfl)
theorem dX5_learn_12 : decode cX5_learn 12 = .ok (.iload 4, 2) := dk_21 4 (dk_at dksX5_learn_0 12 rfl rfl)
theorem dX5_learn_14 : decode cX5_learn 14 = .ok (.aload_n 0, 1) := dk_42 (dk_at dksX5_learn_0 14 rfl rfl)
theorem dX5_learn_15 : decode cX5_learn 15 = .ok (.getfield 25, 3) := dk_180 0 25 (dk_at dksX5_learn_0 15 rfl rfl)
theorem dX5_learn_18 : decode cX5_learn 18 = .ok (.iconst 1, 1) := dk_4 (dk_at dksX5_learn_0 18 rfl rfl)
theorem dX5_learn_19 : decode cX5_learn 19 = .ok (.iaload, 1) := dk_46 (dk_at dksX5_learn_0 19 rfl rfl)
theorem dX5_learn_20 : decode cX5_learn 20 = .ok (.if_icmp .ge 69, 3) := dk_162 0 69 (dk_at dksX5_learn_0 20 rfl rfl)
theorem dX5_learn_23 : decode cX5_learn 23 = .ok (.iload_n 3, 1) := dk_29 (dk_at dksX5_learn_0 23 rfl rfl)
theorem dX5_learn_24 : decode cX5_learn 24 = .ok (.aload_n 0, 1) := dk_42 (dk_at dksX5_learn_1 0 rfl rfl)
theorem dX5_learn_25 : decode cX5_learn 25 = .ok (.iload 4, 2) := dk_21 4 (dk_at dksX5_learn_1 1 rfl rfl)
theorem dX5_learn_27 : decode cX5_learn 27 = .ok (.invokevirtual 102, 3) := dk_182 0 102 (dk_at dksX5_learn_1 3 rfl rfl)
theorem dX5_learn_30 : decode cX5_learn 30 = .ok (.ifCond .eq 10, 3) := dk_153 0 10 (dk_at dksX5_learn_1 6 rfl rfl)
theorem dX5_learn_33 : decode cX5_learn 33 = .ok (.iconst 1, 1) := dk_4 (dk_at dksX5_learn_1 9 rfl rfl)
theorem dX5_learn_34 : decode cX5_learn 34 = .ok (.iload 4, 2) := dk_21 4 (dk_at dksX5_learn_1 10 rfl rfl)
theorem dX5_learn_36 : decode cX5_learn 36 = .ok (.ishl, 1) := dk_120 (dk_at dksX5_learn_1 12 rfl rfl)
theorem dX5_learn_37 : decode cX5_learn 37 = .ok (.goto 4, 3) := dk_167 0 4 (dk_at dksX5_learn_1 13 rfl rfl)
theorem dX5_learn_40 : decode cX5_learn 40 = .ok (.iconst 0, 1) := dk_3 (dk_at dksX5_learn_1 16 rfl rfl)
theorem dX5_learn_41 : decode cX5_learn 41 = .ok (.ior, 1) := dk_128 (dk_at dksX5_learn_1 17 rfl rfl)
theorem dX5_learn_42 : decode cX5_learn 42 = .ok (.istore_n 3, 1) := dk_62 (dk_at dksX5_learn_1 18 rfl rfl)
theorem dX5_learn_43 : decode cX5_learn 43 = .ok (.aload_n 0, 1) := dk_42 (dk_at dksX5_learn_1 19 rfl rfl)
theorem dX5_learn_44 : decode cX5_learn 44 = .ok (.getfield 25, 3) := dk_180 0 25 (dk_at dksX5_learn_1 20 rfl rfl)
theorem dX5_learn_47 : decode cX5_learn 47 = .ok (.aload_n 0, 1) := dk_42 (dk_at dksX5_learn_1 23 rfl rfl)
theorem dX5_learn_48 : decode cX5_learn 48 = .ok (.iload_n 1, 1) := dk_27 (dk_at dksX5_learn_2 0 rfl rfl)
theorem dX5_learn_49 : decode cX5_learn 49 = .ok (.iload 4, 2) := dk_21 4 (dk_at dksX5_learn_2 1 rfl rfl)
theorem dX5_learn_51 : decode cX5_learn 51 = .ok (.invokevirtual 153, 3) := dk_182 0 153 (dk_at dksX5_learn_2 3 rfl rfl)
theorem dX5_learn_54 : decode cX5_learn 54 = .ok (.aload_n 0, 1) := dk_42 (dk_at dksX5_learn_2 6 rfl rfl)
theorem dX5_learn_55 : decode cX5_learn 55 = .ok (.iload 4, 2) := dk_21 4 (dk_at dksX5_learn_2 7 rfl rfl)
theorem dX5_learn_57 : decode cX5_learn 57 = .ok (.iconst 0, 1) := dk_3 (dk_at dksX5_learn_2 9 rfl rfl)
theorem dX5_learn_58 : decode cX5_learn 58 = .ok (.invokevirtual 99, 3) := dk_182 0 99 (dk_at dksX5_learn_2 10 rfl rfl)
theorem dX5_learn_61 : decode cX5_learn 61 = .ok (.iastore, 1) := dk_79 (dk_at dksX5_learn_2 13 rfl rfl)
theorem dX5_learn_62 : decode cX5_learn 62 = .ok (.aload_n 0, 1) := dk_42 (dk_at dksX5_learn_2 14 rfl rfl)
theorem dX5_learn_63 : decode cX5_learn 63 = .ok (.getfield 25, 3) := dk_180 0 25 (dk_at dksX5_learn_2 15 rfl rfl)
theorem dX5_learn_66 : decode cX5_learn 66 = .ok (.aload_n 0, 1) := dk_42 (dk_at dksX5_learn_2 18 rfl rfl)
theorem dX5_learn_67 : decode cX5_learn 67 = .ok (.iload_n 1, 1) := dk_27 (dk_at dksX5_learn_2 19 rfl rfl)
theorem dX5_learn_68 : decode cX5_learn 68 = .ok (.iload 4, 2) := dk_21 4 (dk_at dksX5_learn_2 20 rfl rfl)
theorem dX5_learn_70 : decode cX5_learn 70 = .ok (.invokevirtual 153, 3) := dk_182 0 153 (dk_at dksX5_learn_3 0 rfl rfl)
theorem dX5_learn_73 : decode cX5_learn 73 = .ok (.iconst 1, 1) := dk_4 (dk_at dksX5_learn_3 3 rfl rfl)
theorem dX5_learn_74 : decode cX5_learn 74 = .ok (.iadd, 1) := dk_96 (dk_at dksX5_learn_3 4 rfl rfl)
theorem dX5_learn_75 : decode cX5_learn 75 = .ok (.aload_n 0, 1) := dk_42 (dk_at dksX5_learn_3 5 rfl rfl)
theorem dX5_learn_76 : decode cX5_learn 76 = .ok (.iload 4, 2) := dk_21 4 (dk_at dksX5_learn_3 6 rfl rfl)
theorem dX5_learn_78 : decode cX5_learn 78 = .ok (.iconst 1, 1) := dk_4 (dk_at dksX5_learn_3 8 rfl rfl)
theorem dX5_learn_79 : decode cX5_learn 79 = .ok (.invokevirtual 99, 3) := dk_182 0 99 (dk_at dksX5_learn_3 9 rfl rfl)
theorem dX5_learn_82 : decode cX5_learn 82 = .ok (.iastore, 1) := dk_79 (dk_at dksX5_learn_3 12 rfl rfl)
theorem dX5_learn_83 : decode cX5_learn 83 = .ok (.iinc 4 1, 3) := dk_132 4 1 (dk_at dksX5_learn_3 13 rfl rfl)
theorem dX5_learn_86 : decode cX5_learn 86 = .ok (.goto (-74), 3) := dk_167 255 182 (dk_at dksX5_learn_3 16 rfl rfl)
theorem dX5_learn_89 : decode cX5_learn 89 = .ok (.aload_n 0, 1) := dk_42 (dk_at dksX5_learn_3 19 rfl rfl)
theorem dX5_learn_90 : decode cX5_learn 90 = .ok (.getfield 25, 3) := dk_180 0 25 (dk_at dksX5_learn_3 20 rfl rfl)
theorem dX5_learn_93 : decode cX5_learn 93 = .ok (.iload_n 1, 1) := dk_27 (dk_at dksX5_learn_3 23 rfl rfl)
theorem dX5_learn_94 : decode cX5_learn 94 = .ok (.iconst 4, 1) := dk_7 (dk_at dksX5_learn_4 0 rfl rfl)
theorem dX5_learn_95 : decode cX5_learn 95 = .ok (.invokestatic 85, 3) := dk_184 0 85 (dk_at dksX5_learn_4 1 rfl rfl)
theorem dX5_learn_98 : decode cX5_learn 98 = .ok (.iload_n 3, 1) := dk_29 (dk_at dksX5_learn_4 4 rfl rfl)
theorem dX5_learn_99 : decode cX5_learn 99 = .ok (.iastore, 1) := dk_79 (dk_at dksX5_learn_4 5 rfl rfl)
theorem dX5_learn_100 : decode cX5_learn 100 = .ok (.aload_n 0, 1) := dk_42 (dk_at dksX5_learn_4 6 rfl rfl)
theorem dX5_learn_101 : decode cX5_learn 101 = .ok (.getfield 25, 3) := dk_180 0 25 (dk_at dksX5_learn_4 7 rfl rfl)
theorem dX5_learn_104 : decode cX5_learn 104 = .ok (.iload_n 1, 1) := dk_27 (dk_at dksX5_learn_4 10 rfl rfl)
theorem dX5_learn_105 : decode cX5_learn 105 = .ok (.iconst 3, 1) := dk_6 (dk_at dksX5_learn_4 11 rfl rfl)
theorem dX5_learn_106 : decode cX5_learn 106 = .ok (.invokestatic 85, 3) := dk_184 0 85 (dk_at dksX5_learn_4 12 rfl rfl)
theorem dX5_learn_109 : decode cX5_learn 109 = .ok (.aload_n 0, 1) := dk_42 (dk_at dksX5_learn_4 15 rfl rfl)
theorem dX5_learn_110 : decode cX5_learn 110 = .ok (.getfield 25, 3) := dk_180 0 25 (dk_at dksX5_learn_4 16 rfl rfl)
theorem dX5_learn_113 : decode cX5_learn 113 = .ok (.iconst 1, 1) := dk_4 (dk_at dksX5_learn_4 19 rfl rfl)
theorem dX5_learn_114 : decode cX5_learn 114 = .ok (.iaload, 1) := dk_46 (dk_at dksX5_learn_4 20 rfl rfl)
theorem dX5_learn_115 : decode cX5_learn 115 = .ok (.iastore, 1) := dk_79 (dk_at dksX5_learn_4 21 rfl rfl)
theorem dX5_learn_116 : decode cX5_learn 116 = .ok (.aload_n 0, 1) := dk_42 (dk_at dksX5_learn_4 22 rfl rfl)
theorem dX5_learn_117 : decode cX5_learn 117 = .ok (.getfield 25, 3) := dk_180 0 25 (dk_at dksX5_learn_5 0 rfl rfl)
theorem dX5_learn_120 : decode cX5_learn 120 = .ok (.iload_n 1, 1) := dk_27 (dk_at dksX5_learn_5 3 rfl rfl)
theorem dX5_learn_121 : decode cX5_learn 121 = .ok (.iconst 2, 1) := dk_5 (dk_at dksX5_learn_5 4 rfl rfl)
theorem dX5_learn_122 : decode cX5_learn 122 = .ok (.invokestatic 85, 3) := dk_184 0 85 (dk_at dksX5_learn_5 5 rfl rfl)
theorem dX5_learn_125 : decode cX5_learn 125 = .ok (.aload_n 0, 1) := dk_42 (dk_at dksX5_learn_5 8 rfl rfl)
theorem dX5_learn_126 : decode cX5_learn 126 = .ok (.invokevirtual 105, 3) := dk_182 0 105 (dk_at dksX5_learn_5 9 rfl rfl)
theorem dX5_learn_129 : decode cX5_learn 129 = .ok (.iastore, 1) := dk_79 (dk_at dksX5_learn_5 12 rfl rfl)
theorem dX5_learn_130 : decode cX5_learn 130 = .ok (.aload_n 0, 1) := dk_42 (dk_at dksX5_learn_5 13 rfl rfl)
theorem dX5_learn_131 : decode cX5_learn 131 = .ok (.getfield 25, 3) := dk_180 0 25 (dk_at dksX5_learn_5 14 rfl rfl)
theorem dX5_learn_134 : decode cX5_learn 134 = .ok (.iconst 1, 1) := dk_4 (dk_at dksX5_learn_5 17 rfl rfl)
theorem dX5_learn_135 : decode cX5_learn 135 = .ok (.iaload, 1) := dk_46 (dk_at dksX5_learn_5 18 rfl rfl)
theorem dX5_learn_136 : decode cX5_learn 136 = .ok (.iload_n 2, 1) := dk_28 (dk_at dksX5_learn_5 19 rfl rfl)
theorem dX5_learn_137 : decode cX5_learn 137 = .ok (.isub, 1) := dk_100 (dk_at dksX5_learn_5 20 rfl rfl)
theorem dX5_learn_138 : decode cX5_learn 138 = .ok (.ireturn, 1) := dk_172 (dk_at dksX5_learn_5 21 rfl rfl)
def dkwX5_end_0 : List UInt8 := [42, 180, 0, 16, 3, 42, 180, 0, 9, 3, 184, 0, 218, 177]
abbrev dktX5_end_0 : List UInt8 := dkwX5_end_0 ++ []
theorem dksX5_end_0 : cX5_end.data.toList.drop 0 = dktX5_end_0 := by decide +kernel
theorem dX5_end_0 : decode cX5_end 0 = .ok (.aload_n 0, 1) := dk_42 (dk_at dksX5_end_0 0 rfl rfl)
theorem dX5_end_1 : decode cX5_end 1 = .ok (.getfield 16, 3) := dk_180 0 16 (dk_at dksX5_end_0 1 rfl rfl)
theorem dX5_end_4 : decode cX5_end 4 = .ok (.iconst 0, 1) := dk_3 (dk_at dksX5_end_0 4 rfl rfl)
theorem dX5_end_5 : decode cX5_end 5 = .ok (.aload_n 0, 1) := dk_42 (dk_at dksX5_end_0 5 rfl rfl)
theorem dX5_end_6 : decode cX5_end 6 = .ok (.getfield 9, 3) := dk_180 0 9 (dk_at dksX5_end_0 6 rfl rfl)
theorem dX5_end_9 : decode cX5_end 9 = .ok (.iconst 0, 1) := dk_3 (dk_at dksX5_end_0 9 rfl rfl)
theorem dX5_end_10 : decode cX5_end 10 = .ok (.invokestatic 218, 3) := dk_184 0 218 (dk_at dksX5_end_0 10 rfl rfl)
theorem dX5_end_13 : decode cX5_end 13 = .ok (.return_, 1) := dk_177 (dk_at dksX5_end_0 13 rfl rfl)
def dkwX5_dark_4 : List UInt8 := [167, 0, 4, 3, 96, 62, 132, 4, 1, 167, 255, 203, 42, 182, 0, 228, 29, 172]
abbrev dktX5_dark_4 : List UInt8 := dkwX5_dark_4 ++ []
def dkwX5_dark_3 : List UInt8 := [46, 21, 4, 96, 4, 96, 160, 0, 19, 42, 27, 182, 0, 209, 42, 182, 0, 188, 162, 0, 7, 4]
abbrev dktX5_dark_3 : List UInt8 := dkwX5_dark_3 ++ dktX5_dark_4
def dkwX5_dark_2 : List UInt8 := [54, 4, 21, 4, 28, 162, 0, 53, 42, 182, 0, 225, 54, 5, 29, 42, 182, 0, 105, 42, 180, 0, 16, 3]
abbrev dktX5_dark_2 : List UInt8 := dkwX5_dark_2 ++ dktX5_dark_3
def dkwX5_dark_1 : List UInt8 := [167, 0, 4, 5, 181, 0, 71, 42, 180, 0, 71, 153, 0, 5, 3, 172, 42, 182, 0, 222, 3, 62, 3]
abbrev dktX5_dark_1 : List UInt8 := dkwX5_dark_1 ++ dktX5_dark_2
def dkwX5_dark_0 : List UInt8 := [42, 42, 27, 182, 0, 206, 154, 0, 7, 4, 167, 0, 18, 28, 4, 16, 100, 184, 0, 88, 153, 0, 7, 3]
abbrev dktX5_dark_0 : List UInt8 := dkwX5_dark_0 ++ dktX5_dark_1
theorem dksX5_dark_0 : cX5_dark.data.toList.drop 0 = dktX5_dark_0 := by decide +kernel
theorem dksX5_dark_1 : cX5_dark.data.toList.drop 24 = dktX5_dark_1 := dk_seg dksX5_dark_0 24 rfl rfl
theorem dksX5_dark_2 : cX5_dark.data.toList.drop 47 = dktX5_dark_2 := dk_seg dksX5_dark_1 23 rfl rfl
theorem dksX5_dark_3 : cX5_dark.data.toList.drop 71 = dktX5_dark_3 := dk_seg dksX5_dark_2 24 rfl rfl
theorem dksX5_dark_4 : cX5_dark.data.toList.drop 93 = dktX5_dark_4 := dk_seg dksX5_dark_3 22 rfl rfl
theorem dX5_dark_0 : decode cX5_dark 0 = .ok (.aload_n 0, 1) := dk_42 (dk_at dksX5_dark_0 0 rfl rfl)
theorem dX5_dark_1 : decode cX5_dark 1 = .ok (.aload_n 0, 1) := dk_42 (dk_at dksX5_dark_0 1 rfl rfl)
theorem dX5_dark_2 : decode cX5_dark 2 = .ok (.iload_n 1, 1) := dk_27 (dk_at dksX5_dark_0 2 rfl rfl)
theorem dX5_dark_3 : decode cX5_dark 3 = .ok (.invokevirtual 206, 3) := dk_182 0 206 (dk_at dksX5_dark_0 3 rfl rfl)
theorem dX5_dark_6 : decode cX5_dark 6 = .ok (.ifCond .ne 7, 3) := dk_154 0 7 (dk_at dksX5_dark_0 6 rfl rfl)
theorem dX5_dark_9 : decode cX5_dark 9 = .ok (.iconst 1, 1) := dk_4 (dk_at dksX5_dark_0 9 rfl rfl)
theorem dX5_dark_10 : decode cX5_dark 10 = .ok (.goto 18, 3) := dk_167 0 18 (dk_at dksX5_dark_0 10 rfl rfl)
theorem dX5_dark_13 : decode cX5_dark 13 = .ok (.iload_n 2, 1) := dk_28 (dk_at dksX5_dark_0 13 rfl rfl)
theorem dX5_dark_14 : decode cX5_dark 14 = .ok (.iconst 1, 1) := dk_4 (dk_at dksX5_dark_0 14 rfl rfl)
theorem dX5_dark_15 : decode cX5_dark 15 = .ok (.bipush 100, 2) := dk_16 100 (dk_at dksX5_dark_0 15 rfl rfl)
theorem dX5_dark_17 : decode cX5_dark 17 = .ok (.invokestatic 88, 3) := dk_184 0 88 (dk_at dksX5_dark_0 17 rfl rfl)
theorem dX5_dark_20 : decode cX5_dark 20 = .ok (.ifCond .eq 7, 3) := dk_153 0 7 (dk_at dksX5_dark_0 20 rfl rfl)
theorem dX5_dark_23 : decode cX5_dark 23 = .ok (.iconst 0, 1) := dk_3 (dk_at dksX5_dark_0 23 rfl rfl)
theorem dX5_dark_24 : decode cX5_dark 24 = .ok (.goto 4, 3) := dk_167 0 4 (dk_at dksX5_dark_1 0 rfl rfl)
theorem dX5_dark_27 : decode cX5_dark 27 = .ok (.iconst 2, 1) := dk_5 (dk_at dksX5_dark_1 3 rfl rfl)
theorem dX5_dark_28 : decode cX5_dark 28 = .ok (.putfield 71, 3) := dk_181 0 71 (dk_at dksX5_dark_1 4 rfl rfl)
theorem dX5_dark_31 : decode cX5_dark 31 = .ok (.aload_n 0, 1) := dk_42 (dk_at dksX5_dark_1 7 rfl rfl)
theorem dX5_dark_32 : decode cX5_dark 32 = .ok (.getfield 71, 3) := dk_180 0 71 (dk_at dksX5_dark_1 8 rfl rfl)
theorem dX5_dark_35 : decode cX5_dark 35 = .ok (.ifCond .eq 5, 3) := dk_153 0 5 (dk_at dksX5_dark_1 11 rfl rfl)
theorem dX5_dark_38 : decode cX5_dark 38 = .ok (.iconst 0, 1) := dk_3 (dk_at dksX5_dark_1 14 rfl rfl)
theorem dX5_dark_39 : decode cX5_dark 39 = .ok (.ireturn, 1) := dk_172 (dk_at dksX5_dark_1 15 rfl rfl)
theorem dX5_dark_40 : decode cX5_dark 40 = .ok (.aload_n 0, 1) := dk_42 (dk_at dksX5_dark_1 16 rfl rfl)
theorem dX5_dark_41 : decode cX5_dark 41 = .ok (.invokevirtual 222, 3) := dk_182 0 222 (dk_at dksX5_dark_1 17 rfl rfl)
theorem dX5_dark_44 : decode cX5_dark 44 = .ok (.iconst 0, 1) := dk_3 (dk_at dksX5_dark_1 20 rfl rfl)
theorem dX5_dark_45 : decode cX5_dark 45 = .ok (.istore_n 3, 1) := dk_62 (dk_at dksX5_dark_1 21 rfl rfl)
theorem dX5_dark_46 : decode cX5_dark 46 = .ok (.iconst 0, 1) := dk_3 (dk_at dksX5_dark_1 22 rfl rfl)
theorem dX5_dark_47 : decode cX5_dark 47 = .ok (.istore 4, 2) := dk_54 4 (dk_at dksX5_dark_2 0 rfl rfl)
theorem dX5_dark_49 : decode cX5_dark 49 = .ok (.iload 4, 2) := dk_21 4 (dk_at dksX5_dark_2 2 rfl rfl)
theorem dX5_dark_51 : decode cX5_dark 51 = .ok (.iload_n 2, 1) := dk_28 (dk_at dksX5_dark_2 4 rfl rfl)
theorem dX5_dark_52 : decode cX5_dark 52 = .ok (.if_icmp .ge 53, 3) := dk_162 0 53 (dk_at dksX5_dark_2 5 rfl rfl)
theorem dX5_dark_55 : decode cX5_dark 55 = .ok (.aload_n 0, 1) := dk_42 (dk_at dksX5_dark_2 8 rfl rfl)
theorem dX5_dark_56 : decode cX5_dark 56 = .ok (.invokevirtual 225, 3) := dk_182 0 225 (dk_at dksX5_dark_2 9 rfl rfl)
theorem dX5_dark_59 : decode cX5_dark 59 = .ok (.istore 5, 2) := dk_54 5 (dk_at dksX5_dark_2 12 rfl rfl)
theorem dX5_dark_61 : decode cX5_dark 61 = .ok (.iload_n 3, 1) := dk_29 (dk_at dksX5_dark_2 14 rfl rfl)
theorem dX5_dark_62 : decode cX5_dark 62 = .ok (.aload_n 0, 1) := dk_42 (dk_at dksX5_dark_2 15 rfl rfl)
theorem dX5_dark_63 : decode cX5_dark 63 = .ok (.invokevirtual 105, 3) := dk_182 0 105 (dk_at dksX5_dark_2 16 rfl rfl)
theorem dX5_dark_66 : decode cX5_dark 66 = .ok (.aload_n 0, 1) := dk_42 (dk_at dksX5_dark_2 19 rfl rfl)
theorem dX5_dark_67 : decode cX5_dark 67 = .ok (.getfield 16, 3) := dk_180 0 16 (dk_at dksX5_dark_2 20 rfl rfl)
theorem dX5_dark_70 : decode cX5_dark 70 = .ok (.iconst 0, 1) := dk_3 (dk_at dksX5_dark_2 23 rfl rfl)
theorem dX5_dark_71 : decode cX5_dark 71 = .ok (.iaload, 1) := dk_46 (dk_at dksX5_dark_3 0 rfl rfl)
theorem dX5_dark_72 : decode cX5_dark 72 = .ok (.iload 4, 2) := dk_21 4 (dk_at dksX5_dark_3 1 rfl rfl)
theorem dX5_dark_74 : decode cX5_dark 74 = .ok (.iadd, 1) := dk_96 (dk_at dksX5_dark_3 3 rfl rfl)
theorem dX5_dark_75 : decode cX5_dark 75 = .ok (.iconst 1, 1) := dk_4 (dk_at dksX5_dark_3 4 rfl rfl)
theorem dX5_dark_76 : decode cX5_dark 76 = .ok (.iadd, 1) := dk_96 (dk_at dksX5_dark_3 5 rfl rfl)
theorem dX5_dark_77 : decode cX5_dark 77 = .ok (.if_icmp .ne 19, 3) := dk_160 0 19 (dk_at dksX5_dark_3 6 rfl rfl)
theorem dX5_dark_80 : decode cX5_dark 80 = .ok (.aload_n 0, 1) := dk_42 (dk_at dksX5_dark_3 9 rfl rfl)
theorem dX5_dark_81 : decode cX5_dark 81 = .ok (.iload_n 1, 1) := dk_27 (dk_at dksX5_dark_3 10 rfl rfl)
theorem dX5_dark_82 : decode cX5_dark 82 = .ok (.invokevirtual 209, 3) := dk_182 0 209 (dk_at dksX5_dark_3 11 rfl rfl)
theorem dX5_dark_85 : decode cX5_dark 85 = .ok (.aload_n 0, 1) := dk_42 (dk_at dksX5_dark_3 14 rfl rfl)
theorem dX5_dark_86 : decode cX5_dark 86 = .ok (.invokevirtual 188, 3) := dk_182 0 188 (dk_at dksX5_dark_3 15 rfl rfl)
theorem dX5_dark_89 : decode cX5_dark 89 = .ok (.if_icmp .ge 7, 3) := dk_162 0 7 (dk_at dksX5_dark_3 18 rfl rfl)
theorem dX5_dark_92 : decode cX5_dark 92 = .ok (.iconst 1, 1) := dk_4 (dk_at dksX5_dark_3 21 rfl rfl)
theorem dX5_dark_93 : decode cX5_dark 93 = .ok (.goto 4, 3) := dk_167 0 4 (dk_at dksX5_dark_4 0 rfl rfl)
theorem dX5_dark_96 : decode cX5_dark 96 = .ok (.iconst 0, 1) := dk_3 (dk_at dksX5_dark_4 3 rfl rfl)
theorem dX5_dark_97 : decode cX5_dark 97 = .ok (.iadd, 1) := dk_96 (dk_at dksX5_dark_4 4 rfl rfl)
theorem dX5_dark_98 : decode cX5_dark 98 = .ok (.istore_n 3, 1) := dk_62 (dk_at dksX5_dark_4 5 rfl rfl)
theorem dX5_dark_99 : decode cX5_dark 99 = .ok (.iinc 4 1, 3) := dk_132 4 1 (dk_at dksX5_dark_4 6 rfl rfl)
theorem dX5_dark_102 : decode cX5_dark 102 = .ok (.goto (-53), 3) := dk_167 255 203 (dk_at dksX5_dark_4 9 rfl rfl)
theorem dX5_dark_105 : decode cX5_dark 105 = .ok (.aload_n 0, 1) := dk_42 (dk_at dksX5_dark_4 12 rfl rfl)
theorem dX5_dark_106 : decode cX5_dark 106 = .ok (.invokevirtual 228, 3) := dk_182 0 228 (dk_at dksX5_dark_4 13 rfl rfl)
theorem dX5_dark_109 : decode cX5_dark 109 = .ok (.iload_n 3, 1) := dk_29 (dk_at dksX5_dark_4 16 rfl rfl)
theorem dX5_dark_110 : decode cX5_dark 110 = .ok (.ireturn, 1) := dk_172 (dk_at dksX5_dark_4 17 rfl rfl)
def dkwX5_leastBatch_4 : List UInt8 := [167, 255, 190, 28, 172]
abbrev dktX5_leastBatch_4 : List UInt8 := dkwX5_leastBatch_4 ++ []
def dkwX5_leastBatch_3 : List UInt8 := [132, 5, 1, 167, 255, 236, 21, 4, 154, 0, 7, 29, 167, 0, 4, 2, 61, 42, 182, 0, 228, 132, 3, 1]
abbrev dktX5_leastBatch_3 : List UInt8 := dkwX5_leastBatch_3 ++ dktX5_leastBatch_4
def dkwX5_leastBatch_2 : List UInt8 := [3, 54, 4, 3, 54, 5, 21, 5, 27, 162, 0, 20, 21, 4, 154, 0, 15, 42, 182, 0, 225, 54, 4]
abbrev dktX5_leastBatch_2 : List UInt8 := dkwX5_leastBatch_2 ++ dktX5_leastBatch_3
def dkwX5_leastBatch_1 : List UInt8 := [182, 0, 222, 4, 62, 29, 16, 30, 163, 0, 66, 28, 2, 160, 0, 61, 42, 180, 0, 9, 16, 7, 29, 79]
abbrev dktX5_leastBatch_1 : List UInt8 := dkwX5_leastBatch_1 ++ dktX5_leastBatch_2
def dkwX5_leastBatch_0 : List UInt8 := [42, 3, 181, 0, 71, 27, 4, 16, 100, 184, 0, 88, 154, 0, 9, 42, 4, 182, 0, 197, 172, 2, 61, 42]
abbrev dktX5_leastBatch_0 : List UInt8 := dkwX5_leastBatch_0 ++ dktX5_leastBatch_1
theorem dksX5_leastBatch_0 : cX5_leastBatch.data.toList.drop 0 = dktX5_leastBatch_0 := by decide +kernel
theorem dksX5_leastBatch_1 : cX5_leastBatch.data.toList.drop 24 = dktX5_leastBatch_1 := dk_seg dksX5_leastBatch_0 24 rfl rfl
theorem dksX5_leastBatch_2 : cX5_leastBatch.data.toList.drop 48 = dktX5_leastBatch_2 := dk_seg dksX5_leastBatch_1 24 rfl rfl
theorem dksX5_leastBatch_3 : cX5_leastBatch.data.toList.drop 71 = dktX5_leastBatch_3 := dk_seg dksX5_leastBatch_2 23 rfl rfl
theorem dksX5_leastBatch_4 : cX5_leastBatch.data.toList.drop 95 = dktX5_leastBatch_4 := dk_seg dksX5_leastBatch_3 24 rfl rfl
theorem dX5_leastBatch_0 : decode cX5_leastBatch 0 = .ok (.aload_n 0, 1) := dk_42 (dk_at dksX5_leastBatch_0 0 rfl rfl)
theorem dX5_leastBatch_1 : decode cX5_leastBatch 1 = .ok (.iconst 0, 1) := dk_3 (dk_at dksX5_leastBatch_0 1 rfl rfl)
theorem dX5_leastBatch_2 : decode cX5_leastBatch 2 = .ok (.putfield 71, 3) := dk_181 0 71 (dk_at dksX5_leastBatch_0 2 rfl rfl)
theorem dX5_leastBatch_5 : decode cX5_leastBatch 5 = .ok (.iload_n 1, 1) := dk_27 (dk_at dksX5_leastBatch_0 5 rfl rfl)
theorem dX5_leastBatch_6 : decode cX5_leastBatch 6 = .ok (.iconst 1, 1) := dk_4 (dk_at dksX5_leastBatch_0 6 rfl rfl)
theorem dX5_leastBatch_7 : decode cX5_leastBatch 7 = .ok (.bipush 100, 2) := dk_16 100 (dk_at dksX5_leastBatch_0 7 rfl rfl)
theorem dX5_leastBatch_9 : decode cX5_leastBatch 9 = .ok (.invokestatic 88, 3) := dk_184 0 88 (dk_at dksX5_leastBatch_0 9 rfl rfl)
theorem dX5_leastBatch_12 : decode cX5_leastBatch 12 = .ok (.ifCond .ne 9, 3) := dk_154 0 9 (dk_at dksX5_leastBatch_0 12 rfl rfl)
theorem dX5_leastBatch_15 : decode cX5_leastBatch 15 = .ok (.aload_n 0, 1) := dk_42 (dk_at dksX5_leastBatch_0 15 rfl rfl)
theorem dX5_leastBatch_16 : decode cX5_leastBatch 16 = .ok (.iconst 1, 1) := dk_4 (dk_at dksX5_leastBatch_0 16 rfl rfl)
theorem dX5_leastBatch_17 : decode cX5_leastBatch 17 = .ok (.invokevirtual 197, 3) := dk_182 0 197 (dk_at dksX5_leastBatch_0 17 rfl rfl)
theorem dX5_leastBatch_20 : decode cX5_leastBatch 20 = .ok (.ireturn, 1) := dk_172 (dk_at dksX5_leastBatch_0 20 rfl rfl)
theorem dX5_leastBatch_21 : decode cX5_leastBatch 21 = .ok (.iconst (-1), 1) := dk_2 (dk_at dksX5_leastBatch_0 21 rfl rfl)
theorem dX5_leastBatch_22 : decode cX5_leastBatch 22 = .ok (.istore_n 2, 1) := dk_61 (dk_at dksX5_leastBatch_0 22 rfl rfl)
theorem dX5_leastBatch_23 : decode cX5_leastBatch 23 = .ok (.aload_n 0, 1) := dk_42 (dk_at dksX5_leastBatch_0 23 rfl rfl)
theorem dX5_leastBatch_24 : decode cX5_leastBatch 24 = .ok (.invokevirtual 222, 3) := dk_182 0 222 (dk_at dksX5_leastBatch_1 0 rfl rfl)
theorem dX5_leastBatch_27 : decode cX5_leastBatch 27 = .ok (.iconst 1, 1) := dk_4 (dk_at dksX5_leastBatch_1 3 rfl rfl)
theorem dX5_leastBatch_28 : decode cX5_leastBatch 28 = .ok (.istore_n 3, 1) := dk_62 (dk_at dksX5_leastBatch_1 4 rfl rfl)
theorem dX5_leastBatch_29 : decode cX5_leastBatch 29 = .ok (.iload_n 3, 1) := dk_29 (dk_at dksX5_leastBatch_1 5 rfl rfl)
theorem dX5_leastBatch_30 : decode cX5_leastBatch 30 = .ok (.bipush 30, 2) := dk_16 30 (dk_at dksX5_leastBatch_1 6 rfl rfl)
theorem dX5_leastBatch_32 : decode cX5_leastBatch 32 = .ok (.if_icmp .gt 66, 3) := dk_163 0 66 (dk_at dksX5_leastBatch_1 8 rfl rfl)
theorem dX5_leastBatch_35 : decode cX5_leastBatch 35 = .ok (.iload_n 2, 1) := dk_28 (dk_at dksX5_leastBatch_1 11 rfl rfl)
theorem dX5_leastBatch_36 : decode cX5_leastBatch 36 = .ok (.iconst (-1), 1) := dk_2 (dk_at dksX5_leastBatch_1 12 rfl rfl)
theorem dX5_leastBatch_37 : decode cX5_leastBatch 37 = .ok (.if_icmp .ne 61, 3) := dk_160 0 61 (dk_at dksX5_leastBatch_1 13 rfl rfl)
theorem dX5_leastBatch_40 : decode cX5_leastBatch 40 = .ok (.aload_n 0, 1) := dk_42 (dk_at dksX5_leastBatch_1 16 rfl rfl)
theorem dX5_leastBatch_41 : decode cX5_leastBatch 41 = .ok (.getfield 9, 3) := dk_180 0 9 (dk_at dksX5_leastBatch_1 17 rfl rfl)
theorem dX5_leastBatch_44 : decode cX5_leastBatch 44 = .ok (.bipush 7, 2) := dk_16 7 (dk_at dksX5_leastBatch_1 20 rfl rfl)
theorem dX5_leastBatch_46 : decode cX5_leastBatch 46 = .ok (.iload_n 3, 1) := dk_29 (dk_at dksX5_leastBatch_1 22 rfl rfl)
theorem dX5_leastBatch_47 : decode cX5_leastBatch 47 = .ok (.iastore, 1) := dk_79 (dk_at dksX5_leastBatch_1 23 rfl rfl)
theorem dX5_leastBatch_48 : decode cX5_leastBatch 48 = .ok (.iconst 0, 1) := dk_3 (dk_at dksX5_leastBatch_2 0 rfl rfl)
theorem dX5_leastBatch_49 : decode cX5_leastBatch 49 = .ok (.istore 4, 2) := dk_54 4 (dk_at dksX5_leastBatch_2 1 rfl rfl)
theorem dX5_leastBatch_51 : decode cX5_leastBatch 51 = .ok (.iconst 0, 1) := dk_3 (dk_at dksX5_leastBatch_2 3 rfl rfl)
theorem dX5_leastBatch_52 : decode cX5_leastBatch 52 = .ok (.istore 5, 2) := dk_54 5 (dk_at dksX5_leastBatch_2 4 rfl rfl)
theorem dX5_leastBatch_54 : decode cX5_leastBatch 54 = .ok (.iload 5, 2) := dk_21 5 (dk_at dksX5_leastBatch_2 6 rfl rfl)
theorem dX5_leastBatch_56 : decode cX5_leastBatch 56 = .ok (.iload_n 1, 1) := dk_27 (dk_at dksX5_leastBatch_2 8 rfl rfl)
theorem dX5_leastBatch_57 : decode cX5_leastBatch 57 = .ok (.if_icmp .ge 20, 3) := dk_162 0 20 (dk_at dksX5_leastBatch_2 9 rfl rfl)
theorem dX5_leastBatch_60 : decode cX5_leastBatch 60 = .ok (.iload 4, 2) := dk_21 4 (dk_at dksX5_leastBatch_2 12 rfl rfl)
theorem dX5_leastBatch_62 : decode cX5_leastBatch 62 = .ok (.ifCond .ne 15, 3) := dk_154 0 15 (dk_at dksX5_leastBatch_2 14 rfl rfl)
theorem dX5_leastBatch_65 : decode cX5_leastBatch 65 = .ok (.aload_n 0, 1) := dk_42 (dk_at dksX5_leastBatch_2 17 rfl rfl)
theorem dX5_leastBatch_66 : decode cX5_leastBatch 66 = .ok (.invokevirtual 225, 3) := dk_182 0 225 (dk_at dksX5_leastBatch_2 18 rfl rfl)
theorem dX5_leastBatch_69 : decode cX5_leastBatch 69 = .ok (.istore 4, 2) := dk_54 4 (dk_at dksX5_leastBatch_2 21 rfl rfl)
theorem dX5_leastBatch_71 : decode cX5_leastBatch 71 = .ok (.iinc 5 1, 3) := dk_132 5 1 (dk_at dksX5_leastBatch_3 0 rfl rfl)
theorem dX5_leastBatch_74 : decode cX5_leastBatch 74 = .ok (.goto (-20), 3) := dk_167 255 236 (dk_at dksX5_leastBatch_3 3 rfl rfl)
theorem dX5_leastBatch_77 : decode cX5_leastBatch 77 = .ok (.iload 4, 2) := dk_21 4 (dk_at dksX5_leastBatch_3 6 rfl rfl)
theorem dX5_leastBatch_79 : decode cX5_leastBatch 79 = .ok (.ifCond .ne 7, 3) := dk_154 0 7 (dk_at dksX5_leastBatch_3 8 rfl rfl)
theorem dX5_leastBatch_82 : decode cX5_leastBatch 82 = .ok (.iload_n 3, 1) := dk_29 (dk_at dksX5_leastBatch_3 11 rfl rfl)
theorem dX5_leastBatch_83 : decode cX5_leastBatch 83 = .ok (.goto 4, 3) := dk_167 0 4 (dk_at dksX5_leastBatch_3 12 rfl rfl)
theorem dX5_leastBatch_86 : decode cX5_leastBatch 86 = .ok (.iconst (-1), 1) := dk_2 (dk_at dksX5_leastBatch_3 15 rfl rfl)
theorem dX5_leastBatch_87 : decode cX5_leastBatch 87 = .ok (.istore_n 2, 1) := dk_61 (dk_at dksX5_leastBatch_3 16 rfl rfl)
theorem dX5_leastBatch_88 : decode cX5_leastBatch 88 = .ok (.aload_n 0, 1) := dk_42 (dk_at dksX5_leastBatch_3 17 rfl rfl)
theorem dX5_leastBatch_89 : decode cX5_leastBatch 89 = .ok (.invokevirtual 228, 3) := dk_182 0 228 (dk_at dksX5_leastBatch_3 18 rfl rfl)
theorem dX5_leastBatch_92 : decode cX5_leastBatch 92 = .ok (.iinc 3 1, 3) := dk_132 3 1 (dk_at dksX5_leastBatch_3 21 rfl rfl)
theorem dX5_leastBatch_95 : decode cX5_leastBatch 95 = .ok (.goto (-66), 3) := dk_167 255 190 (dk_at dksX5_leastBatch_4 0 rfl rfl)
theorem dX5_leastBatch_98 : decode cX5_leastBatch 98 = .ok (.iload_n 2, 1) := dk_28 (dk_at dksX5_leastBatch_4 3 rfl rfl)
theorem dX5_leastBatch_99 : decode cX5_leastBatch 99 = .ok (.ireturn, 1) := dk_172 (dk_at dksX5_leastBatch_4 4 rfl rfl)
def dkwX5_damage_2 : List UInt8 := [184, 0, 134, 172]
abbrev dktX5_damage_2 : List UInt8 := dkwX5_damage_2 ++ []
def dkwX5_damage_1 : List UInt8 := [5, 161, 0, 5, 3, 172, 42, 182, 0, 222, 42, 27, 182, 0, 233, 61, 42, 182, 0, 228, 3, 28]
abbrev dktX5_damage_1 : List UInt8 := dkwX5_damage_1 ++ dktX5_damage_2
def dkwX5_damage_0 : List UInt8 := [42, 3, 181, 0, 71, 42, 27, 182, 0, 200, 154, 0, 9, 42, 4, 182, 0, 197, 172, 42, 27, 182, 0, 117]
abbrev dktX5_damage_0 : List UInt8 := dkwX5_damage_0 ++ dktX5_damage_1
theorem dksX5_damage_0 : cX5_damage.data.toList.drop 0 = dktX5_damage_0 := by decide +kernel
theorem dksX5_damage_1 : cX5_damage.data.toList.drop 24 = dktX5_damage_1 := dk_seg dksX5_damage_0 24 rfl rfl
theorem dksX5_damage_2 : cX5_damage.data.toList.drop 46 = dktX5_damage_2 := dk_seg dksX5_damage_1 22 rfl rfl
theorem dX5_damage_0 : decode cX5_damage 0 = .ok (.aload_n 0, 1) := dk_42 (dk_at dksX5_damage_0 0 rfl rfl)
theorem dX5_damage_1 : decode cX5_damage 1 = .ok (.iconst 0, 1) := dk_3 (dk_at dksX5_damage_0 1 rfl rfl)
theorem dX5_damage_2 : decode cX5_damage 2 = .ok (.putfield 71, 3) := dk_181 0 71 (dk_at dksX5_damage_0 2 rfl rfl)
theorem dX5_damage_5 : decode cX5_damage 5 = .ok (.aload_n 0, 1) := dk_42 (dk_at dksX5_damage_0 5 rfl rfl)
theorem dX5_damage_6 : decode cX5_damage 6 = .ok (.iload_n 1, 1) := dk_27 (dk_at dksX5_damage_0 6 rfl rfl)
theorem dX5_damage_7 : decode cX5_damage 7 = .ok (.invokevirtual 200, 3) := dk_182 0 200 (dk_at dksX5_damage_0 7 rfl rfl)
theorem dX5_damage_10 : decode cX5_damage 10 = .ok (.ifCond .ne 9, 3) := dk_154 0 9 (dk_at dksX5_damage_0 10 rfl rfl)
theorem dX5_damage_13 : decode cX5_damage 13 = .ok (.aload_n 0, 1) := dk_42 (dk_at dksX5_damage_0 13 rfl rfl)
theorem dX5_damage_14 : decode cX5_damage 14 = .ok (.iconst 1, 1) := dk_4 (dk_at dksX5_damage_0 14 rfl rfl)
theorem dX5_damage_15 : decode cX5_damage 15 = .ok (.invokevirtual 197, 3) := dk_182 0 197 (dk_at dksX5_damage_0 15 rfl rfl)
theorem dX5_damage_18 : decode cX5_damage 18 = .ok (.ireturn, 1) := dk_172 (dk_at dksX5_damage_0 18 rfl rfl)
theorem dX5_damage_19 : decode cX5_damage 19 = .ok (.aload_n 0, 1) := dk_42 (dk_at dksX5_damage_0 19 rfl rfl)
theorem dX5_damage_20 : decode cX5_damage 20 = .ok (.iload_n 1, 1) := dk_27 (dk_at dksX5_damage_0 20 rfl rfl)
theorem dX5_damage_21 : decode cX5_damage 21 = .ok (.invokevirtual 117, 3) := dk_182 0 117 (dk_at dksX5_damage_0 21 rfl rfl)
theorem dX5_damage_24 : decode cX5_damage 24 = .ok (.iconst 2, 1) := dk_5 (dk_at dksX5_damage_1 0 rfl rfl)
theorem dX5_damage_25 : decode cX5_damage 25 = .ok (.if_icmp .lt 5, 3) := dk_161 0 5 (dk_at dksX5_damage_1 1 rfl rfl)
theorem dX5_damage_28 : decode cX5_damage 28 = .ok (.iconst 0, 1) := dk_3 (dk_at dksX5_damage_1 4 rfl rfl)
theorem dX5_damage_29 : decode cX5_damage 29 = .ok (.ireturn, 1) := dk_172 (dk_at dksX5_damage_1 5 rfl rfl)
theorem dX5_damage_30 : decode cX5_damage 30 = .ok (.aload_n 0, 1) := dk_42 (dk_at dksX5_damage_1 6 rfl rfl)
theorem dX5_damage_31 : decode cX5_damage 31 = .ok (.invokevirtual 222, 3) := dk_182 0 222 (dk_at dksX5_damage_1 7 rfl rfl)
theorem dX5_damage_34 : decode cX5_damage 34 = .ok (.aload_n 0, 1) := dk_42 (dk_at dksX5_damage_1 10 rfl rfl)
theorem dX5_damage_35 : decode cX5_damage 35 = .ok (.iload_n 1, 1) := dk_27 (dk_at dksX5_damage_1 11 rfl rfl)
theorem dX5_damage_36 : decode cX5_damage 36 = .ok (.invokevirtual 233, 3) := dk_182 0 233 (dk_at dksX5_damage_1 12 rfl rfl)
theorem dX5_damage_39 : decode cX5_damage 39 = .ok (.istore_n 2, 1) := dk_61 (dk_at dksX5_damage_1 15 rfl rfl)
theorem dX5_damage_40 : decode cX5_damage 40 = .ok (.aload_n 0, 1) := dk_42 (dk_at dksX5_damage_1 16 rfl rfl)
theorem dX5_damage_41 : decode cX5_damage 41 = .ok (.invokevirtual 228, 3) := dk_182 0 228 (dk_at dksX5_damage_1 17 rfl rfl)
theorem dX5_damage_44 : decode cX5_damage 44 = .ok (.iconst 0, 1) := dk_3 (dk_at dksX5_damage_1 20 rfl rfl)
theorem dX5_damage_45 : decode cX5_damage 45 = .ok (.iload_n 2, 1) := dk_28 (dk_at dksX5_damage_1 21 rfl rfl)
theorem dX5_damage_46 : decode cX5_damage 46 = .ok (.invokestatic 134, 3) := dk_184 0 134 (dk_at dksX5_damage_2 0 rfl rfl)
theorem dX5_damage_49 : decode cX5_damage 49 = .ok (.ireturn, 1) := dk_172 (dk_at dksX5_damage_2 3 rfl rfl)
def dkwX5_withdrawNow_1 : List UInt8 := [28, 154, 0, 11, 42, 42, 182, 0, 105, 182, 0, 74, 42, 182, 0, 169, 172]
abbrev dktX5_withdrawNow_1 : List UInt8 := dkwX5_withdrawNow_1 ++ []
def dkwX5_withdrawNow_0 : List UInt8 := [42, 27, 182, 0, 230, 61, 28, 154, 0, 17, 42, 180, 0, 9, 4, 46, 16, 30, 160, 0, 6, 16, 253, 172]
abbrev dktX5_withdrawNow_0 : List UInt8 := dkwX5_withdrawNow_0 ++ dktX5_withdrawNow_1
theorem dksX5_withdrawNow_0 : cX5_withdrawNow.data.toList.drop 0 = dktX5_withdrawNow_0 := by decide +kernel
theorem dksX5_withdrawNow_1 : cX5_withdrawNow.data.toList.drop 24 = dktX5_withdrawNow_1 := dk_seg dksX5_withdrawNow_0 24 rfl rfl
theorem dX5_withdrawNow_0 : decode cX5_withdrawNow 0 = .ok (.aload_n 0, 1) := dk_42 (dk_at dksX5_withdrawNow_0 0 rfl rfl)
theorem dX5_withdrawNow_1 : decode cX5_withdrawNow 1 = .ok (.iload_n 1, 1) := dk_27 (dk_at dksX5_withdrawNow_0 1 rfl rfl)
theorem dX5_withdrawNow_2 : decode cX5_withdrawNow 2 = .ok (.invokevirtual 230, 3) := dk_182 0 230 (dk_at dksX5_withdrawNow_0 2 rfl rfl)
theorem dX5_withdrawNow_5 : decode cX5_withdrawNow 5 = .ok (.istore_n 2, 1) := dk_61 (dk_at dksX5_withdrawNow_0 5 rfl rfl)
theorem dX5_withdrawNow_6 : decode cX5_withdrawNow 6 = .ok (.iload_n 2, 1) := dk_28 (dk_at dksX5_withdrawNow_0 6 rfl rfl)
theorem dX5_withdrawNow_7 : decode cX5_withdrawNow 7 = .ok (.ifCond .ne 17, 3) := dk_154 0 17 (dk_at dksX5_withdrawNow_0 7 rfl rfl)
theorem dX5_withdrawNow_10 : decode cX5_withdrawNow 10 = .ok (.aload_n 0, 1) := dk_42 (dk_at dksX5_withdrawNow_0 10 rfl rfl)
theorem dX5_withdrawNow_11 : decode cX5_withdrawNow 11 = .ok (.getfield 9, 3) := dk_180 0 9 (dk_at dksX5_withdrawNow_0 11 rfl rfl)
theorem dX5_withdrawNow_14 : decode cX5_withdrawNow 14 = .ok (.iconst 1, 1) := dk_4 (dk_at dksX5_withdrawNow_0 14 rfl rfl)
theorem dX5_withdrawNow_15 : decode cX5_withdrawNow 15 = .ok (.iaload, 1) := dk_46 (dk_at dksX5_withdrawNow_0 15 rfl rfl)
theorem dX5_withdrawNow_16 : decode cX5_withdrawNow 16 = .ok (.bipush 30, 2) := dk_16 30 (dk_at dksX5_withdrawNow_0 16 rfl rfl)
theorem dX5_withdrawNow_18 : decode cX5_withdrawNow 18 = .ok (.if_icmp .ne 6, 3) := dk_160 0 6 (dk_at dksX5_withdrawNow_0 18 rfl rfl)
theorem dX5_withdrawNow_21 : decode cX5_withdrawNow 21 = .ok (.bipush (-3), 2) := dk_16 253 (dk_at dksX5_withdrawNow_0 21 rfl rfl)
theorem dX5_withdrawNow_23 : decode cX5_withdrawNow 23 = .ok (.ireturn, 1) := dk_172 (dk_at dksX5_withdrawNow_0 23 rfl rfl)
theorem dX5_withdrawNow_24 : decode cX5_withdrawNow 24 = .ok (.iload_n 2, 1) := dk_28 (dk_at dksX5_withdrawNow_1 0 rfl rfl)
theorem dX5_withdrawNow_25 : decode cX5_withdrawNow 25 = .ok (.ifCond .ne 11, 3) := dk_154 0 11 (dk_at dksX5_withdrawNow_1 1 rfl rfl)
theorem dX5_withdrawNow_28 : decode cX5_withdrawNow 28 = .ok (.aload_n 0, 1) := dk_42 (dk_at dksX5_withdrawNow_1 4 rfl rfl)
theorem dX5_withdrawNow_29 : decode cX5_withdrawNow 29 = .ok (.aload_n 0, 1) := dk_42 (dk_at dksX5_withdrawNow_1 5 rfl rfl)
theorem dX5_withdrawNow_30 : decode cX5_withdrawNow 30 = .ok (.invokevirtual 105, 3) := dk_182 0 105 (dk_at dksX5_withdrawNow_1 6 rfl rfl)
theorem dX5_withdrawNow_33 : decode cX5_withdrawNow 33 = .ok (.invokevirtual 74, 3) := dk_182 0 74 (dk_at dksX5_withdrawNow_1 9 rfl rfl)
theorem dX5_withdrawNow_36 : decode cX5_withdrawNow 36 = .ok (.aload_n 0, 1) := dk_42 (dk_at dksX5_withdrawNow_1 12 rfl rfl)
theorem dX5_withdrawNow_37 : decode cX5_withdrawNow 37 = .ok (.invokevirtual 169, 3) := dk_182 0 169 (dk_at dksX5_withdrawNow_1 13 rfl rfl)
theorem dX5_withdrawNow_40 : decode cX5_withdrawNow 40 = .ok (.ireturn, 1) := dk_172 (dk_at dksX5_withdrawNow_1 16 rfl rfl)
def dkwX5_takeBack_2 : List UInt8 := [184, 0, 78, 17, 39, 15, 79, 42, 182, 0, 127, 2, 159, 0, 7, 4, 167, 0, 4, 3, 172]
abbrev dktX5_takeBack_2 : List UInt8 := dkwX5_takeBack_2 ++ []
def dkwX5_takeBack_1 : List UInt8 := [182, 0, 105, 79, 42, 182, 0, 124, 62, 28, 153, 0, 21, 29, 2, 159, 0, 16, 42, 180, 0, 25, 29, 4]
abbrev dktX5_takeBack_1 : List UInt8 := dkwX5_takeBack_1 ++ dktX5_takeBack_2
def dkwX5_takeBack_0 : List UInt8 := [42, 182, 0, 121, 27, 160, 0, 7, 4, 167, 0, 4, 3, 61, 42, 180, 0, 25, 27, 5, 184, 0, 78, 42]
abbrev dktX5_takeBack_0 : List UInt8 := dkwX5_takeBack_0 ++ dktX5_takeBack_1
theorem dksX5_takeBack_0 : cX5_takeBack.data.toList.drop 0 = dktX5_takeBack_0 := by decide +kernel
theorem dksX5_takeBack_1 : cX5_takeBack.data.toList.drop 24 = dktX5_takeBack_1 := dk_seg dksX5_takeBack_0 24 rfl rfl
theorem dksX5_takeBack_2 : cX5_takeBack.data.toList.drop 48 = dktX5_takeBack_2 := dk_seg dksX5_takeBack_1 24 rfl rfl
theorem dX5_takeBack_0 : decode cX5_takeBack 0 = .ok (.aload_n 0, 1) := dk_42 (dk_at dksX5_takeBack_0 0 rfl rfl)
theorem dX5_takeBack_1 : decode cX5_takeBack 1 = .ok (.invokevirtual 121, 3) := dk_182 0 121 (dk_at dksX5_takeBack_0 1 rfl rfl)
theorem dX5_takeBack_4 : decode cX5_takeBack 4 = .ok (.iload_n 1, 1) := dk_27 (dk_at dksX5_takeBack_0 4 rfl rfl)
theorem dX5_takeBack_5 : decode cX5_takeBack 5 = .ok (.if_icmp .ne 7, 3) := dk_160 0 7 (dk_at dksX5_takeBack_0 5 rfl rfl)
theorem dX5_takeBack_8 : decode cX5_takeBack 8 = .ok (.iconst 1, 1) := dk_4 (dk_at dksX5_takeBack_0 8 rfl rfl)
theorem dX5_takeBack_9 : decode cX5_takeBack 9 = .ok (.goto 4, 3) := dk_167 0 4 (dk_at dksX5_takeBack_0 9 rfl rfl)
theorem dX5_takeBack_12 : decode cX5_takeBack 12 = .ok (.iconst 0, 1) := dk_3 (dk_at dksX5_takeBack_0 12 rfl rfl)
theorem dX5_takeBack_13 : decode cX5_takeBack 13 = .ok (.istore_n 2, 1) := dk_61 (dk_at dksX5_takeBack_0 13 rfl rfl)
theorem dX5_takeBack_14 : decode cX5_takeBack 14 = .ok (.aload_n 0, 1) := dk_42 (dk_at dksX5_takeBack_0 14 rfl rfl)
theorem dX5_takeBack_15 : decode cX5_takeBack 15 = .ok (.getfield 25, 3) := dk_180 0 25 (dk_at dksX5_takeBack_0 15 rfl rfl)
theorem dX5_takeBack_18 : decode cX5_takeBack 18 = .ok (.iload_n 1, 1) := dk_27 (dk_at dksX5_takeBack_0 18 rfl rfl)
theorem dX5_takeBack_19 : decode cX5_takeBack 19 = .ok (.iconst 2, 1) := dk_5 (dk_at dksX5_takeBack_0 19 rfl rfl)
theorem dX5_takeBack_20 : decode cX5_takeBack 20 = .ok (.invokestatic 78, 3) := dk_184 0 78 (dk_at dksX5_takeBack_0 20 rfl rfl)
theorem dX5_takeBack_23 : decode cX5_takeBack 23 = .ok (.aload_n 0, 1) := dk_42 (dk_at dksX5_takeBack_0 23 rfl rfl)
theorem dX5_takeBack_24 : decode cX5_takeBack 24 = .ok (.invokevirtual 105, 3) := dk_182 0 105 (dk_at dksX5_takeBack_1 0 rfl rfl)
theorem dX5_takeBack_27 : decode cX5_takeBack 27 = .ok (.iastore, 1) := dk_79 (dk_at dksX5_takeBack_1 3 rfl rfl)
theorem dX5_takeBack_28 : decode cX5_takeBack 28 = .ok (.aload_n 0, 1) := dk_42 (dk_at dksX5_takeBack_1 4 rfl rfl)
theorem dX5_takeBack_29 : decode cX5_takeBack 29 = .ok (.invokevirtual 124, 3) := dk_182 0 124 (dk_at dksX5_takeBack_1 5 rfl rfl)
theorem dX5_takeBack_32 : decode cX5_takeBack 32 = .ok (.istore_n 3, 1) := dk_62 (dk_at dksX5_takeBack_1 8 rfl rfl)
theorem dX5_takeBack_33 : decode cX5_takeBack 33 = .ok (.iload_n 2, 1) := dk_28 (dk_at dksX5_takeBack_1 9 rfl rfl)
theorem dX5_takeBack_34 : decode cX5_takeBack 34 = .ok (.ifCond .eq 21, 3) := dk_153 0 21 (dk_at dksX5_takeBack_1 10 rfl rfl)
theorem dX5_takeBack_37 : decode cX5_takeBack 37 = .ok (.iload_n 3, 1) := dk_29 (dk_at dksX5_takeBack_1 13 rfl rfl)
theorem dX5_takeBack_38 : decode cX5_takeBack 38 = .ok (.iconst (-1), 1) := dk_2 (dk_at dksX5_takeBack_1 14 rfl rfl)
theorem dX5_takeBack_39 : decode cX5_takeBack 39 = .ok (.if_icmp .eq 16, 3) := dk_159 0 16 (dk_at dksX5_takeBack_1 15 rfl rfl)
theorem dX5_takeBack_42 : decode cX5_takeBack 42 = .ok (.aload_n 0, 1) := dk_42 (dk_at dksX5_takeBack_1 18 rfl rfl)
theorem dX5_takeBack_43 : decode cX5_takeBack 43 = .ok (.getfield 25, 3) := dk_180 0 25 (dk_at dksX5_takeBack_1 19 rfl rfl)
theorem dX5_takeBack_46 : decode cX5_takeBack 46 = .ok (.iload_n 3, 1) := dk_29 (dk_at dksX5_takeBack_1 22 rfl rfl)
theorem dX5_takeBack_47 : decode cX5_takeBack 47 = .ok (.iconst 1, 1) := dk_4 (dk_at dksX5_takeBack_1 23 rfl rfl)
theorem dX5_takeBack_48 : decode cX5_takeBack 48 = .ok (.invokestatic 78, 3) := dk_184 0 78 (dk_at dksX5_takeBack_2 0 rfl rfl)
theorem dX5_takeBack_51 : decode cX5_takeBack 51 = .ok (.sipush 9999, 3) := dk_17 39 15 (dk_at dksX5_takeBack_2 3 rfl rfl)
theorem dX5_takeBack_54 : decode cX5_takeBack 54 = .ok (.iastore, 1) := dk_79 (dk_at dksX5_takeBack_2 6 rfl rfl)
theorem dX5_takeBack_55 : decode cX5_takeBack 55 = .ok (.aload_n 0, 1) := dk_42 (dk_at dksX5_takeBack_2 7 rfl rfl)
theorem dX5_takeBack_56 : decode cX5_takeBack 56 = .ok (.invokevirtual 127, 3) := dk_182 0 127 (dk_at dksX5_takeBack_2 8 rfl rfl)
theorem dX5_takeBack_59 : decode cX5_takeBack 59 = .ok (.iconst (-1), 1) := dk_2 (dk_at dksX5_takeBack_2 11 rfl rfl)
theorem dX5_takeBack_60 : decode cX5_takeBack 60 = .ok (.if_icmp .eq 7, 3) := dk_159 0 7 (dk_at dksX5_takeBack_2 12 rfl rfl)
theorem dX5_takeBack_63 : decode cX5_takeBack 63 = .ok (.iconst 1, 1) := dk_4 (dk_at dksX5_takeBack_2 15 rfl rfl)
theorem dX5_takeBack_64 : decode cX5_takeBack 64 = .ok (.goto 4, 3) := dk_167 0 4 (dk_at dksX5_takeBack_2 16 rfl rfl)
theorem dX5_takeBack_67 : decode cX5_takeBack 67 = .ok (.iconst 0, 1) := dk_3 (dk_at dksX5_takeBack_2 19 rfl rfl)
theorem dX5_takeBack_68 : decode cX5_takeBack 68 = .ok (.ireturn, 1) := dk_172 (dk_at dksX5_takeBack_2 20 rfl rfl)
def dkwX5_greatestLeft_1 : List UInt8 := [167, 0, 4, 28, 60, 132, 2, 1, 167, 255, 229, 27, 172]
abbrev dktX5_greatestLeft_1 : List UInt8 := dkwX5_greatestLeft_1 ++ []
def dkwX5_greatestLeft_0 : List UInt8 := [2, 60, 3, 61, 28, 42, 180, 0, 25, 4, 46, 162, 0, 23, 42, 28, 182, 0, 102, 153, 0, 7, 27]
abbrev dktX5_greatestLeft_0 : List UInt8 := dkwX5_greatestLeft_0 ++ dktX5_greatestLeft_1
theorem dksX5_greatestLeft_0 : cX5_greatestLeft.data.toList.drop 0 = dktX5_greatestLeft_0 := by decide +kernel
theorem dksX5_greatestLeft_1 : cX5_greatestLeft.data.toList.drop 23 = dktX5_greatestLeft_1 := dk_seg dksX5_greatestLeft_0 23 rfl rfl
theorem dX5_greatestLeft_0 : decode cX5_greatestLeft 0 = .ok (.iconst (-1), 1) := dk_2 (dk_at dksX5_greatestLeft_0 0 rfl rfl)
theorem dX5_greatestLeft_1 : decode cX5_greatestLeft 1 = .ok (.istore_n 1, 1) := dk_60 (dk_at dksX5_greatestLeft_0 1 rfl rfl)
theorem dX5_greatestLeft_2 : decode cX5_greatestLeft 2 = .ok (.iconst 0, 1) := dk_3 (dk_at dksX5_greatestLeft_0 2 rfl rfl)
theorem dX5_greatestLeft_3 : decode cX5_greatestLeft 3 = .ok (.istore_n 2, 1) := dk_61 (dk_at dksX5_greatestLeft_0 3 rfl rfl)
theorem dX5_greatestLeft_4 : decode cX5_greatestLeft 4 = .ok (.iload_n 2, 1) := dk_28 (dk_at dksX5_greatestLeft_0 4 rfl rfl)
theorem dX5_greatestLeft_5 : decode cX5_greatestLeft 5 = .ok (.aload_n 0, 1) := dk_42 (dk_at dksX5_greatestLeft_0 5 rfl rfl)
theorem dX5_greatestLeft_6 : decode cX5_greatestLeft 6 = .ok (.getfield 25, 3) := dk_180 0 25 (dk_at dksX5_greatestLeft_0 6 rfl rfl)
theorem dX5_greatestLeft_9 : decode cX5_greatestLeft 9 = .ok (.iconst 1, 1) := dk_4 (dk_at dksX5_greatestLeft_0 9 rfl rfl)
theorem dX5_greatestLeft_10 : decode cX5_greatestLeft 10 = .ok (.iaload, 1) := dk_46 (dk_at dksX5_greatestLeft_0 10 rfl rfl)
theorem dX5_greatestLeft_11 : decode cX5_greatestLeft 11 = .ok (.if_icmp .ge 23, 3) := dk_162 0 23 (dk_at dksX5_greatestLeft_0 11 rfl rfl)
theorem dX5_greatestLeft_14 : decode cX5_greatestLeft 14 = .ok (.aload_n 0, 1) := dk_42 (dk_at dksX5_greatestLeft_0 14 rfl rfl)
theorem dX5_greatestLeft_15 : decode cX5_greatestLeft 15 = .ok (.iload_n 2, 1) := dk_28 (dk_at dksX5_greatestLeft_0 15 rfl rfl)
theorem dX5_greatestLeft_16 : decode cX5_greatestLeft 16 = .ok (.invokevirtual 102, 3) := dk_182 0 102 (dk_at dksX5_greatestLeft_0 16 rfl rfl)
theorem dX5_greatestLeft_19 : decode cX5_greatestLeft 19 = .ok (.ifCond .eq 7, 3) := dk_153 0 7 (dk_at dksX5_greatestLeft_0 19 rfl rfl)
theorem dX5_greatestLeft_22 : decode cX5_greatestLeft 22 = .ok (.iload_n 1, 1) := dk_27 (dk_at dksX5_greatestLeft_0 22 rfl rfl)
theorem dX5_greatestLeft_23 : decode cX5_greatestLeft 23 = .ok (.goto 4, 3) := dk_167 0 4 (dk_at dksX5_greatestLeft_1 0 rfl rfl)
theorem dX5_greatestLeft_26 : decode cX5_greatestLeft 26 = .ok (.iload_n 2, 1) := dk_28 (dk_at dksX5_greatestLeft_1 3 rfl rfl)
theorem dX5_greatestLeft_27 : decode cX5_greatestLeft 27 = .ok (.istore_n 1, 1) := dk_60 (dk_at dksX5_greatestLeft_1 4 rfl rfl)
theorem dX5_greatestLeft_28 : decode cX5_greatestLeft 28 = .ok (.iinc 2 1, 3) := dk_132 2 1 (dk_at dksX5_greatestLeft_1 5 rfl rfl)
theorem dX5_greatestLeft_31 : decode cX5_greatestLeft 31 = .ok (.goto (-27), 3) := dk_167 255 229 (dk_at dksX5_greatestLeft_1 8 rfl rfl)
theorem dX5_greatestLeft_34 : decode cX5_greatestLeft 34 = .ok (.iload_n 1, 1) := dk_27 (dk_at dksX5_greatestLeft_1 11 rfl rfl)
theorem dX5_greatestLeft_35 : decode cX5_greatestLeft 35 = .ok (.ireturn, 1) := dk_172 (dk_at dksX5_greatestLeft_1 12 rfl rfl)
def dkwX5_greatestOpen_1 : List UInt8 := [167, 0, 4, 27, 60, 132, 2, 1, 167, 255, 228, 27, 172]
abbrev dktX5_greatestOpen_1 : List UInt8 := dkwX5_greatestOpen_1 ++ []
def dkwX5_greatestOpen_0 : List UInt8 := [2, 60, 3, 61, 28, 42, 180, 0, 25, 4, 46, 162, 0, 24, 42, 28, 182, 0, 117, 4, 163, 0, 7, 28]
abbrev dktX5_greatestOpen_0 : List UInt8 := dkwX5_greatestOpen_0 ++ dktX5_greatestOpen_1
theorem dksX5_greatestOpen_0 : cX5_greatestOpen.data.toList.drop 0 = dktX5_greatestOpen_0 := by decide +kernel
theorem dksX5_greatestOpen_1 : cX5_greatestOpen.data.toList.drop 24 = dktX5_greatestOpen_1 := dk_seg dksX5_greatestOpen_0 24 rfl rfl
theorem dX5_greatestOpen_0 : decode cX5_greatestOpen 0 = .ok (.iconst (-1), 1) := dk_2 (dk_at dksX5_greatestOpen_0 0 rfl rfl)
theorem dX5_greatestOpen_1 : decode cX5_greatestOpen 1 = .ok (.istore_n 1, 1) := dk_60 (dk_at dksX5_greatestOpen_0 1 rfl rfl)
theorem dX5_greatestOpen_2 : decode cX5_greatestOpen 2 = .ok (.iconst 0, 1) := dk_3 (dk_at dksX5_greatestOpen_0 2 rfl rfl)
theorem dX5_greatestOpen_3 : decode cX5_greatestOpen 3 = .ok (.istore_n 2, 1) := dk_61 (dk_at dksX5_greatestOpen_0 3 rfl rfl)
theorem dX5_greatestOpen_4 : decode cX5_greatestOpen 4 = .ok (.iload_n 2, 1) := dk_28 (dk_at dksX5_greatestOpen_0 4 rfl rfl)
theorem dX5_greatestOpen_5 : decode cX5_greatestOpen 5 = .ok (.aload_n 0, 1) := dk_42 (dk_at dksX5_greatestOpen_0 5 rfl rfl)
theorem dX5_greatestOpen_6 : decode cX5_greatestOpen 6 = .ok (.getfield 25, 3) := dk_180 0 25 (dk_at dksX5_greatestOpen_0 6 rfl rfl)
theorem dX5_greatestOpen_9 : decode cX5_greatestOpen 9 = .ok (.iconst 1, 1) := dk_4 (dk_at dksX5_greatestOpen_0 9 rfl rfl)
theorem dX5_greatestOpen_10 : decode cX5_greatestOpen 10 = .ok (.iaload, 1) := dk_46 (dk_at dksX5_greatestOpen_0 10 rfl rfl)
theorem dX5_greatestOpen_11 : decode cX5_greatestOpen 11 = .ok (.if_icmp .ge 24, 3) := dk_162 0 24 (dk_at dksX5_greatestOpen_0 11 rfl rfl)
theorem dX5_greatestOpen_14 : decode cX5_greatestOpen 14 = .ok (.aload_n 0, 1) := dk_42 (dk_at dksX5_greatestOpen_0 14 rfl rfl)
theorem dX5_greatestOpen_15 : decode cX5_greatestOpen 15 = .ok (.iload_n 2, 1) := dk_28 (dk_at dksX5_greatestOpen_0 15 rfl rfl)
theorem dX5_greatestOpen_16 : decode cX5_greatestOpen 16 = .ok (.invokevirtual 117, 3) := dk_182 0 117 (dk_at dksX5_greatestOpen_0 16 rfl rfl)
theorem dX5_greatestOpen_19 : decode cX5_greatestOpen 19 = .ok (.iconst 1, 1) := dk_4 (dk_at dksX5_greatestOpen_0 19 rfl rfl)
theorem dX5_greatestOpen_20 : decode cX5_greatestOpen 20 = .ok (.if_icmp .gt 7, 3) := dk_163 0 7 (dk_at dksX5_greatestOpen_0 20 rfl rfl)
theorem dX5_greatestOpen_23 : decode cX5_greatestOpen 23 = .ok (.iload_n 2, 1) := dk_28 (dk_at dksX5_greatestOpen_0 23 rfl rfl)
theorem dX5_greatestOpen_24 : decode cX5_greatestOpen 24 = .ok (.goto 4, 3) := dk_167 0 4 (dk_at dksX5_greatestOpen_1 0 rfl rfl)
theorem dX5_greatestOpen_27 : decode cX5_greatestOpen 27 = .ok (.iload_n 1, 1) := dk_27 (dk_at dksX5_greatestOpen_1 3 rfl rfl)
theorem dX5_greatestOpen_28 : decode cX5_greatestOpen 28 = .ok (.istore_n 1, 1) := dk_60 (dk_at dksX5_greatestOpen_1 4 rfl rfl)
theorem dX5_greatestOpen_29 : decode cX5_greatestOpen 29 = .ok (.iinc 2 1, 3) := dk_132 2 1 (dk_at dksX5_greatestOpen_1 5 rfl rfl)
theorem dX5_greatestOpen_32 : decode cX5_greatestOpen 32 = .ok (.goto (-28), 3) := dk_167 255 228 (dk_at dksX5_greatestOpen_1 8 rfl rfl)
theorem dX5_greatestOpen_35 : decode cX5_greatestOpen 35 = .ok (.iload_n 1, 1) := dk_27 (dk_at dksX5_greatestOpen_1 11 rfl rfl)
theorem dX5_greatestOpen_36 : decode cX5_greatestOpen 36 = .ok (.ireturn, 1) := dk_172 (dk_at dksX5_greatestOpen_1 12 rfl rfl)
def dkwX5_meanWraps_1 : List UInt8 := [182, 0, 188, 135, 111, 175]
abbrev dktX5_meanWraps_1 : List UInt8 := dkwX5_meanWraps_1 ++ []
def dkwX5_meanWraps_0 : List UInt8 := [42, 3, 181, 0, 71, 42, 182, 0, 188, 154, 0, 7, 14, 167, 0, 14, 42, 182, 0, 194, 135, 42]
abbrev dktX5_meanWraps_0 : List UInt8 := dkwX5_meanWraps_0 ++ dktX5_meanWraps_1
theorem dksX5_meanWraps_0 : cX5_meanWraps.data.toList.drop 0 = dktX5_meanWraps_0 := by decide +kernel
theorem dksX5_meanWraps_1 : cX5_meanWraps.data.toList.drop 22 = dktX5_meanWraps_1 := dk_seg dksX5_meanWraps_0 22 rfl rfl
theorem dX5_meanWraps_0 : decode cX5_meanWraps 0 = .ok (.aload_n 0, 1) := dk_42 (dk_at dksX5_meanWraps_0 0 rfl rfl)
theorem dX5_meanWraps_1 : decode cX5_meanWraps 1 = .ok (.iconst 0, 1) := dk_3 (dk_at dksX5_meanWraps_0 1 rfl rfl)
theorem dX5_meanWraps_2 : decode cX5_meanWraps 2 = .ok (.putfield 71, 3) := dk_181 0 71 (dk_at dksX5_meanWraps_0 2 rfl rfl)
theorem dX5_meanWraps_5 : decode cX5_meanWraps 5 = .ok (.aload_n 0, 1) := dk_42 (dk_at dksX5_meanWraps_0 5 rfl rfl)
theorem dX5_meanWraps_6 : decode cX5_meanWraps 6 = .ok (.invokevirtual 188, 3) := dk_182 0 188 (dk_at dksX5_meanWraps_0 6 rfl rfl)
theorem dX5_meanWraps_9 : decode cX5_meanWraps 9 = .ok (.ifCond .ne 7, 3) := dk_154 0 7 (dk_at dksX5_meanWraps_0 9 rfl rfl)
theorem dX5_meanWraps_12 : decode cX5_meanWraps 12 = .ok (.dconst 0, 1) := dk_14 (dk_at dksX5_meanWraps_0 12 rfl rfl)
theorem dX5_meanWraps_13 : decode cX5_meanWraps 13 = .ok (.goto 14, 3) := dk_167 0 14 (dk_at dksX5_meanWraps_0 13 rfl rfl)
theorem dX5_meanWraps_16 : decode cX5_meanWraps 16 = .ok (.aload_n 0, 1) := dk_42 (dk_at dksX5_meanWraps_0 16 rfl rfl)
theorem dX5_meanWraps_17 : decode cX5_meanWraps 17 = .ok (.invokevirtual 194, 3) := dk_182 0 194 (dk_at dksX5_meanWraps_0 17 rfl rfl)
theorem dX5_meanWraps_20 : decode cX5_meanWraps 20 = .ok (.i2d, 1) := dk_135 (dk_at dksX5_meanWraps_0 20 rfl rfl)
theorem dX5_meanWraps_21 : decode cX5_meanWraps 21 = .ok (.aload_n 0, 1) := dk_42 (dk_at dksX5_meanWraps_0 21 rfl rfl)
theorem dX5_meanWraps_22 : decode cX5_meanWraps 22 = .ok (.invokevirtual 188, 3) := dk_182 0 188 (dk_at dksX5_meanWraps_1 0 rfl rfl)
theorem dX5_meanWraps_25 : decode cX5_meanWraps 25 = .ok (.i2d, 1) := dk_135 (dk_at dksX5_meanWraps_1 3 rfl rfl)
theorem dX5_meanWraps_26 : decode cX5_meanWraps 26 = .ok (.ddiv, 1) := dk_111 (dk_at dksX5_meanWraps_1 4 rfl rfl)
theorem dX5_meanWraps_27 : decode cX5_meanWraps 27 = .ok (.dreturn, 1) := dk_175 (dk_at dksX5_meanWraps_1 5 rfl rfl)
def dkwX5_readable_2 : List UInt8 := [154, 0, 7, 12, 167, 0, 8, 27, 134, 28, 134, 110, 174]
abbrev dktX5_readable_2 : List UInt8 := dkwX5_readable_2 ++ []
def dkwX5_readable_1 : List UInt8 := [182, 0, 209, 96, 60, 132, 2, 1, 167, 255, 235, 42, 180, 0, 9, 6, 46, 42, 182, 0, 188, 104, 61, 28]
abbrev dktX5_readable_1 : List UInt8 := dkwX5_readable_1 ++ dktX5_readable_2
def dkwX5_readable_0 : List UInt8 := [42, 3, 181, 0, 71, 3, 60, 3, 61, 28, 42, 180, 0, 9, 6, 46, 162, 0, 17, 27, 42, 28]
abbrev dktX5_readable_0 : List UInt8 := dkwX5_readable_0 ++ dktX5_readable_1
theorem dksX5_readable_0 : cX5_readable.data.toList.drop 0 = dktX5_readable_0 := by decide +kernel
theorem dksX5_readable_1 : cX5_readable.data.toList.drop 22 = dktX5_readable_1 := dk_seg dksX5_readable_0 22 rfl rfl
theorem dksX5_readable_2 : cX5_readable.data.toList.drop 46 = dktX5_readable_2 := dk_seg dksX5_readable_1 24 rfl rfl
theorem dX5_readable_0 : decode cX5_readable 0 = .ok (.aload_n 0, 1) := dk_42 (dk_at dksX5_readable_0 0 rfl rfl)
theorem dX5_readable_1 : decode cX5_readable 1 = .ok (.iconst 0, 1) := dk_3 (dk_at dksX5_readable_0 1 rfl rfl)
theorem dX5_readable_2 : decode cX5_readable 2 = .ok (.putfield 71, 3) := dk_181 0 71 (dk_at dksX5_readable_0 2 rfl rfl)
theorem dX5_readable_5 : decode cX5_readable 5 = .ok (.iconst 0, 1) := dk_3 (dk_at dksX5_readable_0 5 rfl rfl)
theorem dX5_readable_6 : decode cX5_readable 6 = .ok (.istore_n 1, 1) := dk_60 (dk_at dksX5_readable_0 6 rfl rfl)
theorem dX5_readable_7 : decode cX5_readable 7 = .ok (.iconst 0, 1) := dk_3 (dk_at dksX5_readable_0 7 rfl rfl)
theorem dX5_readable_8 : decode cX5_readable 8 = .ok (.istore_n 2, 1) := dk_61 (dk_at dksX5_readable_0 8 rfl rfl)
theorem dX5_readable_9 : decode cX5_readable 9 = .ok (.iload_n 2, 1) := dk_28 (dk_at dksX5_readable_0 9 rfl rfl)
theorem dX5_readable_10 : decode cX5_readable 10 = .ok (.aload_n 0, 1) := dk_42 (dk_at dksX5_readable_0 10 rfl rfl)
theorem dX5_readable_11 : decode cX5_readable 11 = .ok (.getfield 9, 3) := dk_180 0 9 (dk_at dksX5_readable_0 11 rfl rfl)
theorem dX5_readable_14 : decode cX5_readable 14 = .ok (.iconst 3, 1) := dk_6 (dk_at dksX5_readable_0 14 rfl rfl)
theorem dX5_readable_15 : decode cX5_readable 15 = .ok (.iaload, 1) := dk_46 (dk_at dksX5_readable_0 15 rfl rfl)
theorem dX5_readable_16 : decode cX5_readable 16 = .ok (.if_icmp .ge 17, 3) := dk_162 0 17 (dk_at dksX5_readable_0 16 rfl rfl)
theorem dX5_readable_19 : decode cX5_readable 19 = .ok (.iload_n 1, 1) := dk_27 (dk_at dksX5_readable_0 19 rfl rfl)
theorem dX5_readable_20 : decode cX5_readable 20 = .ok (.aload_n 0, 1) := dk_42 (dk_at dksX5_readable_0 20 rfl rfl)
theorem dX5_readable_21 : decode cX5_readable 21 = .ok (.iload_n 2, 1) := dk_28 (dk_at dksX5_readable_0 21 rfl rfl)
theorem dX5_readable_22 : decode cX5_readable 22 = .ok (.invokevirtual 209, 3) := dk_182 0 209 (dk_at dksX5_readable_1 0 rfl rfl)
theorem dX5_readable_25 : decode cX5_readable 25 = .ok (.iadd, 1) := dk_96 (dk_at dksX5_readable_1 3 rfl rfl)
theorem dX5_readable_26 : decode cX5_readable 26 = .ok (.istore_n 1, 1) := dk_60 (dk_at dksX5_readable_1 4 rfl rfl)
theorem dX5_readable_27 : decode cX5_readable 27 = .ok (.iinc 2 1, 3) := dk_132 2 1 (dk_at dksX5_readable_1 5 rfl rfl)
theorem dX5_readable_30 : decode cX5_readable 30 = .ok (.goto (-21), 3) := dk_167 255 235 (dk_at dksX5_readable_1 8 rfl rfl)
theorem dX5_readable_33 : decode cX5_readable 33 = .ok (.aload_n 0, 1) := dk_42 (dk_at dksX5_readable_1 11 rfl rfl)
theorem dX5_readable_34 : decode cX5_readable 34 = .ok (.getfield 9, 3) := dk_180 0 9 (dk_at dksX5_readable_1 12 rfl rfl)
theorem dX5_readable_37 : decode cX5_readable 37 = .ok (.iconst 3, 1) := dk_6 (dk_at dksX5_readable_1 15 rfl rfl)
theorem dX5_readable_38 : decode cX5_readable 38 = .ok (.iaload, 1) := dk_46 (dk_at dksX5_readable_1 16 rfl rfl)
theorem dX5_readable_39 : decode cX5_readable 39 = .ok (.aload_n 0, 1) := dk_42 (dk_at dksX5_readable_1 17 rfl rfl)
theorem dX5_readable_40 : decode cX5_readable 40 = .ok (.invokevirtual 188, 3) := dk_182 0 188 (dk_at dksX5_readable_1 18 rfl rfl)
theorem dX5_readable_43 : decode cX5_readable 43 = .ok (.imul, 1) := dk_104 (dk_at dksX5_readable_1 21 rfl rfl)
theorem dX5_readable_44 : decode cX5_readable 44 = .ok (.istore_n 2, 1) := dk_61 (dk_at dksX5_readable_1 22 rfl rfl)
theorem dX5_readable_45 : decode cX5_readable 45 = .ok (.iload_n 2, 1) := dk_28 (dk_at dksX5_readable_1 23 rfl rfl)
theorem dX5_readable_46 : decode cX5_readable 46 = .ok (.ifCond .ne 7, 3) := dk_154 0 7 (dk_at dksX5_readable_2 0 rfl rfl)
theorem dX5_readable_49 : decode cX5_readable 49 = .ok (.fconst 1, 1) := dk_12 (dk_at dksX5_readable_2 3 rfl rfl)
theorem dX5_readable_50 : decode cX5_readable 50 = .ok (.goto 8, 3) := dk_167 0 8 (dk_at dksX5_readable_2 4 rfl rfl)
theorem dX5_readable_53 : decode cX5_readable 53 = .ok (.iload_n 1, 1) := dk_27 (dk_at dksX5_readable_2 7 rfl rfl)
theorem dX5_readable_54 : decode cX5_readable 54 = .ok (.i2f, 1) := dk_134 (dk_at dksX5_readable_2 8 rfl rfl)
theorem dX5_readable_55 : decode cX5_readable 55 = .ok (.iload_n 2, 1) := dk_28 (dk_at dksX5_readable_2 9 rfl rfl)
theorem dX5_readable_56 : decode cX5_readable 56 = .ok (.i2f, 1) := dk_134 (dk_at dksX5_readable_2 10 rfl rfl)
theorem dX5_readable_57 : decode cX5_readable 57 = .ok (.fdiv, 1) := dk_110 (dk_at dksX5_readable_2 11 rfl rfl)
theorem dX5_readable_58 : decode cX5_readable 58 = .ok (.freturn, 1) := dk_174 (dk_at dksX5_readable_2 12 rfl rfl)
def dkwX5_pass_2 : List UInt8 := [162, 0, 16, 28, 42, 182, 0, 225, 96, 61, 132, 3, 1, 167, 255, 241, 28, 172]
abbrev dktX5_pass_2 : List UInt8 := dkwX5_pass_2 ++ []
def dkwX5_pass_1 : List UInt8 := [182, 0, 105, 27, 96, 17, 39, 15, 164, 0, 6, 16, 254, 172, 42, 182, 0, 236, 3, 61, 3, 62, 29, 27]
abbrev dktX5_pass_1 : List UInt8 := dkwX5_pass_1 ++ dktX5_pass_2
def dkwX5_pass_0 : List UInt8 := [42, 3, 181, 0, 71, 27, 4, 17, 0, 200, 184, 0, 88, 154, 0, 9, 42, 4, 182, 0, 197, 172, 42]
abbrev dktX5_pass_0 : List UInt8 := dkwX5_pass_0 ++ dktX5_pass_1
theorem dksX5_pass_0 : cX5_pass.data.toList.drop 0 = dktX5_pass_0 := by decide +kernel
theorem dksX5_pass_1 : cX5_pass.data.toList.drop 23 = dktX5_pass_1 := dk_seg dksX5_pass_0 23 rfl rfl
theorem dksX5_pass_2 : cX5_pass.data.toList.drop 47 = dktX5_pass_2 := dk_seg dksX5_pass_1 24 rfl rfl
theorem dX5_pass_0 : decode cX5_pass 0 = .ok (.aload_n 0, 1) := dk_42 (dk_at dksX5_pass_0 0 rfl rfl)
theorem dX5_pass_1 : decode cX5_pass 1 = .ok (.iconst 0, 1) := dk_3 (dk_at dksX5_pass_0 1 rfl rfl)
theorem dX5_pass_2 : decode cX5_pass 2 = .ok (.putfield 71, 3) := dk_181 0 71 (dk_at dksX5_pass_0 2 rfl rfl)
theorem dX5_pass_5 : decode cX5_pass 5 = .ok (.iload_n 1, 1) := dk_27 (dk_at dksX5_pass_0 5 rfl rfl)
theorem dX5_pass_6 : decode cX5_pass 6 = .ok (.iconst 1, 1) := dk_4 (dk_at dksX5_pass_0 6 rfl rfl)
theorem dX5_pass_7 : decode cX5_pass 7 = .ok (.sipush 200, 3) := dk_17 0 200 (dk_at dksX5_pass_0 7 rfl rfl)
theorem dX5_pass_10 : decode cX5_pass 10 = .ok (.invokestatic 88, 3) := dk_184 0 88 (dk_at dksX5_pass_0 10 rfl rfl)
theorem dX5_pass_13 : decode cX5_pass 13 = .ok (.ifCond .ne 9, 3) := dk_154 0 9 (dk_at dksX5_pass_0 13 rfl rfl)
theorem dX5_pass_16 : decode cX5_pass 16 = .ok (.aload_n 0, 1) := dk_42 (dk_at dksX5_pass_0 16 rfl rfl)
theorem dX5_pass_17 : decode cX5_pass 17 = .ok (.iconst 1, 1) := dk_4 (dk_at dksX5_pass_0 17 rfl rfl)
theorem dX5_pass_18 : decode cX5_pass 18 = .ok (.invokevirtual 197, 3) := dk_182 0 197 (dk_at dksX5_pass_0 18 rfl rfl)
theorem dX5_pass_21 : decode cX5_pass 21 = .ok (.ireturn, 1) := dk_172 (dk_at dksX5_pass_0 21 rfl rfl)
theorem dX5_pass_22 : decode cX5_pass 22 = .ok (.aload_n 0, 1) := dk_42 (dk_at dksX5_pass_0 22 rfl rfl)
theorem dX5_pass_23 : decode cX5_pass 23 = .ok (.invokevirtual 105, 3) := dk_182 0 105 (dk_at dksX5_pass_1 0 rfl rfl)
theorem dX5_pass_26 : decode cX5_pass 26 = .ok (.iload_n 1, 1) := dk_27 (dk_at dksX5_pass_1 3 rfl rfl)
theorem dX5_pass_27 : decode cX5_pass 27 = .ok (.iadd, 1) := dk_96 (dk_at dksX5_pass_1 4 rfl rfl)
theorem dX5_pass_28 : decode cX5_pass 28 = .ok (.sipush 9999, 3) := dk_17 39 15 (dk_at dksX5_pass_1 5 rfl rfl)
theorem dX5_pass_31 : decode cX5_pass 31 = .ok (.if_icmp .le 6, 3) := dk_164 0 6 (dk_at dksX5_pass_1 8 rfl rfl)
theorem dX5_pass_34 : decode cX5_pass 34 = .ok (.bipush (-2), 2) := dk_16 254 (dk_at dksX5_pass_1 11 rfl rfl)
theorem dX5_pass_36 : decode cX5_pass 36 = .ok (.ireturn, 1) := dk_172 (dk_at dksX5_pass_1 13 rfl rfl)
theorem dX5_pass_37 : decode cX5_pass 37 = .ok (.aload_n 0, 1) := dk_42 (dk_at dksX5_pass_1 14 rfl rfl)
theorem dX5_pass_38 : decode cX5_pass 38 = .ok (.invokevirtual 236, 3) := dk_182 0 236 (dk_at dksX5_pass_1 15 rfl rfl)
theorem dX5_pass_41 : decode cX5_pass 41 = .ok (.iconst 0, 1) := dk_3 (dk_at dksX5_pass_1 18 rfl rfl)
theorem dX5_pass_42 : decode cX5_pass 42 = .ok (.istore_n 2, 1) := dk_61 (dk_at dksX5_pass_1 19 rfl rfl)
theorem dX5_pass_43 : decode cX5_pass 43 = .ok (.iconst 0, 1) := dk_3 (dk_at dksX5_pass_1 20 rfl rfl)
theorem dX5_pass_44 : decode cX5_pass 44 = .ok (.istore_n 3, 1) := dk_62 (dk_at dksX5_pass_1 21 rfl rfl)
theorem dX5_pass_45 : decode cX5_pass 45 = .ok (.iload_n 3, 1) := dk_29 (dk_at dksX5_pass_1 22 rfl rfl)
theorem dX5_pass_46 : decode cX5_pass 46 = .ok (.iload_n 1, 1) := dk_27 (dk_at dksX5_pass_1 23 rfl rfl)
theorem dX5_pass_47 : decode cX5_pass 47 = .ok (.if_icmp .ge 16, 3) := dk_162 0 16 (dk_at dksX5_pass_2 0 rfl rfl)
theorem dX5_pass_50 : decode cX5_pass 50 = .ok (.iload_n 2, 1) := dk_28 (dk_at dksX5_pass_2 3 rfl rfl)
theorem dX5_pass_51 : decode cX5_pass 51 = .ok (.aload_n 0, 1) := dk_42 (dk_at dksX5_pass_2 4 rfl rfl)
theorem dX5_pass_52 : decode cX5_pass 52 = .ok (.invokevirtual 225, 3) := dk_182 0 225 (dk_at dksX5_pass_2 5 rfl rfl)
theorem dX5_pass_55 : decode cX5_pass 55 = .ok (.iadd, 1) := dk_96 (dk_at dksX5_pass_2 8 rfl rfl)
theorem dX5_pass_56 : decode cX5_pass 56 = .ok (.istore_n 2, 1) := dk_61 (dk_at dksX5_pass_2 9 rfl rfl)
theorem dX5_pass_57 : decode cX5_pass 57 = .ok (.iinc 3 1, 3) := dk_132 3 1 (dk_at dksX5_pass_2 10 rfl rfl)
theorem dX5_pass_60 : decode cX5_pass 60 = .ok (.goto (-15), 3) := dk_167 255 241 (dk_at dksX5_pass_2 13 rfl rfl)
theorem dX5_pass_63 : decode cX5_pass 63 = .ok (.iload_n 2, 1) := dk_28 (dk_at dksX5_pass_2 16 rfl rfl)
theorem dX5_pass_64 : decode cX5_pass 64 = .ok (.ireturn, 1) := dk_172 (dk_at dksX5_pass_2 17 rfl rfl)
def dkwX5_keep_3 : List UInt8 := [4, 96, 181, 0, 251, 177]
abbrev dktX5_keep_3 : List UInt8 := dkwX5_keep_3 ++ []
def dkwX5_keep_2 : List UInt8 := [181, 0, 251, 42, 180, 0, 9, 3, 42, 180, 0, 22, 42, 180, 0, 251, 184, 0, 218, 42, 89, 180, 0, 251]
abbrev dktX5_keep_2 : List UInt8 := dkwX5_keep_2 ++ dktX5_keep_3
def dkwX5_keep_1 : List UInt8 := [180, 0, 22, 27, 4, 100, 184, 0, 218, 132, 1, 1, 167, 255, 232, 42, 89, 180, 0, 251, 4, 100]
abbrev dktX5_keep_1 : List UInt8 := dkwX5_keep_1 ++ dktX5_keep_2
def dkwX5_keep_0 : List UInt8 := [42, 180, 0, 251, 16, 10, 160, 0, 42, 4, 60, 27, 16, 10, 162, 0, 24, 42, 180, 0, 22, 27, 42]
abbrev dktX5_keep_0 : List UInt8 := dkwX5_keep_0 ++ dktX5_keep_1
theorem dksX5_keep_0 : cX5_keep.data.toList.drop 0 = dktX5_keep_0 := by decide +kernel
theorem dksX5_keep_1 : cX5_keep.data.toList.drop 23 = dktX5_keep_1 := dk_seg dksX5_keep_0 23 rfl rfl
theorem dksX5_keep_2 : cX5_keep.data.toList.drop 45 = dktX5_keep_2 := dk_seg dksX5_keep_1 22 rfl rfl
theorem dksX5_keep_3 : cX5_keep.data.toList.drop 69 = dktX5_keep_3 := dk_seg dksX5_keep_2 24 rfl rfl
theorem dX5_keep_0 : decode cX5_keep 0 = .ok (.aload_n 0, 1) := dk_42 (dk_at dksX5_keep_0 0 rfl rfl)
theorem dX5_keep_1 : decode cX5_keep 1 = .ok (.getfield 251, 3) := dk_180 0 251 (dk_at dksX5_keep_0 1 rfl rfl)
theorem dX5_keep_4 : decode cX5_keep 4 = .ok (.bipush 10, 2) := dk_16 10 (dk_at dksX5_keep_0 4 rfl rfl)
theorem dX5_keep_6 : decode cX5_keep 6 = .ok (.if_icmp .ne 42, 3) := dk_160 0 42 (dk_at dksX5_keep_0 6 rfl rfl)
theorem dX5_keep_9 : decode cX5_keep 9 = .ok (.iconst 1, 1) := dk_4 (dk_at dksX5_keep_0 9 rfl rfl)
theorem dX5_keep_10 : decode cX5_keep 10 = .ok (.istore_n 1, 1) := dk_60 (dk_at dksX5_keep_0 10 rfl rfl)
theorem dX5_keep_11 : decode cX5_keep 11 = .ok (.iload_n 1, 1) := dk_27 (dk_at dksX5_keep_0 11 rfl rfl)
theorem dX5_keep_12 : decode cX5_keep 12 = .ok (.bipush 10, 2) := dk_16 10 (dk_at dksX5_keep_0 12 rfl rfl)
theorem dX5_keep_14 : decode cX5_keep 14 = .ok (.if_icmp .ge 24, 3) := dk_162 0 24 (dk_at dksX5_keep_0 14 rfl rfl)
theorem dX5_keep_17 : decode cX5_keep 17 = .ok (.aload_n 0, 1) := dk_42 (dk_at dksX5_keep_0 17 rfl rfl)
theorem dX5_keep_18 : decode cX5_keep 18 = .ok (.getfield 22, 3) := dk_180 0 22 (dk_at dksX5_keep_0 18 rfl rfl)
theorem dX5_keep_21 : decode cX5_keep 21 = .ok (.iload_n 1, 1) := dk_27 (dk_at dksX5_keep_0 21 rfl rfl)
theorem dX5_keep_22 : decode cX5_keep 22 = .ok (.aload_n 0, 1) := dk_42 (dk_at dksX5_keep_0 22 rfl rfl)
theorem dX5_keep_23 : decode cX5_keep 23 = .ok (.getfield 22, 3) := dk_180 0 22 (dk_at dksX5_keep_1 0 rfl rfl)
theorem dX5_keep_26 : decode cX5_keep 26 = .ok (.iload_n 1, 1) := dk_27 (dk_at dksX5_keep_1 3 rfl rfl)
theorem dX5_keep_27 : decode cX5_keep 27 = .ok (.iconst 1, 1) := dk_4 (dk_at dksX5_keep_1 4 rfl rfl)
theorem dX5_keep_28 : decode cX5_keep 28 = .ok (.isub, 1) := dk_100 (dk_at dksX5_keep_1 5 rfl rfl)
theorem dX5_keep_29 : decode cX5_keep 29 = .ok (.invokestatic 218, 3) := dk_184 0 218 (dk_at dksX5_keep_1 6 rfl rfl)
theorem dX5_keep_32 : decode cX5_keep 32 = .ok (.iinc 1 1, 3) := dk_132 1 1 (dk_at dksX5_keep_1 9 rfl rfl)
theorem dX5_keep_35 : decode cX5_keep 35 = .ok (.goto (-24), 3) := dk_167 255 232 (dk_at dksX5_keep_1 12 rfl rfl)
theorem dX5_keep_38 : decode cX5_keep 38 = .ok (.aload_n 0, 1) := dk_42 (dk_at dksX5_keep_1 15 rfl rfl)
theorem dX5_keep_39 : decode cX5_keep 39 = .ok (.dup, 1) := dk_89 (dk_at dksX5_keep_1 16 rfl rfl)
theorem dX5_keep_40 : decode cX5_keep 40 = .ok (.getfield 251, 3) := dk_180 0 251 (dk_at dksX5_keep_1 17 rfl rfl)
theorem dX5_keep_43 : decode cX5_keep 43 = .ok (.iconst 1, 1) := dk_4 (dk_at dksX5_keep_1 20 rfl rfl)
theorem dX5_keep_44 : decode cX5_keep 44 = .ok (.isub, 1) := dk_100 (dk_at dksX5_keep_1 21 rfl rfl)
theorem dX5_keep_45 : decode cX5_keep 45 = .ok (.putfield 251, 3) := dk_181 0 251 (dk_at dksX5_keep_2 0 rfl rfl)
theorem dX5_keep_48 : decode cX5_keep 48 = .ok (.aload_n 0, 1) := dk_42 (dk_at dksX5_keep_2 3 rfl rfl)
theorem dX5_keep_49 : decode cX5_keep 49 = .ok (.getfield 9, 3) := dk_180 0 9 (dk_at dksX5_keep_2 4 rfl rfl)
theorem dX5_keep_52 : decode cX5_keep 52 = .ok (.iconst 0, 1) := dk_3 (dk_at dksX5_keep_2 7 rfl rfl)
theorem dX5_keep_53 : decode cX5_keep 53 = .ok (.aload_n 0, 1) := dk_42 (dk_at dksX5_keep_2 8 rfl rfl)
theorem dX5_keep_54 : decode cX5_keep 54 = .ok (.getfield 22, 3) := dk_180 0 22 (dk_at dksX5_keep_2 9 rfl rfl)
theorem dX5_keep_57 : decode cX5_keep 57 = .ok (.aload_n 0, 1) := dk_42 (dk_at dksX5_keep_2 12 rfl rfl)
theorem dX5_keep_58 : decode cX5_keep 58 = .ok (.getfield 251, 3) := dk_180 0 251 (dk_at dksX5_keep_2 13 rfl rfl)
theorem dX5_keep_61 : decode cX5_keep 61 = .ok (.invokestatic 218, 3) := dk_184 0 218 (dk_at dksX5_keep_2 16 rfl rfl)
theorem dX5_keep_64 : decode cX5_keep 64 = .ok (.aload_n 0, 1) := dk_42 (dk_at dksX5_keep_2 19 rfl rfl)
theorem dX5_keep_65 : decode cX5_keep 65 = .ok (.dup, 1) := dk_89 (dk_at dksX5_keep_2 20 rfl rfl)
theorem dX5_keep_66 : decode cX5_keep 66 = .ok (.getfield 251, 3) := dk_180 0 251 (dk_at dksX5_keep_2 21 rfl rfl)
theorem dX5_keep_69 : decode cX5_keep 69 = .ok (.iconst 1, 1) := dk_4 (dk_at dksX5_keep_3 0 rfl rfl)
theorem dX5_keep_70 : decode cX5_keep 70 = .ok (.iadd, 1) := dk_96 (dk_at dksX5_keep_3 1 rfl rfl)
theorem dX5_keep_71 : decode cX5_keep 71 = .ok (.putfield 251, 3) := dk_181 0 251 (dk_at dksX5_keep_3 2 rfl rfl)
theorem dX5_keep_74 : decode cX5_keep 74 = .ok (.return_, 1) := dk_177 (dk_at dksX5_keep_3 5 rfl rfl)
def dkwX5_rotate_4 : List UInt8 := [46, 4, 100, 172]
abbrev dktX5_rotate_4 : List UInt8 := dkwX5_rotate_4 ++ []
def dkwX5_rotate_3 : List UInt8 := [182, 0, 105, 42, 180, 0, 9, 16, 6, 46, 96, 182, 0, 74, 42, 182, 0, 169, 60, 42, 180, 0, 9, 4]
abbrev dktX5_rotate_3 : List UInt8 := dkwX5_rotate_3 ++ dktX5_rotate_4
def dkwX5_rotate_2 : List UInt8 := [42, 180, 0, 9, 16, 6, 46, 96, 17, 39, 15, 164, 0, 6, 16, 252, 172, 42, 182, 0, 236, 42, 42]
abbrev dktX5_rotate_2 : List UInt8 := dkwX5_rotate_2 ++ dktX5_rotate_3
def dkwX5_rotate_1 : List UInt8 := [164, 0, 6, 16, 254, 172, 42, 180, 0, 9, 4, 46, 16, 30, 160, 0, 6, 16, 253, 172, 42, 182, 0, 105]
abbrev dktX5_rotate_1 : List UInt8 := dkwX5_rotate_1 ++ dktX5_rotate_2
def dkwX5_rotate_0 : List UInt8 := [42, 3, 181, 0, 71, 42, 42, 180, 0, 9, 4, 46, 4, 100, 3, 182, 0, 99, 42, 182, 0, 105]
abbrev dktX5_rotate_0 : List UInt8 := dkwX5_rotate_0 ++ dktX5_rotate_1
theorem dksX5_rotate_0 : cX5_rotate.data.toList.drop 0 = dktX5_rotate_0 := by decide +kernel
theorem dksX5_rotate_1 : cX5_rotate.data.toList.drop 22 = dktX5_rotate_1 := dk_seg dksX5_rotate_0 22 rfl rfl
theorem dksX5_rotate_2 : cX5_rotate.data.toList.drop 46 = dktX5_rotate_2 := dk_seg dksX5_rotate_1 24 rfl rfl
theorem dksX5_rotate_3 : cX5_rotate.data.toList.drop 69 = dktX5_rotate_3 := dk_seg dksX5_rotate_2 23 rfl rfl
theorem dksX5_rotate_4 : cX5_rotate.data.toList.drop 93 = dktX5_rotate_4 := dk_seg dksX5_rotate_3 24 rfl rfl
theorem dX5_rotate_0 : decode cX5_rotate 0 = .ok (.aload_n 0, 1) := dk_42 (dk_at dksX5_rotate_0 0 rfl rfl)
theorem dX5_rotate_1 : decode cX5_rotate 1 = .ok (.iconst 0, 1) := dk_3 (dk_at dksX5_rotate_0 1 rfl rfl)
theorem dX5_rotate_2 : decode cX5_rotate 2 = .ok (.putfield 71, 3) := dk_181 0 71 (dk_at dksX5_rotate_0 2 rfl rfl)
theorem dX5_rotate_5 : decode cX5_rotate 5 = .ok (.aload_n 0, 1) := dk_42 (dk_at dksX5_rotate_0 5 rfl rfl)
theorem dX5_rotate_6 : decode cX5_rotate 6 = .ok (.aload_n 0, 1) := dk_42 (dk_at dksX5_rotate_0 6 rfl rfl)
theorem dX5_rotate_7 : decode cX5_rotate 7 = .ok (.getfield 9, 3) := dk_180 0 9 (dk_at dksX5_rotate_0 7 rfl rfl)
theorem dX5_rotate_10 : decode cX5_rotate 10 = .ok (.iconst 1, 1) := dk_4 (dk_at dksX5_rotate_0 10 rfl rfl)
theorem dX5_rotate_11 : decode cX5_rotate 11 = .ok (.iaload, 1) := dk_46 (dk_at dksX5_rotate_0 11 rfl rfl)
theorem dX5_rotate_12 : decode cX5_rotate 12 = .ok (.iconst 1, 1) := dk_4 (dk_at dksX5_rotate_0 12 rfl rfl)
theorem dX5_rotate_13 : decode cX5_rotate 13 = .ok (.isub, 1) := dk_100 (dk_at dksX5_rotate_0 13 rfl rfl)
theorem dX5_rotate_14 : decode cX5_rotate 14 = .ok (.iconst 0, 1) := dk_3 (dk_at dksX5_rotate_0 14 rfl rfl)
theorem dX5_rotate_15 : decode cX5_rotate 15 = .ok (.invokevirtual 99, 3) := dk_182 0 99 (dk_at dksX5_rotate_0 15 rfl rfl)
theorem dX5_rotate_18 : decode cX5_rotate 18 = .ok (.aload_n 0, 1) := dk_42 (dk_at dksX5_rotate_0 18 rfl rfl)
theorem dX5_rotate_19 : decode cX5_rotate 19 = .ok (.invokevirtual 105, 3) := dk_182 0 105 (dk_at dksX5_rotate_0 19 rfl rfl)
theorem dX5_rotate_22 : decode cX5_rotate 22 = .ok (.if_icmp .le 6, 3) := dk_164 0 6 (dk_at dksX5_rotate_1 0 rfl rfl)
theorem dX5_rotate_25 : decode cX5_rotate 25 = .ok (.bipush (-2), 2) := dk_16 254 (dk_at dksX5_rotate_1 3 rfl rfl)
theorem dX5_rotate_27 : decode cX5_rotate 27 = .ok (.ireturn, 1) := dk_172 (dk_at dksX5_rotate_1 5 rfl rfl)
theorem dX5_rotate_28 : decode cX5_rotate 28 = .ok (.aload_n 0, 1) := dk_42 (dk_at dksX5_rotate_1 6 rfl rfl)
theorem dX5_rotate_29 : decode cX5_rotate 29 = .ok (.getfield 9, 3) := dk_180 0 9 (dk_at dksX5_rotate_1 7 rfl rfl)
theorem dX5_rotate_32 : decode cX5_rotate 32 = .ok (.iconst 1, 1) := dk_4 (dk_at dksX5_rotate_1 10 rfl rfl)
theorem dX5_rotate_33 : decode cX5_rotate 33 = .ok (.iaload, 1) := dk_46 (dk_at dksX5_rotate_1 11 rfl rfl)
theorem dX5_rotate_34 : decode cX5_rotate 34 = .ok (.bipush 30, 2) := dk_16 30 (dk_at dksX5_rotate_1 12 rfl rfl)
theorem dX5_rotate_36 : decode cX5_rotate 36 = .ok (.if_icmp .ne 6, 3) := dk_160 0 6 (dk_at dksX5_rotate_1 14 rfl rfl)
theorem dX5_rotate_39 : decode cX5_rotate 39 = .ok (.bipush (-3), 2) := dk_16 253 (dk_at dksX5_rotate_1 17 rfl rfl)
theorem dX5_rotate_41 : decode cX5_rotate 41 = .ok (.ireturn, 1) := dk_172 (dk_at dksX5_rotate_1 19 rfl rfl)
theorem dX5_rotate_42 : decode cX5_rotate 42 = .ok (.aload_n 0, 1) := dk_42 (dk_at dksX5_rotate_1 20 rfl rfl)
theorem dX5_rotate_43 : decode cX5_rotate 43 = .ok (.invokevirtual 105, 3) := dk_182 0 105 (dk_at dksX5_rotate_1 21 rfl rfl)
theorem dX5_rotate_46 : decode cX5_rotate 46 = .ok (.aload_n 0, 1) := dk_42 (dk_at dksX5_rotate_2 0 rfl rfl)
theorem dX5_rotate_47 : decode cX5_rotate 47 = .ok (.getfield 9, 3) := dk_180 0 9 (dk_at dksX5_rotate_2 1 rfl rfl)
theorem dX5_rotate_50 : decode cX5_rotate 50 = .ok (.bipush 6, 2) := dk_16 6 (dk_at dksX5_rotate_2 4 rfl rfl)
theorem dX5_rotate_52 : decode cX5_rotate 52 = .ok (.iaload, 1) := dk_46 (dk_at dksX5_rotate_2 6 rfl rfl)
theorem dX5_rotate_53 : decode cX5_rotate 53 = .ok (.iadd, 1) := dk_96 (dk_at dksX5_rotate_2 7 rfl rfl)
theorem dX5_rotate_54 : decode cX5_rotate 54 = .ok (.sipush 9999, 3) := dk_17 39 15 (dk_at dksX5_rotate_2 8 rfl rfl)
theorem dX5_rotate_57 : decode cX5_rotate 57 = .ok (.if_icmp .le 6, 3) := dk_164 0 6 (dk_at dksX5_rotate_2 11 rfl rfl)
theorem dX5_rotate_60 : decode cX5_rotate 60 = .ok (.bipush (-4), 2) := dk_16 252 (dk_at dksX5_rotate_2 14 rfl rfl)
theorem dX5_rotate_62 : decode cX5_rotate 62 = .ok (.ireturn, 1) := dk_172 (dk_at dksX5_rotate_2 16 rfl rfl)
theorem dX5_rotate_63 : decode cX5_rotate 63 = .ok (.aload_n 0, 1) := dk_42 (dk_at dksX5_rotate_2 17 rfl rfl)
theorem dX5_rotate_64 : decode cX5_rotate 64 = .ok (.invokevirtual 236, 3) := dk_182 0 236 (dk_at dksX5_rotate_2 18 rfl rfl)
theorem dX5_rotate_67 : decode cX5_rotate 67 = .ok (.aload_n 0, 1) := dk_42 (dk_at dksX5_rotate_2 21 rfl rfl)
theorem dX5_rotate_68 : decode cX5_rotate 68 = .ok (.aload_n 0, 1) := dk_42 (dk_at dksX5_rotate_2 22 rfl rfl)
theorem dX5_rotate_69 : decode cX5_rotate 69 = .ok (.invokevirtual 105, 3) := dk_182 0 105 (dk_at dksX5_rotate_3 0 rfl rfl)
theorem dX5_rotate_72 : decode cX5_rotate 72 = .ok (.aload_n 0, 1) := dk_42 (dk_at dksX5_rotate_3 3 rfl rfl)
theorem dX5_rotate_73 : decode cX5_rotate 73 = .ok (.getfield 9, 3) := dk_180 0 9 (dk_at dksX5_rotate_3 4 rfl rfl)
theorem dX5_rotate_76 : decode cX5_rotate 76 = .ok (.bipush 6, 2) := dk_16 6 (dk_at dksX5_rotate_3 7 rfl rfl)
theorem dX5_rotate_78 : decode cX5_rotate 78 = .ok (.iaload, 1) := dk_46 (dk_at dksX5_rotate_3 9 rfl rfl)
theorem dX5_rotate_79 : decode cX5_rotate 79 = .ok (.iadd, 1) := dk_96 (dk_at dksX5_rotate_3 10 rfl rfl)
theorem dX5_rotate_80 : decode cX5_rotate 80 = .ok (.invokevirtual 74, 3) := dk_182 0 74 (dk_at dksX5_rotate_3 11 rfl rfl)
theorem dX5_rotate_83 : decode cX5_rotate 83 = .ok (.aload_n 0, 1) := dk_42 (dk_at dksX5_rotate_3 14 rfl rfl)
theorem dX5_rotate_84 : decode cX5_rotate 84 = .ok (.invokevirtual 169, 3) := dk_182 0 169 (dk_at dksX5_rotate_3 15 rfl rfl)
theorem dX5_rotate_87 : decode cX5_rotate 87 = .ok (.istore_n 1, 1) := dk_60 (dk_at dksX5_rotate_3 18 rfl rfl)
theorem dX5_rotate_88 : decode cX5_rotate 88 = .ok (.aload_n 0, 1) := dk_42 (dk_at dksX5_rotate_3 19 rfl rfl)
theorem dX5_rotate_89 : decode cX5_rotate 89 = .ok (.getfield 9, 3) := dk_180 0 9 (dk_at dksX5_rotate_3 20 rfl rfl)
theorem dX5_rotate_92 : decode cX5_rotate 92 = .ok (.iconst 1, 1) := dk_4 (dk_at dksX5_rotate_3 23 rfl rfl)
theorem dX5_rotate_93 : decode cX5_rotate 93 = .ok (.iaload, 1) := dk_46 (dk_at dksX5_rotate_4 0 rfl rfl)
theorem dX5_rotate_94 : decode cX5_rotate 94 = .ok (.iconst 1, 1) := dk_4 (dk_at dksX5_rotate_4 1 rfl rfl)
theorem dX5_rotate_95 : decode cX5_rotate 95 = .ok (.isub, 1) := dk_100 (dk_at dksX5_rotate_4 2 rfl rfl)
theorem dX5_rotate_96 : decode cX5_rotate 96 = .ok (.ireturn, 1) := dk_172 (dk_at dksX5_rotate_4 3 rfl rfl)
def dkwX5_withdraw_2 : List UInt8 := [182, 0, 228, 28, 172, 42, 182, 0, 228, 42, 182, 0, 236, 42, 27, 182, 0, 233, 172]
abbrev dktX5_withdraw_2 : List UInt8 := dkwX5_withdraw_2 ++ []
def dkwX5_withdraw_1 : List UInt8 := [5, 161, 0, 6, 16, 254, 172, 42, 182, 0, 222, 42, 27, 182, 0, 233, 61, 28, 156, 0, 9, 42]
abbrev dktX5_withdraw_1 : List UInt8 := dkwX5_withdraw_1 ++ dktX5_withdraw_2
def dkwX5_withdraw_0 : List UInt8 := [42, 3, 181, 0, 71, 42, 27, 182, 0, 200, 154, 0, 9, 42, 4, 182, 0, 197, 172, 42, 27, 182, 0, 117]
abbrev dktX5_withdraw_0 : List UInt8 := dkwX5_withdraw_0 ++ dktX5_withdraw_1
theorem dksX5_withdraw_0 : cX5_withdraw.data.toList.drop 0 = dktX5_withdraw_0 := by decide +kernel
theorem dksX5_withdraw_1 : cX5_withdraw.data.toList.drop 24 = dktX5_withdraw_1 := dk_seg dksX5_withdraw_0 24 rfl rfl
theorem dksX5_withdraw_2 : cX5_withdraw.data.toList.drop 46 = dktX5_withdraw_2 := dk_seg dksX5_withdraw_1 22 rfl rfl
theorem dX5_withdraw_0 : decode cX5_withdraw 0 = .ok (.aload_n 0, 1) := dk_42 (dk_at dksX5_withdraw_0 0 rfl rfl)
theorem dX5_withdraw_1 : decode cX5_withdraw 1 = .ok (.iconst 0, 1) := dk_3 (dk_at dksX5_withdraw_0 1 rfl rfl)
theorem dX5_withdraw_2 : decode cX5_withdraw 2 = .ok (.putfield 71, 3) := dk_181 0 71 (dk_at dksX5_withdraw_0 2 rfl rfl)
theorem dX5_withdraw_5 : decode cX5_withdraw 5 = .ok (.aload_n 0, 1) := dk_42 (dk_at dksX5_withdraw_0 5 rfl rfl)
theorem dX5_withdraw_6 : decode cX5_withdraw 6 = .ok (.iload_n 1, 1) := dk_27 (dk_at dksX5_withdraw_0 6 rfl rfl)
theorem dX5_withdraw_7 : decode cX5_withdraw 7 = .ok (.invokevirtual 200, 3) := dk_182 0 200 (dk_at dksX5_withdraw_0 7 rfl rfl)
theorem dX5_withdraw_10 : decode cX5_withdraw 10 = .ok (.ifCond .ne 9, 3) := dk_154 0 9 (dk_at dksX5_withdraw_0 10 rfl rfl)
theorem dX5_withdraw_13 : decode cX5_withdraw 13 = .ok (.aload_n 0, 1) := dk_42 (dk_at dksX5_withdraw_0 13 rfl rfl)
theorem dX5_withdraw_14 : decode cX5_withdraw 14 = .ok (.iconst 1, 1) := dk_4 (dk_at dksX5_withdraw_0 14 rfl rfl)
theorem dX5_withdraw_15 : decode cX5_withdraw 15 = .ok (.invokevirtual 197, 3) := dk_182 0 197 (dk_at dksX5_withdraw_0 15 rfl rfl)
theorem dX5_withdraw_18 : decode cX5_withdraw 18 = .ok (.ireturn, 1) := dk_172 (dk_at dksX5_withdraw_0 18 rfl rfl)
theorem dX5_withdraw_19 : decode cX5_withdraw 19 = .ok (.aload_n 0, 1) := dk_42 (dk_at dksX5_withdraw_0 19 rfl rfl)
theorem dX5_withdraw_20 : decode cX5_withdraw 20 = .ok (.iload_n 1, 1) := dk_27 (dk_at dksX5_withdraw_0 20 rfl rfl)
theorem dX5_withdraw_21 : decode cX5_withdraw 21 = .ok (.invokevirtual 117, 3) := dk_182 0 117 (dk_at dksX5_withdraw_0 21 rfl rfl)
theorem dX5_withdraw_24 : decode cX5_withdraw 24 = .ok (.iconst 2, 1) := dk_5 (dk_at dksX5_withdraw_1 0 rfl rfl)
theorem dX5_withdraw_25 : decode cX5_withdraw 25 = .ok (.if_icmp .lt 6, 3) := dk_161 0 6 (dk_at dksX5_withdraw_1 1 rfl rfl)
theorem dX5_withdraw_28 : decode cX5_withdraw 28 = .ok (.bipush (-2), 2) := dk_16 254 (dk_at dksX5_withdraw_1 4 rfl rfl)
theorem dX5_withdraw_30 : decode cX5_withdraw 30 = .ok (.ireturn, 1) := dk_172 (dk_at dksX5_withdraw_1 6 rfl rfl)
theorem dX5_withdraw_31 : decode cX5_withdraw 31 = .ok (.aload_n 0, 1) := dk_42 (dk_at dksX5_withdraw_1 7 rfl rfl)
theorem dX5_withdraw_32 : decode cX5_withdraw 32 = .ok (.invokevirtual 222, 3) := dk_182 0 222 (dk_at dksX5_withdraw_1 8 rfl rfl)
theorem dX5_withdraw_35 : decode cX5_withdraw 35 = .ok (.aload_n 0, 1) := dk_42 (dk_at dksX5_withdraw_1 11 rfl rfl)
theorem dX5_withdraw_36 : decode cX5_withdraw 36 = .ok (.iload_n 1, 1) := dk_27 (dk_at dksX5_withdraw_1 12 rfl rfl)
theorem dX5_withdraw_37 : decode cX5_withdraw 37 = .ok (.invokevirtual 233, 3) := dk_182 0 233 (dk_at dksX5_withdraw_1 13 rfl rfl)
theorem dX5_withdraw_40 : decode cX5_withdraw 40 = .ok (.istore_n 2, 1) := dk_61 (dk_at dksX5_withdraw_1 16 rfl rfl)
theorem dX5_withdraw_41 : decode cX5_withdraw 41 = .ok (.iload_n 2, 1) := dk_28 (dk_at dksX5_withdraw_1 17 rfl rfl)
theorem dX5_withdraw_42 : decode cX5_withdraw 42 = .ok (.ifCond .ge 9, 3) := dk_156 0 9 (dk_at dksX5_withdraw_1 18 rfl rfl)
theorem dX5_withdraw_45 : decode cX5_withdraw 45 = .ok (.aload_n 0, 1) := dk_42 (dk_at dksX5_withdraw_1 21 rfl rfl)
theorem dX5_withdraw_46 : decode cX5_withdraw 46 = .ok (.invokevirtual 228, 3) := dk_182 0 228 (dk_at dksX5_withdraw_2 0 rfl rfl)
theorem dX5_withdraw_49 : decode cX5_withdraw 49 = .ok (.iload_n 2, 1) := dk_28 (dk_at dksX5_withdraw_2 3 rfl rfl)
theorem dX5_withdraw_50 : decode cX5_withdraw 50 = .ok (.ireturn, 1) := dk_172 (dk_at dksX5_withdraw_2 4 rfl rfl)
theorem dX5_withdraw_51 : decode cX5_withdraw 51 = .ok (.aload_n 0, 1) := dk_42 (dk_at dksX5_withdraw_2 5 rfl rfl)
theorem dX5_withdraw_52 : decode cX5_withdraw 52 = .ok (.invokevirtual 228, 3) := dk_182 0 228 (dk_at dksX5_withdraw_2 6 rfl rfl)
theorem dX5_withdraw_55 : decode cX5_withdraw 55 = .ok (.aload_n 0, 1) := dk_42 (dk_at dksX5_withdraw_2 9 rfl rfl)
theorem dX5_withdraw_56 : decode cX5_withdraw 56 = .ok (.invokevirtual 236, 3) := dk_182 0 236 (dk_at dksX5_withdraw_2 10 rfl rfl)
theorem dX5_withdraw_59 : decode cX5_withdraw 59 = .ok (.aload_n 0, 1) := dk_42 (dk_at dksX5_withdraw_2 13 rfl rfl)
theorem dX5_withdraw_60 : decode cX5_withdraw 60 = .ok (.iload_n 1, 1) := dk_27 (dk_at dksX5_withdraw_2 14 rfl rfl)
theorem dX5_withdraw_61 : decode cX5_withdraw 61 = .ok (.invokevirtual 233, 3) := dk_182 0 233 (dk_at dksX5_withdraw_2 15 rfl rfl)
theorem dX5_withdraw_64 : decode cX5_withdraw 64 = .ok (.ireturn, 1) := dk_172 (dk_at dksX5_withdraw_2 18 rfl rfl)
def dkwX5_make_1 : List UInt8 := [182, 0, 239, 42, 180, 0, 9, 5, 46, 4, 100, 172]
abbrev dktX5_make_1 : List UInt8 := dkwX5_make_1 ++ []
def dkwX5_make_0 : List UInt8 := [42, 3, 181, 0, 71, 42, 180, 0, 9, 5, 46, 16, 30, 160, 0, 6, 16, 253, 172, 42, 182, 0, 236, 42]
abbrev dktX5_make_0 : List UInt8 := dkwX5_make_0 ++ dktX5_make_1
theorem dksX5_make_0 : cX5_make.data.toList.drop 0 = dktX5_make_0 := by decide +kernel
theorem dksX5_make_1 : cX5_make.data.toList.drop 24 = dktX5_make_1 := dk_seg dksX5_make_0 24 rfl rfl
theorem dX5_make_0 : decode cX5_make 0 = .ok (.aload_n 0, 1) := dk_42 (dk_at dksX5_make_0 0 rfl rfl)
theorem dX5_make_1 : decode cX5_make 1 = .ok (.iconst 0, 1) := dk_3 (dk_at dksX5_make_0 1 rfl rfl)
theorem dX5_make_2 : decode cX5_make 2 = .ok (.putfield 71, 3) := dk_181 0 71 (dk_at dksX5_make_0 2 rfl rfl)
theorem dX5_make_5 : decode cX5_make 5 = .ok (.aload_n 0, 1) := dk_42 (dk_at dksX5_make_0 5 rfl rfl)
theorem dX5_make_6 : decode cX5_make 6 = .ok (.getfield 9, 3) := dk_180 0 9 (dk_at dksX5_make_0 6 rfl rfl)
theorem dX5_make_9 : decode cX5_make 9 = .ok (.iconst 2, 1) := dk_5 (dk_at dksX5_make_0 9 rfl rfl)
theorem dX5_make_10 : decode cX5_make 10 = .ok (.iaload, 1) := dk_46 (dk_at dksX5_make_0 10 rfl rfl)
theorem dX5_make_11 : decode cX5_make 11 = .ok (.bipush 30, 2) := dk_16 30 (dk_at dksX5_make_0 11 rfl rfl)
theorem dX5_make_13 : decode cX5_make 13 = .ok (.if_icmp .ne 6, 3) := dk_160 0 6 (dk_at dksX5_make_0 13 rfl rfl)
theorem dX5_make_16 : decode cX5_make 16 = .ok (.bipush (-3), 2) := dk_16 253 (dk_at dksX5_make_0 16 rfl rfl)
theorem dX5_make_18 : decode cX5_make 18 = .ok (.ireturn, 1) := dk_172 (dk_at dksX5_make_0 18 rfl rfl)
theorem dX5_make_19 : decode cX5_make 19 = .ok (.aload_n 0, 1) := dk_42 (dk_at dksX5_make_0 19 rfl rfl)
theorem dX5_make_20 : decode cX5_make 20 = .ok (.invokevirtual 236, 3) := dk_182 0 236 (dk_at dksX5_make_0 20 rfl rfl)
theorem dX5_make_23 : decode cX5_make 23 = .ok (.aload_n 0, 1) := dk_42 (dk_at dksX5_make_0 23 rfl rfl)
theorem dX5_make_24 : decode cX5_make 24 = .ok (.invokevirtual 239, 3) := dk_182 0 239 (dk_at dksX5_make_1 0 rfl rfl)
theorem dX5_make_27 : decode cX5_make 27 = .ok (.aload_n 0, 1) := dk_42 (dk_at dksX5_make_1 3 rfl rfl)
theorem dX5_make_28 : decode cX5_make 28 = .ok (.getfield 9, 3) := dk_180 0 9 (dk_at dksX5_make_1 4 rfl rfl)
theorem dX5_make_31 : decode cX5_make 31 = .ok (.iconst 2, 1) := dk_5 (dk_at dksX5_make_1 7 rfl rfl)
theorem dX5_make_32 : decode cX5_make 32 = .ok (.iaload, 1) := dk_46 (dk_at dksX5_make_1 8 rfl rfl)
theorem dX5_make_33 : decode cX5_make 33 = .ok (.iconst 1, 1) := dk_4 (dk_at dksX5_make_1 9 rfl rfl)
theorem dX5_make_34 : decode cX5_make 34 = .ok (.isub, 1) := dk_100 (dk_at dksX5_make_1 10 rfl rfl)
theorem dX5_make_35 : decode cX5_make 35 = .ok (.ireturn, 1) := dk_172 (dk_at dksX5_make_1 11 rfl rfl)
def dkwX5_makeRecord_3 : List UInt8 := [42, 180, 0, 25, 5, 92, 46, 4, 96, 79, 177]
abbrev dktX5_makeRecord_3 : List UInt8 := dkwX5_makeRecord_3 ++ []
def dkwX5_makeRecord_2 : List UInt8 := [120, 79, 42, 180, 0, 25, 27, 5, 184, 0, 82, 3, 79, 42, 180, 0, 25, 27, 6, 184, 0, 82, 3, 79]
abbrev dktX5_makeRecord_2 : List UInt8 := dkwX5_makeRecord_2 ++ dktX5_makeRecord_3
def dkwX5_makeRecord_1 : List UInt8 := [182, 0, 127, 61, 42, 180, 0, 25, 27, 4, 184, 0, 82, 28, 2, 160, 0, 7, 3, 167, 0, 6, 4, 28]
abbrev dktX5_makeRecord_1 : List UInt8 := dkwX5_makeRecord_1 ++ dktX5_makeRecord_2
def dkwX5_makeRecord_0 : List UInt8 := [42, 180, 0, 25, 5, 46, 60, 42, 180, 0, 25, 27, 3, 184, 0, 82, 42, 182, 0, 105, 79, 42]
abbrev dktX5_makeRecord_0 : List UInt8 := dkwX5_makeRecord_0 ++ dktX5_makeRecord_1
theorem dksX5_makeRecord_0 : cX5_makeRecord.data.toList.drop 0 = dktX5_makeRecord_0 := by decide +kernel
theorem dksX5_makeRecord_1 : cX5_makeRecord.data.toList.drop 22 = dktX5_makeRecord_1 := dk_seg dksX5_makeRecord_0 22 rfl rfl
theorem dksX5_makeRecord_2 : cX5_makeRecord.data.toList.drop 46 = dktX5_makeRecord_2 := dk_seg dksX5_makeRecord_1 24 rfl rfl
theorem dksX5_makeRecord_3 : cX5_makeRecord.data.toList.drop 70 = dktX5_makeRecord_3 := dk_seg dksX5_makeRecord_2 24 rfl rfl
theorem dX5_makeRecord_0 : decode cX5_makeRecord 0 = .ok (.aload_n 0, 1) := dk_42 (dk_at dksX5_makeRecord_0 0 rfl rfl)
theorem dX5_makeRecord_1 : decode cX5_makeRecord 1 = .ok (.getfield 25, 3) := dk_180 0 25 (dk_at dksX5_makeRecord_0 1 rfl rfl)
theorem dX5_makeRecord_4 : decode cX5_makeRecord 4 = .ok (.iconst 2, 1) := dk_5 (dk_at dksX5_makeRecord_0 4 rfl rfl)
theorem dX5_makeRecord_5 : decode cX5_makeRecord 5 = .ok (.iaload, 1) := dk_46 (dk_at dksX5_makeRecord_0 5 rfl rfl)
theorem dX5_makeRecord_6 : decode cX5_makeRecord 6 = .ok (.istore_n 1, 1) := dk_60 (dk_at dksX5_makeRecord_0 6 rfl rfl)
theorem dX5_makeRecord_7 : decode cX5_makeRecord 7 = .ok (.aload_n 0, 1) := dk_42 (dk_at dksX5_makeRecord_0 7 rfl rfl)
theorem dX5_makeRecord_8 : decode cX5_makeRecord 8 = .ok (.getfield 25, 3) := dk_180 0 25 (dk_at dksX5_makeRecord_0 8 rfl rfl)
theorem dX5_makeRecord_11 : decode cX5_makeRecord 11 = .ok (.iload_n 1, 1) := dk_27 (dk_at dksX5_makeRecord_0 11 rfl rfl)
theorem dX5_makeRecord_12 : decode cX5_makeRecord 12 = .ok (.iconst 0, 1) := dk_3 (dk_at dksX5_makeRecord_0 12 rfl rfl)
theorem dX5_makeRecord_13 : decode cX5_makeRecord 13 = .ok (.invokestatic 82, 3) := dk_184 0 82 (dk_at dksX5_makeRecord_0 13 rfl rfl)
theorem dX5_makeRecord_16 : decode cX5_makeRecord 16 = .ok (.aload_n 0, 1) := dk_42 (dk_at dksX5_makeRecord_0 16 rfl rfl)
theorem dX5_makeRecord_17 : decode cX5_makeRecord 17 = .ok (.invokevirtual 105, 3) := dk_182 0 105 (dk_at dksX5_makeRecord_0 17 rfl rfl)
theorem dX5_makeRecord_20 : decode cX5_makeRecord 20 = .ok (.iastore, 1) := dk_79 (dk_at dksX5_makeRecord_0 20 rfl rfl)
theorem dX5_makeRecord_21 : decode cX5_makeRecord 21 = .ok (.aload_n 0, 1) := dk_42 (dk_at dksX5_makeRecord_0 21 rfl rfl)
theorem dX5_makeRecord_22 : decode cX5_makeRecord 22 = .ok (.invokevirtual 127, 3) := dk_182 0 127 (dk_at dksX5_makeRecord_1 0 rfl rfl)
theorem dX5_makeRecord_25 : decode cX5_makeRecord 25 = .ok (.istore_n 2, 1) := dk_61 (dk_at dksX5_makeRecord_1 3 rfl rfl)
theorem dX5_makeRecord_26 : decode cX5_makeRecord 26 = .ok (.aload_n 0, 1) := dk_42 (dk_at dksX5_makeRecord_1 4 rfl rfl)
theorem dX5_makeRecord_27 : decode cX5_makeRecord 27 = .ok (.getfield 25, 3) := dk_180 0 25 (dk_at dksX5_makeRecord_1 5 rfl rfl)
theorem dX5_makeRecord_30 : decode cX5_makeRecord 30 = .ok (.iload_n 1, 1) := dk_27 (dk_at dksX5_makeRecord_1 8 rfl rfl)
theorem dX5_makeRecord_31 : decode cX5_makeRecord 31 = .ok (.iconst 1, 1) := dk_4 (dk_at dksX5_makeRecord_1 9 rfl rfl)
theorem dX5_makeRecord_32 : decode cX5_makeRecord 32 = .ok (.invokestatic 82, 3) := dk_184 0 82 (dk_at dksX5_makeRecord_1 10 rfl rfl)
theorem dX5_makeRecord_35 : decode cX5_makeRecord 35 = .ok (.iload_n 2, 1) := dk_28 (dk_at dksX5_makeRecord_1 13 rfl rfl)
theorem dX5_makeRecord_36 : decode cX5_makeRecord 36 = .ok (.iconst (-1), 1) := dk_2 (dk_at dksX5_makeRecord_1 14 rfl rfl)
theorem dX5_makeRecord_37 : decode cX5_makeRecord 37 = .ok (.if_icmp .ne 7, 3) := dk_160 0 7 (dk_at dksX5_makeRecord_1 15 rfl rfl)
theorem dX5_makeRecord_40 : decode cX5_makeRecord 40 = .ok (.iconst 0, 1) := dk_3 (dk_at dksX5_makeRecord_1 18 rfl rfl)
theorem dX5_makeRecord_41 : decode cX5_makeRecord 41 = .ok (.goto 6, 3) := dk_167 0 6 (dk_at dksX5_makeRecord_1 19 rfl rfl)
theorem dX5_makeRecord_44 : decode cX5_makeRecord 44 = .ok (.iconst 1, 1) := dk_4 (dk_at dksX5_makeRecord_1 22 rfl rfl)
theorem dX5_makeRecord_45 : decode cX5_makeRecord 45 = .ok (.iload_n 2, 1) := dk_28 (dk_at dksX5_makeRecord_1 23 rfl rfl)
theorem dX5_makeRecord_46 : decode cX5_makeRecord 46 = .ok (.ishl, 1) := dk_120 (dk_at dksX5_makeRecord_2 0 rfl rfl)
theorem dX5_makeRecord_47 : decode cX5_makeRecord 47 = .ok (.iastore, 1) := dk_79 (dk_at dksX5_makeRecord_2 1 rfl rfl)
theorem dX5_makeRecord_48 : decode cX5_makeRecord 48 = .ok (.aload_n 0, 1) := dk_42 (dk_at dksX5_makeRecord_2 2 rfl rfl)
theorem dX5_makeRecord_49 : decode cX5_makeRecord 49 = .ok (.getfield 25, 3) := dk_180 0 25 (dk_at dksX5_makeRecord_2 3 rfl rfl)
theorem dX5_makeRecord_52 : decode cX5_makeRecord 52 = .ok (.iload_n 1, 1) := dk_27 (dk_at dksX5_makeRecord_2 6 rfl rfl)
theorem dX5_makeRecord_53 : decode cX5_makeRecord 53 = .ok (.iconst 2, 1) := dk_5 (dk_at dksX5_makeRecord_2 7 rfl rfl)
theorem dX5_makeRecord_54 : decode cX5_makeRecord 54 = .ok (.invokestatic 82, 3) := dk_184 0 82 (dk_at dksX5_makeRecord_2 8 rfl rfl)
theorem dX5_makeRecord_57 : decode cX5_makeRecord 57 = .ok (.iconst 0, 1) := dk_3 (dk_at dksX5_makeRecord_2 11 rfl rfl)
theorem dX5_makeRecord_58 : decode cX5_makeRecord 58 = .ok (.iastore, 1) := dk_79 (dk_at dksX5_makeRecord_2 12 rfl rfl)
theorem dX5_makeRecord_59 : decode cX5_makeRecord 59 = .ok (.aload_n 0, 1) := dk_42 (dk_at dksX5_makeRecord_2 13 rfl rfl)
theorem dX5_makeRecord_60 : decode cX5_makeRecord 60 = .ok (.getfield 25, 3) := dk_180 0 25 (dk_at dksX5_makeRecord_2 14 rfl rfl)
theorem dX5_makeRecord_63 : decode cX5_makeRecord 63 = .ok (.iload_n 1, 1) := dk_27 (dk_at dksX5_makeRecord_2 17 rfl rfl)
theorem dX5_makeRecord_64 : decode cX5_makeRecord 64 = .ok (.iconst 3, 1) := dk_6 (dk_at dksX5_makeRecord_2 18 rfl rfl)
theorem dX5_makeRecord_65 : decode cX5_makeRecord 65 = .ok (.invokestatic 82, 3) := dk_184 0 82 (dk_at dksX5_makeRecord_2 19 rfl rfl)
theorem dX5_makeRecord_68 : decode cX5_makeRecord 68 = .ok (.iconst 0, 1) := dk_3 (dk_at dksX5_makeRecord_2 22 rfl rfl)
theorem dX5_makeRecord_69 : decode cX5_makeRecord 69 = .ok (.iastore, 1) := dk_79 (dk_at dksX5_makeRecord_2 23 rfl rfl)
theorem dX5_makeRecord_70 : decode cX5_makeRecord 70 = .ok (.aload_n 0, 1) := dk_42 (dk_at dksX5_makeRecord_3 0 rfl rfl)
theorem dX5_makeRecord_71 : decode cX5_makeRecord 71 = .ok (.getfield 25, 3) := dk_180 0 25 (dk_at dksX5_makeRecord_3 1 rfl rfl)
theorem dX5_makeRecord_74 : decode cX5_makeRecord 74 = .ok (.iconst 2, 1) := dk_5 (dk_at dksX5_makeRecord_3 4 rfl rfl)
theorem dX5_makeRecord_75 : decode cX5_makeRecord 75 = .ok (.dup2, 1) := dk_92 (dk_at dksX5_makeRecord_3 5 rfl rfl)
theorem dX5_makeRecord_76 : decode cX5_makeRecord 76 = .ok (.iaload, 1) := dk_46 (dk_at dksX5_makeRecord_3 6 rfl rfl)
theorem dX5_makeRecord_77 : decode cX5_makeRecord 77 = .ok (.iconst 1, 1) := dk_4 (dk_at dksX5_makeRecord_3 7 rfl rfl)
theorem dX5_makeRecord_78 : decode cX5_makeRecord 78 = .ok (.iadd, 1) := dk_96 (dk_at dksX5_makeRecord_3 8 rfl rfl)
theorem dX5_makeRecord_79 : decode cX5_makeRecord 79 = .ok (.iastore, 1) := dk_79 (dk_at dksX5_makeRecord_3 9 rfl rfl)
theorem dX5_makeRecord_80 : decode cX5_makeRecord 80 = .ok (.return_, 1) := dk_177 (dk_at dksX5_makeRecord_3 10 rfl rfl)
def dkwX5_drop_1 : List UInt8 := [180, 0, 9, 27, 6, 184, 0, 82, 4, 79, 42, 182, 0, 188, 172]
abbrev dktX5_drop_1 : List UInt8 := dkwX5_drop_1 ++ []
def dkwX5_drop_0 : List UInt8 := [42, 3, 181, 0, 71, 42, 27, 182, 0, 137, 154, 0, 9, 42, 4, 182, 0, 197, 172, 42, 182, 0, 236, 42]
abbrev dktX5_drop_0 : List UInt8 := dkwX5_drop_0 ++ dktX5_drop_1
theorem dksX5_drop_0 : cX5_drop.data.toList.drop 0 = dktX5_drop_0 := by decide +kernel
theorem dksX5_drop_1 : cX5_drop.data.toList.drop 24 = dktX5_drop_1 := dk_seg dksX5_drop_0 24 rfl rfl
theorem dX5_drop_0 : decode cX5_drop 0 = .ok (.aload_n 0, 1) := dk_42 (dk_at dksX5_drop_0 0 rfl rfl)
theorem dX5_drop_1 : decode cX5_drop 1 = .ok (.iconst 0, 1) := dk_3 (dk_at dksX5_drop_0 1 rfl rfl)
theorem dX5_drop_2 : decode cX5_drop 2 = .ok (.putfield 71, 3) := dk_181 0 71 (dk_at dksX5_drop_0 2 rfl rfl)
theorem dX5_drop_5 : decode cX5_drop 5 = .ok (.aload_n 0, 1) := dk_42 (dk_at dksX5_drop_0 5 rfl rfl)
theorem dX5_drop_6 : decode cX5_drop 6 = .ok (.iload_n 1, 1) := dk_27 (dk_at dksX5_drop_0 6 rfl rfl)
theorem dX5_drop_7 : decode cX5_drop 7 = .ok (.invokevirtual 137, 3) := dk_182 0 137 (dk_at dksX5_drop_0 7 rfl rfl)
theorem dX5_drop_10 : decode cX5_drop 10 = .ok (.ifCond .ne 9, 3) := dk_154 0 9 (dk_at dksX5_drop_0 10 rfl rfl)
theorem dX5_drop_13 : decode cX5_drop 13 = .ok (.aload_n 0, 1) := dk_42 (dk_at dksX5_drop_0 13 rfl rfl)
theorem dX5_drop_14 : decode cX5_drop 14 = .ok (.iconst 1, 1) := dk_4 (dk_at dksX5_drop_0 14 rfl rfl)
theorem dX5_drop_15 : decode cX5_drop 15 = .ok (.invokevirtual 197, 3) := dk_182 0 197 (dk_at dksX5_drop_0 15 rfl rfl)
theorem dX5_drop_18 : decode cX5_drop 18 = .ok (.ireturn, 1) := dk_172 (dk_at dksX5_drop_0 18 rfl rfl)
theorem dX5_drop_19 : decode cX5_drop 19 = .ok (.aload_n 0, 1) := dk_42 (dk_at dksX5_drop_0 19 rfl rfl)
theorem dX5_drop_20 : decode cX5_drop 20 = .ok (.invokevirtual 236, 3) := dk_182 0 236 (dk_at dksX5_drop_0 20 rfl rfl)
theorem dX5_drop_23 : decode cX5_drop 23 = .ok (.aload_n 0, 1) := dk_42 (dk_at dksX5_drop_0 23 rfl rfl)
theorem dX5_drop_24 : decode cX5_drop 24 = .ok (.getfield 9, 3) := dk_180 0 9 (dk_at dksX5_drop_1 0 rfl rfl)
theorem dX5_drop_27 : decode cX5_drop 27 = .ok (.iload_n 1, 1) := dk_27 (dk_at dksX5_drop_1 3 rfl rfl)
theorem dX5_drop_28 : decode cX5_drop 28 = .ok (.iconst 3, 1) := dk_6 (dk_at dksX5_drop_1 4 rfl rfl)
theorem dX5_drop_29 : decode cX5_drop 29 = .ok (.invokestatic 82, 3) := dk_184 0 82 (dk_at dksX5_drop_1 5 rfl rfl)
theorem dX5_drop_32 : decode cX5_drop 32 = .ok (.iconst 1, 1) := dk_4 (dk_at dksX5_drop_1 8 rfl rfl)
theorem dX5_drop_33 : decode cX5_drop 33 = .ok (.iastore, 1) := dk_79 (dk_at dksX5_drop_1 9 rfl rfl)
theorem dX5_drop_34 : decode cX5_drop 34 = .ok (.aload_n 0, 1) := dk_42 (dk_at dksX5_drop_1 10 rfl rfl)
theorem dX5_drop_35 : decode cX5_drop 35 = .ok (.invokevirtual 188, 3) := dk_182 0 188 (dk_at dksX5_drop_1 11 rfl rfl)
theorem dX5_drop_38 : decode cX5_drop 38 = .ok (.ireturn, 1) := dk_172 (dk_at dksX5_drop_1 14 rfl rfl)
def dkwX5_ask_1 : List UInt8 := [27, 182, 0, 175, 172]
abbrev dktX5_ask_1 : List UInt8 := dkwX5_ask_1 ++ []
def dkwX5_ask_0 : List UInt8 := [42, 3, 181, 0, 71, 42, 27, 182, 0, 206, 154, 0, 9, 42, 4, 182, 0, 197, 172, 42, 182, 0, 236, 42]
abbrev dktX5_ask_0 : List UInt8 := dkwX5_ask_0 ++ dktX5_ask_1
theorem dksX5_ask_0 : cX5_ask.data.toList.drop 0 = dktX5_ask_0 := by decide +kernel
theorem dksX5_ask_1 : cX5_ask.data.toList.drop 24 = dktX5_ask_1 := dk_seg dksX5_ask_0 24 rfl rfl
theorem dX5_ask_0 : decode cX5_ask 0 = .ok (.aload_n 0, 1) := dk_42 (dk_at dksX5_ask_0 0 rfl rfl)
theorem dX5_ask_1 : decode cX5_ask 1 = .ok (.iconst 0, 1) := dk_3 (dk_at dksX5_ask_0 1 rfl rfl)
theorem dX5_ask_2 : decode cX5_ask 2 = .ok (.putfield 71, 3) := dk_181 0 71 (dk_at dksX5_ask_0 2 rfl rfl)
theorem dX5_ask_5 : decode cX5_ask 5 = .ok (.aload_n 0, 1) := dk_42 (dk_at dksX5_ask_0 5 rfl rfl)
theorem dX5_ask_6 : decode cX5_ask 6 = .ok (.iload_n 1, 1) := dk_27 (dk_at dksX5_ask_0 6 rfl rfl)
theorem dX5_ask_7 : decode cX5_ask 7 = .ok (.invokevirtual 206, 3) := dk_182 0 206 (dk_at dksX5_ask_0 7 rfl rfl)
theorem dX5_ask_10 : decode cX5_ask 10 = .ok (.ifCond .ne 9, 3) := dk_154 0 9 (dk_at dksX5_ask_0 10 rfl rfl)
theorem dX5_ask_13 : decode cX5_ask 13 = .ok (.aload_n 0, 1) := dk_42 (dk_at dksX5_ask_0 13 rfl rfl)
theorem dX5_ask_14 : decode cX5_ask 14 = .ok (.iconst 1, 1) := dk_4 (dk_at dksX5_ask_0 14 rfl rfl)
theorem dX5_ask_15 : decode cX5_ask 15 = .ok (.invokevirtual 197, 3) := dk_182 0 197 (dk_at dksX5_ask_0 15 rfl rfl)
theorem dX5_ask_18 : decode cX5_ask 18 = .ok (.ireturn, 1) := dk_172 (dk_at dksX5_ask_0 18 rfl rfl)
theorem dX5_ask_19 : decode cX5_ask 19 = .ok (.aload_n 0, 1) := dk_42 (dk_at dksX5_ask_0 19 rfl rfl)
theorem dX5_ask_20 : decode cX5_ask 20 = .ok (.invokevirtual 236, 3) := dk_182 0 236 (dk_at dksX5_ask_0 20 rfl rfl)
theorem dX5_ask_23 : decode cX5_ask 23 = .ok (.aload_n 0, 1) := dk_42 (dk_at dksX5_ask_0 23 rfl rfl)
theorem dX5_ask_24 : decode cX5_ask 24 = .ok (.iload_n 1, 1) := dk_27 (dk_at dksX5_ask_1 0 rfl rfl)
theorem dX5_ask_25 : decode cX5_ask 25 = .ok (.invokevirtual 175, 3) := dk_182 0 175 (dk_at dksX5_ask_1 1 rfl rfl)
theorem dX5_ask_28 : decode cX5_ask 28 = .ok (.ireturn, 1) := dk_172 (dk_at dksX5_ask_1 4 rfl rfl)
def dkwX5_read_2 : List UInt8 := [180, 0, 9, 27, 8, 184, 0, 85, 92, 46, 4, 96, 79, 29, 172]
abbrev dktX5_read_2 : List UInt8 := dkwX5_read_2 ++ []
def dkwX5_read_1 : List UInt8 := [182, 0, 197, 172, 42, 27, 28, 182, 0, 215, 62, 29, 2, 160, 0, 6, 16, 254, 172, 42, 182, 0, 236, 42]
abbrev dktX5_read_1 : List UInt8 := dkwX5_read_1 ++ dktX5_read_2
def dkwX5_read_0 : List UInt8 := [42, 3, 181, 0, 71, 42, 27, 182, 0, 206, 153, 0, 11, 42, 28, 182, 0, 137, 154, 0, 9, 42, 4]
abbrev dktX5_read_0 : List UInt8 := dkwX5_read_0 ++ dktX5_read_1
theorem dksX5_read_0 : cX5_read.data.toList.drop 0 = dktX5_read_0 := by decide +kernel
theorem dksX5_read_1 : cX5_read.data.toList.drop 23 = dktX5_read_1 := dk_seg dksX5_read_0 23 rfl rfl
theorem dksX5_read_2 : cX5_read.data.toList.drop 47 = dktX5_read_2 := dk_seg dksX5_read_1 24 rfl rfl
theorem dX5_read_0 : decode cX5_read 0 = .ok (.aload_n 0, 1) := dk_42 (dk_at dksX5_read_0 0 rfl rfl)
theorem dX5_read_1 : decode cX5_read 1 = .ok (.iconst 0, 1) := dk_3 (dk_at dksX5_read_0 1 rfl rfl)
theorem dX5_read_2 : decode cX5_read 2 = .ok (.putfield 71, 3) := dk_181 0 71 (dk_at dksX5_read_0 2 rfl rfl)
theorem dX5_read_5 : decode cX5_read 5 = .ok (.aload_n 0, 1) := dk_42 (dk_at dksX5_read_0 5 rfl rfl)
theorem dX5_read_6 : decode cX5_read 6 = .ok (.iload_n 1, 1) := dk_27 (dk_at dksX5_read_0 6 rfl rfl)
theorem dX5_read_7 : decode cX5_read 7 = .ok (.invokevirtual 206, 3) := dk_182 0 206 (dk_at dksX5_read_0 7 rfl rfl)
theorem dX5_read_10 : decode cX5_read 10 = .ok (.ifCond .eq 11, 3) := dk_153 0 11 (dk_at dksX5_read_0 10 rfl rfl)
theorem dX5_read_13 : decode cX5_read 13 = .ok (.aload_n 0, 1) := dk_42 (dk_at dksX5_read_0 13 rfl rfl)
theorem dX5_read_14 : decode cX5_read 14 = .ok (.iload_n 2, 1) := dk_28 (dk_at dksX5_read_0 14 rfl rfl)
theorem dX5_read_15 : decode cX5_read 15 = .ok (.invokevirtual 137, 3) := dk_182 0 137 (dk_at dksX5_read_0 15 rfl rfl)
theorem dX5_read_18 : decode cX5_read 18 = .ok (.ifCond .ne 9, 3) := dk_154 0 9 (dk_at dksX5_read_0 18 rfl rfl)
theorem dX5_read_21 : decode cX5_read 21 = .ok (.aload_n 0, 1) := dk_42 (dk_at dksX5_read_0 21 rfl rfl)
theorem dX5_read_22 : decode cX5_read 22 = .ok (.iconst 1, 1) := dk_4 (dk_at dksX5_read_0 22 rfl rfl)
theorem dX5_read_23 : decode cX5_read 23 = .ok (.invokevirtual 197, 3) := dk_182 0 197 (dk_at dksX5_read_1 0 rfl rfl)
theorem dX5_read_26 : decode cX5_read 26 = .ok (.ireturn, 1) := dk_172 (dk_at dksX5_read_1 3 rfl rfl)
theorem dX5_read_27 : decode cX5_read 27 = .ok (.aload_n 0, 1) := dk_42 (dk_at dksX5_read_1 4 rfl rfl)
theorem dX5_read_28 : decode cX5_read 28 = .ok (.iload_n 1, 1) := dk_27 (dk_at dksX5_read_1 5 rfl rfl)
theorem dX5_read_29 : decode cX5_read 29 = .ok (.iload_n 2, 1) := dk_28 (dk_at dksX5_read_1 6 rfl rfl)
theorem dX5_read_30 : decode cX5_read 30 = .ok (.invokevirtual 215, 3) := dk_182 0 215 (dk_at dksX5_read_1 7 rfl rfl)
theorem dX5_read_33 : decode cX5_read 33 = .ok (.istore_n 3, 1) := dk_62 (dk_at dksX5_read_1 10 rfl rfl)
theorem dX5_read_34 : decode cX5_read 34 = .ok (.iload_n 3, 1) := dk_29 (dk_at dksX5_read_1 11 rfl rfl)
theorem dX5_read_35 : decode cX5_read 35 = .ok (.iconst (-1), 1) := dk_2 (dk_at dksX5_read_1 12 rfl rfl)
theorem dX5_read_36 : decode cX5_read 36 = .ok (.if_icmp .ne 6, 3) := dk_160 0 6 (dk_at dksX5_read_1 13 rfl rfl)
theorem dX5_read_39 : decode cX5_read 39 = .ok (.bipush (-2), 2) := dk_16 254 (dk_at dksX5_read_1 16 rfl rfl)
theorem dX5_read_41 : decode cX5_read 41 = .ok (.ireturn, 1) := dk_172 (dk_at dksX5_read_1 18 rfl rfl)
theorem dX5_read_42 : decode cX5_read 42 = .ok (.aload_n 0, 1) := dk_42 (dk_at dksX5_read_1 19 rfl rfl)
theorem dX5_read_43 : decode cX5_read 43 = .ok (.invokevirtual 236, 3) := dk_182 0 236 (dk_at dksX5_read_1 20 rfl rfl)
theorem dX5_read_46 : decode cX5_read 46 = .ok (.aload_n 0, 1) := dk_42 (dk_at dksX5_read_1 23 rfl rfl)
theorem dX5_read_47 : decode cX5_read 47 = .ok (.getfield 9, 3) := dk_180 0 9 (dk_at dksX5_read_2 0 rfl rfl)
theorem dX5_read_50 : decode cX5_read 50 = .ok (.iload_n 1, 1) := dk_27 (dk_at dksX5_read_2 3 rfl rfl)
theorem dX5_read_51 : decode cX5_read 51 = .ok (.iconst 5, 1) := dk_8 (dk_at dksX5_read_2 4 rfl rfl)
theorem dX5_read_52 : decode cX5_read 52 = .ok (.invokestatic 85, 3) := dk_184 0 85 (dk_at dksX5_read_2 5 rfl rfl)
theorem dX5_read_55 : decode cX5_read 55 = .ok (.dup2, 1) := dk_92 (dk_at dksX5_read_2 8 rfl rfl)
theorem dX5_read_56 : decode cX5_read 56 = .ok (.iaload, 1) := dk_46 (dk_at dksX5_read_2 9 rfl rfl)
theorem dX5_read_57 : decode cX5_read 57 = .ok (.iconst 1, 1) := dk_4 (dk_at dksX5_read_2 10 rfl rfl)
theorem dX5_read_58 : decode cX5_read 58 = .ok (.iadd, 1) := dk_96 (dk_at dksX5_read_2 11 rfl rfl)
theorem dX5_read_59 : decode cX5_read 59 = .ok (.iastore, 1) := dk_79 (dk_at dksX5_read_2 12 rfl rfl)
theorem dX5_read_60 : decode cX5_read 60 = .ok (.iload_n 3, 1) := dk_29 (dk_at dksX5_read_2 13 rfl rfl)
theorem dX5_read_61 : decode cX5_read 61 = .ok (.ireturn, 1) := dk_172 (dk_at dksX5_read_2 14 rfl rfl)
def dkwX5_setBatch_1 : List UInt8 := [182, 0, 236, 42, 180, 0, 9, 16, 7, 46, 61, 42, 180, 0, 9, 16, 7, 27, 79, 28, 172]
abbrev dktX5_setBatch_1 : List UInt8 := dkwX5_setBatch_1 ++ []
def dkwX5_setBatch_0 : List UInt8 := [42, 3, 181, 0, 71, 27, 4, 16, 30, 184, 0, 88, 154, 0, 9, 42, 4, 182, 0, 197, 172, 42]
abbrev dktX5_setBatch_0 : List UInt8 := dkwX5_setBatch_0 ++ dktX5_setBatch_1
theorem dksX5_setBatch_0 : cX5_setBatch.data.toList.drop 0 = dktX5_setBatch_0 := by decide +kernel
theorem dksX5_setBatch_1 : cX5_setBatch.data.toList.drop 22 = dktX5_setBatch_1 := dk_seg dksX5_setBatch_0 22 rfl rfl
theorem dX5_setBatch_0 : decode cX5_setBatch 0 = .ok (.aload_n 0, 1) := dk_42 (dk_at dksX5_setBatch_0 0 rfl rfl)
theorem dX5_setBatch_1 : decode cX5_setBatch 1 = .ok (.iconst 0, 1) := dk_3 (dk_at dksX5_setBatch_0 1 rfl rfl)
theorem dX5_setBatch_2 : decode cX5_setBatch 2 = .ok (.putfield 71, 3) := dk_181 0 71 (dk_at dksX5_setBatch_0 2 rfl rfl)
theorem dX5_setBatch_5 : decode cX5_setBatch 5 = .ok (.iload_n 1, 1) := dk_27 (dk_at dksX5_setBatch_0 5 rfl rfl)
theorem dX5_setBatch_6 : decode cX5_setBatch 6 = .ok (.iconst 1, 1) := dk_4 (dk_at dksX5_setBatch_0 6 rfl rfl)
theorem dX5_setBatch_7 : decode cX5_setBatch 7 = .ok (.bipush 30, 2) := dk_16 30 (dk_at dksX5_setBatch_0 7 rfl rfl)
theorem dX5_setBatch_9 : decode cX5_setBatch 9 = .ok (.invokestatic 88, 3) := dk_184 0 88 (dk_at dksX5_setBatch_0 9 rfl rfl)
theorem dX5_setBatch_12 : decode cX5_setBatch 12 = .ok (.ifCond .ne 9, 3) := dk_154 0 9 (dk_at dksX5_setBatch_0 12 rfl rfl)
theorem dX5_setBatch_15 : decode cX5_setBatch 15 = .ok (.aload_n 0, 1) := dk_42 (dk_at dksX5_setBatch_0 15 rfl rfl)
theorem dX5_setBatch_16 : decode cX5_setBatch 16 = .ok (.iconst 1, 1) := dk_4 (dk_at dksX5_setBatch_0 16 rfl rfl)
theorem dX5_setBatch_17 : decode cX5_setBatch 17 = .ok (.invokevirtual 197, 3) := dk_182 0 197 (dk_at dksX5_setBatch_0 17 rfl rfl)
theorem dX5_setBatch_20 : decode cX5_setBatch 20 = .ok (.ireturn, 1) := dk_172 (dk_at dksX5_setBatch_0 20 rfl rfl)
theorem dX5_setBatch_21 : decode cX5_setBatch 21 = .ok (.aload_n 0, 1) := dk_42 (dk_at dksX5_setBatch_0 21 rfl rfl)
theorem dX5_setBatch_22 : decode cX5_setBatch 22 = .ok (.invokevirtual 236, 3) := dk_182 0 236 (dk_at dksX5_setBatch_1 0 rfl rfl)
theorem dX5_setBatch_25 : decode cX5_setBatch 25 = .ok (.aload_n 0, 1) := dk_42 (dk_at dksX5_setBatch_1 3 rfl rfl)
theorem dX5_setBatch_26 : decode cX5_setBatch 26 = .ok (.getfield 9, 3) := dk_180 0 9 (dk_at dksX5_setBatch_1 4 rfl rfl)
theorem dX5_setBatch_29 : decode cX5_setBatch 29 = .ok (.bipush 7, 2) := dk_16 7 (dk_at dksX5_setBatch_1 7 rfl rfl)
theorem dX5_setBatch_31 : decode cX5_setBatch 31 = .ok (.iaload, 1) := dk_46 (dk_at dksX5_setBatch_1 9 rfl rfl)
theorem dX5_setBatch_32 : decode cX5_setBatch 32 = .ok (.istore_n 2, 1) := dk_61 (dk_at dksX5_setBatch_1 10 rfl rfl)
theorem dX5_setBatch_33 : decode cX5_setBatch 33 = .ok (.aload_n 0, 1) := dk_42 (dk_at dksX5_setBatch_1 11 rfl rfl)
theorem dX5_setBatch_34 : decode cX5_setBatch 34 = .ok (.getfield 9, 3) := dk_180 0 9 (dk_at dksX5_setBatch_1 12 rfl rfl)
theorem dX5_setBatch_37 : decode cX5_setBatch 37 = .ok (.bipush 7, 2) := dk_16 7 (dk_at dksX5_setBatch_1 15 rfl rfl)
theorem dX5_setBatch_39 : decode cX5_setBatch 39 = .ok (.iload_n 1, 1) := dk_27 (dk_at dksX5_setBatch_1 17 rfl rfl)
theorem dX5_setBatch_40 : decode cX5_setBatch 40 = .ok (.iastore, 1) := dk_79 (dk_at dksX5_setBatch_1 18 rfl rfl)
theorem dX5_setBatch_41 : decode cX5_setBatch 41 = .ok (.iload_n 2, 1) := dk_28 (dk_at dksX5_setBatch_1 19 rfl rfl)
theorem dX5_setBatch_42 : decode cX5_setBatch 42 = .ok (.ireturn, 1) := dk_172 (dk_at dksX5_setBatch_1 20 rfl rfl)
def dkwX5_format_5 : List UInt8 := [180, 0, 242, 172]
abbrev dktX5_format_5 : List UInt8 := dkwX5_format_5 ++ []
def dkwX5_format_4 : List UInt8 := [153, 0, 10, 16, 48, 29, 96, 167, 0, 5, 16, 45, 182, 0, 245, 132, 3, 1, 167, 255, 222, 42]
abbrev dktX5_format_4 : List UInt8 := dkwX5_format_4 ++ dktX5_format_5
def dkwX5_format_3 : List UInt8 := [182, 0, 181, 61, 3, 62, 29, 42, 180, 0, 9, 6, 46, 162, 0, 30, 42, 28, 29, 184, 0, 130]
abbrev dktX5_format_3 : List UInt8 := dkwX5_format_3 ++ dktX5_format_4
def dkwX5_format_2 : List UInt8 := [153, 0, 8, 42, 28, 182, 0, 248, 132, 2, 1, 167, 255, 225, 42, 16, 32, 182, 0, 245, 42, 27]
abbrev dktX5_format_2 : List UInt8 := dkwX5_format_2 ++ dktX5_format_3
def dkwX5_format_1 : List UInt8 := [3, 61, 28, 42, 180, 0, 9, 4, 46, 162, 0, 27, 42, 27, 4, 182, 0, 96, 28, 184, 0, 130]
abbrev dktX5_format_1 : List UInt8 := dkwX5_format_1 ++ dktX5_format_2
def dkwX5_format_0 : List UInt8 := [42, 3, 181, 0, 71, 42, 27, 182, 0, 137, 154, 0, 9, 42, 4, 182, 0, 197, 172, 42, 3, 181, 0, 242]
abbrev dktX5_format_0 : List UInt8 := dkwX5_format_0 ++ dktX5_format_1
theorem dksX5_format_0 : cX5_format.data.toList.drop 0 = dktX5_format_0 := by decide +kernel
theorem dksX5_format_1 : cX5_format.data.toList.drop 24 = dktX5_format_1 := dk_seg dksX5_format_0 24 rfl rfl
theorem dksX5_format_2 : cX5_format.data.toList.drop 46 = dktX5_format_2 := dk_seg dksX5_format_1 22 rfl rfl
theorem dksX5_format_3 : cX5_format.data.toList.drop 68 = dktX5_format_3 := dk_seg dksX5_format_2 22 rfl rfl
theorem dksX5_format_4 : cX5_format.data.toList.drop 90 = dktX5_format_4 := dk_seg dksX5_format_3 22 rfl rfl
theorem dksX5_format_5 : cX5_format.data.toList.drop 112 = dktX5_format_5 := dk_seg dksX5_format_4 22 rfl rfl
theorem dX5_format_0 : decode cX5_format 0 = .ok (.aload_n 0, 1) := dk_42 (dk_at dksX5_format_0 0 rfl rfl)
theorem dX5_format_1 : decode cX5_format 1 = .ok (.iconst 0, 1) := dk_3 (dk_at dksX5_format_0 1 rfl rfl)
theorem dX5_format_2 : decode cX5_format 2 = .ok (.putfield 71, 3) := dk_181 0 71 (dk_at dksX5_format_0 2 rfl rfl)
theorem dX5_format_5 : decode cX5_format 5 = .ok (.aload_n 0, 1) := dk_42 (dk_at dksX5_format_0 5 rfl rfl)
theorem dX5_format_6 : decode cX5_format 6 = .ok (.iload_n 1, 1) := dk_27 (dk_at dksX5_format_0 6 rfl rfl)
theorem dX5_format_7 : decode cX5_format 7 = .ok (.invokevirtual 137, 3) := dk_182 0 137 (dk_at dksX5_format_0 7 rfl rfl)
theorem dX5_format_10 : decode cX5_format 10 = .ok (.ifCond .ne 9, 3) := dk_154 0 9 (dk_at dksX5_format_0 10 rfl rfl)
theorem dX5_format_13 : decode cX5_format 13 = .ok (.aload_n 0, 1) := dk_42 (dk_at dksX5_format_0 13 rfl rfl)
theorem dX5_format_14 : decode cX5_format 14 = .ok (.iconst 1, 1) := dk_4 (dk_at dksX5_format_0 14 rfl rfl)
theorem dX5_format_15 : decode cX5_format 15 = .ok (.invokevirtual 197, 3) := dk_182 0 197 (dk_at dksX5_format_0 15 rfl rfl)
theorem dX5_format_18 : decode cX5_format 18 = .ok (.ireturn, 1) := dk_172 (dk_at dksX5_format_0 18 rfl rfl)
theorem dX5_format_19 : decode cX5_format 19 = .ok (.aload_n 0, 1) := dk_42 (dk_at dksX5_format_0 19 rfl rfl)
theorem dX5_format_20 : decode cX5_format 20 = .ok (.iconst 0, 1) := dk_3 (dk_at dksX5_format_0 20 rfl rfl)
theorem dX5_format_21 : decode cX5_format 21 = .ok (.putfield 242, 3) := dk_181 0 242 (dk_at dksX5_format_0 21 rfl rfl)
theorem dX5_format_24 : decode cX5_format 24 = .ok (.iconst 0, 1) := dk_3 (dk_at dksX5_format_1 0 rfl rfl)
theorem dX5_format_25 : decode cX5_format 25 = .ok (.istore_n 2, 1) := dk_61 (dk_at dksX5_format_1 1 rfl rfl)
theorem dX5_format_26 : decode cX5_format 26 = .ok (.iload_n 2, 1) := dk_28 (dk_at dksX5_format_1 2 rfl rfl)
theorem dX5_format_27 : decode cX5_format 27 = .ok (.aload_n 0, 1) := dk_42 (dk_at dksX5_format_1 3 rfl rfl)
theorem dX5_format_28 : decode cX5_format 28 = .ok (.getfield 9, 3) := dk_180 0 9 (dk_at dksX5_format_1 4 rfl rfl)
theorem dX5_format_31 : decode cX5_format 31 = .ok (.iconst 1, 1) := dk_4 (dk_at dksX5_format_1 7 rfl rfl)
theorem dX5_format_32 : decode cX5_format 32 = .ok (.iaload, 1) := dk_46 (dk_at dksX5_format_1 8 rfl rfl)
theorem dX5_format_33 : decode cX5_format 33 = .ok (.if_icmp .ge 27, 3) := dk_162 0 27 (dk_at dksX5_format_1 9 rfl rfl)
theorem dX5_format_36 : decode cX5_format 36 = .ok (.aload_n 0, 1) := dk_42 (dk_at dksX5_format_1 12 rfl rfl)
theorem dX5_format_37 : decode cX5_format 37 = .ok (.iload_n 1, 1) := dk_27 (dk_at dksX5_format_1 13 rfl rfl)
theorem dX5_format_38 : decode cX5_format 38 = .ok (.iconst 1, 1) := dk_4 (dk_at dksX5_format_1 14 rfl rfl)
theorem dX5_format_39 : decode cX5_format 39 = .ok (.invokevirtual 96, 3) := dk_182 0 96 (dk_at dksX5_format_1 15 rfl rfl)
theorem dX5_format_42 : decode cX5_format 42 = .ok (.iload_n 2, 1) := dk_28 (dk_at dksX5_format_1 18 rfl rfl)
theorem dX5_format_43 : decode cX5_format 43 = .ok (.invokestatic 130, 3) := dk_184 0 130 (dk_at dksX5_format_1 19 rfl rfl)
theorem dX5_format_46 : decode cX5_format 46 = .ok (.ifCond .eq 8, 3) := dk_153 0 8 (dk_at dksX5_format_2 0 rfl rfl)
theorem dX5_format_49 : decode cX5_format 49 = .ok (.aload_n 0, 1) := dk_42 (dk_at dksX5_format_2 3 rfl rfl)
theorem dX5_format_50 : decode cX5_format 50 = .ok (.iload_n 2, 1) := dk_28 (dk_at dksX5_format_2 4 rfl rfl)
theorem dX5_format_51 : decode cX5_format 51 = .ok (.invokevirtual 248, 3) := dk_182 0 248 (dk_at dksX5_format_2 5 rfl rfl)
theorem dX5_format_54 : decode cX5_format 54 = .ok (.iinc 2 1, 3) := dk_132 2 1 (dk_at dksX5_format_2 8 rfl rfl)
theorem dX5_format_57 : decode cX5_format 57 = .ok (.goto (-31), 3) := dk_167 255 225 (dk_at dksX5_format_2 11 rfl rfl)
theorem dX5_format_60 : decode cX5_format 60 = .ok (.aload_n 0, 1) := dk_42 (dk_at dksX5_format_2 14 rfl rfl)
theorem dX5_format_61 : decode cX5_format 61 = .ok (.bipush 32, 2) := dk_16 32 (dk_at dksX5_format_2 15 rfl rfl)
theorem dX5_format_63 : decode cX5_format 63 = .ok (.invokevirtual 245, 3) := dk_182 0 245 (dk_at dksX5_format_2 17 rfl rfl)
theorem dX5_format_66 : decode cX5_format 66 = .ok (.aload_n 0, 1) := dk_42 (dk_at dksX5_format_2 20 rfl rfl)
theorem dX5_format_67 : decode cX5_format 67 = .ok (.iload_n 1, 1) := dk_27 (dk_at dksX5_format_2 21 rfl rfl)
theorem dX5_format_68 : decode cX5_format 68 = .ok (.invokevirtual 181, 3) := dk_182 0 181 (dk_at dksX5_format_3 0 rfl rfl)
theorem dX5_format_71 : decode cX5_format 71 = .ok (.istore_n 2, 1) := dk_61 (dk_at dksX5_format_3 3 rfl rfl)
theorem dX5_format_72 : decode cX5_format 72 = .ok (.iconst 0, 1) := dk_3 (dk_at dksX5_format_3 4 rfl rfl)
theorem dX5_format_73 : decode cX5_format 73 = .ok (.istore_n 3, 1) := dk_62 (dk_at dksX5_format_3 5 rfl rfl)
theorem dX5_format_74 : decode cX5_format 74 = .ok (.iload_n 3, 1) := dk_29 (dk_at dksX5_format_3 6 rfl rfl)
theorem dX5_format_75 : decode cX5_format 75 = .ok (.aload_n 0, 1) := dk_42 (dk_at dksX5_format_3 7 rfl rfl)
theorem dX5_format_76 : decode cX5_format 76 = .ok (.getfield 9, 3) := dk_180 0 9 (dk_at dksX5_format_3 8 rfl rfl)
theorem dX5_format_79 : decode cX5_format 79 = .ok (.iconst 3, 1) := dk_6 (dk_at dksX5_format_3 11 rfl rfl)
theorem dX5_format_80 : decode cX5_format 80 = .ok (.iaload, 1) := dk_46 (dk_at dksX5_format_3 12 rfl rfl)
theorem dX5_format_81 : decode cX5_format 81 = .ok (.if_icmp .ge 30, 3) := dk_162 0 30 (dk_at dksX5_format_3 13 rfl rfl)
theorem dX5_format_84 : decode cX5_format 84 = .ok (.aload_n 0, 1) := dk_42 (dk_at dksX5_format_3 16 rfl rfl)
theorem dX5_format_85 : decode cX5_format 85 = .ok (.iload_n 2, 1) := dk_28 (dk_at dksX5_format_3 17 rfl rfl)
theorem dX5_format_86 : decode cX5_format 86 = .ok (.iload_n 3, 1) := dk_29 (dk_at dksX5_format_3 18 rfl rfl)
theorem dX5_format_87 : decode cX5_format 87 = .ok (.invokestatic 130, 3) := dk_184 0 130 (dk_at dksX5_format_3 19 rfl rfl)
theorem dX5_format_90 : decode cX5_format 90 = .ok (.ifCond .eq 10, 3) := dk_153 0 10 (dk_at dksX5_format_4 0 rfl rfl)
theorem dX5_format_93 : decode cX5_format 93 = .ok (.bipush 48, 2) := dk_16 48 (dk_at dksX5_format_4 3 rfl rfl)
theorem dX5_format_95 : decode cX5_format 95 = .ok (.iload_n 3, 1) := dk_29 (dk_at dksX5_format_4 5 rfl rfl)
theorem dX5_format_96 : decode cX5_format 96 = .ok (.iadd, 1) := dk_96 (dk_at dksX5_format_4 6 rfl rfl)
theorem dX5_format_97 : decode cX5_format 97 = .ok (.goto 5, 3) := dk_167 0 5 (dk_at dksX5_format_4 7 rfl rfl)
theorem dX5_format_100 : decode cX5_format 100 = .ok (.bipush 45, 2) := dk_16 45 (dk_at dksX5_format_4 10 rfl rfl)
theorem dX5_format_102 : decode cX5_format 102 = .ok (.invokevirtual 245, 3) := dk_182 0 245 (dk_at dksX5_format_4 12 rfl rfl)
theorem dX5_format_105 : decode cX5_format 105 = .ok (.iinc 3 1, 3) := dk_132 3 1 (dk_at dksX5_format_4 15 rfl rfl)
theorem dX5_format_108 : decode cX5_format 108 = .ok (.goto (-34), 3) := dk_167 255 222 (dk_at dksX5_format_4 18 rfl rfl)
theorem dX5_format_111 : decode cX5_format 111 = .ok (.aload_n 0, 1) := dk_42 (dk_at dksX5_format_4 21 rfl rfl)
theorem dX5_format_112 : decode cX5_format 112 = .ok (.getfield 242, 3) := dk_180 0 242 (dk_at dksX5_format_5 0 rfl rfl)
theorem dX5_format_115 : decode cX5_format 115 = .ok (.ireturn, 1) := dk_172 (dk_at dksX5_format_5 3 rfl rfl)
def dkwX5_putVersion_2 : List UInt8 := [182, 0, 245, 27, 42, 182, 0, 127, 160, 0, 9, 42, 16, 42, 182, 0, 245, 177]
abbrev dktX5_putVersion_2 : List UInt8 := dkwX5_putVersion_2 ++ []
def dkwX5_putVersion_1 : List UInt8 := [164, 0, 14, 42, 16, 48, 27, 16, 10, 108, 96, 182, 0, 245, 42, 16, 48, 27, 16, 10, 112, 96]
abbrev dktX5_putVersion_1 : List UInt8 := dkwX5_putVersion_1 ++ dktX5_putVersion_2
def dkwX5_putVersion_0 : List UInt8 := [42, 180, 0, 242, 158, 0, 9, 42, 16, 32, 182, 0, 245, 42, 16, 118, 182, 0, 245, 27, 16, 9]
abbrev dktX5_putVersion_0 : List UInt8 := dkwX5_putVersion_0 ++ dktX5_putVersion_1
theorem dksX5_putVersion_0 : cX5_putVersion.data.toList.drop 0 = dktX5_putVersion_0 := by decide +kernel
theorem dksX5_putVersion_1 : cX5_putVersion.data.toList.drop 22 = dktX5_putVersion_1 := dk_seg dksX5_putVersion_0 22 rfl rfl
theorem dksX5_putVersion_2 : cX5_putVersion.data.toList.drop 44 = dktX5_putVersion_2 := dk_seg dksX5_putVersion_1 22 rfl rfl
theorem dX5_putVersion_0 : decode cX5_putVersion 0 = .ok (.aload_n 0, 1) := dk_42 (dk_at dksX5_putVersion_0 0 rfl rfl)
theorem dX5_putVersion_1 : decode cX5_putVersion 1 = .ok (.getfield 242, 3) := dk_180 0 242 (dk_at dksX5_putVersion_0 1 rfl rfl)
theorem dX5_putVersion_4 : decode cX5_putVersion 4 = .ok (.ifCond .le 9, 3) := dk_158 0 9 (dk_at dksX5_putVersion_0 4 rfl rfl)
theorem dX5_putVersion_7 : decode cX5_putVersion 7 = .ok (.aload_n 0, 1) := dk_42 (dk_at dksX5_putVersion_0 7 rfl rfl)
theorem dX5_putVersion_8 : decode cX5_putVersion 8 = .ok (.bipush 32, 2) := dk_16 32 (dk_at dksX5_putVersion_0 8 rfl rfl)
theorem dX5_putVersion_10 : decode cX5_putVersion 10 = .ok (.invokevirtual 245, 3) := dk_182 0 245 (dk_at dksX5_putVersion_0 10 rfl rfl)
theorem dX5_putVersion_13 : decode cX5_putVersion 13 = .ok (.aload_n 0, 1) := dk_42 (dk_at dksX5_putVersion_0 13 rfl rfl)
theorem dX5_putVersion_14 : decode cX5_putVersion 14 = .ok (.bipush 118, 2) := dk_16 118 (dk_at dksX5_putVersion_0 14 rfl rfl)
theorem dX5_putVersion_16 : decode cX5_putVersion 16 = .ok (.invokevirtual 245, 3) := dk_182 0 245 (dk_at dksX5_putVersion_0 16 rfl rfl)
theorem dX5_putVersion_19 : decode cX5_putVersion 19 = .ok (.iload_n 1, 1) := dk_27 (dk_at dksX5_putVersion_0 19 rfl rfl)
theorem dX5_putVersion_20 : decode cX5_putVersion 20 = .ok (.bipush 9, 2) := dk_16 9 (dk_at dksX5_putVersion_0 20 rfl rfl)
theorem dX5_putVersion_22 : decode cX5_putVersion 22 = .ok (.if_icmp .le 14, 3) := dk_164 0 14 (dk_at dksX5_putVersion_1 0 rfl rfl)
theorem dX5_putVersion_25 : decode cX5_putVersion 25 = .ok (.aload_n 0, 1) := dk_42 (dk_at dksX5_putVersion_1 3 rfl rfl)
theorem dX5_putVersion_26 : decode cX5_putVersion 26 = .ok (.bipush 48, 2) := dk_16 48 (dk_at dksX5_putVersion_1 4 rfl rfl)
theorem dX5_putVersion_28 : decode cX5_putVersion 28 = .ok (.iload_n 1, 1) := dk_27 (dk_at dksX5_putVersion_1 6 rfl rfl)
theorem dX5_putVersion_29 : decode cX5_putVersion 29 = .ok (.bipush 10, 2) := dk_16 10 (dk_at dksX5_putVersion_1 7 rfl rfl)
theorem dX5_putVersion_31 : decode cX5_putVersion 31 = .ok (.idiv, 1) := dk_108 (dk_at dksX5_putVersion_1 9 rfl rfl)
theorem dX5_putVersion_32 : decode cX5_putVersion 32 = .ok (.iadd, 1) := dk_96 (dk_at dksX5_putVersion_1 10 rfl rfl)
theorem dX5_putVersion_33 : decode cX5_putVersion 33 = .ok (.invokevirtual 245, 3) := dk_182 0 245 (dk_at dksX5_putVersion_1 11 rfl rfl)
theorem dX5_putVersion_36 : decode cX5_putVersion 36 = .ok (.aload_n 0, 1) := dk_42 (dk_at dksX5_putVersion_1 14 rfl rfl)
theorem dX5_putVersion_37 : decode cX5_putVersion 37 = .ok (.bipush 48, 2) := dk_16 48 (dk_at dksX5_putVersion_1 15 rfl rfl)
theorem dX5_putVersion_39 : decode cX5_putVersion 39 = .ok (.iload_n 1, 1) := dk_27 (dk_at dksX5_putVersion_1 17 rfl rfl)
theorem dX5_putVersion_40 : decode cX5_putVersion 40 = .ok (.bipush 10, 2) := dk_16 10 (dk_at dksX5_putVersion_1 18 rfl rfl)
theorem dX5_putVersion_42 : decode cX5_putVersion 42 = .ok (.irem, 1) := dk_112 (dk_at dksX5_putVersion_1 20 rfl rfl)
theorem dX5_putVersion_43 : decode cX5_putVersion 43 = .ok (.iadd, 1) := dk_96 (dk_at dksX5_putVersion_1 21 rfl rfl)
theorem dX5_putVersion_44 : decode cX5_putVersion 44 = .ok (.invokevirtual 245, 3) := dk_182 0 245 (dk_at dksX5_putVersion_2 0 rfl rfl)
theorem dX5_putVersion_47 : decode cX5_putVersion 47 = .ok (.iload_n 1, 1) := dk_27 (dk_at dksX5_putVersion_2 3 rfl rfl)
theorem dX5_putVersion_48 : decode cX5_putVersion 48 = .ok (.aload_n 0, 1) := dk_42 (dk_at dksX5_putVersion_2 4 rfl rfl)
theorem dX5_putVersion_49 : decode cX5_putVersion 49 = .ok (.invokevirtual 127, 3) := dk_182 0 127 (dk_at dksX5_putVersion_2 5 rfl rfl)
theorem dX5_putVersion_52 : decode cX5_putVersion 52 = .ok (.if_icmp .ne 9, 3) := dk_160 0 9 (dk_at dksX5_putVersion_2 8 rfl rfl)
theorem dX5_putVersion_55 : decode cX5_putVersion 55 = .ok (.aload_n 0, 1) := dk_42 (dk_at dksX5_putVersion_2 11 rfl rfl)
theorem dX5_putVersion_56 : decode cX5_putVersion 56 = .ok (.bipush 42, 2) := dk_16 42 (dk_at dksX5_putVersion_2 12 rfl rfl)
theorem dX5_putVersion_58 : decode cX5_putVersion 58 = .ok (.invokevirtual 245, 3) := dk_182 0 245 (dk_at dksX5_putVersion_2 14 rfl rfl)
theorem dX5_putVersion_61 : decode cX5_putVersion 61 = .ok (.return_, 1) := dk_177 (dk_at dksX5_putVersion_2 17 rfl rfl)
def dkwX5_put_0 : List UInt8 := [42, 180, 0, 28, 42, 180, 0, 242, 27, 79, 42, 89, 180, 0, 242, 4, 96, 181, 0, 242, 177]
abbrev dktX5_put_0 : List UInt8 := dkwX5_put_0 ++ []
theorem dksX5_put_0 : cX5_put.data.toList.drop 0 = dktX5_put_0 := by decide +kernel
theorem dX5_put_0 : decode cX5_put 0 = .ok (.aload_n 0, 1) := dk_42 (dk_at dksX5_put_0 0 rfl rfl)
theorem dX5_put_1 : decode cX5_put 1 = .ok (.getfield 28, 3) := dk_180 0 28 (dk_at dksX5_put_0 1 rfl rfl)
theorem dX5_put_4 : decode cX5_put 4 = .ok (.aload_n 0, 1) := dk_42 (dk_at dksX5_put_0 4 rfl rfl)
theorem dX5_put_5 : decode cX5_put 5 = .ok (.getfield 242, 3) := dk_180 0 242 (dk_at dksX5_put_0 5 rfl rfl)
theorem dX5_put_8 : decode cX5_put 8 = .ok (.iload_n 1, 1) := dk_27 (dk_at dksX5_put_0 8 rfl rfl)
theorem dX5_put_9 : decode cX5_put 9 = .ok (.iastore, 1) := dk_79 (dk_at dksX5_put_0 9 rfl rfl)
theorem dX5_put_10 : decode cX5_put 10 = .ok (.aload_n 0, 1) := dk_42 (dk_at dksX5_put_0 10 rfl rfl)
theorem dX5_put_11 : decode cX5_put 11 = .ok (.dup, 1) := dk_89 (dk_at dksX5_put_0 11 rfl rfl)
theorem dX5_put_12 : decode cX5_put 12 = .ok (.getfield 242, 3) := dk_180 0 242 (dk_at dksX5_put_0 12 rfl rfl)
theorem dX5_put_15 : decode cX5_put 15 = .ok (.iconst 1, 1) := dk_4 (dk_at dksX5_put_0 15 rfl rfl)
theorem dX5_put_16 : decode cX5_put 16 = .ok (.iadd, 1) := dk_96 (dk_at dksX5_put_0 16 rfl rfl)
theorem dX5_put_17 : decode cX5_put 17 = .ok (.putfield 242, 3) := dk_181 0 242 (dk_at dksX5_put_0 17 rfl rfl)
theorem dX5_put_20 : decode cX5_put 20 = .ok (.return_, 1) := dk_177 (dk_at dksX5_put_0 20 rfl rfl)
def dkwX5_formattedByte_1 : List UInt8 := [46, 167, 0, 4, 2, 172]
abbrev dktX5_formattedByte_1 : List UInt8 := dkwX5_formattedByte_1 ++ []
def dkwX5_formattedByte_0 : List UInt8 := [42, 3, 181, 0, 71, 27, 3, 42, 180, 0, 242, 4, 100, 184, 0, 88, 153, 0, 12, 42, 180, 0, 28, 27]
abbrev dktX5_formattedByte_0 : List UInt8 := dkwX5_formattedByte_0 ++ dktX5_formattedByte_1
theorem dksX5_formattedByte_0 : cX5_formattedByte.data.toList.drop 0 = dktX5_formattedByte_0 := by decide +kernel
theorem dksX5_formattedByte_1 : cX5_formattedByte.data.toList.drop 24 = dktX5_formattedByte_1 := dk_seg dksX5_formattedByte_0 24 rfl rfl
theorem dX5_formattedByte_0 : decode cX5_formattedByte 0 = .ok (.aload_n 0, 1) := dk_42 (dk_at dksX5_formattedByte_0 0 rfl rfl)
theorem dX5_formattedByte_1 : decode cX5_formattedByte 1 = .ok (.iconst 0, 1) := dk_3 (dk_at dksX5_formattedByte_0 1 rfl rfl)
theorem dX5_formattedByte_2 : decode cX5_formattedByte 2 = .ok (.putfield 71, 3) := dk_181 0 71 (dk_at dksX5_formattedByte_0 2 rfl rfl)
theorem dX5_formattedByte_5 : decode cX5_formattedByte 5 = .ok (.iload_n 1, 1) := dk_27 (dk_at dksX5_formattedByte_0 5 rfl rfl)
theorem dX5_formattedByte_6 : decode cX5_formattedByte 6 = .ok (.iconst 0, 1) := dk_3 (dk_at dksX5_formattedByte_0 6 rfl rfl)
theorem dX5_formattedByte_7 : decode cX5_formattedByte 7 = .ok (.aload_n 0, 1) := dk_42 (dk_at dksX5_formattedByte_0 7 rfl rfl)
theorem dX5_formattedByte_8 : decode cX5_formattedByte 8 = .ok (.getfield 242, 3) := dk_180 0 242 (dk_at dksX5_formattedByte_0 8 rfl rfl)
theorem dX5_formattedByte_11 : decode cX5_formattedByte 11 = .ok (.iconst 1, 1) := dk_4 (dk_at dksX5_formattedByte_0 11 rfl rfl)
theorem dX5_formattedByte_12 : decode cX5_formattedByte 12 = .ok (.isub, 1) := dk_100 (dk_at dksX5_formattedByte_0 12 rfl rfl)
theorem dX5_formattedByte_13 : decode cX5_formattedByte 13 = .ok (.invokestatic 88, 3) := dk_184 0 88 (dk_at dksX5_formattedByte_0 13 rfl rfl)
theorem dX5_formattedByte_16 : decode cX5_formattedByte 16 = .ok (.ifCond .eq 12, 3) := dk_153 0 12 (dk_at dksX5_formattedByte_0 16 rfl rfl)
theorem dX5_formattedByte_19 : decode cX5_formattedByte 19 = .ok (.aload_n 0, 1) := dk_42 (dk_at dksX5_formattedByte_0 19 rfl rfl)
theorem dX5_formattedByte_20 : decode cX5_formattedByte 20 = .ok (.getfield 28, 3) := dk_180 0 28 (dk_at dksX5_formattedByte_0 20 rfl rfl)
theorem dX5_formattedByte_23 : decode cX5_formattedByte 23 = .ok (.iload_n 1, 1) := dk_27 (dk_at dksX5_formattedByte_0 23 rfl rfl)
theorem dX5_formattedByte_24 : decode cX5_formattedByte 24 = .ok (.iaload, 1) := dk_46 (dk_at dksX5_formattedByte_1 0 rfl rfl)
theorem dX5_formattedByte_25 : decode cX5_formattedByte 25 = .ok (.goto 4, 3) := dk_167 0 4 (dk_at dksX5_formattedByte_1 1 rfl rfl)
theorem dX5_formattedByte_28 : decode cX5_formattedByte 28 = .ok (.iconst (-1), 1) := dk_2 (dk_at dksX5_formattedByte_1 4 rfl rfl)
theorem dX5_formattedByte_29 : decode cX5_formattedByte 29 = .ok (.ireturn, 1) := dk_172 (dk_at dksX5_formattedByte_1 5 rfl rfl)
def dkwX5_undoCount_0 : List UInt8 := [42, 3, 181, 0, 71, 42, 180, 0, 251, 172]
abbrev dktX5_undoCount_0 : List UInt8 := dkwX5_undoCount_0 ++ []
theorem dksX5_undoCount_0 : cX5_undoCount.data.toList.drop 0 = dktX5_undoCount_0 := by decide +kernel
theorem dX5_undoCount_0 : decode cX5_undoCount 0 = .ok (.aload_n 0, 1) := dk_42 (dk_at dksX5_undoCount_0 0 rfl rfl)
theorem dX5_undoCount_1 : decode cX5_undoCount 1 = .ok (.iconst 0, 1) := dk_3 (dk_at dksX5_undoCount_0 1 rfl rfl)
theorem dX5_undoCount_2 : decode cX5_undoCount 2 = .ok (.putfield 71, 3) := dk_181 0 71 (dk_at dksX5_undoCount_0 2 rfl rfl)
theorem dX5_undoCount_5 : decode cX5_undoCount 5 = .ok (.aload_n 0, 1) := dk_42 (dk_at dksX5_undoCount_0 5 rfl rfl)
theorem dX5_undoCount_6 : decode cX5_undoCount 6 = .ok (.getfield 251, 3) := dk_180 0 251 (dk_at dksX5_undoCount_0 6 rfl rfl)
theorem dX5_undoCount_9 : decode cX5_undoCount 9 = .ok (.ireturn, 1) := dk_172 (dk_at dksX5_undoCount_0 9 rfl rfl)
def dkwX5_undo_1 : List UInt8 := [42, 180, 0, 22, 42, 180, 0, 251, 42, 180, 0, 9, 3, 184, 0, 218, 42, 180, 0, 251, 172]
abbrev dktX5_undo_1 : List UInt8 := dkwX5_undo_1 ++ []
def dkwX5_undo_0 : List UInt8 := [42, 3, 181, 0, 71, 42, 180, 0, 251, 154, 0, 5, 2, 172, 42, 89, 180, 0, 251, 4, 100, 181, 0, 251]
abbrev dktX5_undo_0 : List UInt8 := dkwX5_undo_0 ++ dktX5_undo_1
theorem dksX5_undo_0 : cX5_undo.data.toList.drop 0 = dktX5_undo_0 := by decide +kernel
theorem dksX5_undo_1 : cX5_undo.data.toList.drop 24 = dktX5_undo_1 := dk_seg dksX5_undo_0 24 rfl rfl
theorem dX5_undo_0 : decode cX5_undo 0 = .ok (.aload_n 0, 1) := dk_42 (dk_at dksX5_undo_0 0 rfl rfl)
theorem dX5_undo_1 : decode cX5_undo 1 = .ok (.iconst 0, 1) := dk_3 (dk_at dksX5_undo_0 1 rfl rfl)
theorem dX5_undo_2 : decode cX5_undo 2 = .ok (.putfield 71, 3) := dk_181 0 71 (dk_at dksX5_undo_0 2 rfl rfl)
theorem dX5_undo_5 : decode cX5_undo 5 = .ok (.aload_n 0, 1) := dk_42 (dk_at dksX5_undo_0 5 rfl rfl)
theorem dX5_undo_6 : decode cX5_undo 6 = .ok (.getfield 251, 3) := dk_180 0 251 (dk_at dksX5_undo_0 6 rfl rfl)
theorem dX5_undo_9 : decode cX5_undo 9 = .ok (.ifCond .ne 5, 3) := dk_154 0 5 (dk_at dksX5_undo_0 9 rfl rfl)
theorem dX5_undo_12 : decode cX5_undo 12 = .ok (.iconst (-1), 1) := dk_2 (dk_at dksX5_undo_0 12 rfl rfl)
theorem dX5_undo_13 : decode cX5_undo 13 = .ok (.ireturn, 1) := dk_172 (dk_at dksX5_undo_0 13 rfl rfl)
theorem dX5_undo_14 : decode cX5_undo 14 = .ok (.aload_n 0, 1) := dk_42 (dk_at dksX5_undo_0 14 rfl rfl)
theorem dX5_undo_15 : decode cX5_undo 15 = .ok (.dup, 1) := dk_89 (dk_at dksX5_undo_0 15 rfl rfl)
theorem dX5_undo_16 : decode cX5_undo 16 = .ok (.getfield 251, 3) := dk_180 0 251 (dk_at dksX5_undo_0 16 rfl rfl)
theorem dX5_undo_19 : decode cX5_undo 19 = .ok (.iconst 1, 1) := dk_4 (dk_at dksX5_undo_0 19 rfl rfl)
theorem dX5_undo_20 : decode cX5_undo 20 = .ok (.isub, 1) := dk_100 (dk_at dksX5_undo_0 20 rfl rfl)
theorem dX5_undo_21 : decode cX5_undo 21 = .ok (.putfield 251, 3) := dk_181 0 251 (dk_at dksX5_undo_0 21 rfl rfl)
theorem dX5_undo_24 : decode cX5_undo 24 = .ok (.aload_n 0, 1) := dk_42 (dk_at dksX5_undo_1 0 rfl rfl)
theorem dX5_undo_25 : decode cX5_undo 25 = .ok (.getfield 22, 3) := dk_180 0 22 (dk_at dksX5_undo_1 1 rfl rfl)
theorem dX5_undo_28 : decode cX5_undo 28 = .ok (.aload_n 0, 1) := dk_42 (dk_at dksX5_undo_1 4 rfl rfl)
theorem dX5_undo_29 : decode cX5_undo 29 = .ok (.getfield 251, 3) := dk_180 0 251 (dk_at dksX5_undo_1 5 rfl rfl)
theorem dX5_undo_32 : decode cX5_undo 32 = .ok (.aload_n 0, 1) := dk_42 (dk_at dksX5_undo_1 8 rfl rfl)
theorem dX5_undo_33 : decode cX5_undo 33 = .ok (.getfield 9, 3) := dk_180 0 9 (dk_at dksX5_undo_1 9 rfl rfl)
theorem dX5_undo_36 : decode cX5_undo 36 = .ok (.iconst 0, 1) := dk_3 (dk_at dksX5_undo_1 12 rfl rfl)
theorem dX5_undo_37 : decode cX5_undo 37 = .ok (.invokestatic 218, 3) := dk_184 0 218 (dk_at dksX5_undo_1 13 rfl rfl)
theorem dX5_undo_40 : decode cX5_undo 40 = .ok (.aload_n 0, 1) := dk_42 (dk_at dksX5_undo_1 16 rfl rfl)
theorem dX5_undo_41 : decode cX5_undo 41 = .ok (.getfield 251, 3) := dk_180 0 251 (dk_at dksX5_undo_1 17 rfl rfl)
theorem dX5_undo_44 : decode cX5_undo 44 = .ok (.ireturn, 1) := dk_172 (dk_at dksX5_undo_1 20 rfl rfl)
def dkwX5_saveSnapshot_0 : List UInt8 := [42, 3, 181, 0, 71, 42, 180, 0, 9, 3, 42, 180, 0, 19, 3, 184, 0, 218, 42, 4, 181, 0, 254, 177]
abbrev dktX5_saveSnapshot_0 : List UInt8 := dkwX5_saveSnapshot_0 ++ []
theorem dksX5_saveSnapshot_0 : cX5_saveSnapshot.data.toList.drop 0 = dktX5_saveSnapshot_0 := by decide +kernel
theorem dX5_saveSnapshot_0 : decode cX5_saveSnapshot 0 = .ok (.aload_n 0, 1) := dk_42 (dk_at dksX5_saveSnapshot_0 0 rfl rfl)
theorem dX5_saveSnapshot_1 : decode cX5_saveSnapshot 1 = .ok (.iconst 0, 1) := dk_3 (dk_at dksX5_saveSnapshot_0 1 rfl rfl)
theorem dX5_saveSnapshot_2 : decode cX5_saveSnapshot 2 = .ok (.putfield 71, 3) := dk_181 0 71 (dk_at dksX5_saveSnapshot_0 2 rfl rfl)
theorem dX5_saveSnapshot_5 : decode cX5_saveSnapshot 5 = .ok (.aload_n 0, 1) := dk_42 (dk_at dksX5_saveSnapshot_0 5 rfl rfl)
theorem dX5_saveSnapshot_6 : decode cX5_saveSnapshot 6 = .ok (.getfield 9, 3) := dk_180 0 9 (dk_at dksX5_saveSnapshot_0 6 rfl rfl)
theorem dX5_saveSnapshot_9 : decode cX5_saveSnapshot 9 = .ok (.iconst 0, 1) := dk_3 (dk_at dksX5_saveSnapshot_0 9 rfl rfl)
theorem dX5_saveSnapshot_10 : decode cX5_saveSnapshot 10 = .ok (.aload_n 0, 1) := dk_42 (dk_at dksX5_saveSnapshot_0 10 rfl rfl)
theorem dX5_saveSnapshot_11 : decode cX5_saveSnapshot 11 = .ok (.getfield 19, 3) := dk_180 0 19 (dk_at dksX5_saveSnapshot_0 11 rfl rfl)
theorem dX5_saveSnapshot_14 : decode cX5_saveSnapshot 14 = .ok (.iconst 0, 1) := dk_3 (dk_at dksX5_saveSnapshot_0 14 rfl rfl)
theorem dX5_saveSnapshot_15 : decode cX5_saveSnapshot 15 = .ok (.invokestatic 218, 3) := dk_184 0 218 (dk_at dksX5_saveSnapshot_0 15 rfl rfl)
theorem dX5_saveSnapshot_18 : decode cX5_saveSnapshot 18 = .ok (.aload_n 0, 1) := dk_42 (dk_at dksX5_saveSnapshot_0 18 rfl rfl)
theorem dX5_saveSnapshot_19 : decode cX5_saveSnapshot 19 = .ok (.iconst 1, 1) := dk_4 (dk_at dksX5_saveSnapshot_0 19 rfl rfl)
theorem dX5_saveSnapshot_20 : decode cX5_saveSnapshot 20 = .ok (.putfield 254, 3) := dk_181 0 254 (dk_at dksX5_saveSnapshot_0 20 rfl rfl)
theorem dX5_saveSnapshot_23 : decode cX5_saveSnapshot 23 = .ok (.return_, 1) := dk_177 (dk_at dksX5_saveSnapshot_0 23 rfl rfl)
def dkwX5_restoreSnapshot_1 : List UInt8 := [184, 0, 218, 42, 3, 181, 0, 251, 4, 172]
abbrev dktX5_restoreSnapshot_1 : List UInt8 := dkwX5_restoreSnapshot_1 ++ []
def dkwX5_restoreSnapshot_0 : List UInt8 := [42, 3, 181, 0, 71, 42, 180, 0, 254, 154, 0, 5, 3, 172, 42, 180, 0, 19, 3, 42, 180, 0, 9, 3]
abbrev dktX5_restoreSnapshot_0 : List UInt8 := dkwX5_restoreSnapshot_0 ++ dktX5_restoreSnapshot_1
theorem dksX5_restoreSnapshot_0 : cX5_restoreSnapshot.data.toList.drop 0 = dktX5_restoreSnapshot_0 := by decide +kernel
theorem dksX5_restoreSnapshot_1 : cX5_restoreSnapshot.data.toList.drop 24 = dktX5_restoreSnapshot_1 := dk_seg dksX5_restoreSnapshot_0 24 rfl rfl
theorem dX5_restoreSnapshot_0 : decode cX5_restoreSnapshot 0 = .ok (.aload_n 0, 1) := dk_42 (dk_at dksX5_restoreSnapshot_0 0 rfl rfl)
theorem dX5_restoreSnapshot_1 : decode cX5_restoreSnapshot 1 = .ok (.iconst 0, 1) := dk_3 (dk_at dksX5_restoreSnapshot_0 1 rfl rfl)
theorem dX5_restoreSnapshot_2 : decode cX5_restoreSnapshot 2 = .ok (.putfield 71, 3) := dk_181 0 71 (dk_at dksX5_restoreSnapshot_0 2 rfl rfl)
theorem dX5_restoreSnapshot_5 : decode cX5_restoreSnapshot 5 = .ok (.aload_n 0, 1) := dk_42 (dk_at dksX5_restoreSnapshot_0 5 rfl rfl)
theorem dX5_restoreSnapshot_6 : decode cX5_restoreSnapshot 6 = .ok (.getfield 254, 3) := dk_180 0 254 (dk_at dksX5_restoreSnapshot_0 6 rfl rfl)
theorem dX5_restoreSnapshot_9 : decode cX5_restoreSnapshot 9 = .ok (.ifCond .ne 5, 3) := dk_154 0 5 (dk_at dksX5_restoreSnapshot_0 9 rfl rfl)
theorem dX5_restoreSnapshot_12 : decode cX5_restoreSnapshot 12 = .ok (.iconst 0, 1) := dk_3 (dk_at dksX5_restoreSnapshot_0 12 rfl rfl)
theorem dX5_restoreSnapshot_13 : decode cX5_restoreSnapshot 13 = .ok (.ireturn, 1) := dk_172 (dk_at dksX5_restoreSnapshot_0 13 rfl rfl)
theorem dX5_restoreSnapshot_14 : decode cX5_restoreSnapshot 14 = .ok (.aload_n 0, 1) := dk_42 (dk_at dksX5_restoreSnapshot_0 14 rfl rfl)
theorem dX5_restoreSnapshot_15 : decode cX5_restoreSnapshot 15 = .ok (.getfield 19, 3) := dk_180 0 19 (dk_at dksX5_restoreSnapshot_0 15 rfl rfl)
theorem dX5_restoreSnapshot_18 : decode cX5_restoreSnapshot 18 = .ok (.iconst 0, 1) := dk_3 (dk_at dksX5_restoreSnapshot_0 18 rfl rfl)
theorem dX5_restoreSnapshot_19 : decode cX5_restoreSnapshot 19 = .ok (.aload_n 0, 1) := dk_42 (dk_at dksX5_restoreSnapshot_0 19 rfl rfl)
theorem dX5_restoreSnapshot_20 : decode cX5_restoreSnapshot 20 = .ok (.getfield 9, 3) := dk_180 0 9 (dk_at dksX5_restoreSnapshot_0 20 rfl rfl)
theorem dX5_restoreSnapshot_23 : decode cX5_restoreSnapshot 23 = .ok (.iconst 0, 1) := dk_3 (dk_at dksX5_restoreSnapshot_0 23 rfl rfl)
theorem dX5_restoreSnapshot_24 : decode cX5_restoreSnapshot 24 = .ok (.invokestatic 218, 3) := dk_184 0 218 (dk_at dksX5_restoreSnapshot_1 0 rfl rfl)
theorem dX5_restoreSnapshot_27 : decode cX5_restoreSnapshot 27 = .ok (.aload_n 0, 1) := dk_42 (dk_at dksX5_restoreSnapshot_1 3 rfl rfl)
theorem dX5_restoreSnapshot_28 : decode cX5_restoreSnapshot 28 = .ok (.iconst 0, 1) := dk_3 (dk_at dksX5_restoreSnapshot_1 4 rfl rfl)
theorem dX5_restoreSnapshot_29 : decode cX5_restoreSnapshot 29 = .ok (.putfield 251, 3) := dk_181 0 251 (dk_at dksX5_restoreSnapshot_1 5 rfl rfl)
theorem dX5_restoreSnapshot_32 : decode cX5_restoreSnapshot 32 = .ok (.iconst 1, 1) := dk_4 (dk_at dksX5_restoreSnapshot_1 8 rfl rfl)
theorem dX5_restoreSnapshot_33 : decode cX5_restoreSnapshot 33 = .ok (.ireturn, 1) := dk_172 (dk_at dksX5_restoreSnapshot_1 9 rfl rfl)
def dkwX5_feed_5 : List UInt8 := [167, 255, 162, 42, 180, 1, 2, 172]
abbrev dktX5_feed_5 : List UInt8 := dkwX5_feed_5 ++ []
def dkwX5_feed_4 : List UInt8 := [112, 104, 100, 122, 17, 0, 255, 126, 79, 42, 89, 180, 1, 2, 4, 96, 181, 1, 2, 132, 6, 1]
abbrev dktX5_feed_4 : List UInt8 := dkwX5_feed_4 ++ dktX5_feed_5
def dkwX5_feed_3 : List UInt8 := [167, 0, 5, 21, 5, 54, 7, 42, 180, 0, 31, 42, 180, 1, 2, 21, 7, 16, 24, 16, 8, 21, 6, 7]
abbrev dktX5_feed_3 : List UInt8 := dkwX5_feed_3 ++ dktX5_feed_4
def dkwX5_feed_2 : List UInt8 := [28, 167, 0, 28, 21, 6, 16, 12, 162, 0, 7, 29, 167, 0, 17, 21, 6, 16, 16, 162, 0, 8, 21, 4]
abbrev dktX5_feed_2 : List UInt8 := dkwX5_feed_2 ++ dktX5_feed_3
def dkwX5_feed_1 : List UInt8 := [21, 6, 16, 20, 162, 0, 93, 21, 6, 7, 162, 0, 7, 27, 167, 0, 39, 21, 6, 16, 8, 162, 0, 7]
abbrev dktX5_feed_1 : List UInt8 := dkwX5_feed_1 ++ dktX5_feed_2
def dkwX5_feed_0 : List UInt8 := [42, 3, 181, 0, 71, 42, 180, 1, 2, 16, 20, 96, 17, 1, 144, 164, 0, 5, 2, 172, 3, 54, 6]
abbrev dktX5_feed_0 : List UInt8 := dkwX5_feed_0 ++ dktX5_feed_1
theorem dksX5_feed_0 : cX5_feed.data.toList.drop 0 = dktX5_feed_0 := by decide +kernel
theorem dksX5_feed_1 : cX5_feed.data.toList.drop 23 = dktX5_feed_1 := dk_seg dksX5_feed_0 23 rfl rfl
theorem dksX5_feed_2 : cX5_feed.data.toList.drop 47 = dktX5_feed_2 := dk_seg dksX5_feed_1 24 rfl rfl
theorem dksX5_feed_3 : cX5_feed.data.toList.drop 71 = dktX5_feed_3 := dk_seg dksX5_feed_2 24 rfl rfl
theorem dksX5_feed_4 : cX5_feed.data.toList.drop 95 = dktX5_feed_4 := dk_seg dksX5_feed_3 24 rfl rfl
theorem dksX5_feed_5 : cX5_feed.data.toList.drop 117 = dktX5_feed_5 := dk_seg dksX5_feed_4 22 rfl rfl
theorem dX5_feed_0 : decode cX5_feed 0 = .ok (.aload_n 0, 1) := dk_42 (dk_at dksX5_feed_0 0 rfl rfl)
theorem dX5_feed_1 : decode cX5_feed 1 = .ok (.iconst 0, 1) := dk_3 (dk_at dksX5_feed_0 1 rfl rfl)
theorem dX5_feed_2 : decode cX5_feed 2 = .ok (.putfield 71, 3) := dk_181 0 71 (dk_at dksX5_feed_0 2 rfl rfl)
theorem dX5_feed_5 : decode cX5_feed 5 = .ok (.aload_n 0, 1) := dk_42 (dk_at dksX5_feed_0 5 rfl rfl)
theorem dX5_feed_6 : decode cX5_feed 6 = .ok (.getfield 258, 3) := dk_180 1 2 (dk_at dksX5_feed_0 6 rfl rfl)
theorem dX5_feed_9 : decode cX5_feed 9 = .ok (.bipush 20, 2) := dk_16 20 (dk_at dksX5_feed_0 9 rfl rfl)
theorem dX5_feed_11 : decode cX5_feed 11 = .ok (.iadd, 1) := dk_96 (dk_at dksX5_feed_0 11 rfl rfl)
theorem dX5_feed_12 : decode cX5_feed 12 = .ok (.sipush 400, 3) := dk_17 1 144 (dk_at dksX5_feed_0 12 rfl rfl)
theorem dX5_feed_15 : decode cX5_feed 15 = .ok (.if_icmp .le 5, 3) := dk_164 0 5 (dk_at dksX5_feed_0 15 rfl rfl)
theorem dX5_feed_18 : decode cX5_feed 18 = .ok (.iconst (-1), 1) := dk_2 (dk_at dksX5_feed_0 18 rfl rfl)
theorem dX5_feed_19 : decode cX5_feed 19 = .ok (.ireturn, 1) := dk_172 (dk_at dksX5_feed_0 19 rfl rfl)
theorem dX5_feed_20 : decode cX5_feed 20 = .ok (.iconst 0, 1) := dk_3 (dk_at dksX5_feed_0 20 rfl rfl)
theorem dX5_feed_21 : decode cX5_feed 21 = .ok (.istore 6, 2) := dk_54 6 (dk_at dksX5_feed_0 21 rfl rfl)
theorem dX5_feed_23 : decode cX5_feed 23 = .ok (.iload 6, 2) := dk_21 6 (dk_at dksX5_feed_1 0 rfl rfl)
theorem dX5_feed_25 : decode cX5_feed 25 = .ok (.bipush 20, 2) := dk_16 20 (dk_at dksX5_feed_1 2 rfl rfl)
theorem dX5_feed_27 : decode cX5_feed 27 = .ok (.if_icmp .ge 93, 3) := dk_162 0 93 (dk_at dksX5_feed_1 4 rfl rfl)
theorem dX5_feed_30 : decode cX5_feed 30 = .ok (.iload 6, 2) := dk_21 6 (dk_at dksX5_feed_1 7 rfl rfl)
theorem dX5_feed_32 : decode cX5_feed 32 = .ok (.iconst 4, 1) := dk_7 (dk_at dksX5_feed_1 9 rfl rfl)
theorem dX5_feed_33 : decode cX5_feed 33 = .ok (.if_icmp .ge 7, 3) := dk_162 0 7 (dk_at dksX5_feed_1 10 rfl rfl)
theorem dX5_feed_36 : decode cX5_feed 36 = .ok (.iload_n 1, 1) := dk_27 (dk_at dksX5_feed_1 13 rfl rfl)
theorem dX5_feed_37 : decode cX5_feed 37 = .ok (.goto 39, 3) := dk_167 0 39 (dk_at dksX5_feed_1 14 rfl rfl)
theorem dX5_feed_40 : decode cX5_feed 40 = .ok (.iload 6, 2) := dk_21 6 (dk_at dksX5_feed_1 17 rfl rfl)
theorem dX5_feed_42 : decode cX5_feed 42 = .ok (.bipush 8, 2) := dk_16 8 (dk_at dksX5_feed_1 19 rfl rfl)
theorem dX5_feed_44 : decode cX5_feed 44 = .ok (.if_icmp .ge 7, 3) := dk_162 0 7 (dk_at dksX5_feed_1 21 rfl rfl)
theorem dX5_feed_47 : decode cX5_feed 47 = .ok (.iload_n 2, 1) := dk_28 (dk_at dksX5_feed_2 0 rfl rfl)
theorem dX5_feed_48 : decode cX5_feed 48 = .ok (.goto 28, 3) := dk_167 0 28 (dk_at dksX5_feed_2 1 rfl rfl)
theorem dX5_feed_51 : decode cX5_feed 51 = .ok (.iload 6, 2) := dk_21 6 (dk_at dksX5_feed_2 4 rfl rfl)
theorem dX5_feed_53 : decode cX5_feed 53 = .ok (.bipush 12, 2) := dk_16 12 (dk_at dksX5_feed_2 6 rfl rfl)
theorem dX5_feed_55 : decode cX5_feed 55 = .ok (.if_icmp .ge 7, 3) := dk_162 0 7 (dk_at dksX5_feed_2 8 rfl rfl)
theorem dX5_feed_58 : decode cX5_feed 58 = .ok (.iload_n 3, 1) := dk_29 (dk_at dksX5_feed_2 11 rfl rfl)
theorem dX5_feed_59 : decode cX5_feed 59 = .ok (.goto 17, 3) := dk_167 0 17 (dk_at dksX5_feed_2 12 rfl rfl)
theorem dX5_feed_62 : decode cX5_feed 62 = .ok (.iload 6, 2) := dk_21 6 (dk_at dksX5_feed_2 15 rfl rfl)
theorem dX5_feed_64 : decode cX5_feed 64 = .ok (.bipush 16, 2) := dk_16 16 (dk_at dksX5_feed_2 17 rfl rfl)
theorem dX5_feed_66 : decode cX5_feed 66 = .ok (.if_icmp .ge 8, 3) := dk_162 0 8 (dk_at dksX5_feed_2 19 rfl rfl)
theorem dX5_feed_69 : decode cX5_feed 69 = .ok (.iload 4, 2) := dk_21 4 (dk_at dksX5_feed_2 22 rfl rfl)
theorem dX5_feed_71 : decode cX5_feed 71 = .ok (.goto 5, 3) := dk_167 0 5 (dk_at dksX5_feed_3 0 rfl rfl)
theorem dX5_feed_74 : decode cX5_feed 74 = .ok (.iload 5, 2) := dk_21 5 (dk_at dksX5_feed_3 3 rfl rfl)
theorem dX5_feed_76 : decode cX5_feed 76 = .ok (.istore 7, 2) := dk_54 7 (dk_at dksX5_feed_3 5 rfl rfl)
theorem dX5_feed_78 : decode cX5_feed 78 = .ok (.aload_n 0, 1) := dk_42 (dk_at dksX5_feed_3 7 rfl rfl)
theorem dX5_feed_79 : decode cX5_feed 79 = .ok (.getfield 31, 3) := dk_180 0 31 (dk_at dksX5_feed_3 8 rfl rfl)
theorem dX5_feed_82 : decode cX5_feed 82 = .ok (.aload_n 0, 1) := dk_42 (dk_at dksX5_feed_3 11 rfl rfl)
theorem dX5_feed_83 : decode cX5_feed 83 = .ok (.getfield 258, 3) := dk_180 1 2 (dk_at dksX5_feed_3 12 rfl rfl)
theorem dX5_feed_86 : decode cX5_feed 86 = .ok (.iload 7, 2) := dk_21 7 (dk_at dksX5_feed_3 15 rfl rfl)
theorem dX5_feed_88 : decode cX5_feed 88 = .ok (.bipush 24, 2) := dk_16 24 (dk_at dksX5_feed_3 17 rfl rfl)
theorem dX5_feed_90 : decode cX5_feed 90 = .ok (.bipush 8, 2) := dk_16 8 (dk_at dksX5_feed_3 19 rfl rfl)
theorem dX5_feed_92 : decode cX5_feed 92 = .ok (.iload 6, 2) := dk_21 6 (dk_at dksX5_feed_3 21 rfl rfl)
theorem dX5_feed_94 : decode cX5_feed 94 = .ok (.iconst 4, 1) := dk_7 (dk_at dksX5_feed_3 23 rfl rfl)
theorem dX5_feed_95 : decode cX5_feed 95 = .ok (.irem, 1) := dk_112 (dk_at dksX5_feed_4 0 rfl rfl)
theorem dX5_feed_96 : decode cX5_feed 96 = .ok (.imul, 1) := dk_104 (dk_at dksX5_feed_4 1 rfl rfl)
theorem dX5_feed_97 : decode cX5_feed 97 = .ok (.isub, 1) := dk_100 (dk_at dksX5_feed_4 2 rfl rfl)
theorem dX5_feed_98 : decode cX5_feed 98 = .ok (.ishr, 1) := dk_122 (dk_at dksX5_feed_4 3 rfl rfl)
theorem dX5_feed_99 : decode cX5_feed 99 = .ok (.sipush 255, 3) := dk_17 0 255 (dk_at dksX5_feed_4 4 rfl rfl)
theorem dX5_feed_102 : decode cX5_feed 102 = .ok (.iand, 1) := dk_126 (dk_at dksX5_feed_4 7 rfl rfl)
theorem dX5_feed_103 : decode cX5_feed 103 = .ok (.iastore, 1) := dk_79 (dk_at dksX5_feed_4 8 rfl rfl)
theorem dX5_feed_104 : decode cX5_feed 104 = .ok (.aload_n 0, 1) := dk_42 (dk_at dksX5_feed_4 9 rfl rfl)
theorem dX5_feed_105 : decode cX5_feed 105 = .ok (.dup, 1) := dk_89 (dk_at dksX5_feed_4 10 rfl rfl)
theorem dX5_feed_106 : decode cX5_feed 106 = .ok (.getfield 258, 3) := dk_180 1 2 (dk_at dksX5_feed_4 11 rfl rfl)
theorem dX5_feed_109 : decode cX5_feed 109 = .ok (.iconst 1, 1) := dk_4 (dk_at dksX5_feed_4 14 rfl rfl)
theorem dX5_feed_110 : decode cX5_feed 110 = .ok (.iadd, 1) := dk_96 (dk_at dksX5_feed_4 15 rfl rfl)
theorem dX5_feed_111 : decode cX5_feed 111 = .ok (.putfield 258, 3) := dk_181 1 2 (dk_at dksX5_feed_4 16 rfl rfl)
theorem dX5_feed_114 : decode cX5_feed 114 = .ok (.iinc 6 1, 3) := dk_132 6 1 (dk_at dksX5_feed_4 19 rfl rfl)
theorem dX5_feed_117 : decode cX5_feed 117 = .ok (.goto (-94), 3) := dk_167 255 162 (dk_at dksX5_feed_5 0 rfl rfl)
theorem dX5_feed_120 : decode cX5_feed 120 = .ok (.aload_n 0, 1) := dk_42 (dk_at dksX5_feed_5 3 rfl rfl)
theorem dX5_feed_121 : decode cX5_feed 121 = .ok (.getfield 258, 3) := dk_180 1 2 (dk_at dksX5_feed_5 4 rfl rfl)
theorem dX5_feed_124 : decode cX5_feed 124 = .ok (.ireturn, 1) := dk_172 (dk_at dksX5_feed_5 7 rfl rfl)
def dkwX5_errorPosition_0 : List UInt8 := [42, 3, 181, 0, 71, 42, 180, 0, 34, 172]
abbrev dktX5_errorPosition_0 : List UInt8 := dkwX5_errorPosition_0 ++ []
theorem dksX5_errorPosition_0 : cX5_errorPosition.data.toList.drop 0 = dktX5_errorPosition_0 := by decide +kernel
theorem dX5_errorPosition_0 : decode cX5_errorPosition 0 = .ok (.aload_n 0, 1) := dk_42 (dk_at dksX5_errorPosition_0 0 rfl rfl)
theorem dX5_errorPosition_1 : decode cX5_errorPosition 1 = .ok (.iconst 0, 1) := dk_3 (dk_at dksX5_errorPosition_0 1 rfl rfl)
theorem dX5_errorPosition_2 : decode cX5_errorPosition 2 = .ok (.putfield 71, 3) := dk_181 0 71 (dk_at dksX5_errorPosition_0 2 rfl rfl)
theorem dX5_errorPosition_5 : decode cX5_errorPosition 5 = .ok (.aload_n 0, 1) := dk_42 (dk_at dksX5_errorPosition_0 5 rfl rfl)
theorem dX5_errorPosition_6 : decode cX5_errorPosition 6 = .ok (.getfield 34, 3) := dk_180 0 34 (dk_at dksX5_errorPosition_0 6 rfl rfl)
theorem dX5_errorPosition_9 : decode cX5_errorPosition 9 = .ok (.ireturn, 1) := dk_172 (dk_at dksX5_errorPosition_0 9 rfl rfl)
def dkwX5_load_3 : List UInt8 := [3, 184, 0, 218, 42, 3, 181, 0, 251, 42, 3, 181, 0, 254, 42, 182, 0, 188, 172]
abbrev dktX5_load_3 : List UInt8 := dkwX5_load_3 ++ []
def dkwX5_load_2 : List UInt8 := [42, 182, 1, 101, 153, 0, 11, 16, 246, 42, 180, 1, 26, 100, 172, 42, 180, 0, 13, 3, 42, 180, 0, 9]
abbrev dktX5_load_2 : List UInt8 := dkwX5_load_2 ++ dktX5_load_3
def dkwX5_load_1 : List UInt8 := [42, 180, 0, 13, 181, 0, 25, 42, 27, 182, 1, 95, 42, 182, 1, 98, 42, 42, 180, 0, 9, 181, 0, 25]
abbrev dktX5_load_1 : List UInt8 := dkwX5_load_1 ++ dktX5_load_2
def dkwX5_load_0 : List UInt8 := [42, 3, 181, 0, 71, 27, 3, 42, 180, 1, 2, 184, 0, 88, 154, 0, 9, 42, 4, 182, 0, 197, 172, 42]
abbrev dktX5_load_0 : List UInt8 := dkwX5_load_0 ++ dktX5_load_1
theorem dksX5_load_0 : cX5_load.data.toList.drop 0 = dktX5_load_0 := by decide +kernel
theorem dksX5_load_1 : cX5_load.data.toList.drop 24 = dktX5_load_1 := dk_seg dksX5_load_0 24 rfl rfl
theorem dksX5_load_2 : cX5_load.data.toList.drop 48 = dktX5_load_2 := dk_seg dksX5_load_1 24 rfl rfl
theorem dksX5_load_3 : cX5_load.data.toList.drop 72 = dktX5_load_3 := dk_seg dksX5_load_2 24 rfl rfl
theorem dX5_load_0 : decode cX5_load 0 = .ok (.aload_n 0, 1) := dk_42 (dk_at dksX5_load_0 0 rfl rfl)
theorem dX5_load_1 : decode cX5_load 1 = .ok (.iconst 0, 1) := dk_3 (dk_at dksX5_load_0 1 rfl rfl)
theorem dX5_load_2 : decode cX5_load 2 = .ok (.putfield 71, 3) := dk_181 0 71 (dk_at dksX5_load_0 2 rfl rfl)
theorem dX5_load_5 : decode cX5_load 5 = .ok (.iload_n 1, 1) := dk_27 (dk_at dksX5_load_0 5 rfl rfl)
theorem dX5_load_6 : decode cX5_load 6 = .ok (.iconst 0, 1) := dk_3 (dk_at dksX5_load_0 6 rfl rfl)
theorem dX5_load_7 : decode cX5_load 7 = .ok (.aload_n 0, 1) := dk_42 (dk_at dksX5_load_0 7 rfl rfl)
theorem dX5_load_8 : decode cX5_load 8 = .ok (.getfield 258, 3) := dk_180 1 2 (dk_at dksX5_load_0 8 rfl rfl)
theorem dX5_load_11 : decode cX5_load 11 = .ok (.invokestatic 88, 3) := dk_184 0 88 (dk_at dksX5_load_0 11 rfl rfl)
theorem dX5_load_14 : decode cX5_load 14 = .ok (.ifCond .ne 9, 3) := dk_154 0 9 (dk_at dksX5_load_0 14 rfl rfl)
theorem dX5_load_17 : decode cX5_load 17 = .ok (.aload_n 0, 1) := dk_42 (dk_at dksX5_load_0 17 rfl rfl)
theorem dX5_load_18 : decode cX5_load 18 = .ok (.iconst 1, 1) := dk_4 (dk_at dksX5_load_0 18 rfl rfl)
theorem dX5_load_19 : decode cX5_load 19 = .ok (.invokevirtual 197, 3) := dk_182 0 197 (dk_at dksX5_load_0 19 rfl rfl)
theorem dX5_load_22 : decode cX5_load 22 = .ok (.ireturn, 1) := dk_172 (dk_at dksX5_load_0 22 rfl rfl)
theorem dX5_load_23 : decode cX5_load 23 = .ok (.aload_n 0, 1) := dk_42 (dk_at dksX5_load_0 23 rfl rfl)
theorem dX5_load_24 : decode cX5_load 24 = .ok (.aload_n 0, 1) := dk_42 (dk_at dksX5_load_1 0 rfl rfl)
theorem dX5_load_25 : decode cX5_load 25 = .ok (.getfield 13, 3) := dk_180 0 13 (dk_at dksX5_load_1 1 rfl rfl)
theorem dX5_load_28 : decode cX5_load 28 = .ok (.putfield 25, 3) := dk_181 0 25 (dk_at dksX5_load_1 4 rfl rfl)
theorem dX5_load_31 : decode cX5_load 31 = .ok (.aload_n 0, 1) := dk_42 (dk_at dksX5_load_1 7 rfl rfl)
theorem dX5_load_32 : decode cX5_load 32 = .ok (.iload_n 1, 1) := dk_27 (dk_at dksX5_load_1 8 rfl rfl)
theorem dX5_load_33 : decode cX5_load 33 = .ok (.invokevirtual 351, 3) := dk_182 1 95 (dk_at dksX5_load_1 9 rfl rfl)
theorem dX5_load_36 : decode cX5_load 36 = .ok (.aload_n 0, 1) := dk_42 (dk_at dksX5_load_1 12 rfl rfl)
theorem dX5_load_37 : decode cX5_load 37 = .ok (.invokevirtual 354, 3) := dk_182 1 98 (dk_at dksX5_load_1 13 rfl rfl)
theorem dX5_load_40 : decode cX5_load 40 = .ok (.aload_n 0, 1) := dk_42 (dk_at dksX5_load_1 16 rfl rfl)
theorem dX5_load_41 : decode cX5_load 41 = .ok (.aload_n 0, 1) := dk_42 (dk_at dksX5_load_1 17 rfl rfl)
theorem dX5_load_42 : decode cX5_load 42 = .ok (.getfield 9, 3) := dk_180 0 9 (dk_at dksX5_load_1 18 rfl rfl)
theorem dX5_load_45 : decode cX5_load 45 = .ok (.putfield 25, 3) := dk_181 0 25 (dk_at dksX5_load_1 21 rfl rfl)
theorem dX5_load_48 : decode cX5_load 48 = .ok (.aload_n 0, 1) := dk_42 (dk_at dksX5_load_2 0 rfl rfl)
theorem dX5_load_49 : decode cX5_load 49 = .ok (.invokevirtual 357, 3) := dk_182 1 101 (dk_at dksX5_load_2 1 rfl rfl)
theorem dX5_load_52 : decode cX5_load 52 = .ok (.ifCond .eq 11, 3) := dk_153 0 11 (dk_at dksX5_load_2 4 rfl rfl)
theorem dX5_load_55 : decode cX5_load 55 = .ok (.bipush (-10), 2) := dk_16 246 (dk_at dksX5_load_2 7 rfl rfl)
theorem dX5_load_57 : decode cX5_load 57 = .ok (.aload_n 0, 1) := dk_42 (dk_at dksX5_load_2 9 rfl rfl)
theorem dX5_load_58 : decode cX5_load 58 = .ok (.getfield 282, 3) := dk_180 1 26 (dk_at dksX5_load_2 10 rfl rfl)
theorem dX5_load_61 : decode cX5_load 61 = .ok (.isub, 1) := dk_100 (dk_at dksX5_load_2 13 rfl rfl)
theorem dX5_load_62 : decode cX5_load 62 = .ok (.ireturn, 1) := dk_172 (dk_at dksX5_load_2 14 rfl rfl)
theorem dX5_load_63 : decode cX5_load 63 = .ok (.aload_n 0, 1) := dk_42 (dk_at dksX5_load_2 15 rfl rfl)
theorem dX5_load_64 : decode cX5_load 64 = .ok (.getfield 13, 3) := dk_180 0 13 (dk_at dksX5_load_2 16 rfl rfl)
theorem dX5_load_67 : decode cX5_load 67 = .ok (.iconst 0, 1) := dk_3 (dk_at dksX5_load_2 19 rfl rfl)
theorem dX5_load_68 : decode cX5_load 68 = .ok (.aload_n 0, 1) := dk_42 (dk_at dksX5_load_2 20 rfl rfl)
theorem dX5_load_69 : decode cX5_load 69 = .ok (.getfield 9, 3) := dk_180 0 9 (dk_at dksX5_load_2 21 rfl rfl)
theorem dX5_load_72 : decode cX5_load 72 = .ok (.iconst 0, 1) := dk_3 (dk_at dksX5_load_3 0 rfl rfl)
theorem dX5_load_73 : decode cX5_load 73 = .ok (.invokestatic 218, 3) := dk_184 0 218 (dk_at dksX5_load_3 1 rfl rfl)
theorem dX5_load_76 : decode cX5_load 76 = .ok (.aload_n 0, 1) := dk_42 (dk_at dksX5_load_3 4 rfl rfl)
theorem dX5_load_77 : decode cX5_load 77 = .ok (.iconst 0, 1) := dk_3 (dk_at dksX5_load_3 5 rfl rfl)
theorem dX5_load_78 : decode cX5_load 78 = .ok (.putfield 251, 3) := dk_181 0 251 (dk_at dksX5_load_3 6 rfl rfl)
theorem dX5_load_81 : decode cX5_load 81 = .ok (.aload_n 0, 1) := dk_42 (dk_at dksX5_load_3 9 rfl rfl)
theorem dX5_load_82 : decode cX5_load 82 = .ok (.iconst 0, 1) := dk_3 (dk_at dksX5_load_3 10 rfl rfl)
theorem dX5_load_83 : decode cX5_load 83 = .ok (.putfield 254, 3) := dk_181 0 254 (dk_at dksX5_load_3 11 rfl rfl)
theorem dX5_load_86 : decode cX5_load 86 = .ok (.aload_n 0, 1) := dk_42 (dk_at dksX5_load_3 14 rfl rfl)
theorem dX5_load_87 : decode cX5_load 87 = .ok (.invokevirtual 188, 3) := dk_182 0 188 (dk_at dksX5_load_3 15 rfl rfl)
theorem dX5_load_90 : decode cX5_load 90 = .ok (.ireturn, 1) := dk_172 (dk_at dksX5_load_3 18 rfl rfl)
def dkwX5_startText_1 : List UInt8 := [177]
abbrev dktX5_startText_1 : List UInt8 := dkwX5_startText_1 ++ []
def dkwX5_startText_0 : List UInt8 := [42, 27, 181, 1, 5, 42, 3, 181, 1, 11, 42, 3, 181, 1, 26, 42, 3, 181, 1, 29, 42, 182, 1, 32]
abbrev dktX5_startText_0 : List UInt8 := dkwX5_startText_0 ++ dktX5_startText_1
theorem dksX5_startText_0 : cX5_startText.data.toList.drop 0 = dktX5_startText_0 := by decide +kernel
theorem dksX5_startText_1 : cX5_startText.data.toList.drop 24 = dktX5_startText_1 := dk_seg dksX5_startText_0 24 rfl rfl
theorem dX5_startText_0 : decode cX5_startText 0 = .ok (.aload_n 0, 1) := dk_42 (dk_at dksX5_startText_0 0 rfl rfl)
theorem dX5_startText_1 : decode cX5_startText 1 = .ok (.iload_n 1, 1) := dk_27 (dk_at dksX5_startText_0 1 rfl rfl)
theorem dX5_startText_2 : decode cX5_startText 2 = .ok (.putfield 261, 3) := dk_181 1 5 (dk_at dksX5_startText_0 2 rfl rfl)
theorem dX5_startText_5 : decode cX5_startText 5 = .ok (.aload_n 0, 1) := dk_42 (dk_at dksX5_startText_0 5 rfl rfl)
theorem dX5_startText_6 : decode cX5_startText 6 = .ok (.iconst 0, 1) := dk_3 (dk_at dksX5_startText_0 6 rfl rfl)
theorem dX5_startText_7 : decode cX5_startText 7 = .ok (.putfield 267, 3) := dk_181 1 11 (dk_at dksX5_startText_0 7 rfl rfl)
theorem dX5_startText_10 : decode cX5_startText 10 = .ok (.aload_n 0, 1) := dk_42 (dk_at dksX5_startText_0 10 rfl rfl)
theorem dX5_startText_11 : decode cX5_startText 11 = .ok (.iconst 0, 1) := dk_3 (dk_at dksX5_startText_0 11 rfl rfl)
theorem dX5_startText_12 : decode cX5_startText 12 = .ok (.putfield 282, 3) := dk_181 1 26 (dk_at dksX5_startText_0 12 rfl rfl)
theorem dX5_startText_15 : decode cX5_startText 15 = .ok (.aload_n 0, 1) := dk_42 (dk_at dksX5_startText_0 15 rfl rfl)
theorem dX5_startText_16 : decode cX5_startText 16 = .ok (.iconst 0, 1) := dk_3 (dk_at dksX5_startText_0 16 rfl rfl)
theorem dX5_startText_17 : decode cX5_startText 17 = .ok (.putfield 285, 3) := dk_181 1 29 (dk_at dksX5_startText_0 17 rfl rfl)
theorem dX5_startText_20 : decode cX5_startText 20 = .ok (.aload_n 0, 1) := dk_42 (dk_at dksX5_startText_0 20 rfl rfl)
theorem dX5_startText_21 : decode cX5_startText 21 = .ok (.invokevirtual 288, 3) := dk_182 1 32 (dk_at dksX5_startText_0 21 rfl rfl)
theorem dX5_startText_24 : decode cX5_startText 24 = .ok (.return_, 1) := dk_177 (dk_at dksX5_startText_1 0 rfl rfl)
def dkwX5_scan_7 : List UInt8 := [181, 1, 17, 177]
abbrev dktX5_scan_7 : List UInt8 := dkwX5_scan_7 ++ []
def dkwX5_scan_6 : List UInt8 := [167, 255, 235, 42, 5, 181, 1, 17, 167, 0, 18, 42, 89, 180, 1, 11, 4, 96, 181, 1, 11, 42, 6]
abbrev dktX5_scan_6 : List UInt8 := dkwX5_scan_6 ++ dktX5_scan_7
def dkwX5_scan_5 : List UInt8 := [153, 0, 35, 42, 42, 180, 1, 11, 182, 1, 23, 153, 0, 16, 42, 89, 180, 1, 11, 4, 96, 181, 1, 11]
abbrev dktX5_scan_5 : List UInt8 := dkwX5_scan_5 ++ dktX5_scan_6
def dkwX5_scan_4 : List UInt8 := [181, 1, 11, 167, 255, 235, 42, 4, 181, 1, 17, 167, 0, 61, 42, 42, 180, 1, 11, 182, 1, 23]
abbrev dktX5_scan_4 : List UInt8 := dkwX5_scan_4 ++ dktX5_scan_5
def dkwX5_scan_3 : List UInt8 := [182, 1, 20, 153, 0, 35, 42, 42, 180, 1, 11, 182, 1, 20, 153, 0, 16, 42, 89, 180, 1, 11, 4, 96]
abbrev dktX5_scan_3 : List UInt8 := dkwX5_scan_3 ++ dktX5_scan_4
def dkwX5_scan_2 : List UInt8 := [42, 180, 1, 11, 42, 180, 1, 5, 161, 0, 11, 42, 3, 181, 1, 17, 167, 0, 104, 42, 42, 180, 1, 11]
abbrev dktX5_scan_2 : List UInt8 := dkwX5_scan_2 ++ dktX5_scan_3
def dkwX5_scan_1 : List UInt8 := [160, 0, 16, 42, 89, 180, 1, 11, 4, 96, 181, 1, 11, 167, 255, 220, 42, 42, 180, 1, 11, 181, 1, 14]
abbrev dktX5_scan_1 : List UInt8 := dkwX5_scan_1 ++ dktX5_scan_2
def dkwX5_scan_0 : List UInt8 := [42, 42, 180, 1, 11, 182, 1, 8, 16, 32, 159, 0, 16, 42, 42, 180, 1, 11, 182, 1, 8, 16, 10]
abbrev dktX5_scan_0 : List UInt8 := dkwX5_scan_0 ++ dktX5_scan_1
theorem dksX5_scan_0 : cX5_scan.data.toList.drop 0 = dktX5_scan_0 := by decide +kernel
theorem dksX5_scan_1 : cX5_scan.data.toList.drop 23 = dktX5_scan_1 := dk_seg dksX5_scan_0 23 rfl rfl
theorem dksX5_scan_2 : cX5_scan.data.toList.drop 47 = dktX5_scan_2 := dk_seg dksX5_scan_1 24 rfl rfl
theorem dksX5_scan_3 : cX5_scan.data.toList.drop 71 = dktX5_scan_3 := dk_seg dksX5_scan_2 24 rfl rfl
theorem dksX5_scan_4 : cX5_scan.data.toList.drop 95 = dktX5_scan_4 := dk_seg dksX5_scan_3 24 rfl rfl
theorem dksX5_scan_5 : cX5_scan.data.toList.drop 117 = dktX5_scan_5 := dk_seg dksX5_scan_4 22 rfl rfl
theorem dksX5_scan_6 : cX5_scan.data.toList.drop 141 = dktX5_scan_6 := dk_seg dksX5_scan_5 24 rfl rfl
theorem dksX5_scan_7 : cX5_scan.data.toList.drop 164 = dktX5_scan_7 := dk_seg dksX5_scan_6 23 rfl rfl
theorem dX5_scan_0 : decode cX5_scan 0 = .ok (.aload_n 0, 1) := dk_42 (dk_at dksX5_scan_0 0 rfl rfl)
theorem dX5_scan_1 : decode cX5_scan 1 = .ok (.aload_n 0, 1) := dk_42 (dk_at dksX5_scan_0 1 rfl rfl)
theorem dX5_scan_2 : decode cX5_scan 2 = .ok (.getfield 267, 3) := dk_180 1 11 (dk_at dksX5_scan_0 2 rfl rfl)
theorem dX5_scan_5 : decode cX5_scan 5 = .ok (.invokevirtual 264, 3) := dk_182 1 8 (dk_at dksX5_scan_0 5 rfl rfl)
theorem dX5_scan_8 : decode cX5_scan 8 = .ok (.bipush 32, 2) := dk_16 32 (dk_at dksX5_scan_0 8 rfl rfl)
theorem dX5_scan_10 : decode cX5_scan 10 = .ok (.if_icmp .eq 16, 3) := dk_159 0 16 (dk_at dksX5_scan_0 10 rfl rfl)
theorem dX5_scan_13 : decode cX5_scan 13 = .ok (.aload_n 0, 1) := dk_42 (dk_at dksX5_scan_0 13 rfl rfl)
theorem dX5_scan_14 : decode cX5_scan 14 = .ok (.aload_n 0, 1) := dk_42 (dk_at dksX5_scan_0 14 rfl rfl)
theorem dX5_scan_15 : decode cX5_scan 15 = .ok (.getfield 267, 3) := dk_180 1 11 (dk_at dksX5_scan_0 15 rfl rfl)
theorem dX5_scan_18 : decode cX5_scan 18 = .ok (.invokevirtual 264, 3) := dk_182 1 8 (dk_at dksX5_scan_0 18 rfl rfl)
theorem dX5_scan_21 : decode cX5_scan 21 = .ok (.bipush 10, 2) := dk_16 10 (dk_at dksX5_scan_0 21 rfl rfl)
theorem dX5_scan_23 : decode cX5_scan 23 = .ok (.if_icmp .ne 16, 3) := dk_160 0 16 (dk_at dksX5_scan_1 0 rfl rfl)
theorem dX5_scan_26 : decode cX5_scan 26 = .ok (.aload_n 0, 1) := dk_42 (dk_at dksX5_scan_1 3 rfl rfl)
theorem dX5_scan_27 : decode cX5_scan 27 = .ok (.dup, 1) := dk_89 (dk_at dksX5_scan_1 4 rfl rfl)
theorem dX5_scan_28 : decode cX5_scan 28 = .ok (.getfield 267, 3) := dk_180 1 11 (dk_at dksX5_scan_1 5 rfl rfl)
theorem dX5_scan_31 : decode cX5_scan 31 = .ok (.iconst 1, 1) := dk_4 (dk_at dksX5_scan_1 8 rfl rfl)
theorem dX5_scan_32 : decode cX5_scan 32 = .ok (.iadd, 1) := dk_96 (dk_at dksX5_scan_1 9 rfl rfl)
theorem dX5_scan_33 : decode cX5_scan 33 = .ok (.putfield 267, 3) := dk_181 1 11 (dk_at dksX5_scan_1 10 rfl rfl)
theorem dX5_scan_36 : decode cX5_scan 36 = .ok (.goto (-36), 3) := dk_167 255 220 (dk_at dksX5_scan_1 13 rfl rfl)
theorem dX5_scan_39 : decode cX5_scan 39 = .ok (.aload_n 0, 1) := dk_42 (dk_at dksX5_scan_1 16 rfl rfl)
theorem dX5_scan_40 : decode cX5_scan 40 = .ok (.aload_n 0, 1) := dk_42 (dk_at dksX5_scan_1 17 rfl rfl)
theorem dX5_scan_41 : decode cX5_scan 41 = .ok (.getfield 267, 3) := dk_180 1 11 (dk_at dksX5_scan_1 18 rfl rfl)
theorem dX5_scan_44 : decode cX5_scan 44 = .ok (.putfield 270, 3) := dk_181 1 14 (dk_at dksX5_scan_1 21 rfl rfl)
theorem dX5_scan_47 : decode cX5_scan 47 = .ok (.aload_n 0, 1) := dk_42 (dk_at dksX5_scan_2 0 rfl rfl)
theorem dX5_scan_48 : decode cX5_scan 48 = .ok (.getfield 267, 3) := dk_180 1 11 (dk_at dksX5_scan_2 1 rfl rfl)
theorem dX5_scan_51 : decode cX5_scan 51 = .ok (.aload_n 0, 1) := dk_42 (dk_at dksX5_scan_2 4 rfl rfl)
theorem dX5_scan_52 : decode cX5_scan 52 = .ok (.getfield 261, 3) := dk_180 1 5 (dk_at dksX5_scan_2 5 rfl rfl)
theorem dX5_scan_55 : decode cX5_scan 55 = .ok (.if_icmp .lt 11, 3) := dk_161 0 11 (dk_at dksX5_scan_2 8 rfl rfl)
theorem dX5_scan_58 : decode cX5_scan 58 = .ok (.aload_n 0, 1) := dk_42 (dk_at dksX5_scan_2 11 rfl rfl)
theorem dX5_scan_59 : decode cX5_scan 59 = .ok (.iconst 0, 1) := dk_3 (dk_at dksX5_scan_2 12 rfl rfl)
theorem dX5_scan_60 : decode cX5_scan 60 = .ok (.putfield 273, 3) := dk_181 1 17 (dk_at dksX5_scan_2 13 rfl rfl)
theorem dX5_scan_63 : decode cX5_scan 63 = .ok (.goto 104, 3) := dk_167 0 104 (dk_at dksX5_scan_2 16 rfl rfl)
theorem dX5_scan_66 : decode cX5_scan 66 = .ok (.aload_n 0, 1) := dk_42 (dk_at dksX5_scan_2 19 rfl rfl)
theorem dX5_scan_67 : decode cX5_scan 67 = .ok (.aload_n 0, 1) := dk_42 (dk_at dksX5_scan_2 20 rfl rfl)
theorem dX5_scan_68 : decode cX5_scan 68 = .ok (.getfield 267, 3) := dk_180 1 11 (dk_at dksX5_scan_2 21 rfl rfl)
theorem dX5_scan_71 : decode cX5_scan 71 = .ok (.invokevirtual 276, 3) := dk_182 1 20 (dk_at dksX5_scan_3 0 rfl rfl)
theorem dX5_scan_74 : decode cX5_scan 74 = .ok (.ifCond .eq 35, 3) := dk_153 0 35 (dk_at dksX5_scan_3 3 rfl rfl)
theorem dX5_scan_77 : decode cX5_scan 77 = .ok (.aload_n 0, 1) := dk_42 (dk_at dksX5_scan_3 6 rfl rfl)
theorem dX5_scan_78 : decode cX5_scan 78 = .ok (.aload_n 0, 1) := dk_42 (dk_at dksX5_scan_3 7 rfl rfl)
theorem dX5_scan_79 : decode cX5_scan 79 = .ok (.getfield 267, 3) := dk_180 1 11 (dk_at dksX5_scan_3 8 rfl rfl)
theorem dX5_scan_82 : decode cX5_scan 82 = .ok (.invokevirtual 276, 3) := dk_182 1 20 (dk_at dksX5_scan_3 11 rfl rfl)
theorem dX5_scan_85 : decode cX5_scan 85 = .ok (.ifCond .eq 16, 3) := dk_153 0 16 (dk_at dksX5_scan_3 14 rfl rfl)
theorem dX5_scan_88 : decode cX5_scan 88 = .ok (.aload_n 0, 1) := dk_42 (dk_at dksX5_scan_3 17 rfl rfl)
theorem dX5_scan_89 : decode cX5_scan 89 = .ok (.dup, 1) := dk_89 (dk_at dksX5_scan_3 18 rfl rfl)
theorem dX5_scan_90 : decode cX5_scan 90 = .ok (.getfield 267, 3) := dk_180 1 11 (dk_at dksX5_scan_3 19 rfl rfl)
theorem dX5_scan_93 : decode cX5_scan 93 = .ok (.iconst 1, 1) := dk_4 (dk_at dksX5_scan_3 22 rfl rfl)
theorem dX5_scan_94 : decode cX5_scan 94 = .ok (.iadd, 1) := dk_96 (dk_at dksX5_scan_3 23 rfl rfl)
theorem dX5_scan_95 : decode cX5_scan 95 = .ok (.putfield 267, 3) := dk_181 1 11 (dk_at dksX5_scan_4 0 rfl rfl)
theorem dX5_scan_98 : decode cX5_scan 98 = .ok (.goto (-21), 3) := dk_167 255 235 (dk_at dksX5_scan_4 3 rfl rfl)
theorem dX5_scan_101 : decode cX5_scan 101 = .ok (.aload_n 0, 1) := dk_42 (dk_at dksX5_scan_4 6 rfl rfl)
theorem dX5_scan_102 : decode cX5_scan 102 = .ok (.iconst 1, 1) := dk_4 (dk_at dksX5_scan_4 7 rfl rfl)
theorem dX5_scan_103 : decode cX5_scan 103 = .ok (.putfield 273, 3) := dk_181 1 17 (dk_at dksX5_scan_4 8 rfl rfl)
theorem dX5_scan_106 : decode cX5_scan 106 = .ok (.goto 61, 3) := dk_167 0 61 (dk_at dksX5_scan_4 11 rfl rfl)
theorem dX5_scan_109 : decode cX5_scan 109 = .ok (.aload_n 0, 1) := dk_42 (dk_at dksX5_scan_4 14 rfl rfl)
theorem dX5_scan_110 : decode cX5_scan 110 = .ok (.aload_n 0, 1) := dk_42 (dk_at dksX5_scan_4 15 rfl rfl)
theorem dX5_scan_111 : decode cX5_scan 111 = .ok (.getfield 267, 3) := dk_180 1 11 (dk_at dksX5_scan_4 16 rfl rfl)
theorem dX5_scan_114 : decode cX5_scan 114 = .ok (.invokevirtual 279, 3) := dk_182 1 23 (dk_at dksX5_scan_4 19 rfl rfl)
theorem dX5_scan_117 : decode cX5_scan 117 = .ok (.ifCond .eq 35, 3) := dk_153 0 35 (dk_at dksX5_scan_5 0 rfl rfl)
theorem dX5_scan_120 : decode cX5_scan 120 = .ok (.aload_n 0, 1) := dk_42 (dk_at dksX5_scan_5 3 rfl rfl)
theorem dX5_scan_121 : decode cX5_scan 121 = .ok (.aload_n 0, 1) := dk_42 (dk_at dksX5_scan_5 4 rfl rfl)
theorem dX5_scan_122 : decode cX5_scan 122 = .ok (.getfield 267, 3) := dk_180 1 11 (dk_at dksX5_scan_5 5 rfl rfl)
theorem dX5_scan_125 : decode cX5_scan 125 = .ok (.invokevirtual 279, 3) := dk_182 1 23 (dk_at dksX5_scan_5 8 rfl rfl)
theorem dX5_scan_128 : decode cX5_scan 128 = .ok (.ifCond .eq 16, 3) := dk_153 0 16 (dk_at dksX5_scan_5 11 rfl rfl)
theorem dX5_scan_131 : decode cX5_scan 131 = .ok (.aload_n 0, 1) := dk_42 (dk_at dksX5_scan_5 14 rfl rfl)
theorem dX5_scan_132 : decode cX5_scan 132 = .ok (.dup, 1) := dk_89 (dk_at dksX5_scan_5 15 rfl rfl)
theorem dX5_scan_133 : decode cX5_scan 133 = .ok (.getfield 267, 3) := dk_180 1 11 (dk_at dksX5_scan_5 16 rfl rfl)
theorem dX5_scan_136 : decode cX5_scan 136 = .ok (.iconst 1, 1) := dk_4 (dk_at dksX5_scan_5 19 rfl rfl)
theorem dX5_scan_137 : decode cX5_scan 137 = .ok (.iadd, 1) := dk_96 (dk_at dksX5_scan_5 20 rfl rfl)
theorem dX5_scan_138 : decode cX5_scan 138 = .ok (.putfield 267, 3) := dk_181 1 11 (dk_at dksX5_scan_5 21 rfl rfl)
theorem dX5_scan_141 : decode cX5_scan 141 = .ok (.goto (-21), 3) := dk_167 255 235 (dk_at dksX5_scan_6 0 rfl rfl)
theorem dX5_scan_144 : decode cX5_scan 144 = .ok (.aload_n 0, 1) := dk_42 (dk_at dksX5_scan_6 3 rfl rfl)
theorem dX5_scan_145 : decode cX5_scan 145 = .ok (.iconst 2, 1) := dk_5 (dk_at dksX5_scan_6 4 rfl rfl)
theorem dX5_scan_146 : decode cX5_scan 146 = .ok (.putfield 273, 3) := dk_181 1 17 (dk_at dksX5_scan_6 5 rfl rfl)
theorem dX5_scan_149 : decode cX5_scan 149 = .ok (.goto 18, 3) := dk_167 0 18 (dk_at dksX5_scan_6 8 rfl rfl)
theorem dX5_scan_152 : decode cX5_scan 152 = .ok (.aload_n 0, 1) := dk_42 (dk_at dksX5_scan_6 11 rfl rfl)
theorem dX5_scan_153 : decode cX5_scan 153 = .ok (.dup, 1) := dk_89 (dk_at dksX5_scan_6 12 rfl rfl)
theorem dX5_scan_154 : decode cX5_scan 154 = .ok (.getfield 267, 3) := dk_180 1 11 (dk_at dksX5_scan_6 13 rfl rfl)
theorem dX5_scan_157 : decode cX5_scan 157 = .ok (.iconst 1, 1) := dk_4 (dk_at dksX5_scan_6 16 rfl rfl)
theorem dX5_scan_158 : decode cX5_scan 158 = .ok (.iadd, 1) := dk_96 (dk_at dksX5_scan_6 17 rfl rfl)
theorem dX5_scan_159 : decode cX5_scan 159 = .ok (.putfield 267, 3) := dk_181 1 11 (dk_at dksX5_scan_6 18 rfl rfl)
theorem dX5_scan_162 : decode cX5_scan 162 = .ok (.aload_n 0, 1) := dk_42 (dk_at dksX5_scan_6 21 rfl rfl)
theorem dX5_scan_163 : decode cX5_scan 163 = .ok (.iconst 3, 1) := dk_6 (dk_at dksX5_scan_6 22 rfl rfl)
theorem dX5_scan_164 : decode cX5_scan 164 = .ok (.putfield 273, 3) := dk_181 1 17 (dk_at dksX5_scan_7 0 rfl rfl)
theorem dX5_scan_167 : decode cX5_scan 167 = .ok (.return_, 1) := dk_177 (dk_at dksX5_scan_7 3 rfl rfl)
def dkwX5_byteAt_0 : List UInt8 := [27, 42, 180, 1, 5, 162, 0, 12, 42, 180, 0, 31, 27, 46, 167, 0, 4, 2, 172]
abbrev dktX5_byteAt_0 : List UInt8 := dkwX5_byteAt_0 ++ []
theorem dksX5_byteAt_0 : cX5_byteAt.data.toList.drop 0 = dktX5_byteAt_0 := by decide +kernel
theorem dX5_byteAt_0 : decode cX5_byteAt 0 = .ok (.iload_n 1, 1) := dk_27 (dk_at dksX5_byteAt_0 0 rfl rfl)
theorem dX5_byteAt_1 : decode cX5_byteAt 1 = .ok (.aload_n 0, 1) := dk_42 (dk_at dksX5_byteAt_0 1 rfl rfl)
theorem dX5_byteAt_2 : decode cX5_byteAt 2 = .ok (.getfield 261, 3) := dk_180 1 5 (dk_at dksX5_byteAt_0 2 rfl rfl)
theorem dX5_byteAt_5 : decode cX5_byteAt 5 = .ok (.if_icmp .ge 12, 3) := dk_162 0 12 (dk_at dksX5_byteAt_0 5 rfl rfl)
theorem dX5_byteAt_8 : decode cX5_byteAt 8 = .ok (.aload_n 0, 1) := dk_42 (dk_at dksX5_byteAt_0 8 rfl rfl)
theorem dX5_byteAt_9 : decode cX5_byteAt 9 = .ok (.getfield 31, 3) := dk_180 0 31 (dk_at dksX5_byteAt_0 9 rfl rfl)
theorem dX5_byteAt_12 : decode cX5_byteAt 12 = .ok (.iload_n 1, 1) := dk_27 (dk_at dksX5_byteAt_0 12 rfl rfl)
theorem dX5_byteAt_13 : decode cX5_byteAt 13 = .ok (.iaload, 1) := dk_46 (dk_at dksX5_byteAt_0 13 rfl rfl)
theorem dX5_byteAt_14 : decode cX5_byteAt 14 = .ok (.goto 4, 3) := dk_167 0 4 (dk_at dksX5_byteAt_0 14 rfl rfl)
theorem dX5_byteAt_17 : decode cX5_byteAt 17 = .ok (.iconst (-1), 1) := dk_2 (dk_at dksX5_byteAt_0 17 rfl rfl)
theorem dX5_byteAt_18 : decode cX5_byteAt 18 = .ok (.ireturn, 1) := dk_172 (dk_at dksX5_byteAt_0 18 rfl rfl)
def dkwX5_isLetter_1 : List UInt8 := [3, 172]
abbrev dktX5_isLetter_1 : List UInt8 := dkwX5_isLetter_1 ++ []
def dkwX5_isLetter_0 : List UInt8 := [42, 27, 182, 1, 8, 16, 97, 161, 0, 17, 42, 27, 182, 1, 8, 16, 122, 163, 0, 7, 4, 167, 0, 4]
abbrev dktX5_isLetter_0 : List UInt8 := dkwX5_isLetter_0 ++ dktX5_isLetter_1
theorem dksX5_isLetter_0 : cX5_isLetter.data.toList.drop 0 = dktX5_isLetter_0 := by decide +kernel
theorem dksX5_isLetter_1 : cX5_isLetter.data.toList.drop 24 = dktX5_isLetter_1 := dk_seg dksX5_isLetter_0 24 rfl rfl
theorem dX5_isLetter_0 : decode cX5_isLetter 0 = .ok (.aload_n 0, 1) := dk_42 (dk_at dksX5_isLetter_0 0 rfl rfl)
theorem dX5_isLetter_1 : decode cX5_isLetter 1 = .ok (.iload_n 1, 1) := dk_27 (dk_at dksX5_isLetter_0 1 rfl rfl)
theorem dX5_isLetter_2 : decode cX5_isLetter 2 = .ok (.invokevirtual 264, 3) := dk_182 1 8 (dk_at dksX5_isLetter_0 2 rfl rfl)
theorem dX5_isLetter_5 : decode cX5_isLetter 5 = .ok (.bipush 97, 2) := dk_16 97 (dk_at dksX5_isLetter_0 5 rfl rfl)
theorem dX5_isLetter_7 : decode cX5_isLetter 7 = .ok (.if_icmp .lt 17, 3) := dk_161 0 17 (dk_at dksX5_isLetter_0 7 rfl rfl)
theorem dX5_isLetter_10 : decode cX5_isLetter 10 = .ok (.aload_n 0, 1) := dk_42 (dk_at dksX5_isLetter_0 10 rfl rfl)
theorem dX5_isLetter_11 : decode cX5_isLetter 11 = .ok (.iload_n 1, 1) := dk_27 (dk_at dksX5_isLetter_0 11 rfl rfl)
theorem dX5_isLetter_12 : decode cX5_isLetter 12 = .ok (.invokevirtual 264, 3) := dk_182 1 8 (dk_at dksX5_isLetter_0 12 rfl rfl)
theorem dX5_isLetter_15 : decode cX5_isLetter 15 = .ok (.bipush 122, 2) := dk_16 122 (dk_at dksX5_isLetter_0 15 rfl rfl)
theorem dX5_isLetter_17 : decode cX5_isLetter 17 = .ok (.if_icmp .gt 7, 3) := dk_163 0 7 (dk_at dksX5_isLetter_0 17 rfl rfl)
theorem dX5_isLetter_20 : decode cX5_isLetter 20 = .ok (.iconst 1, 1) := dk_4 (dk_at dksX5_isLetter_0 20 rfl rfl)
theorem dX5_isLetter_21 : decode cX5_isLetter 21 = .ok (.goto 4, 3) := dk_167 0 4 (dk_at dksX5_isLetter_0 21 rfl rfl)
theorem dX5_isLetter_24 : decode cX5_isLetter 24 = .ok (.iconst 0, 1) := dk_3 (dk_at dksX5_isLetter_1 0 rfl rfl)
theorem dX5_isLetter_25 : decode cX5_isLetter 25 = .ok (.ireturn, 1) := dk_172 (dk_at dksX5_isLetter_1 1 rfl rfl)
def dkwX5_isDigit_1 : List UInt8 := [3, 172]
abbrev dktX5_isDigit_1 : List UInt8 := dkwX5_isDigit_1 ++ []
def dkwX5_isDigit_0 : List UInt8 := [42, 27, 182, 1, 8, 16, 48, 161, 0, 17, 42, 27, 182, 1, 8, 16, 57, 163, 0, 7, 4, 167, 0, 4]
abbrev dktX5_isDigit_0 : List UInt8 := dkwX5_isDigit_0 ++ dktX5_isDigit_1
theorem dksX5_isDigit_0 : cX5_isDigit.data.toList.drop 0 = dktX5_isDigit_0 := by decide +kernel
theorem dksX5_isDigit_1 : cX5_isDigit.data.toList.drop 24 = dktX5_isDigit_1 := dk_seg dksX5_isDigit_0 24 rfl rfl
theorem dX5_isDigit_0 : decode cX5_isDigit 0 = .ok (.aload_n 0, 1) := dk_42 (dk_at dksX5_isDigit_0 0 rfl rfl)
theorem dX5_isDigit_1 : decode cX5_isDigit 1 = .ok (.iload_n 1, 1) := dk_27 (dk_at dksX5_isDigit_0 1 rfl rfl)
theorem dX5_isDigit_2 : decode cX5_isDigit 2 = .ok (.invokevirtual 264, 3) := dk_182 1 8 (dk_at dksX5_isDigit_0 2 rfl rfl)
theorem dX5_isDigit_5 : decode cX5_isDigit 5 = .ok (.bipush 48, 2) := dk_16 48 (dk_at dksX5_isDigit_0 5 rfl rfl)
theorem dX5_isDigit_7 : decode cX5_isDigit 7 = .ok (.if_icmp .lt 17, 3) := dk_161 0 17 (dk_at dksX5_isDigit_0 7 rfl rfl)
theorem dX5_isDigit_10 : decode cX5_isDigit 10 = .ok (.aload_n 0, 1) := dk_42 (dk_at dksX5_isDigit_0 10 rfl rfl)
theorem dX5_isDigit_11 : decode cX5_isDigit 11 = .ok (.iload_n 1, 1) := dk_27 (dk_at dksX5_isDigit_0 11 rfl rfl)
theorem dX5_isDigit_12 : decode cX5_isDigit 12 = .ok (.invokevirtual 264, 3) := dk_182 1 8 (dk_at dksX5_isDigit_0 12 rfl rfl)
theorem dX5_isDigit_15 : decode cX5_isDigit 15 = .ok (.bipush 57, 2) := dk_16 57 (dk_at dksX5_isDigit_0 15 rfl rfl)
theorem dX5_isDigit_17 : decode cX5_isDigit 17 = .ok (.if_icmp .gt 7, 3) := dk_163 0 7 (dk_at dksX5_isDigit_0 17 rfl rfl)
theorem dX5_isDigit_20 : decode cX5_isDigit 20 = .ok (.iconst 1, 1) := dk_4 (dk_at dksX5_isDigit_0 20 rfl rfl)
theorem dX5_isDigit_21 : decode cX5_isDigit 21 = .ok (.goto 4, 3) := dk_167 0 4 (dk_at dksX5_isDigit_0 21 rfl rfl)
theorem dX5_isDigit_24 : decode cX5_isDigit 24 = .ok (.iconst 0, 1) := dk_3 (dk_at dksX5_isDigit_1 0 rfl rfl)
theorem dX5_isDigit_25 : decode cX5_isDigit 25 = .ok (.ireturn, 1) := dk_172 (dk_at dksX5_isDigit_1 1 rfl rfl)
def dkwX5_readAll_4 : List UInt8 := [182, 1, 92, 42, 16, 59, 182, 1, 82, 167, 255, 208, 177]
abbrev dktX5_readAll_4 : List UInt8 := dkwX5_readAll_4 ++ []
def dkwX5_readAll_3 : List UInt8 := [19, 1, 85, 182, 1, 48, 153, 0, 10, 42, 182, 1, 87, 167, 0, 14, 42, 19, 1, 90, 182, 1, 78, 42]
abbrev dktX5_readAll_3 : List UInt8 := dkwX5_readAll_3 ++ dktX5_readAll_4
def dkwX5_readAll_2 : List UInt8 := [182, 0, 67, 42, 16, 59, 182, 1, 82, 42, 180, 1, 26, 154, 0, 47, 42, 180, 1, 17, 153, 0, 40, 42]
abbrev dktX5_readAll_2 : List UInt8 := dkwX5_readAll_2 ++ dktX5_readAll_3
def dkwX5_readAll_1 : List UInt8 := [61, 42, 3, 27, 182, 1, 74, 62, 42, 4, 16, 30, 182, 1, 74, 54, 4, 42, 27, 28, 29, 21, 4]
abbrev dktX5_readAll_1 : List UInt8 := dkwX5_readAll_1 ++ dktX5_readAll_2
def dkwX5_readAll_0 : List UInt8 := [42, 19, 1, 77, 182, 1, 78, 42, 4, 17, 1, 244, 182, 1, 74, 60, 42, 3, 17, 0, 200, 182, 1, 74]
abbrev dktX5_readAll_0 : List UInt8 := dkwX5_readAll_0 ++ dktX5_readAll_1
theorem dksX5_readAll_0 : cX5_readAll.data.toList.drop 0 = dktX5_readAll_0 := by decide +kernel
theorem dksX5_readAll_1 : cX5_readAll.data.toList.drop 24 = dktX5_readAll_1 := dk_seg dksX5_readAll_0 24 rfl rfl
theorem dksX5_readAll_2 : cX5_readAll.data.toList.drop 47 = dktX5_readAll_2 := dk_seg dksX5_readAll_1 23 rfl rfl
theorem dksX5_readAll_3 : cX5_readAll.data.toList.drop 71 = dktX5_readAll_3 := dk_seg dksX5_readAll_2 24 rfl rfl
theorem dksX5_readAll_4 : cX5_readAll.data.toList.drop 95 = dktX5_readAll_4 := dk_seg dksX5_readAll_3 24 rfl rfl
theorem dX5_readAll_0 : decode cX5_readAll 0 = .ok (.aload_n 0, 1) := dk_42 (dk_at dksX5_readAll_0 0 rfl rfl)
theorem dX5_readAll_1 : decode cX5_readAll 1 = .ok (.ldc_w 333, 3) := dk_19 1 77 (dk_at dksX5_readAll_0 1 rfl rfl)
theorem dX5_readAll_4 : decode cX5_readAll 4 = .ok (.invokevirtual 334, 3) := dk_182 1 78 (dk_at dksX5_readAll_0 4 rfl rfl)
theorem dX5_readAll_7 : decode cX5_readAll 7 = .ok (.aload_n 0, 1) := dk_42 (dk_at dksX5_readAll_0 7 rfl rfl)
theorem dX5_readAll_8 : decode cX5_readAll 8 = .ok (.iconst 1, 1) := dk_4 (dk_at dksX5_readAll_0 8 rfl rfl)
theorem dX5_readAll_9 : decode cX5_readAll 9 = .ok (.sipush 500, 3) := dk_17 1 244 (dk_at dksX5_readAll_0 9 rfl rfl)
theorem dX5_readAll_12 : decode cX5_readAll 12 = .ok (.invokevirtual 330, 3) := dk_182 1 74 (dk_at dksX5_readAll_0 12 rfl rfl)
theorem dX5_readAll_15 : decode cX5_readAll 15 = .ok (.istore_n 1, 1) := dk_60 (dk_at dksX5_readAll_0 15 rfl rfl)
theorem dX5_readAll_16 : decode cX5_readAll 16 = .ok (.aload_n 0, 1) := dk_42 (dk_at dksX5_readAll_0 16 rfl rfl)
theorem dX5_readAll_17 : decode cX5_readAll 17 = .ok (.iconst 0, 1) := dk_3 (dk_at dksX5_readAll_0 17 rfl rfl)
theorem dX5_readAll_18 : decode cX5_readAll 18 = .ok (.sipush 200, 3) := dk_17 0 200 (dk_at dksX5_readAll_0 18 rfl rfl)
theorem dX5_readAll_21 : decode cX5_readAll 21 = .ok (.invokevirtual 330, 3) := dk_182 1 74 (dk_at dksX5_readAll_0 21 rfl rfl)
theorem dX5_readAll_24 : decode cX5_readAll 24 = .ok (.istore_n 2, 1) := dk_61 (dk_at dksX5_readAll_1 0 rfl rfl)
theorem dX5_readAll_25 : decode cX5_readAll 25 = .ok (.aload_n 0, 1) := dk_42 (dk_at dksX5_readAll_1 1 rfl rfl)
theorem dX5_readAll_26 : decode cX5_readAll 26 = .ok (.iconst 0, 1) := dk_3 (dk_at dksX5_readAll_1 2 rfl rfl)
theorem dX5_readAll_27 : decode cX5_readAll 27 = .ok (.iload_n 1, 1) := dk_27 (dk_at dksX5_readAll_1 3 rfl rfl)
theorem dX5_readAll_28 : decode cX5_readAll 28 = .ok (.invokevirtual 330, 3) := dk_182 1 74 (dk_at dksX5_readAll_1 4 rfl rfl)
theorem dX5_readAll_31 : decode cX5_readAll 31 = .ok (.istore_n 3, 1) := dk_62 (dk_at dksX5_readAll_1 7 rfl rfl)
theorem dX5_readAll_32 : decode cX5_readAll 32 = .ok (.aload_n 0, 1) := dk_42 (dk_at dksX5_readAll_1 8 rfl rfl)
theorem dX5_readAll_33 : decode cX5_readAll 33 = .ok (.iconst 1, 1) := dk_4 (dk_at dksX5_readAll_1 9 rfl rfl)
theorem dX5_readAll_34 : decode cX5_readAll 34 = .ok (.bipush 30, 2) := dk_16 30 (dk_at dksX5_readAll_1 10 rfl rfl)
theorem dX5_readAll_36 : decode cX5_readAll 36 = .ok (.invokevirtual 330, 3) := dk_182 1 74 (dk_at dksX5_readAll_1 12 rfl rfl)
theorem dX5_readAll_39 : decode cX5_readAll 39 = .ok (.istore 4, 2) := dk_54 4 (dk_at dksX5_readAll_1 15 rfl rfl)
theorem dX5_readAll_41 : decode cX5_readAll 41 = .ok (.aload_n 0, 1) := dk_42 (dk_at dksX5_readAll_1 17 rfl rfl)
theorem dX5_readAll_42 : decode cX5_readAll 42 = .ok (.iload_n 1, 1) := dk_27 (dk_at dksX5_readAll_1 18 rfl rfl)
theorem dX5_readAll_43 : decode cX5_readAll 43 = .ok (.iload_n 2, 1) := dk_28 (dk_at dksX5_readAll_1 19 rfl rfl)
theorem dX5_readAll_44 : decode cX5_readAll 44 = .ok (.iload_n 3, 1) := dk_29 (dk_at dksX5_readAll_1 20 rfl rfl)
theorem dX5_readAll_45 : decode cX5_readAll 45 = .ok (.iload 4, 2) := dk_21 4 (dk_at dksX5_readAll_1 21 rfl rfl)
theorem dX5_readAll_47 : decode cX5_readAll 47 = .ok (.invokevirtual 67, 3) := dk_182 0 67 (dk_at dksX5_readAll_2 0 rfl rfl)
theorem dX5_readAll_50 : decode cX5_readAll 50 = .ok (.aload_n 0, 1) := dk_42 (dk_at dksX5_readAll_2 3 rfl rfl)
theorem dX5_readAll_51 : decode cX5_readAll 51 = .ok (.bipush 59, 2) := dk_16 59 (dk_at dksX5_readAll_2 4 rfl rfl)
theorem dX5_readAll_53 : decode cX5_readAll 53 = .ok (.invokevirtual 338, 3) := dk_182 1 82 (dk_at dksX5_readAll_2 6 rfl rfl)
theorem dX5_readAll_56 : decode cX5_readAll 56 = .ok (.aload_n 0, 1) := dk_42 (dk_at dksX5_readAll_2 9 rfl rfl)
theorem dX5_readAll_57 : decode cX5_readAll 57 = .ok (.getfield 282, 3) := dk_180 1 26 (dk_at dksX5_readAll_2 10 rfl rfl)
theorem dX5_readAll_60 : decode cX5_readAll 60 = .ok (.ifCond .ne 47, 3) := dk_154 0 47 (dk_at dksX5_readAll_2 13 rfl rfl)
theorem dX5_readAll_63 : decode cX5_readAll 63 = .ok (.aload_n 0, 1) := dk_42 (dk_at dksX5_readAll_2 16 rfl rfl)
theorem dX5_readAll_64 : decode cX5_readAll 64 = .ok (.getfield 273, 3) := dk_180 1 17 (dk_at dksX5_readAll_2 17 rfl rfl)
theorem dX5_readAll_67 : decode cX5_readAll 67 = .ok (.ifCond .eq 40, 3) := dk_153 0 40 (dk_at dksX5_readAll_2 20 rfl rfl)
theorem dX5_readAll_70 : decode cX5_readAll 70 = .ok (.aload_n 0, 1) := dk_42 (dk_at dksX5_readAll_2 23 rfl rfl)
theorem dX5_readAll_71 : decode cX5_readAll 71 = .ok (.ldc_w 341, 3) := dk_19 1 85 (dk_at dksX5_readAll_3 0 rfl rfl)
theorem dX5_readAll_74 : decode cX5_readAll 74 = .ok (.invokevirtual 304, 3) := dk_182 1 48 (dk_at dksX5_readAll_3 3 rfl rfl)
theorem dX5_readAll_77 : decode cX5_readAll 77 = .ok (.ifCond .eq 10, 3) := dk_153 0 10 (dk_at dksX5_readAll_3 6 rfl rfl)
theorem dX5_readAll_80 : decode cX5_readAll 80 = .ok (.aload_n 0, 1) := dk_42 (dk_at dksX5_readAll_3 9 rfl rfl)
theorem dX5_readAll_81 : decode cX5_readAll 81 = .ok (.invokevirtual 343, 3) := dk_182 1 87 (dk_at dksX5_readAll_3 10 rfl rfl)
theorem dX5_readAll_84 : decode cX5_readAll 84 = .ok (.goto 14, 3) := dk_167 0 14 (dk_at dksX5_readAll_3 13 rfl rfl)
theorem dX5_readAll_87 : decode cX5_readAll 87 = .ok (.aload_n 0, 1) := dk_42 (dk_at dksX5_readAll_3 16 rfl rfl)
theorem dX5_readAll_88 : decode cX5_readAll 88 = .ok (.ldc_w 346, 3) := dk_19 1 90 (dk_at dksX5_readAll_3 17 rfl rfl)
theorem dX5_readAll_91 : decode cX5_readAll 91 = .ok (.invokevirtual 334, 3) := dk_182 1 78 (dk_at dksX5_readAll_3 20 rfl rfl)
theorem dX5_readAll_94 : decode cX5_readAll 94 = .ok (.aload_n 0, 1) := dk_42 (dk_at dksX5_readAll_3 23 rfl rfl)
theorem dX5_readAll_95 : decode cX5_readAll 95 = .ok (.invokevirtual 348, 3) := dk_182 1 92 (dk_at dksX5_readAll_4 0 rfl rfl)
theorem dX5_readAll_98 : decode cX5_readAll 98 = .ok (.aload_n 0, 1) := dk_42 (dk_at dksX5_readAll_4 3 rfl rfl)
theorem dX5_readAll_99 : decode cX5_readAll 99 = .ok (.bipush 59, 2) := dk_16 59 (dk_at dksX5_readAll_4 4 rfl rfl)
theorem dX5_readAll_101 : decode cX5_readAll 101 = .ok (.invokevirtual 338, 3) := dk_182 1 82 (dk_at dksX5_readAll_4 6 rfl rfl)
theorem dX5_readAll_104 : decode cX5_readAll 104 = .ok (.goto (-48), 3) := dk_167 255 208 (dk_at dksX5_readAll_4 9 rfl rfl)
theorem dX5_readAll_107 : decode cX5_readAll 107 = .ok (.return_, 1) := dk_177 (dk_at dksX5_readAll_4 12 rfl rfl)
def dkwX5_expectWord_0 : List UInt8 := [42, 42, 43, 182, 1, 48, 4, 182, 1, 52, 42, 182, 1, 56, 177]
abbrev dktX5_expectWord_0 : List UInt8 := dkwX5_expectWord_0 ++ []
theorem dksX5_expectWord_0 : cX5_expectWord.data.toList.drop 0 = dktX5_expectWord_0 := by decide +kernel
theorem dX5_expectWord_0 : decode cX5_expectWord 0 = .ok (.aload_n 0, 1) := dk_42 (dk_at dksX5_expectWord_0 0 rfl rfl)
theorem dX5_expectWord_1 : decode cX5_expectWord 1 = .ok (.aload_n 0, 1) := dk_42 (dk_at dksX5_expectWord_0 1 rfl rfl)
theorem dX5_expectWord_2 : decode cX5_expectWord 2 = .ok (.aload_n 1, 1) := dk_43 (dk_at dksX5_expectWord_0 2 rfl rfl)
theorem dX5_expectWord_3 : decode cX5_expectWord 3 = .ok (.invokevirtual 304, 3) := dk_182 1 48 (dk_at dksX5_expectWord_0 3 rfl rfl)
theorem dX5_expectWord_6 : decode cX5_expectWord 6 = .ok (.iconst 1, 1) := dk_4 (dk_at dksX5_expectWord_0 6 rfl rfl)
theorem dX5_expectWord_7 : decode cX5_expectWord 7 = .ok (.invokevirtual 308, 3) := dk_182 1 52 (dk_at dksX5_expectWord_0 7 rfl rfl)
theorem dX5_expectWord_10 : decode cX5_expectWord 10 = .ok (.aload_n 0, 1) := dk_42 (dk_at dksX5_expectWord_0 10 rfl rfl)
theorem dX5_expectWord_11 : decode cX5_expectWord 11 = .ok (.invokevirtual 312, 3) := dk_182 1 56 (dk_at dksX5_expectWord_0 11 rfl rfl)
theorem dX5_expectWord_14 : decode cX5_expectWord 14 = .ok (.return_, 1) := dk_177 (dk_at dksX5_expectWord_0 14 rfl rfl)
def dkwX5_isWord_3 : List UInt8 := [167, 0, 4, 3, 61, 132, 3, 1, 167, 255, 216, 28, 172]
abbrev dktX5_isWord_3 : List UInt8 := dkwX5_isWord_3 ++ []
def dkwX5_isWord_2 : List UInt8 := [162, 0, 34, 43, 29, 182, 1, 44, 42, 180, 0, 31, 42, 180, 1, 14, 29, 96, 46, 160, 0, 7, 4]
abbrev dktX5_isWord_2 : List UInt8 := dkwX5_isWord_2 ++ dktX5_isWord_3
def dkwX5_isWord_1 : List UInt8 := [180, 1, 14, 100, 160, 0, 7, 4, 167, 0, 4, 3, 61, 3, 62, 28, 153, 0, 42, 29, 43, 182, 1, 41]
abbrev dktX5_isWord_1 : List UInt8 := dkwX5_isWord_1 ++ dktX5_isWord_2
def dkwX5_isWord_0 : List UInt8 := [42, 180, 1, 26, 154, 0, 31, 42, 180, 1, 17, 4, 160, 0, 23, 43, 182, 1, 41, 42, 180, 1, 11, 42]
abbrev dktX5_isWord_0 : List UInt8 := dkwX5_isWord_0 ++ dktX5_isWord_1
theorem dksX5_isWord_0 : cX5_isWord.data.toList.drop 0 = dktX5_isWord_0 := by decide +kernel
theorem dksX5_isWord_1 : cX5_isWord.data.toList.drop 24 = dktX5_isWord_1 := dk_seg dksX5_isWord_0 24 rfl rfl
theorem dksX5_isWord_2 : cX5_isWord.data.toList.drop 48 = dktX5_isWord_2 := dk_seg dksX5_isWord_1 24 rfl rfl
theorem dksX5_isWord_3 : cX5_isWord.data.toList.drop 71 = dktX5_isWord_3 := dk_seg dksX5_isWord_2 23 rfl rfl
theorem dX5_isWord_0 : decode cX5_isWord 0 = .ok (.aload_n 0, 1) := dk_42 (dk_at dksX5_isWord_0 0 rfl rfl)
theorem dX5_isWord_1 : decode cX5_isWord 1 = .ok (.getfield 282, 3) := dk_180 1 26 (dk_at dksX5_isWord_0 1 rfl rfl)
theorem dX5_isWord_4 : decode cX5_isWord 4 = .ok (.ifCond .ne 31, 3) := dk_154 0 31 (dk_at dksX5_isWord_0 4 rfl rfl)
theorem dX5_isWord_7 : decode cX5_isWord 7 = .ok (.aload_n 0, 1) := dk_42 (dk_at dksX5_isWord_0 7 rfl rfl)
theorem dX5_isWord_8 : decode cX5_isWord 8 = .ok (.getfield 273, 3) := dk_180 1 17 (dk_at dksX5_isWord_0 8 rfl rfl)
theorem dX5_isWord_11 : decode cX5_isWord 11 = .ok (.iconst 1, 1) := dk_4 (dk_at dksX5_isWord_0 11 rfl rfl)
theorem dX5_isWord_12 : decode cX5_isWord 12 = .ok (.if_icmp .ne 23, 3) := dk_160 0 23 (dk_at dksX5_isWord_0 12 rfl rfl)
theorem dX5_isWord_15 : decode cX5_isWord 15 = .ok (.aload_n 1, 1) := dk_43 (dk_at dksX5_isWord_0 15 rfl rfl)
theorem dX5_isWord_16 : decode cX5_isWord 16 = .ok (.invokevirtual 297, 3) := dk_182 1 41 (dk_at dksX5_isWord_0 16 rfl rfl)
theorem dX5_isWord_19 : decode cX5_isWord 19 = .ok (.aload_n 0, 1) := dk_42 (dk_at dksX5_isWord_0 19 rfl rfl)
theorem dX5_isWord_20 : decode cX5_isWord 20 = .ok (.getfield 267, 3) := dk_180 1 11 (dk_at dksX5_isWord_0 20 rfl rfl)
theorem dX5_isWord_23 : decode cX5_isWord 23 = .ok (.aload_n 0, 1) := dk_42 (dk_at dksX5_isWord_0 23 rfl rfl)
theorem dX5_isWord_24 : decode cX5_isWord 24 = .ok (.getfield 270, 3) := dk_180 1 14 (dk_at dksX5_isWord_1 0 rfl rfl)
theorem dX5_isWord_27 : decode cX5_isWord 27 = .ok (.isub, 1) := dk_100 (dk_at dksX5_isWord_1 3 rfl rfl)
theorem dX5_isWord_28 : decode cX5_isWord 28 = .ok (.if_icmp .ne 7, 3) := dk_160 0 7 (dk_at dksX5_isWord_1 4 rfl rfl)
theorem dX5_isWord_31 : decode cX5_isWord 31 = .ok (.iconst 1, 1) := dk_4 (dk_at dksX5_isWord_1 7 rfl rfl)
theorem dX5_isWord_32 : decode cX5_isWord 32 = .ok (.goto 4, 3) := dk_167 0 4 (dk_at dksX5_isWord_1 8 rfl rfl)
theorem dX5_isWord_35 : decode cX5_isWord 35 = .ok (.iconst 0, 1) := dk_3 (dk_at dksX5_isWord_1 11 rfl rfl)
theorem dX5_isWord_36 : decode cX5_isWord 36 = .ok (.istore_n 2, 1) := dk_61 (dk_at dksX5_isWord_1 12 rfl rfl)
theorem dX5_isWord_37 : decode cX5_isWord 37 = .ok (.iconst 0, 1) := dk_3 (dk_at dksX5_isWord_1 13 rfl rfl)
theorem dX5_isWord_38 : decode cX5_isWord 38 = .ok (.istore_n 3, 1) := dk_62 (dk_at dksX5_isWord_1 14 rfl rfl)
theorem dX5_isWord_39 : decode cX5_isWord 39 = .ok (.iload_n 2, 1) := dk_28 (dk_at dksX5_isWord_1 15 rfl rfl)
theorem dX5_isWord_40 : decode cX5_isWord 40 = .ok (.ifCond .eq 42, 3) := dk_153 0 42 (dk_at dksX5_isWord_1 16 rfl rfl)
theorem dX5_isWord_43 : decode cX5_isWord 43 = .ok (.iload_n 3, 1) := dk_29 (dk_at dksX5_isWord_1 19 rfl rfl)
theorem dX5_isWord_44 : decode cX5_isWord 44 = .ok (.aload_n 1, 1) := dk_43 (dk_at dksX5_isWord_1 20 rfl rfl)
theorem dX5_isWord_45 : decode cX5_isWord 45 = .ok (.invokevirtual 297, 3) := dk_182 1 41 (dk_at dksX5_isWord_1 21 rfl rfl)
theorem dX5_isWord_48 : decode cX5_isWord 48 = .ok (.if_icmp .ge 34, 3) := dk_162 0 34 (dk_at dksX5_isWord_2 0 rfl rfl)
theorem dX5_isWord_51 : decode cX5_isWord 51 = .ok (.aload_n 1, 1) := dk_43 (dk_at dksX5_isWord_2 3 rfl rfl)
theorem dX5_isWord_52 : decode cX5_isWord 52 = .ok (.iload_n 3, 1) := dk_29 (dk_at dksX5_isWord_2 4 rfl rfl)
theorem dX5_isWord_53 : decode cX5_isWord 53 = .ok (.invokevirtual 300, 3) := dk_182 1 44 (dk_at dksX5_isWord_2 5 rfl rfl)
theorem dX5_isWord_56 : decode cX5_isWord 56 = .ok (.aload_n 0, 1) := dk_42 (dk_at dksX5_isWord_2 8 rfl rfl)
theorem dX5_isWord_57 : decode cX5_isWord 57 = .ok (.getfield 31, 3) := dk_180 0 31 (dk_at dksX5_isWord_2 9 rfl rfl)
theorem dX5_isWord_60 : decode cX5_isWord 60 = .ok (.aload_n 0, 1) := dk_42 (dk_at dksX5_isWord_2 12 rfl rfl)
theorem dX5_isWord_61 : decode cX5_isWord 61 = .ok (.getfield 270, 3) := dk_180 1 14 (dk_at dksX5_isWord_2 13 rfl rfl)
theorem dX5_isWord_64 : decode cX5_isWord 64 = .ok (.iload_n 3, 1) := dk_29 (dk_at dksX5_isWord_2 16 rfl rfl)
theorem dX5_isWord_65 : decode cX5_isWord 65 = .ok (.iadd, 1) := dk_96 (dk_at dksX5_isWord_2 17 rfl rfl)
theorem dX5_isWord_66 : decode cX5_isWord 66 = .ok (.iaload, 1) := dk_46 (dk_at dksX5_isWord_2 18 rfl rfl)
theorem dX5_isWord_67 : decode cX5_isWord 67 = .ok (.if_icmp .ne 7, 3) := dk_160 0 7 (dk_at dksX5_isWord_2 19 rfl rfl)
theorem dX5_isWord_70 : decode cX5_isWord 70 = .ok (.iconst 1, 1) := dk_4 (dk_at dksX5_isWord_2 22 rfl rfl)
theorem dX5_isWord_71 : decode cX5_isWord 71 = .ok (.goto 4, 3) := dk_167 0 4 (dk_at dksX5_isWord_3 0 rfl rfl)
theorem dX5_isWord_74 : decode cX5_isWord 74 = .ok (.iconst 0, 1) := dk_3 (dk_at dksX5_isWord_3 3 rfl rfl)
theorem dX5_isWord_75 : decode cX5_isWord 75 = .ok (.istore_n 2, 1) := dk_61 (dk_at dksX5_isWord_3 4 rfl rfl)
theorem dX5_isWord_76 : decode cX5_isWord 76 = .ok (.iinc 3 1, 3) := dk_132 3 1 (dk_at dksX5_isWord_3 5 rfl rfl)
theorem dX5_isWord_79 : decode cX5_isWord 79 = .ok (.goto (-40), 3) := dk_167 255 216 (dk_at dksX5_isWord_3 8 rfl rfl)
theorem dX5_isWord_82 : decode cX5_isWord 82 = .ok (.iload_n 2, 1) := dk_28 (dk_at dksX5_isWord_3 11 rfl rfl)
theorem dX5_isWord_83 : decode cX5_isWord 83 = .ok (.ireturn, 1) := dk_172 (dk_at dksX5_isWord_3 12 rfl rfl)
def dkwX5_check_0 : List UInt8 := [27, 154, 0, 8, 42, 28, 182, 1, 38, 177]
abbrev dktX5_check_0 : List UInt8 := dkwX5_check_0 ++ []
theorem dksX5_check_0 : cX5_check.data.toList.drop 0 = dktX5_check_0 := by decide +kernel
theorem dX5_check_0 : decode cX5_check 0 = .ok (.iload_n 1, 1) := dk_27 (dk_at dksX5_check_0 0 rfl rfl)
theorem dX5_check_1 : decode cX5_check 1 = .ok (.ifCond .ne 8, 3) := dk_154 0 8 (dk_at dksX5_check_0 1 rfl rfl)
theorem dX5_check_4 : decode cX5_check 4 = .ok (.aload_n 0, 1) := dk_42 (dk_at dksX5_check_0 4 rfl rfl)
theorem dX5_check_5 : decode cX5_check 5 = .ok (.iload_n 2, 1) := dk_28 (dk_at dksX5_check_0 5 rfl rfl)
theorem dX5_check_6 : decode cX5_check 6 = .ok (.invokevirtual 294, 3) := dk_182 1 38 (dk_at dksX5_check_0 6 rfl rfl)
theorem dX5_check_9 : decode cX5_check 9 = .ok (.return_, 1) := dk_177 (dk_at dksX5_check_0 9 rfl rfl)
def dkwX5_flaw_0 : List UInt8 := [42, 180, 1, 26, 154, 0, 16, 42, 27, 181, 1, 26, 42, 42, 180, 1, 14, 181, 1, 35, 177]
abbrev dktX5_flaw_0 : List UInt8 := dkwX5_flaw_0 ++ []
theorem dksX5_flaw_0 : cX5_flaw.data.toList.drop 0 = dktX5_flaw_0 := by decide +kernel
theorem dX5_flaw_0 : decode cX5_flaw 0 = .ok (.aload_n 0, 1) := dk_42 (dk_at dksX5_flaw_0 0 rfl rfl)
theorem dX5_flaw_1 : decode cX5_flaw 1 = .ok (.getfield 282, 3) := dk_180 1 26 (dk_at dksX5_flaw_0 1 rfl rfl)
theorem dX5_flaw_4 : decode cX5_flaw 4 = .ok (.ifCond .ne 16, 3) := dk_154 0 16 (dk_at dksX5_flaw_0 4 rfl rfl)
theorem dX5_flaw_7 : decode cX5_flaw 7 = .ok (.aload_n 0, 1) := dk_42 (dk_at dksX5_flaw_0 7 rfl rfl)
theorem dX5_flaw_8 : decode cX5_flaw 8 = .ok (.iload_n 1, 1) := dk_27 (dk_at dksX5_flaw_0 8 rfl rfl)
theorem dX5_flaw_9 : decode cX5_flaw 9 = .ok (.putfield 282, 3) := dk_181 1 26 (dk_at dksX5_flaw_0 9 rfl rfl)
theorem dX5_flaw_12 : decode cX5_flaw 12 = .ok (.aload_n 0, 1) := dk_42 (dk_at dksX5_flaw_0 12 rfl rfl)
theorem dX5_flaw_13 : decode cX5_flaw 13 = .ok (.aload_n 0, 1) := dk_42 (dk_at dksX5_flaw_0 13 rfl rfl)
theorem dX5_flaw_14 : decode cX5_flaw 14 = .ok (.getfield 270, 3) := dk_180 1 14 (dk_at dksX5_flaw_0 14 rfl rfl)
theorem dX5_flaw_17 : decode cX5_flaw 17 = .ok (.putfield 291, 3) := dk_181 1 35 (dk_at dksX5_flaw_0 17 rfl rfl)
theorem dX5_flaw_20 : decode cX5_flaw 20 = .ok (.return_, 1) := dk_177 (dk_at dksX5_flaw_0 20 rfl rfl)
def dkwX5_advance_0 : List UInt8 := [42, 180, 1, 26, 154, 0, 7, 42, 182, 1, 32, 177]
abbrev dktX5_advance_0 : List UInt8 := dkwX5_advance_0 ++ []
theorem dksX5_advance_0 : cX5_advance.data.toList.drop 0 = dktX5_advance_0 := by decide +kernel
theorem dX5_advance_0 : decode cX5_advance 0 = .ok (.aload_n 0, 1) := dk_42 (dk_at dksX5_advance_0 0 rfl rfl)
theorem dX5_advance_1 : decode cX5_advance 1 = .ok (.getfield 282, 3) := dk_180 1 26 (dk_at dksX5_advance_0 1 rfl rfl)
theorem dX5_advance_4 : decode cX5_advance 4 = .ok (.ifCond .ne 7, 3) := dk_154 0 7 (dk_at dksX5_advance_0 4 rfl rfl)
theorem dX5_advance_7 : decode cX5_advance 7 = .ok (.aload_n 0, 1) := dk_42 (dk_at dksX5_advance_0 7 rfl rfl)
theorem dX5_advance_8 : decode cX5_advance 8 = .ok (.invokevirtual 288, 3) := dk_182 1 32 (dk_at dksX5_advance_0 8 rfl rfl)
theorem dX5_advance_11 : decode cX5_advance 11 = .ok (.return_, 1) := dk_177 (dk_at dksX5_advance_0 11 rfl rfl)
def dkwX5_readNumber_3 : List UInt8 := [167, 0, 4, 27, 172]
abbrev dktX5_readNumber_3 : List UInt8 := dkwX5_readNumber_3 ++ []
def dkwX5_readNumber_2 : List UInt8 := [153, 0, 7, 4, 167, 0, 4, 3, 5, 182, 1, 52, 42, 182, 1, 56, 42, 180, 1, 26, 154, 0, 7, 29]
abbrev dktX5_readNumber_2 : List UInt8 := dkwX5_readNumber_2 ++ dktX5_readNumber_3
def dkwX5_readNumber_1 : List UInt8 := [182, 1, 52, 42, 182, 1, 71, 62, 42, 42, 180, 1, 26, 154, 0, 12, 29, 27, 28, 184, 0, 88]
abbrev dktX5_readNumber_1 : List UInt8 := dkwX5_readNumber_1 ++ dktX5_readNumber_2
def dkwX5_readNumber_0 : List UInt8 := [42, 42, 180, 1, 26, 154, 0, 11, 42, 180, 1, 17, 5, 160, 0, 7, 4, 167, 0, 4, 3, 4]
abbrev dktX5_readNumber_0 : List UInt8 := dkwX5_readNumber_0 ++ dktX5_readNumber_1
theorem dksX5_readNumber_0 : cX5_readNumber.data.toList.drop 0 = dktX5_readNumber_0 := by decide +kernel
theorem dksX5_readNumber_1 : cX5_readNumber.data.toList.drop 22 = dktX5_readNumber_1 := dk_seg dksX5_readNumber_0 22 rfl rfl
theorem dksX5_readNumber_2 : cX5_readNumber.data.toList.drop 44 = dktX5_readNumber_2 := dk_seg dksX5_readNumber_1 22 rfl rfl
theorem dksX5_readNumber_3 : cX5_readNumber.data.toList.drop 68 = dktX5_readNumber_3 := dk_seg dksX5_readNumber_2 24 rfl rfl
theorem dX5_readNumber_0 : decode cX5_readNumber 0 = .ok (.aload_n 0, 1) := dk_42 (dk_at dksX5_readNumber_0 0 rfl rfl)
theorem dX5_readNumber_1 : decode cX5_readNumber 1 = .ok (.aload_n 0, 1) := dk_42 (dk_at dksX5_readNumber_0 1 rfl rfl)
theorem dX5_readNumber_2 : decode cX5_readNumber 2 = .ok (.getfield 282, 3) := dk_180 1 26 (dk_at dksX5_readNumber_0 2 rfl rfl)
theorem dX5_readNumber_5 : decode cX5_readNumber 5 = .ok (.ifCond .ne 11, 3) := dk_154 0 11 (dk_at dksX5_readNumber_0 5 rfl rfl)
theorem dX5_readNumber_8 : decode cX5_readNumber 8 = .ok (.aload_n 0, 1) := dk_42 (dk_at dksX5_readNumber_0 8 rfl rfl)
theorem dX5_readNumber_9 : decode cX5_readNumber 9 = .ok (.getfield 273, 3) := dk_180 1 17 (dk_at dksX5_readNumber_0 9 rfl rfl)
theorem dX5_readNumber_12 : decode cX5_readNumber 12 = .ok (.iconst 2, 1) := dk_5 (dk_at dksX5_readNumber_0 12 rfl rfl)
theorem dX5_readNumber_13 : decode cX5_readNumber 13 = .ok (.if_icmp .ne 7, 3) := dk_160 0 7 (dk_at dksX5_readNumber_0 13 rfl rfl)
theorem dX5_readNumber_16 : decode cX5_readNumber 16 = .ok (.iconst 1, 1) := dk_4 (dk_at dksX5_readNumber_0 16 rfl rfl)
theorem dX5_readNumber_17 : decode cX5_readNumber 17 = .ok (.goto 4, 3) := dk_167 0 4 (dk_at dksX5_readNumber_0 17 rfl rfl)
theorem dX5_readNumber_20 : decode cX5_readNumber 20 = .ok (.iconst 0, 1) := dk_3 (dk_at dksX5_readNumber_0 20 rfl rfl)
theorem dX5_readNumber_21 : decode cX5_readNumber 21 = .ok (.iconst 1, 1) := dk_4 (dk_at dksX5_readNumber_0 21 rfl rfl)
theorem dX5_readNumber_22 : decode cX5_readNumber 22 = .ok (.invokevirtual 308, 3) := dk_182 1 52 (dk_at dksX5_readNumber_1 0 rfl rfl)
theorem dX5_readNumber_25 : decode cX5_readNumber 25 = .ok (.aload_n 0, 1) := dk_42 (dk_at dksX5_readNumber_1 3 rfl rfl)
theorem dX5_readNumber_26 : decode cX5_readNumber 26 = .ok (.invokevirtual 327, 3) := dk_182 1 71 (dk_at dksX5_readNumber_1 4 rfl rfl)
theorem dX5_readNumber_29 : decode cX5_readNumber 29 = .ok (.istore_n 3, 1) := dk_62 (dk_at dksX5_readNumber_1 7 rfl rfl)
theorem dX5_readNumber_30 : decode cX5_readNumber 30 = .ok (.aload_n 0, 1) := dk_42 (dk_at dksX5_readNumber_1 8 rfl rfl)
theorem dX5_readNumber_31 : decode cX5_readNumber 31 = .ok (.aload_n 0, 1) := dk_42 (dk_at dksX5_readNumber_1 9 rfl rfl)
theorem dX5_readNumber_32 : decode cX5_readNumber 32 = .ok (.getfield 282, 3) := dk_180 1 26 (dk_at dksX5_readNumber_1 10 rfl rfl)
theorem dX5_readNumber_35 : decode cX5_readNumber 35 = .ok (.ifCond .ne 12, 3) := dk_154 0 12 (dk_at dksX5_readNumber_1 13 rfl rfl)
theorem dX5_readNumber_38 : decode cX5_readNumber 38 = .ok (.iload_n 3, 1) := dk_29 (dk_at dksX5_readNumber_1 16 rfl rfl)
theorem dX5_readNumber_39 : decode cX5_readNumber 39 = .ok (.iload_n 1, 1) := dk_27 (dk_at dksX5_readNumber_1 17 rfl rfl)
theorem dX5_readNumber_40 : decode cX5_readNumber 40 = .ok (.iload_n 2, 1) := dk_28 (dk_at dksX5_readNumber_1 18 rfl rfl)
theorem dX5_readNumber_41 : decode cX5_readNumber 41 = .ok (.invokestatic 88, 3) := dk_184 0 88 (dk_at dksX5_readNumber_1 19 rfl rfl)
theorem dX5_readNumber_44 : decode cX5_readNumber 44 = .ok (.ifCond .eq 7, 3) := dk_153 0 7 (dk_at dksX5_readNumber_2 0 rfl rfl)
theorem dX5_readNumber_47 : decode cX5_readNumber 47 = .ok (.iconst 1, 1) := dk_4 (dk_at dksX5_readNumber_2 3 rfl rfl)
theorem dX5_readNumber_48 : decode cX5_readNumber 48 = .ok (.goto 4, 3) := dk_167 0 4 (dk_at dksX5_readNumber_2 4 rfl rfl)
theorem dX5_readNumber_51 : decode cX5_readNumber 51 = .ok (.iconst 0, 1) := dk_3 (dk_at dksX5_readNumber_2 7 rfl rfl)
theorem dX5_readNumber_52 : decode cX5_readNumber 52 = .ok (.iconst 2, 1) := dk_5 (dk_at dksX5_readNumber_2 8 rfl rfl)
theorem dX5_readNumber_53 : decode cX5_readNumber 53 = .ok (.invokevirtual 308, 3) := dk_182 1 52 (dk_at dksX5_readNumber_2 9 rfl rfl)
theorem dX5_readNumber_56 : decode cX5_readNumber 56 = .ok (.aload_n 0, 1) := dk_42 (dk_at dksX5_readNumber_2 12 rfl rfl)
theorem dX5_readNumber_57 : decode cX5_readNumber 57 = .ok (.invokevirtual 312, 3) := dk_182 1 56 (dk_at dksX5_readNumber_2 13 rfl rfl)
theorem dX5_readNumber_60 : decode cX5_readNumber 60 = .ok (.aload_n 0, 1) := dk_42 (dk_at dksX5_readNumber_2 16 rfl rfl)
theorem dX5_readNumber_61 : decode cX5_readNumber 61 = .ok (.getfield 282, 3) := dk_180 1 26 (dk_at dksX5_readNumber_2 17 rfl rfl)
theorem dX5_readNumber_64 : decode cX5_readNumber 64 = .ok (.ifCond .ne 7, 3) := dk_154 0 7 (dk_at dksX5_readNumber_2 20 rfl rfl)
theorem dX5_readNumber_67 : decode cX5_readNumber 67 = .ok (.iload_n 3, 1) := dk_29 (dk_at dksX5_readNumber_2 23 rfl rfl)
theorem dX5_readNumber_68 : decode cX5_readNumber 68 = .ok (.goto 4, 3) := dk_167 0 4 (dk_at dksX5_readNumber_3 0 rfl rfl)
theorem dX5_readNumber_71 : decode cX5_readNumber 71 = .ok (.iload_n 1, 1) := dk_27 (dk_at dksX5_readNumber_3 3 rfl rfl)
theorem dX5_readNumber_72 : decode cX5_readNumber 72 = .ok (.ireturn, 1) := dk_172 (dk_at dksX5_readNumber_3 4 rfl rfl)
def dkwX5_value_2 : List UInt8 := [136, 60, 132, 2, 1, 167, 255, 211, 27, 172]
abbrev dktX5_value_2 : List UInt8 := dkwX5_value_2 ++ []
def dkwX5_value_1 : List UInt8 := [20, 1, 62, 20, 1, 64, 27, 133, 105, 42, 180, 0, 31, 28, 46, 133, 97, 20, 1, 66, 101, 184, 1, 68]
abbrev dktX5_value_1 : List UInt8 := dkwX5_value_1 ++ dktX5_value_2
def dkwX5_value_0 : List UInt8 := [3, 60, 42, 180, 1, 14, 61, 28, 42, 180, 1, 11, 162, 0, 43, 42, 180, 1, 17, 5, 160, 0, 35]
abbrev dktX5_value_0 : List UInt8 := dkwX5_value_0 ++ dktX5_value_1
theorem dksX5_value_0 : cX5_value.data.toList.drop 0 = dktX5_value_0 := by decide +kernel
theorem dksX5_value_1 : cX5_value.data.toList.drop 23 = dktX5_value_1 := dk_seg dksX5_value_0 23 rfl rfl
theorem dksX5_value_2 : cX5_value.data.toList.drop 47 = dktX5_value_2 := dk_seg dksX5_value_1 24 rfl rfl
theorem dX5_value_0 : decode cX5_value 0 = .ok (.iconst 0, 1) := dk_3 (dk_at dksX5_value_0 0 rfl rfl)
theorem dX5_value_1 : decode cX5_value 1 = .ok (.istore_n 1, 1) := dk_60 (dk_at dksX5_value_0 1 rfl rfl)
theorem dX5_value_2 : decode cX5_value 2 = .ok (.aload_n 0, 1) := dk_42 (dk_at dksX5_value_0 2 rfl rfl)
theorem dX5_value_3 : decode cX5_value 3 = .ok (.getfield 270, 3) := dk_180 1 14 (dk_at dksX5_value_0 3 rfl rfl)
theorem dX5_value_6 : decode cX5_value 6 = .ok (.istore_n 2, 1) := dk_61 (dk_at dksX5_value_0 6 rfl rfl)
theorem dX5_value_7 : decode cX5_value 7 = .ok (.iload_n 2, 1) := dk_28 (dk_at dksX5_value_0 7 rfl rfl)
theorem dX5_value_8 : decode cX5_value 8 = .ok (.aload_n 0, 1) := dk_42 (dk_at dksX5_value_0 8 rfl rfl)
theorem dX5_value_9 : decode cX5_value 9 = .ok (.getfield 267, 3) := dk_180 1 11 (dk_at dksX5_value_0 9 rfl rfl)
theorem dX5_value_12 : decode cX5_value 12 = .ok (.if_icmp .ge 43, 3) := dk_162 0 43 (dk_at dksX5_value_0 12 rfl rfl)
theorem dX5_value_15 : decode cX5_value 15 = .ok (.aload_n 0, 1) := dk_42 (dk_at dksX5_value_0 15 rfl rfl)
theorem dX5_value_16 : decode cX5_value 16 = .ok (.getfield 273, 3) := dk_180 1 17 (dk_at dksX5_value_0 16 rfl rfl)
theorem dX5_value_19 : decode cX5_value 19 = .ok (.iconst 2, 1) := dk_5 (dk_at dksX5_value_0 19 rfl rfl)
theorem dX5_value_20 : decode cX5_value 20 = .ok (.if_icmp .ne 35, 3) := dk_160 0 35 (dk_at dksX5_value_0 20 rfl rfl)
theorem dX5_value_23 : decode cX5_value 23 = .ok (.ldc2_w 318, 3) := dk_20 1 62 (dk_at dksX5_value_1 0 rfl rfl)
theorem dX5_value_26 : decode cX5_value 26 = .ok (.ldc2_w 320, 3) := dk_20 1 64 (dk_at dksX5_value_1 3 rfl rfl)
theorem dX5_value_29 : decode cX5_value 29 = .ok (.iload_n 1, 1) := dk_27 (dk_at dksX5_value_1 6 rfl rfl)
theorem dX5_value_30 : decode cX5_value 30 = .ok (.i2l, 1) := dk_133 (dk_at dksX5_value_1 7 rfl rfl)
theorem dX5_value_31 : decode cX5_value 31 = .ok (.lmul, 1) := dk_105 (dk_at dksX5_value_1 8 rfl rfl)
theorem dX5_value_32 : decode cX5_value 32 = .ok (.aload_n 0, 1) := dk_42 (dk_at dksX5_value_1 9 rfl rfl)
theorem dX5_value_33 : decode cX5_value 33 = .ok (.getfield 31, 3) := dk_180 0 31 (dk_at dksX5_value_1 10 rfl rfl)
theorem dX5_value_36 : decode cX5_value 36 = .ok (.iload_n 2, 1) := dk_28 (dk_at dksX5_value_1 13 rfl rfl)
theorem dX5_value_37 : decode cX5_value 37 = .ok (.iaload, 1) := dk_46 (dk_at dksX5_value_1 14 rfl rfl)
theorem dX5_value_38 : decode cX5_value 38 = .ok (.i2l, 1) := dk_133 (dk_at dksX5_value_1 15 rfl rfl)
theorem dX5_value_39 : decode cX5_value 39 = .ok (.ladd, 1) := dk_97 (dk_at dksX5_value_1 16 rfl rfl)
theorem dX5_value_40 : decode cX5_value 40 = .ok (.ldc2_w 322, 3) := dk_20 1 66 (dk_at dksX5_value_1 17 rfl rfl)
theorem dX5_value_43 : decode cX5_value 43 = .ok (.lsub, 1) := dk_101 (dk_at dksX5_value_1 20 rfl rfl)
theorem dX5_value_44 : decode cX5_value 44 = .ok (.invokestatic 324, 3) := dk_184 1 68 (dk_at dksX5_value_1 21 rfl rfl)
theorem dX5_value_47 : decode cX5_value 47 = .ok (.l2i, 1) := dk_136 (dk_at dksX5_value_2 0 rfl rfl)
theorem dX5_value_48 : decode cX5_value 48 = .ok (.istore_n 1, 1) := dk_60 (dk_at dksX5_value_2 1 rfl rfl)
theorem dX5_value_49 : decode cX5_value 49 = .ok (.iinc 2 1, 3) := dk_132 2 1 (dk_at dksX5_value_2 2 rfl rfl)
theorem dX5_value_52 : decode cX5_value 52 = .ok (.goto (-45), 3) := dk_167 255 211 (dk_at dksX5_value_2 5 rfl rfl)
theorem dX5_value_55 : decode cX5_value 55 = .ok (.iload_n 1, 1) := dk_27 (dk_at dksX5_value_2 8 rfl rfl)
theorem dX5_value_56 : decode cX5_value 56 = .ok (.ireturn, 1) := dk_172 (dk_at dksX5_value_2 9 rfl rfl)
def dkwX5_expect_0 : List UInt8 := [42, 42, 27, 182, 1, 59, 4, 182, 1, 52, 42, 182, 1, 56, 177]
abbrev dktX5_expect_0 : List UInt8 := dkwX5_expect_0 ++ []
theorem dksX5_expect_0 : cX5_expect.data.toList.drop 0 = dktX5_expect_0 := by decide +kernel
theorem dX5_expect_0 : decode cX5_expect 0 = .ok (.aload_n 0, 1) := dk_42 (dk_at dksX5_expect_0 0 rfl rfl)
theorem dX5_expect_1 : decode cX5_expect 1 = .ok (.aload_n 0, 1) := dk_42 (dk_at dksX5_expect_0 1 rfl rfl)
theorem dX5_expect_2 : decode cX5_expect 2 = .ok (.iload_n 1, 1) := dk_27 (dk_at dksX5_expect_0 2 rfl rfl)
theorem dX5_expect_3 : decode cX5_expect 3 = .ok (.invokevirtual 315, 3) := dk_182 1 59 (dk_at dksX5_expect_0 3 rfl rfl)
theorem dX5_expect_6 : decode cX5_expect 6 = .ok (.iconst 1, 1) := dk_4 (dk_at dksX5_expect_0 6 rfl rfl)
theorem dX5_expect_7 : decode cX5_expect 7 = .ok (.invokevirtual 308, 3) := dk_182 1 52 (dk_at dksX5_expect_0 7 rfl rfl)
theorem dX5_expect_10 : decode cX5_expect 10 = .ok (.aload_n 0, 1) := dk_42 (dk_at dksX5_expect_0 10 rfl rfl)
theorem dX5_expect_11 : decode cX5_expect 11 = .ok (.invokevirtual 312, 3) := dk_182 1 56 (dk_at dksX5_expect_0 11 rfl rfl)
theorem dX5_expect_14 : decode cX5_expect 14 = .ok (.return_, 1) := dk_177 (dk_at dksX5_expect_0 14 rfl rfl)
def dkwX5_isSymbol_1 : List UInt8 := [27, 160, 0, 7, 4, 167, 0, 4, 3, 172]
abbrev dktX5_isSymbol_1 : List UInt8 := dkwX5_isSymbol_1 ++ []
def dkwX5_isSymbol_0 : List UInt8 := [42, 180, 1, 26, 154, 0, 28, 42, 180, 1, 17, 6, 160, 0, 20, 42, 180, 0, 31, 42, 180, 1, 14, 46]
abbrev dktX5_isSymbol_0 : List UInt8 := dkwX5_isSymbol_0 ++ dktX5_isSymbol_1
theorem dksX5_isSymbol_0 : cX5_isSymbol.data.toList.drop 0 = dktX5_isSymbol_0 := by decide +kernel
theorem dksX5_isSymbol_1 : cX5_isSymbol.data.toList.drop 24 = dktX5_isSymbol_1 := dk_seg dksX5_isSymbol_0 24 rfl rfl
theorem dX5_isSymbol_0 : decode cX5_isSymbol 0 = .ok (.aload_n 0, 1) := dk_42 (dk_at dksX5_isSymbol_0 0 rfl rfl)
theorem dX5_isSymbol_1 : decode cX5_isSymbol 1 = .ok (.getfield 282, 3) := dk_180 1 26 (dk_at dksX5_isSymbol_0 1 rfl rfl)
theorem dX5_isSymbol_4 : decode cX5_isSymbol 4 = .ok (.ifCond .ne 28, 3) := dk_154 0 28 (dk_at dksX5_isSymbol_0 4 rfl rfl)
theorem dX5_isSymbol_7 : decode cX5_isSymbol 7 = .ok (.aload_n 0, 1) := dk_42 (dk_at dksX5_isSymbol_0 7 rfl rfl)
theorem dX5_isSymbol_8 : decode cX5_isSymbol 8 = .ok (.getfield 273, 3) := dk_180 1 17 (dk_at dksX5_isSymbol_0 8 rfl rfl)
theorem dX5_isSymbol_11 : decode cX5_isSymbol 11 = .ok (.iconst 3, 1) := dk_6 (dk_at dksX5_isSymbol_0 11 rfl rfl)
theorem dX5_isSymbol_12 : decode cX5_isSymbol 12 = .ok (.if_icmp .ne 20, 3) := dk_160 0 20 (dk_at dksX5_isSymbol_0 12 rfl rfl)
theorem dX5_isSymbol_15 : decode cX5_isSymbol 15 = .ok (.aload_n 0, 1) := dk_42 (dk_at dksX5_isSymbol_0 15 rfl rfl)
theorem dX5_isSymbol_16 : decode cX5_isSymbol 16 = .ok (.getfield 31, 3) := dk_180 0 31 (dk_at dksX5_isSymbol_0 16 rfl rfl)
theorem dX5_isSymbol_19 : decode cX5_isSymbol 19 = .ok (.aload_n 0, 1) := dk_42 (dk_at dksX5_isSymbol_0 19 rfl rfl)
theorem dX5_isSymbol_20 : decode cX5_isSymbol 20 = .ok (.getfield 270, 3) := dk_180 1 14 (dk_at dksX5_isSymbol_0 20 rfl rfl)
theorem dX5_isSymbol_23 : decode cX5_isSymbol 23 = .ok (.iaload, 1) := dk_46 (dk_at dksX5_isSymbol_0 23 rfl rfl)
theorem dX5_isSymbol_24 : decode cX5_isSymbol 24 = .ok (.iload_n 1, 1) := dk_27 (dk_at dksX5_isSymbol_1 0 rfl rfl)
theorem dX5_isSymbol_25 : decode cX5_isSymbol 25 = .ok (.if_icmp .ne 7, 3) := dk_160 0 7 (dk_at dksX5_isSymbol_1 1 rfl rfl)
theorem dX5_isSymbol_28 : decode cX5_isSymbol 28 = .ok (.iconst 1, 1) := dk_4 (dk_at dksX5_isSymbol_1 4 rfl rfl)
theorem dX5_isSymbol_29 : decode cX5_isSymbol 29 = .ok (.goto 4, 3) := dk_167 0 4 (dk_at dksX5_isSymbol_1 5 rfl rfl)
theorem dX5_isSymbol_32 : decode cX5_isSymbol 32 = .ok (.iconst 0, 1) := dk_3 (dk_at dksX5_isSymbol_1 8 rfl rfl)
theorem dX5_isSymbol_33 : decode cX5_isSymbol 33 = .ok (.ireturn, 1) := dk_172 (dk_at dksX5_isSymbol_1 9 rfl rfl)
def dkwX5_readClient_4 : List UInt8 := [182, 0, 175, 54, 4, 177]
abbrev dktX5_readClient_4 : List UInt8 := dkwX5_readClient_4 ++ []
def dkwX5_readClient_3 : List UInt8 := [180, 0, 13, 29, 4, 184, 0, 85, 28, 79, 42, 180, 0, 13, 6, 92, 46, 4, 96, 79, 42, 29]
abbrev dktX5_readClient_3 : List UInt8 := dkwX5_readClient_3 ++ dktX5_readClient_4
def dkwX5_readClient_2 : List UInt8 := [154, 0, 49, 42, 180, 0, 13, 6, 46, 62, 42, 180, 0, 13, 29, 3, 184, 0, 85, 27, 79, 42]
abbrev dktX5_readClient_2 : List UInt8 := dkwX5_readClient_2 ++ dktX5_readClient_3
def dkwX5_readClient_1 : List UInt8 := [182, 1, 56, 42, 4, 16, 48, 182, 1, 74, 60, 42, 3, 27, 4, 100, 182, 1, 74, 61, 42, 180, 1, 26]
abbrev dktX5_readClient_1 : List UInt8 := dkwX5_readClient_1 ++ dktX5_readClient_2
def dkwX5_readClient_0 : List UInt8 := [42, 42, 180, 0, 13, 6, 46, 16, 8, 162, 0, 7, 4, 167, 0, 4, 3, 6, 182, 1, 52, 42]
abbrev dktX5_readClient_0 : List UInt8 := dkwX5_readClient_0 ++ dktX5_readClient_1
theorem dksX5_readClient_0 : cX5_readClient.data.toList.drop 0 = dktX5_readClient_0 := by decide +kernel
theorem dksX5_readClient_1 : cX5_readClient.data.toList.drop 22 = dktX5_readClient_1 := dk_seg dksX5_readClient_0 22 rfl rfl
theorem dksX5_readClient_2 : cX5_readClient.data.toList.drop 46 = dktX5_readClient_2 := dk_seg dksX5_readClient_1 24 rfl rfl
theorem dksX5_readClient_3 : cX5_readClient.data.toList.drop 68 = dktX5_readClient_3 := dk_seg dksX5_readClient_2 22 rfl rfl
theorem dksX5_readClient_4 : cX5_readClient.data.toList.drop 90 = dktX5_readClient_4 := dk_seg dksX5_readClient_3 22 rfl rfl
theorem dX5_readClient_0 : decode cX5_readClient 0 = .ok (.aload_n 0, 1) := dk_42 (dk_at dksX5_readClient_0 0 rfl rfl)
theorem dX5_readClient_1 : decode cX5_readClient 1 = .ok (.aload_n 0, 1) := dk_42 (dk_at dksX5_readClient_0 1 rfl rfl)
theorem dX5_readClient_2 : decode cX5_readClient 2 = .ok (.getfield 13, 3) := dk_180 0 13 (dk_at dksX5_readClient_0 2 rfl rfl)
theorem dX5_readClient_5 : decode cX5_readClient 5 = .ok (.iconst 3, 1) := dk_6 (dk_at dksX5_readClient_0 5 rfl rfl)
theorem dX5_readClient_6 : decode cX5_readClient 6 = .ok (.iaload, 1) := dk_46 (dk_at dksX5_readClient_0 6 rfl rfl)
theorem dX5_readClient_7 : decode cX5_readClient 7 = .ok (.bipush 8, 2) := dk_16 8 (dk_at dksX5_readClient_0 7 rfl rfl)
theorem dX5_readClient_9 : decode cX5_readClient 9 = .ok (.if_icmp .ge 7, 3) := dk_162 0 7 (dk_at dksX5_readClient_0 9 rfl rfl)
theorem dX5_readClient_12 : decode cX5_readClient 12 = .ok (.iconst 1, 1) := dk_4 (dk_at dksX5_readClient_0 12 rfl rfl)
theorem dX5_readClient_13 : decode cX5_readClient 13 = .ok (.goto 4, 3) := dk_167 0 4 (dk_at dksX5_readClient_0 13 rfl rfl)
theorem dX5_readClient_16 : decode cX5_readClient 16 = .ok (.iconst 0, 1) := dk_3 (dk_at dksX5_readClient_0 16 rfl rfl)
theorem dX5_readClient_17 : decode cX5_readClient 17 = .ok (.iconst 3, 1) := dk_6 (dk_at dksX5_readClient_0 17 rfl rfl)
theorem dX5_readClient_18 : decode cX5_readClient 18 = .ok (.invokevirtual 308, 3) := dk_182 1 52 (dk_at dksX5_readClient_0 18 rfl rfl)
theorem dX5_readClient_21 : decode cX5_readClient 21 = .ok (.aload_n 0, 1) := dk_42 (dk_at dksX5_readClient_0 21 rfl rfl)
theorem dX5_readClient_22 : decode cX5_readClient 22 = .ok (.invokevirtual 312, 3) := dk_182 1 56 (dk_at dksX5_readClient_1 0 rfl rfl)
theorem dX5_readClient_25 : decode cX5_readClient 25 = .ok (.aload_n 0, 1) := dk_42 (dk_at dksX5_readClient_1 3 rfl rfl)
theorem dX5_readClient_26 : decode cX5_readClient 26 = .ok (.iconst 1, 1) := dk_4 (dk_at dksX5_readClient_1 4 rfl rfl)
theorem dX5_readClient_27 : decode cX5_readClient 27 = .ok (.bipush 48, 2) := dk_16 48 (dk_at dksX5_readClient_1 5 rfl rfl)
theorem dX5_readClient_29 : decode cX5_readClient 29 = .ok (.invokevirtual 330, 3) := dk_182 1 74 (dk_at dksX5_readClient_1 7 rfl rfl)
theorem dX5_readClient_32 : decode cX5_readClient 32 = .ok (.istore_n 1, 1) := dk_60 (dk_at dksX5_readClient_1 10 rfl rfl)
theorem dX5_readClient_33 : decode cX5_readClient 33 = .ok (.aload_n 0, 1) := dk_42 (dk_at dksX5_readClient_1 11 rfl rfl)
theorem dX5_readClient_34 : decode cX5_readClient 34 = .ok (.iconst 0, 1) := dk_3 (dk_at dksX5_readClient_1 12 rfl rfl)
theorem dX5_readClient_35 : decode cX5_readClient 35 = .ok (.iload_n 1, 1) := dk_27 (dk_at dksX5_readClient_1 13 rfl rfl)
theorem dX5_readClient_36 : decode cX5_readClient 36 = .ok (.iconst 1, 1) := dk_4 (dk_at dksX5_readClient_1 14 rfl rfl)
theorem dX5_readClient_37 : decode cX5_readClient 37 = .ok (.isub, 1) := dk_100 (dk_at dksX5_readClient_1 15 rfl rfl)
theorem dX5_readClient_38 : decode cX5_readClient 38 = .ok (.invokevirtual 330, 3) := dk_182 1 74 (dk_at dksX5_readClient_1 16 rfl rfl)
theorem dX5_readClient_41 : decode cX5_readClient 41 = .ok (.istore_n 2, 1) := dk_61 (dk_at dksX5_readClient_1 19 rfl rfl)
theorem dX5_readClient_42 : decode cX5_readClient 42 = .ok (.aload_n 0, 1) := dk_42 (dk_at dksX5_readClient_1 20 rfl rfl)
theorem dX5_readClient_43 : decode cX5_readClient 43 = .ok (.getfield 282, 3) := dk_180 1 26 (dk_at dksX5_readClient_1 21 rfl rfl)
theorem dX5_readClient_46 : decode cX5_readClient 46 = .ok (.ifCond .ne 49, 3) := dk_154 0 49 (dk_at dksX5_readClient_2 0 rfl rfl)
theorem dX5_readClient_49 : decode cX5_readClient 49 = .ok (.aload_n 0, 1) := dk_42 (dk_at dksX5_readClient_2 3 rfl rfl)
theorem dX5_readClient_50 : decode cX5_readClient 50 = .ok (.getfield 13, 3) := dk_180 0 13 (dk_at dksX5_readClient_2 4 rfl rfl)
theorem dX5_readClient_53 : decode cX5_readClient 53 = .ok (.iconst 3, 1) := dk_6 (dk_at dksX5_readClient_2 7 rfl rfl)
theorem dX5_readClient_54 : decode cX5_readClient 54 = .ok (.iaload, 1) := dk_46 (dk_at dksX5_readClient_2 8 rfl rfl)
theorem dX5_readClient_55 : decode cX5_readClient 55 = .ok (.istore_n 3, 1) := dk_62 (dk_at dksX5_readClient_2 9 rfl rfl)
theorem dX5_readClient_56 : decode cX5_readClient 56 = .ok (.aload_n 0, 1) := dk_42 (dk_at dksX5_readClient_2 10 rfl rfl)
theorem dX5_readClient_57 : decode cX5_readClient 57 = .ok (.getfield 13, 3) := dk_180 0 13 (dk_at dksX5_readClient_2 11 rfl rfl)
theorem dX5_readClient_60 : decode cX5_readClient 60 = .ok (.iload_n 3, 1) := dk_29 (dk_at dksX5_readClient_2 14 rfl rfl)
theorem dX5_readClient_61 : decode cX5_readClient 61 = .ok (.iconst 0, 1) := dk_3 (dk_at dksX5_readClient_2 15 rfl rfl)
theorem dX5_readClient_62 : decode cX5_readClient 62 = .ok (.invokestatic 85, 3) := dk_184 0 85 (dk_at dksX5_readClient_2 16 rfl rfl)
theorem dX5_readClient_65 : decode cX5_readClient 65 = .ok (.iload_n 1, 1) := dk_27 (dk_at dksX5_readClient_2 19 rfl rfl)
theorem dX5_readClient_66 : decode cX5_readClient 66 = .ok (.iastore, 1) := dk_79 (dk_at dksX5_readClient_2 20 rfl rfl)
theorem dX5_readClient_67 : decode cX5_readClient 67 = .ok (.aload_n 0, 1) := dk_42 (dk_at dksX5_readClient_2 21 rfl rfl)
theorem dX5_readClient_68 : decode cX5_readClient 68 = .ok (.getfield 13, 3) := dk_180 0 13 (dk_at dksX5_readClient_3 0 rfl rfl)
theorem dX5_readClient_71 : decode cX5_readClient 71 = .ok (.iload_n 3, 1) := dk_29 (dk_at dksX5_readClient_3 3 rfl rfl)
theorem dX5_readClient_72 : decode cX5_readClient 72 = .ok (.iconst 1, 1) := dk_4 (dk_at dksX5_readClient_3 4 rfl rfl)
theorem dX5_readClient_73 : decode cX5_readClient 73 = .ok (.invokestatic 85, 3) := dk_184 0 85 (dk_at dksX5_readClient_3 5 rfl rfl)
theorem dX5_readClient_76 : decode cX5_readClient 76 = .ok (.iload_n 2, 1) := dk_28 (dk_at dksX5_readClient_3 8 rfl rfl)
theorem dX5_readClient_77 : decode cX5_readClient 77 = .ok (.iastore, 1) := dk_79 (dk_at dksX5_readClient_3 9 rfl rfl)
theorem dX5_readClient_78 : decode cX5_readClient 78 = .ok (.aload_n 0, 1) := dk_42 (dk_at dksX5_readClient_3 10 rfl rfl)
theorem dX5_readClient_79 : decode cX5_readClient 79 = .ok (.getfield 13, 3) := dk_180 0 13 (dk_at dksX5_readClient_3 11 rfl rfl)
theorem dX5_readClient_82 : decode cX5_readClient 82 = .ok (.iconst 3, 1) := dk_6 (dk_at dksX5_readClient_3 14 rfl rfl)
theorem dX5_readClient_83 : decode cX5_readClient 83 = .ok (.dup2, 1) := dk_92 (dk_at dksX5_readClient_3 15 rfl rfl)
theorem dX5_readClient_84 : decode cX5_readClient 84 = .ok (.iaload, 1) := dk_46 (dk_at dksX5_readClient_3 16 rfl rfl)
theorem dX5_readClient_85 : decode cX5_readClient 85 = .ok (.iconst 1, 1) := dk_4 (dk_at dksX5_readClient_3 17 rfl rfl)
theorem dX5_readClient_86 : decode cX5_readClient 86 = .ok (.iadd, 1) := dk_96 (dk_at dksX5_readClient_3 18 rfl rfl)
theorem dX5_readClient_87 : decode cX5_readClient 87 = .ok (.iastore, 1) := dk_79 (dk_at dksX5_readClient_3 19 rfl rfl)
theorem dX5_readClient_88 : decode cX5_readClient 88 = .ok (.aload_n 0, 1) := dk_42 (dk_at dksX5_readClient_3 20 rfl rfl)
theorem dX5_readClient_89 : decode cX5_readClient 89 = .ok (.iload_n 3, 1) := dk_29 (dk_at dksX5_readClient_3 21 rfl rfl)
theorem dX5_readClient_90 : decode cX5_readClient 90 = .ok (.invokevirtual 175, 3) := dk_182 0 175 (dk_at dksX5_readClient_4 0 rfl rfl)
theorem dX5_readClient_93 : decode cX5_readClient 93 = .ok (.istore 4, 2) := dk_54 4 (dk_at dksX5_readClient_4 3 rfl rfl)
theorem dX5_readClient_95 : decode cX5_readClient 95 = .ok (.return_, 1) := dk_177 (dk_at dksX5_readClient_4 5 rfl rfl)
def dkwX5_readRecords_5 : List UInt8 := [132, 2, 1, 167, 255, 244, 42, 182, 1, 56, 177]
abbrev dktX5_readRecords_5 : List UInt8 := dkwX5_readRecords_5 ++ []
def dkwX5_readRecords_4 : List UInt8 := [153, 0, 7, 3, 167, 0, 7, 42, 182, 1, 71, 60, 3, 61, 28, 27, 162, 0, 13, 42, 182, 0, 239]
abbrev dktX5_readRecords_4 : List UInt8 := dkwX5_readRecords_4 ++ dktX5_readRecords_5
def dkwX5_readRecords_3 : List UInt8 := [182, 1, 71, 96, 16, 30, 163, 0, 7, 4, 167, 0, 4, 3, 6, 182, 1, 52, 42, 180, 1, 26]
abbrev dktX5_readRecords_3 : List UInt8 := dkwX5_readRecords_3 ++ dktX5_readRecords_4
def dkwX5_readRecords_2 : List UInt8 := [4, 167, 0, 4, 3, 5, 182, 1, 52, 42, 42, 180, 1, 26, 154, 0, 19, 42, 180, 0, 13, 5, 46, 42]
abbrev dktX5_readRecords_2 : List UInt8 := dkwX5_readRecords_2 ++ dktX5_readRecords_3
def dkwX5_readRecords_1 : List UInt8 := [182, 1, 52, 42, 42, 180, 1, 26, 154, 0, 16, 42, 182, 1, 71, 4, 16, 30, 184, 0, 88, 153, 0, 7]
abbrev dktX5_readRecords_1 : List UInt8 := dkwX5_readRecords_1 ++ dktX5_readRecords_2
def dkwX5_readRecords_0 : List UInt8 := [42, 42, 180, 1, 26, 154, 0, 11, 42, 180, 1, 17, 5, 160, 0, 7, 4, 167, 0, 4, 3, 4]
abbrev dktX5_readRecords_0 : List UInt8 := dkwX5_readRecords_0 ++ dktX5_readRecords_1
theorem dksX5_readRecords_0 : cX5_readRecords.data.toList.drop 0 = dktX5_readRecords_0 := by decide +kernel
theorem dksX5_readRecords_1 : cX5_readRecords.data.toList.drop 22 = dktX5_readRecords_1 := dk_seg dksX5_readRecords_0 22 rfl rfl
theorem dksX5_readRecords_2 : cX5_readRecords.data.toList.drop 46 = dktX5_readRecords_2 := dk_seg dksX5_readRecords_1 24 rfl rfl
theorem dksX5_readRecords_3 : cX5_readRecords.data.toList.drop 70 = dktX5_readRecords_3 := dk_seg dksX5_readRecords_2 24 rfl rfl
theorem dksX5_readRecords_4 : cX5_readRecords.data.toList.drop 92 = dktX5_readRecords_4 := dk_seg dksX5_readRecords_3 22 rfl rfl
theorem dksX5_readRecords_5 : cX5_readRecords.data.toList.drop 115 = dktX5_readRecords_5 := dk_seg dksX5_readRecords_4 23 rfl rfl
theorem dX5_readRecords_0 : decode cX5_readRecords 0 = .ok (.aload_n 0, 1) := dk_42 (dk_at dksX5_readRecords_0 0 rfl rfl)
theorem dX5_readRecords_1 : decode cX5_readRecords 1 = .ok (.aload_n 0, 1) := dk_42 (dk_at dksX5_readRecords_0 1 rfl rfl)
theorem dX5_readRecords_2 : decode cX5_readRecords 2 = .ok (.getfield 282, 3) := dk_180 1 26 (dk_at dksX5_readRecords_0 2 rfl rfl)
theorem dX5_readRecords_5 : decode cX5_readRecords 5 = .ok (.ifCond .ne 11, 3) := dk_154 0 11 (dk_at dksX5_readRecords_0 5 rfl rfl)
theorem dX5_readRecords_8 : decode cX5_readRecords 8 = .ok (.aload_n 0, 1) := dk_42 (dk_at dksX5_readRecords_0 8 rfl rfl)
theorem dX5_readRecords_9 : decode cX5_readRecords 9 = .ok (.getfield 273, 3) := dk_180 1 17 (dk_at dksX5_readRecords_0 9 rfl rfl)
theorem dX5_readRecords_12 : decode cX5_readRecords 12 = .ok (.iconst 2, 1) := dk_5 (dk_at dksX5_readRecords_0 12 rfl rfl)
theorem dX5_readRecords_13 : decode cX5_readRecords 13 = .ok (.if_icmp .ne 7, 3) := dk_160 0 7 (dk_at dksX5_readRecords_0 13 rfl rfl)
theorem dX5_readRecords_16 : decode cX5_readRecords 16 = .ok (.iconst 1, 1) := dk_4 (dk_at dksX5_readRecords_0 16 rfl rfl)
theorem dX5_readRecords_17 : decode cX5_readRecords 17 = .ok (.goto 4, 3) := dk_167 0 4 (dk_at dksX5_readRecords_0 17 rfl rfl)
theorem dX5_readRecords_20 : decode cX5_readRecords 20 = .ok (.iconst 0, 1) := dk_3 (dk_at dksX5_readRecords_0 20 rfl rfl)
theorem dX5_readRecords_21 : decode cX5_readRecords 21 = .ok (.iconst 1, 1) := dk_4 (dk_at dksX5_readRecords_0 21 rfl rfl)
theorem dX5_readRecords_22 : decode cX5_readRecords 22 = .ok (.invokevirtual 308, 3) := dk_182 1 52 (dk_at dksX5_readRecords_1 0 rfl rfl)
theorem dX5_readRecords_25 : decode cX5_readRecords 25 = .ok (.aload_n 0, 1) := dk_42 (dk_at dksX5_readRecords_1 3 rfl rfl)
theorem dX5_readRecords_26 : decode cX5_readRecords 26 = .ok (.aload_n 0, 1) := dk_42 (dk_at dksX5_readRecords_1 4 rfl rfl)
theorem dX5_readRecords_27 : decode cX5_readRecords 27 = .ok (.getfield 282, 3) := dk_180 1 26 (dk_at dksX5_readRecords_1 5 rfl rfl)
theorem dX5_readRecords_30 : decode cX5_readRecords 30 = .ok (.ifCond .ne 16, 3) := dk_154 0 16 (dk_at dksX5_readRecords_1 8 rfl rfl)
theorem dX5_readRecords_33 : decode cX5_readRecords 33 = .ok (.aload_n 0, 1) := dk_42 (dk_at dksX5_readRecords_1 11 rfl rfl)
theorem dX5_readRecords_34 : decode cX5_readRecords 34 = .ok (.invokevirtual 327, 3) := dk_182 1 71 (dk_at dksX5_readRecords_1 12 rfl rfl)
theorem dX5_readRecords_37 : decode cX5_readRecords 37 = .ok (.iconst 1, 1) := dk_4 (dk_at dksX5_readRecords_1 15 rfl rfl)
theorem dX5_readRecords_38 : decode cX5_readRecords 38 = .ok (.bipush 30, 2) := dk_16 30 (dk_at dksX5_readRecords_1 16 rfl rfl)
theorem dX5_readRecords_40 : decode cX5_readRecords 40 = .ok (.invokestatic 88, 3) := dk_184 0 88 (dk_at dksX5_readRecords_1 18 rfl rfl)
theorem dX5_readRecords_43 : decode cX5_readRecords 43 = .ok (.ifCond .eq 7, 3) := dk_153 0 7 (dk_at dksX5_readRecords_1 21 rfl rfl)
theorem dX5_readRecords_46 : decode cX5_readRecords 46 = .ok (.iconst 1, 1) := dk_4 (dk_at dksX5_readRecords_2 0 rfl rfl)
theorem dX5_readRecords_47 : decode cX5_readRecords 47 = .ok (.goto 4, 3) := dk_167 0 4 (dk_at dksX5_readRecords_2 1 rfl rfl)
theorem dX5_readRecords_50 : decode cX5_readRecords 50 = .ok (.iconst 0, 1) := dk_3 (dk_at dksX5_readRecords_2 4 rfl rfl)
theorem dX5_readRecords_51 : decode cX5_readRecords 51 = .ok (.iconst 2, 1) := dk_5 (dk_at dksX5_readRecords_2 5 rfl rfl)
theorem dX5_readRecords_52 : decode cX5_readRecords 52 = .ok (.invokevirtual 308, 3) := dk_182 1 52 (dk_at dksX5_readRecords_2 6 rfl rfl)
theorem dX5_readRecords_55 : decode cX5_readRecords 55 = .ok (.aload_n 0, 1) := dk_42 (dk_at dksX5_readRecords_2 9 rfl rfl)
theorem dX5_readRecords_56 : decode cX5_readRecords 56 = .ok (.aload_n 0, 1) := dk_42 (dk_at dksX5_readRecords_2 10 rfl rfl)
theorem dX5_readRecords_57 : decode cX5_readRecords 57 = .ok (.getfield 282, 3) := dk_180 1 26 (dk_at dksX5_readRecords_2 11 rfl rfl)
theorem dX5_readRecords_60 : decode cX5_readRecords 60 = .ok (.ifCond .ne 19, 3) := dk_154 0 19 (dk_at dksX5_readRecords_2 14 rfl rfl)
theorem dX5_readRecords_63 : decode cX5_readRecords 63 = .ok (.aload_n 0, 1) := dk_42 (dk_at dksX5_readRecords_2 17 rfl rfl)
theorem dX5_readRecords_64 : decode cX5_readRecords 64 = .ok (.getfield 13, 3) := dk_180 0 13 (dk_at dksX5_readRecords_2 18 rfl rfl)
theorem dX5_readRecords_67 : decode cX5_readRecords 67 = .ok (.iconst 2, 1) := dk_5 (dk_at dksX5_readRecords_2 21 rfl rfl)
theorem dX5_readRecords_68 : decode cX5_readRecords 68 = .ok (.iaload, 1) := dk_46 (dk_at dksX5_readRecords_2 22 rfl rfl)
theorem dX5_readRecords_69 : decode cX5_readRecords 69 = .ok (.aload_n 0, 1) := dk_42 (dk_at dksX5_readRecords_2 23 rfl rfl)
theorem dX5_readRecords_70 : decode cX5_readRecords 70 = .ok (.invokevirtual 327, 3) := dk_182 1 71 (dk_at dksX5_readRecords_3 0 rfl rfl)
theorem dX5_readRecords_73 : decode cX5_readRecords 73 = .ok (.iadd, 1) := dk_96 (dk_at dksX5_readRecords_3 3 rfl rfl)
theorem dX5_readRecords_74 : decode cX5_readRecords 74 = .ok (.bipush 30, 2) := dk_16 30 (dk_at dksX5_readRecords_3 4 rfl rfl)
theorem dX5_readRecords_76 : decode cX5_readRecords 76 = .ok (.if_icmp .gt 7, 3) := dk_163 0 7 (dk_at dksX5_readRecords_3 6 rfl rfl)
theorem dX5_readRecords_79 : decode cX5_readRecords 79 = .ok (.iconst 1, 1) := dk_4 (dk_at dksX5_readRecords_3 9 rfl rfl)
theorem dX5_readRecords_80 : decode cX5_readRecords 80 = .ok (.goto 4, 3) := dk_167 0 4 (dk_at dksX5_readRecords_3 10 rfl rfl)
theorem dX5_readRecords_83 : decode cX5_readRecords 83 = .ok (.iconst 0, 1) := dk_3 (dk_at dksX5_readRecords_3 13 rfl rfl)
theorem dX5_readRecords_84 : decode cX5_readRecords 84 = .ok (.iconst 3, 1) := dk_6 (dk_at dksX5_readRecords_3 14 rfl rfl)
theorem dX5_readRecords_85 : decode cX5_readRecords 85 = .ok (.invokevirtual 308, 3) := dk_182 1 52 (dk_at dksX5_readRecords_3 15 rfl rfl)
theorem dX5_readRecords_88 : decode cX5_readRecords 88 = .ok (.aload_n 0, 1) := dk_42 (dk_at dksX5_readRecords_3 18 rfl rfl)
theorem dX5_readRecords_89 : decode cX5_readRecords 89 = .ok (.getfield 282, 3) := dk_180 1 26 (dk_at dksX5_readRecords_3 19 rfl rfl)
theorem dX5_readRecords_92 : decode cX5_readRecords 92 = .ok (.ifCond .eq 7, 3) := dk_153 0 7 (dk_at dksX5_readRecords_4 0 rfl rfl)
theorem dX5_readRecords_95 : decode cX5_readRecords 95 = .ok (.iconst 0, 1) := dk_3 (dk_at dksX5_readRecords_4 3 rfl rfl)
theorem dX5_readRecords_96 : decode cX5_readRecords 96 = .ok (.goto 7, 3) := dk_167 0 7 (dk_at dksX5_readRecords_4 4 rfl rfl)
theorem dX5_readRecords_99 : decode cX5_readRecords 99 = .ok (.aload_n 0, 1) := dk_42 (dk_at dksX5_readRecords_4 7 rfl rfl)
theorem dX5_readRecords_100 : decode cX5_readRecords 100 = .ok (.invokevirtual 327, 3) := dk_182 1 71 (dk_at dksX5_readRecords_4 8 rfl rfl)
theorem dX5_readRecords_103 : decode cX5_readRecords 103 = .ok (.istore_n 1, 1) := dk_60 (dk_at dksX5_readRecords_4 11 rfl rfl)
theorem dX5_readRecords_104 : decode cX5_readRecords 104 = .ok (.iconst 0, 1) := dk_3 (dk_at dksX5_readRecords_4 12 rfl rfl)
theorem dX5_readRecords_105 : decode cX5_readRecords 105 = .ok (.istore_n 2, 1) := dk_61 (dk_at dksX5_readRecords_4 13 rfl rfl)
theorem dX5_readRecords_106 : decode cX5_readRecords 106 = .ok (.iload_n 2, 1) := dk_28 (dk_at dksX5_readRecords_4 14 rfl rfl)
theorem dX5_readRecords_107 : decode cX5_readRecords 107 = .ok (.iload_n 1, 1) := dk_27 (dk_at dksX5_readRecords_4 15 rfl rfl)
theorem dX5_readRecords_108 : decode cX5_readRecords 108 = .ok (.if_icmp .ge 13, 3) := dk_162 0 13 (dk_at dksX5_readRecords_4 16 rfl rfl)
theorem dX5_readRecords_111 : decode cX5_readRecords 111 = .ok (.aload_n 0, 1) := dk_42 (dk_at dksX5_readRecords_4 19 rfl rfl)
theorem dX5_readRecords_112 : decode cX5_readRecords 112 = .ok (.invokevirtual 239, 3) := dk_182 0 239 (dk_at dksX5_readRecords_4 20 rfl rfl)
theorem dX5_readRecords_115 : decode cX5_readRecords 115 = .ok (.iinc 2 1, 3) := dk_132 2 1 (dk_at dksX5_readRecords_5 0 rfl rfl)
theorem dX5_readRecords_118 : decode cX5_readRecords 118 = .ok (.goto (-12), 3) := dk_167 255 244 (dk_at dksX5_readRecords_5 3 rfl rfl)
theorem dX5_readRecords_121 : decode cX5_readRecords 121 = .ok (.aload_n 0, 1) := dk_42 (dk_at dksX5_readRecords_5 6 rfl rfl)
theorem dX5_readRecords_122 : decode cX5_readRecords 122 = .ok (.invokevirtual 312, 3) := dk_182 1 56 (dk_at dksX5_readRecords_5 7 rfl rfl)
theorem dX5_readRecords_125 : decode cX5_readRecords 125 = .ok (.return_, 1) := dk_177 (dk_at dksX5_readRecords_5 10 rfl rfl)
def dkwX5_finish_1 : List UInt8 := [42, 180, 1, 26, 172]
abbrev dktX5_finish_1 : List UInt8 := dkwX5_finish_1 ++ []
def dkwX5_finish_0 : List UInt8 := [42, 3, 181, 1, 2, 42, 42, 180, 1, 26, 154, 0, 7, 2, 167, 0, 7, 42, 180, 1, 35, 181, 0, 34]
abbrev dktX5_finish_0 : List UInt8 := dkwX5_finish_0 ++ dktX5_finish_1
theorem dksX5_finish_0 : cX5_finish.data.toList.drop 0 = dktX5_finish_0 := by decide +kernel
theorem dksX5_finish_1 : cX5_finish.data.toList.drop 24 = dktX5_finish_1 := dk_seg dksX5_finish_0 24 rfl rfl
theorem dX5_finish_0 : decode cX5_finish 0 = .ok (.aload_n 0, 1) := dk_42 (dk_at dksX5_finish_0 0 rfl rfl)
theorem dX5_finish_1 : decode cX5_finish 1 = .ok (.iconst 0, 1) := dk_3 (dk_at dksX5_finish_0 1 rfl rfl)
theorem dX5_finish_2 : decode cX5_finish 2 = .ok (.putfield 258, 3) := dk_181 1 2 (dk_at dksX5_finish_0 2 rfl rfl)
theorem dX5_finish_5 : decode cX5_finish 5 = .ok (.aload_n 0, 1) := dk_42 (dk_at dksX5_finish_0 5 rfl rfl)
theorem dX5_finish_6 : decode cX5_finish 6 = .ok (.aload_n 0, 1) := dk_42 (dk_at dksX5_finish_0 6 rfl rfl)
theorem dX5_finish_7 : decode cX5_finish 7 = .ok (.getfield 282, 3) := dk_180 1 26 (dk_at dksX5_finish_0 7 rfl rfl)
theorem dX5_finish_10 : decode cX5_finish 10 = .ok (.ifCond .ne 7, 3) := dk_154 0 7 (dk_at dksX5_finish_0 10 rfl rfl)
theorem dX5_finish_13 : decode cX5_finish 13 = .ok (.iconst (-1), 1) := dk_2 (dk_at dksX5_finish_0 13 rfl rfl)
theorem dX5_finish_14 : decode cX5_finish 14 = .ok (.goto 7, 3) := dk_167 0 7 (dk_at dksX5_finish_0 14 rfl rfl)
theorem dX5_finish_17 : decode cX5_finish 17 = .ok (.aload_n 0, 1) := dk_42 (dk_at dksX5_finish_0 17 rfl rfl)
theorem dX5_finish_18 : decode cX5_finish 18 = .ok (.getfield 291, 3) := dk_180 1 35 (dk_at dksX5_finish_0 18 rfl rfl)
theorem dX5_finish_21 : decode cX5_finish 21 = .ok (.putfield 34, 3) := dk_181 0 34 (dk_at dksX5_finish_0 21 rfl rfl)
theorem dX5_finish_24 : decode cX5_finish 24 = .ok (.aload_n 0, 1) := dk_42 (dk_at dksX5_finish_1 0 rfl rfl)
theorem dX5_finish_25 : decode cX5_finish 25 = .ok (.getfield 282, 3) := dk_180 1 26 (dk_at dksX5_finish_1 1 rfl rfl)
theorem dX5_finish_28 : decode cX5_finish 28 = .ok (.ireturn, 1) := dk_172 (dk_at dksX5_finish_1 4 rfl rfl)
def dkwX5_query_7 : List UInt8 := [172, 132, 3, 1, 132, 4, 1, 167, 255, 208, 28, 153, 0, 7, 2, 167, 0, 4, 29, 172]
abbrev dktX5_query_7 : List UInt8 := dkwX5_query_7 ++ []
def dkwX5_query_6 : List UInt8 := [154, 0, 6, 167, 0, 25, 42, 21, 4, 182, 1, 146, 154, 0, 6, 167, 0, 13, 28, 153, 0, 6, 21, 4]
abbrev dktX5_query_6 : List UInt8 := dkwX5_query_6 ++ dktX5_query_7
def dkwX5_query_5 : List UInt8 := [3, 62, 3, 54, 4, 21, 4, 42, 180, 0, 9, 5, 46, 162, 0, 43, 42, 21, 4, 182, 0, 137]
abbrev dktX5_query_5 : List UInt8 := dkwX5_query_5 ++ dktX5_query_6
def dkwX5_query_4 : List UInt8 := [167, 0, 4, 3, 4, 182, 1, 52, 42, 182, 1, 101, 153, 0, 12, 19, 1, 145, 42, 180, 1, 26, 100, 172]
abbrev dktX5_query_4 : List UInt8 := dkwX5_query_4 ++ dktX5_query_5
def dkwX5_query_3 : List UInt8 := [182, 1, 56, 42, 182, 1, 118, 42, 42, 180, 1, 26, 154, 0, 10, 42, 180, 1, 17, 154, 0, 7, 4]
abbrev dktX5_query_3 : List UInt8 := dkwX5_query_3 ++ dktX5_query_4
def dkwX5_query_2 : List UInt8 := [28, 154, 0, 13, 42, 19, 1, 143, 182, 1, 48, 153, 0, 7, 4, 167, 0, 4, 3, 4, 182, 1, 52, 42]
abbrev dktX5_query_2 : List UInt8 := dkwX5_query_2 ++ dktX5_query_3
def dkwX5_query_1 : List UInt8 := [4, 182, 0, 197, 172, 42, 3, 181, 1, 104, 42, 27, 182, 1, 95, 42, 19, 1, 141, 182, 1, 48, 61, 42]
abbrev dktX5_query_1 : List UInt8 := dkwX5_query_1 ++ dktX5_query_2
def dkwX5_query_0 : List UInt8 := [42, 3, 181, 0, 71, 27, 3, 42, 180, 1, 2, 17, 0, 200, 184, 0, 112, 184, 0, 88, 154, 0, 9, 42]
abbrev dktX5_query_0 : List UInt8 := dkwX5_query_0 ++ dktX5_query_1
theorem dksX5_query_0 : cX5_query.data.toList.drop 0 = dktX5_query_0 := by decide +kernel
theorem dksX5_query_1 : cX5_query.data.toList.drop 24 = dktX5_query_1 := dk_seg dksX5_query_0 24 rfl rfl
theorem dksX5_query_2 : cX5_query.data.toList.drop 48 = dktX5_query_2 := dk_seg dksX5_query_1 24 rfl rfl
theorem dksX5_query_3 : cX5_query.data.toList.drop 72 = dktX5_query_3 := dk_seg dksX5_query_2 24 rfl rfl
theorem dksX5_query_4 : cX5_query.data.toList.drop 95 = dktX5_query_4 := dk_seg dksX5_query_3 23 rfl rfl
theorem dksX5_query_5 : cX5_query.data.toList.drop 119 = dktX5_query_5 := dk_seg dksX5_query_4 24 rfl rfl
theorem dksX5_query_6 : cX5_query.data.toList.drop 141 = dktX5_query_6 := dk_seg dksX5_query_5 22 rfl rfl
theorem dksX5_query_7 : cX5_query.data.toList.drop 165 = dktX5_query_7 := dk_seg dksX5_query_6 24 rfl rfl
theorem dX5_query_0 : decode cX5_query 0 = .ok (.aload_n 0, 1) := dk_42 (dk_at dksX5_query_0 0 rfl rfl)
theorem dX5_query_1 : decode cX5_query 1 = .ok (.iconst 0, 1) := dk_3 (dk_at dksX5_query_0 1 rfl rfl)
theorem dX5_query_2 : decode cX5_query 2 = .ok (.putfield 71, 3) := dk_181 0 71 (dk_at dksX5_query_0 2 rfl rfl)
theorem dX5_query_5 : decode cX5_query 5 = .ok (.iload_n 1, 1) := dk_27 (dk_at dksX5_query_0 5 rfl rfl)
theorem dX5_query_6 : decode cX5_query 6 = .ok (.iconst 0, 1) := dk_3 (dk_at dksX5_query_0 6 rfl rfl)
theorem dX5_query_7 : decode cX5_query 7 = .ok (.aload_n 0, 1) := dk_42 (dk_at dksX5_query_0 7 rfl rfl)
theorem dX5_query_8 : decode cX5_query 8 = .ok (.getfield 258, 3) := dk_180 1 2 (dk_at dksX5_query_0 8 rfl rfl)
theorem dX5_query_11 : decode cX5_query 11 = .ok (.sipush 200, 3) := dk_17 0 200 (dk_at dksX5_query_0 11 rfl rfl)
theorem dX5_query_14 : decode cX5_query 14 = .ok (.invokestatic 112, 3) := dk_184 0 112 (dk_at dksX5_query_0 14 rfl rfl)
theorem dX5_query_17 : decode cX5_query 17 = .ok (.invokestatic 88, 3) := dk_184 0 88 (dk_at dksX5_query_0 17 rfl rfl)
theorem dX5_query_20 : decode cX5_query 20 = .ok (.ifCond .ne 9, 3) := dk_154 0 9 (dk_at dksX5_query_0 20 rfl rfl)
theorem dX5_query_23 : decode cX5_query 23 = .ok (.aload_n 0, 1) := dk_42 (dk_at dksX5_query_0 23 rfl rfl)
theorem dX5_query_24 : decode cX5_query 24 = .ok (.iconst 1, 1) := dk_4 (dk_at dksX5_query_1 0 rfl rfl)
theorem dX5_query_25 : decode cX5_query 25 = .ok (.invokevirtual 197, 3) := dk_182 0 197 (dk_at dksX5_query_1 1 rfl rfl)
theorem dX5_query_28 : decode cX5_query 28 = .ok (.ireturn, 1) := dk_172 (dk_at dksX5_query_1 4 rfl rfl)
theorem dX5_query_29 : decode cX5_query 29 = .ok (.aload_n 0, 1) := dk_42 (dk_at dksX5_query_1 5 rfl rfl)
theorem dX5_query_30 : decode cX5_query 30 = .ok (.iconst 0, 1) := dk_3 (dk_at dksX5_query_1 6 rfl rfl)
theorem dX5_query_31 : decode cX5_query 31 = .ok (.putfield 360, 3) := dk_181 1 104 (dk_at dksX5_query_1 7 rfl rfl)
theorem dX5_query_34 : decode cX5_query 34 = .ok (.aload_n 0, 1) := dk_42 (dk_at dksX5_query_1 10 rfl rfl)
theorem dX5_query_35 : decode cX5_query 35 = .ok (.iload_n 1, 1) := dk_27 (dk_at dksX5_query_1 11 rfl rfl)
theorem dX5_query_36 : decode cX5_query 36 = .ok (.invokevirtual 351, 3) := dk_182 1 95 (dk_at dksX5_query_1 12 rfl rfl)
theorem dX5_query_39 : decode cX5_query 39 = .ok (.aload_n 0, 1) := dk_42 (dk_at dksX5_query_1 15 rfl rfl)
theorem dX5_query_40 : decode cX5_query 40 = .ok (.ldc_w 397, 3) := dk_19 1 141 (dk_at dksX5_query_1 16 rfl rfl)
theorem dX5_query_43 : decode cX5_query 43 = .ok (.invokevirtual 304, 3) := dk_182 1 48 (dk_at dksX5_query_1 19 rfl rfl)
theorem dX5_query_46 : decode cX5_query 46 = .ok (.istore_n 2, 1) := dk_61 (dk_at dksX5_query_1 22 rfl rfl)
theorem dX5_query_47 : decode cX5_query 47 = .ok (.aload_n 0, 1) := dk_42 (dk_at dksX5_query_1 23 rfl rfl)
theorem dX5_query_48 : decode cX5_query 48 = .ok (.iload_n 2, 1) := dk_28 (dk_at dksX5_query_2 0 rfl rfl)
theorem dX5_query_49 : decode cX5_query 49 = .ok (.ifCond .ne 13, 3) := dk_154 0 13 (dk_at dksX5_query_2 1 rfl rfl)
theorem dX5_query_52 : decode cX5_query 52 = .ok (.aload_n 0, 1) := dk_42 (dk_at dksX5_query_2 4 rfl rfl)
theorem dX5_query_53 : decode cX5_query 53 = .ok (.ldc_w 399, 3) := dk_19 1 143 (dk_at dksX5_query_2 5 rfl rfl)
theorem dX5_query_56 : decode cX5_query 56 = .ok (.invokevirtual 304, 3) := dk_182 1 48 (dk_at dksX5_query_2 8 rfl rfl)
theorem dX5_query_59 : decode cX5_query 59 = .ok (.ifCond .eq 7, 3) := dk_153 0 7 (dk_at dksX5_query_2 11 rfl rfl)
theorem dX5_query_62 : decode cX5_query 62 = .ok (.iconst 1, 1) := dk_4 (dk_at dksX5_query_2 14 rfl rfl)
theorem dX5_query_63 : decode cX5_query 63 = .ok (.goto 4, 3) := dk_167 0 4 (dk_at dksX5_query_2 15 rfl rfl)
theorem dX5_query_66 : decode cX5_query 66 = .ok (.iconst 0, 1) := dk_3 (dk_at dksX5_query_2 18 rfl rfl)
theorem dX5_query_67 : decode cX5_query 67 = .ok (.iconst 1, 1) := dk_4 (dk_at dksX5_query_2 19 rfl rfl)
theorem dX5_query_68 : decode cX5_query 68 = .ok (.invokevirtual 308, 3) := dk_182 1 52 (dk_at dksX5_query_2 20 rfl rfl)
theorem dX5_query_71 : decode cX5_query 71 = .ok (.aload_n 0, 1) := dk_42 (dk_at dksX5_query_2 23 rfl rfl)
theorem dX5_query_72 : decode cX5_query 72 = .ok (.invokevirtual 312, 3) := dk_182 1 56 (dk_at dksX5_query_3 0 rfl rfl)
theorem dX5_query_75 : decode cX5_query 75 = .ok (.aload_n 0, 1) := dk_42 (dk_at dksX5_query_3 3 rfl rfl)
theorem dX5_query_76 : decode cX5_query 76 = .ok (.invokevirtual 374, 3) := dk_182 1 118 (dk_at dksX5_query_3 4 rfl rfl)
theorem dX5_query_79 : decode cX5_query 79 = .ok (.aload_n 0, 1) := dk_42 (dk_at dksX5_query_3 7 rfl rfl)
theorem dX5_query_80 : decode cX5_query 80 = .ok (.aload_n 0, 1) := dk_42 (dk_at dksX5_query_3 8 rfl rfl)
theorem dX5_query_81 : decode cX5_query 81 = .ok (.getfield 282, 3) := dk_180 1 26 (dk_at dksX5_query_3 9 rfl rfl)
theorem dX5_query_84 : decode cX5_query 84 = .ok (.ifCond .ne 10, 3) := dk_154 0 10 (dk_at dksX5_query_3 12 rfl rfl)
theorem dX5_query_87 : decode cX5_query 87 = .ok (.aload_n 0, 1) := dk_42 (dk_at dksX5_query_3 15 rfl rfl)
theorem dX5_query_88 : decode cX5_query 88 = .ok (.getfield 273, 3) := dk_180 1 17 (dk_at dksX5_query_3 16 rfl rfl)
theorem dX5_query_91 : decode cX5_query 91 = .ok (.ifCond .ne 7, 3) := dk_154 0 7 (dk_at dksX5_query_3 19 rfl rfl)
theorem dX5_query_94 : decode cX5_query 94 = .ok (.iconst 1, 1) := dk_4 (dk_at dksX5_query_3 22 rfl rfl)
theorem dX5_query_95 : decode cX5_query 95 = .ok (.goto 4, 3) := dk_167 0 4 (dk_at dksX5_query_4 0 rfl rfl)
theorem dX5_query_98 : decode cX5_query 98 = .ok (.iconst 0, 1) := dk_3 (dk_at dksX5_query_4 3 rfl rfl)
theorem dX5_query_99 : decode cX5_query 99 = .ok (.iconst 1, 1) := dk_4 (dk_at dksX5_query_4 4 rfl rfl)
theorem dX5_query_100 : decode cX5_query 100 = .ok (.invokevirtual 308, 3) := dk_182 1 52 (dk_at dksX5_query_4 5 rfl rfl)
theorem dX5_query_103 : decode cX5_query 103 = .ok (.aload_n 0, 1) := dk_42 (dk_at dksX5_query_4 8 rfl rfl)
theorem dX5_query_104 : decode cX5_query 104 = .ok (.invokevirtual 357, 3) := dk_182 1 101 (dk_at dksX5_query_4 9 rfl rfl)
theorem dX5_query_107 : decode cX5_query 107 = .ok (.ifCond .eq 12, 3) := dk_153 0 12 (dk_at dksX5_query_4 12 rfl rfl)
theorem dX5_query_110 : decode cX5_query 110 = .ok (.ldc_w 401, 3) := dk_19 1 145 (dk_at dksX5_query_4 15 rfl rfl)
theorem dX5_query_113 : decode cX5_query 113 = .ok (.aload_n 0, 1) := dk_42 (dk_at dksX5_query_4 18 rfl rfl)
theorem dX5_query_114 : decode cX5_query 114 = .ok (.getfield 282, 3) := dk_180 1 26 (dk_at dksX5_query_4 19 rfl rfl)
theorem dX5_query_117 : decode cX5_query 117 = .ok (.isub, 1) := dk_100 (dk_at dksX5_query_4 22 rfl rfl)
theorem dX5_query_118 : decode cX5_query 118 = .ok (.ireturn, 1) := dk_172 (dk_at dksX5_query_4 23 rfl rfl)
theorem dX5_query_119 : decode cX5_query 119 = .ok (.iconst 0, 1) := dk_3 (dk_at dksX5_query_5 0 rfl rfl)
theorem dX5_query_120 : decode cX5_query 120 = .ok (.istore_n 3, 1) := dk_62 (dk_at dksX5_query_5 1 rfl rfl)
theorem dX5_query_121 : decode cX5_query 121 = .ok (.iconst 0, 1) := dk_3 (dk_at dksX5_query_5 2 rfl rfl)
theorem dX5_query_122 : decode cX5_query 122 = .ok (.istore 4, 2) := dk_54 4 (dk_at dksX5_query_5 3 rfl rfl)
theorem dX5_query_124 : decode cX5_query 124 = .ok (.iload 4, 2) := dk_21 4 (dk_at dksX5_query_5 5 rfl rfl)
theorem dX5_query_126 : decode cX5_query 126 = .ok (.aload_n 0, 1) := dk_42 (dk_at dksX5_query_5 7 rfl rfl)
theorem dX5_query_127 : decode cX5_query 127 = .ok (.getfield 9, 3) := dk_180 0 9 (dk_at dksX5_query_5 8 rfl rfl)
theorem dX5_query_130 : decode cX5_query 130 = .ok (.iconst 2, 1) := dk_5 (dk_at dksX5_query_5 11 rfl rfl)
theorem dX5_query_131 : decode cX5_query 131 = .ok (.iaload, 1) := dk_46 (dk_at dksX5_query_5 12 rfl rfl)
theorem dX5_query_132 : decode cX5_query 132 = .ok (.if_icmp .ge 43, 3) := dk_162 0 43 (dk_at dksX5_query_5 13 rfl rfl)
theorem dX5_query_135 : decode cX5_query 135 = .ok (.aload_n 0, 1) := dk_42 (dk_at dksX5_query_5 16 rfl rfl)
theorem dX5_query_136 : decode cX5_query 136 = .ok (.iload 4, 2) := dk_21 4 (dk_at dksX5_query_5 17 rfl rfl)
theorem dX5_query_138 : decode cX5_query 138 = .ok (.invokevirtual 137, 3) := dk_182 0 137 (dk_at dksX5_query_5 19 rfl rfl)
theorem dX5_query_141 : decode cX5_query 141 = .ok (.ifCond .ne 6, 3) := dk_154 0 6 (dk_at dksX5_query_6 0 rfl rfl)
theorem dX5_query_144 : decode cX5_query 144 = .ok (.goto 25, 3) := dk_167 0 25 (dk_at dksX5_query_6 3 rfl rfl)
theorem dX5_query_147 : decode cX5_query 147 = .ok (.aload_n 0, 1) := dk_42 (dk_at dksX5_query_6 6 rfl rfl)
theorem dX5_query_148 : decode cX5_query 148 = .ok (.iload 4, 2) := dk_21 4 (dk_at dksX5_query_6 7 rfl rfl)
theorem dX5_query_150 : decode cX5_query 150 = .ok (.invokevirtual 402, 3) := dk_182 1 146 (dk_at dksX5_query_6 9 rfl rfl)
theorem dX5_query_153 : decode cX5_query 153 = .ok (.ifCond .ne 6, 3) := dk_154 0 6 (dk_at dksX5_query_6 12 rfl rfl)
theorem dX5_query_156 : decode cX5_query 156 = .ok (.goto 13, 3) := dk_167 0 13 (dk_at dksX5_query_6 15 rfl rfl)
theorem dX5_query_159 : decode cX5_query 159 = .ok (.iload_n 2, 1) := dk_28 (dk_at dksX5_query_6 18 rfl rfl)
theorem dX5_query_160 : decode cX5_query 160 = .ok (.ifCond .eq 6, 3) := dk_153 0 6 (dk_at dksX5_query_6 19 rfl rfl)
theorem dX5_query_163 : decode cX5_query 163 = .ok (.iload 4, 2) := dk_21 4 (dk_at dksX5_query_6 22 rfl rfl)
theorem dX5_query_165 : decode cX5_query 165 = .ok (.ireturn, 1) := dk_172 (dk_at dksX5_query_7 0 rfl rfl)
theorem dX5_query_166 : decode cX5_query 166 = .ok (.iinc 3 1, 3) := dk_132 3 1 (dk_at dksX5_query_7 1 rfl rfl)
theorem dX5_query_169 : decode cX5_query 169 = .ok (.iinc 4 1, 3) := dk_132 4 1 (dk_at dksX5_query_7 4 rfl rfl)
theorem dX5_query_172 : decode cX5_query 172 = .ok (.goto (-48), 3) := dk_167 255 208 (dk_at dksX5_query_7 7 rfl rfl)
theorem dX5_query_175 : decode cX5_query 175 = .ok (.iload_n 2, 1) := dk_28 (dk_at dksX5_query_7 10 rfl rfl)
theorem dX5_query_176 : decode cX5_query 176 = .ok (.ifCond .eq 7, 3) := dk_153 0 7 (dk_at dksX5_query_7 11 rfl rfl)
theorem dX5_query_179 : decode cX5_query 179 = .ok (.iconst (-1), 1) := dk_2 (dk_at dksX5_query_7 14 rfl rfl)
theorem dX5_query_180 : decode cX5_query 180 = .ok (.goto 4, 3) := dk_167 0 4 (dk_at dksX5_query_7 15 rfl rfl)
theorem dX5_query_183 : decode cX5_query 183 = .ok (.iload_n 3, 1) := dk_29 (dk_at dksX5_query_7 18 rfl rfl)
theorem dX5_query_184 : decode cX5_query 184 = .ok (.ireturn, 1) := dk_172 (dk_at dksX5_query_7 19 rfl rfl)
def dkwX5_compileTest_1 : List UInt8 := [167, 255, 236, 177]
abbrev dktX5_compileTest_1 : List UInt8 := dkwX5_compileTest_1 ++ []
def dkwX5_compileTest_0 : List UInt8 := [42, 182, 1, 129, 42, 19, 1, 132, 182, 1, 126, 153, 0, 16, 42, 182, 1, 129, 42, 16, 231, 182, 1, 107]
abbrev dktX5_compileTest_0 : List UInt8 := dkwX5_compileTest_0 ++ dktX5_compileTest_1
theorem dksX5_compileTest_0 : cX5_compileTest.data.toList.drop 0 = dktX5_compileTest_0 := by decide +kernel
theorem dksX5_compileTest_1 : cX5_compileTest.data.toList.drop 24 = dktX5_compileTest_1 := dk_seg dksX5_compileTest_0 24 rfl rfl
theorem dX5_compileTest_0 : decode cX5_compileTest 0 = .ok (.aload_n 0, 1) := dk_42 (dk_at dksX5_compileTest_0 0 rfl rfl)
theorem dX5_compileTest_1 : decode cX5_compileTest 1 = .ok (.invokevirtual 385, 3) := dk_182 1 129 (dk_at dksX5_compileTest_0 1 rfl rfl)
theorem dX5_compileTest_4 : decode cX5_compileTest 4 = .ok (.aload_n 0, 1) := dk_42 (dk_at dksX5_compileTest_0 4 rfl rfl)
theorem dX5_compileTest_5 : decode cX5_compileTest 5 = .ok (.ldc_w 388, 3) := dk_19 1 132 (dk_at dksX5_compileTest_0 5 rfl rfl)
theorem dX5_compileTest_8 : decode cX5_compileTest 8 = .ok (.invokevirtual 382, 3) := dk_182 1 126 (dk_at dksX5_compileTest_0 8 rfl rfl)
theorem dX5_compileTest_11 : decode cX5_compileTest 11 = .ok (.ifCond .eq 16, 3) := dk_153 0 16 (dk_at dksX5_compileTest_0 11 rfl rfl)
theorem dX5_compileTest_14 : decode cX5_compileTest 14 = .ok (.aload_n 0, 1) := dk_42 (dk_at dksX5_compileTest_0 14 rfl rfl)
theorem dX5_compileTest_15 : decode cX5_compileTest 15 = .ok (.invokevirtual 385, 3) := dk_182 1 129 (dk_at dksX5_compileTest_0 15 rfl rfl)
theorem dX5_compileTest_18 : decode cX5_compileTest 18 = .ok (.aload_n 0, 1) := dk_42 (dk_at dksX5_compileTest_0 18 rfl rfl)
theorem dX5_compileTest_19 : decode cX5_compileTest 19 = .ok (.bipush (-25), 2) := dk_16 231 (dk_at dksX5_compileTest_0 19 rfl rfl)
theorem dX5_compileTest_21 : decode cX5_compileTest 21 = .ok (.invokevirtual 363, 3) := dk_182 1 107 (dk_at dksX5_compileTest_0 21 rfl rfl)
theorem dX5_compileTest_24 : decode cX5_compileTest 24 = .ok (.goto (-20), 3) := dk_167 255 236 (dk_at dksX5_compileTest_1 0 rfl rfl)
theorem dX5_compileTest_27 : decode cX5_compileTest 27 = .ok (.return_, 1) := dk_177 (dk_at dksX5_compileTest_1 3 rfl rfl)
def dkwX5_compileConjunction_1 : List UInt8 := [167, 255, 236, 177]
abbrev dktX5_compileConjunction_1 : List UInt8 := dkwX5_compileConjunction_1 ++ []
def dkwX5_compileConjunction_0 : List UInt8 := [42, 182, 1, 115, 42, 19, 1, 124, 182, 1, 126, 153, 0, 16, 42, 182, 1, 115, 42, 16, 232, 182, 1, 107]
abbrev dktX5_compileConjunction_0 : List UInt8 := dkwX5_compileConjunction_0 ++ dktX5_compileConjunction_1
theorem dksX5_compileConjunction_0 : cX5_compileConjunction.data.toList.drop 0 = dktX5_compileConjunction_0 := by decide +kernel
theorem dksX5_compileConjunction_1 : cX5_compileConjunction.data.toList.drop 24 = dktX5_compileConjunction_1 := dk_seg dksX5_compileConjunction_0 24 rfl rfl
theorem dX5_compileConjunction_0 : decode cX5_compileConjunction 0 = .ok (.aload_n 0, 1) := dk_42 (dk_at dksX5_compileConjunction_0 0 rfl rfl)
theorem dX5_compileConjunction_1 : decode cX5_compileConjunction 1 = .ok (.invokevirtual 371, 3) := dk_182 1 115 (dk_at dksX5_compileConjunction_0 1 rfl rfl)
theorem dX5_compileConjunction_4 : decode cX5_compileConjunction 4 = .ok (.aload_n 0, 1) := dk_42 (dk_at dksX5_compileConjunction_0 4 rfl rfl)
theorem dX5_compileConjunction_5 : decode cX5_compileConjunction 5 = .ok (.ldc_w 380, 3) := dk_19 1 124 (dk_at dksX5_compileConjunction_0 5 rfl rfl)
theorem dX5_compileConjunction_8 : decode cX5_compileConjunction 8 = .ok (.invokevirtual 382, 3) := dk_182 1 126 (dk_at dksX5_compileConjunction_0 8 rfl rfl)
theorem dX5_compileConjunction_11 : decode cX5_compileConjunction 11 = .ok (.ifCond .eq 16, 3) := dk_153 0 16 (dk_at dksX5_compileConjunction_0 11 rfl rfl)
theorem dX5_compileConjunction_14 : decode cX5_compileConjunction 14 = .ok (.aload_n 0, 1) := dk_42 (dk_at dksX5_compileConjunction_0 14 rfl rfl)
theorem dX5_compileConjunction_15 : decode cX5_compileConjunction 15 = .ok (.invokevirtual 371, 3) := dk_182 1 115 (dk_at dksX5_compileConjunction_0 15 rfl rfl)
theorem dX5_compileConjunction_18 : decode cX5_compileConjunction 18 = .ok (.aload_n 0, 1) := dk_42 (dk_at dksX5_compileConjunction_0 18 rfl rfl)
theorem dX5_compileConjunction_19 : decode cX5_compileConjunction 19 = .ok (.bipush (-24), 2) := dk_16 232 (dk_at dksX5_compileConjunction_0 19 rfl rfl)
theorem dX5_compileConjunction_21 : decode cX5_compileConjunction 21 = .ok (.invokevirtual 363, 3) := dk_182 1 107 (dk_at dksX5_compileConjunction_0 21 rfl rfl)
theorem dX5_compileConjunction_24 : decode cX5_compileConjunction 24 = .ok (.goto (-20), 3) := dk_167 255 236 (dk_at dksX5_compileConjunction_1 0 rfl rfl)
theorem dX5_compileConjunction_27 : decode cX5_compileConjunction 27 = .ok (.return_, 1) := dk_177 (dk_at dksX5_compileConjunction_1 3 rfl rfl)
def dkwX5_compileFactor_6 : List UInt8 := [167, 0, 4, 3, 4, 182, 1, 52, 42, 182, 1, 56, 42, 182, 1, 121, 42, 27, 182, 1, 107, 177]
abbrev dktX5_compileFactor_6 : List UInt8 := dkwX5_compileFactor_6 ++ []
def dkwX5_compileFactor_5 : List UInt8 := [167, 0, 5, 16, 234, 60, 42, 27, 16, 234, 160, 0, 12, 42, 16, 62, 182, 1, 59, 153, 0, 7, 4]
abbrev dktX5_compileFactor_5 : List UInt8 := dkwX5_compileFactor_5 ++ dktX5_compileFactor_6
def dkwX5_compileFactor_4 : List UInt8 := [16, 60, 182, 1, 59, 153, 0, 8, 16, 236, 167, 0, 19, 42, 16, 61, 182, 1, 59, 153, 0, 8, 16, 235]
abbrev dktX5_compileFactor_4 : List UInt8 := dkwX5_compileFactor_4 ++ dktX5_compileFactor_5
def dkwX5_compileFactor_3 : List UInt8 := [16, 41, 182, 1, 82, 42, 89, 180, 1, 29, 4, 100, 181, 1, 29, 167, 0, 76, 42, 182, 1, 121, 42]
abbrev dktX5_compileFactor_3 : List UInt8 := dkwX5_compileFactor_3 ++ dktX5_compileFactor_4
def dkwX5_compileFactor_2 : List UInt8 := [16, 40, 182, 1, 59, 153, 0, 37, 42, 182, 1, 112, 42, 180, 1, 26, 154, 0, 7, 42, 182, 1, 118, 42]
abbrev dktX5_compileFactor_2 : List UInt8 := dkwX5_compileFactor_2 ++ dktX5_compileFactor_3
def dkwX5_compileFactor_1 : List UInt8 := [182, 1, 115, 42, 16, 233, 182, 1, 107, 42, 89, 180, 1, 29, 4, 100, 181, 1, 29, 167, 0, 119, 42]
abbrev dktX5_compileFactor_1 : List UInt8 := dkwX5_compileFactor_1 ++ dktX5_compileFactor_2
def dkwX5_compileFactor_0 : List UInt8 := [42, 19, 1, 110, 182, 1, 48, 153, 0, 37, 42, 182, 1, 112, 42, 180, 1, 26, 154, 0, 7, 42]
abbrev dktX5_compileFactor_0 : List UInt8 := dkwX5_compileFactor_0 ++ dktX5_compileFactor_1
theorem dksX5_compileFactor_0 : cX5_compileFactor.data.toList.drop 0 = dktX5_compileFactor_0 := by decide +kernel
theorem dksX5_compileFactor_1 : cX5_compileFactor.data.toList.drop 22 = dktX5_compileFactor_1 := dk_seg dksX5_compileFactor_0 22 rfl rfl
theorem dksX5_compileFactor_2 : cX5_compileFactor.data.toList.drop 45 = dktX5_compileFactor_2 := dk_seg dksX5_compileFactor_1 23 rfl rfl
theorem dksX5_compileFactor_3 : cX5_compileFactor.data.toList.drop 69 = dktX5_compileFactor_3 := dk_seg dksX5_compileFactor_2 24 rfl rfl
theorem dksX5_compileFactor_4 : cX5_compileFactor.data.toList.drop 92 = dktX5_compileFactor_4 := dk_seg dksX5_compileFactor_3 23 rfl rfl
theorem dksX5_compileFactor_5 : cX5_compileFactor.data.toList.drop 116 = dktX5_compileFactor_5 := dk_seg dksX5_compileFactor_4 24 rfl rfl
theorem dksX5_compileFactor_6 : cX5_compileFactor.data.toList.drop 139 = dktX5_compileFactor_6 := dk_seg dksX5_compileFactor_5 23 rfl rfl
theorem dX5_compileFactor_0 : decode cX5_compileFactor 0 = .ok (.aload_n 0, 1) := dk_42 (dk_at dksX5_compileFactor_0 0 rfl rfl)
theorem dX5_compileFactor_1 : decode cX5_compileFactor 1 = .ok (.ldc_w 366, 3) := dk_19 1 110 (dk_at dksX5_compileFactor_0 1 rfl rfl)
theorem dX5_compileFactor_4 : decode cX5_compileFactor 4 = .ok (.invokevirtual 304, 3) := dk_182 1 48 (dk_at dksX5_compileFactor_0 4 rfl rfl)
theorem dX5_compileFactor_7 : decode cX5_compileFactor 7 = .ok (.ifCond .eq 37, 3) := dk_153 0 37 (dk_at dksX5_compileFactor_0 7 rfl rfl)
theorem dX5_compileFactor_10 : decode cX5_compileFactor 10 = .ok (.aload_n 0, 1) := dk_42 (dk_at dksX5_compileFactor_0 10 rfl rfl)
theorem dX5_compileFactor_11 : decode cX5_compileFactor 11 = .ok (.invokevirtual 368, 3) := dk_182 1 112 (dk_at dksX5_compileFactor_0 11 rfl rfl)
theorem dX5_compileFactor_14 : decode cX5_compileFactor 14 = .ok (.aload_n 0, 1) := dk_42 (dk_at dksX5_compileFactor_0 14 rfl rfl)
theorem dX5_compileFactor_15 : decode cX5_compileFactor 15 = .ok (.getfield 282, 3) := dk_180 1 26 (dk_at dksX5_compileFactor_0 15 rfl rfl)
theorem dX5_compileFactor_18 : decode cX5_compileFactor 18 = .ok (.ifCond .ne 7, 3) := dk_154 0 7 (dk_at dksX5_compileFactor_0 18 rfl rfl)
theorem dX5_compileFactor_21 : decode cX5_compileFactor 21 = .ok (.aload_n 0, 1) := dk_42 (dk_at dksX5_compileFactor_0 21 rfl rfl)
theorem dX5_compileFactor_22 : decode cX5_compileFactor 22 = .ok (.invokevirtual 371, 3) := dk_182 1 115 (dk_at dksX5_compileFactor_1 0 rfl rfl)
theorem dX5_compileFactor_25 : decode cX5_compileFactor 25 = .ok (.aload_n 0, 1) := dk_42 (dk_at dksX5_compileFactor_1 3 rfl rfl)
theorem dX5_compileFactor_26 : decode cX5_compileFactor 26 = .ok (.bipush (-23), 2) := dk_16 233 (dk_at dksX5_compileFactor_1 4 rfl rfl)
theorem dX5_compileFactor_28 : decode cX5_compileFactor 28 = .ok (.invokevirtual 363, 3) := dk_182 1 107 (dk_at dksX5_compileFactor_1 6 rfl rfl)
theorem dX5_compileFactor_31 : decode cX5_compileFactor 31 = .ok (.aload_n 0, 1) := dk_42 (dk_at dksX5_compileFactor_1 9 rfl rfl)
theorem dX5_compileFactor_32 : decode cX5_compileFactor 32 = .ok (.dup, 1) := dk_89 (dk_at dksX5_compileFactor_1 10 rfl rfl)
theorem dX5_compileFactor_33 : decode cX5_compileFactor 33 = .ok (.getfield 285, 3) := dk_180 1 29 (dk_at dksX5_compileFactor_1 11 rfl rfl)
theorem dX5_compileFactor_36 : decode cX5_compileFactor 36 = .ok (.iconst 1, 1) := dk_4 (dk_at dksX5_compileFactor_1 14 rfl rfl)
theorem dX5_compileFactor_37 : decode cX5_compileFactor 37 = .ok (.isub, 1) := dk_100 (dk_at dksX5_compileFactor_1 15 rfl rfl)
theorem dX5_compileFactor_38 : decode cX5_compileFactor 38 = .ok (.putfield 285, 3) := dk_181 1 29 (dk_at dksX5_compileFactor_1 16 rfl rfl)
theorem dX5_compileFactor_41 : decode cX5_compileFactor 41 = .ok (.goto 119, 3) := dk_167 0 119 (dk_at dksX5_compileFactor_1 19 rfl rfl)
theorem dX5_compileFactor_44 : decode cX5_compileFactor 44 = .ok (.aload_n 0, 1) := dk_42 (dk_at dksX5_compileFactor_1 22 rfl rfl)
theorem dX5_compileFactor_45 : decode cX5_compileFactor 45 = .ok (.bipush 40, 2) := dk_16 40 (dk_at dksX5_compileFactor_2 0 rfl rfl)
theorem dX5_compileFactor_47 : decode cX5_compileFactor 47 = .ok (.invokevirtual 315, 3) := dk_182 1 59 (dk_at dksX5_compileFactor_2 2 rfl rfl)
theorem dX5_compileFactor_50 : decode cX5_compileFactor 50 = .ok (.ifCond .eq 37, 3) := dk_153 0 37 (dk_at dksX5_compileFactor_2 5 rfl rfl)
theorem dX5_compileFactor_53 : decode cX5_compileFactor 53 = .ok (.aload_n 0, 1) := dk_42 (dk_at dksX5_compileFactor_2 8 rfl rfl)
theorem dX5_compileFactor_54 : decode cX5_compileFactor 54 = .ok (.invokevirtual 368, 3) := dk_182 1 112 (dk_at dksX5_compileFactor_2 9 rfl rfl)
theorem dX5_compileFactor_57 : decode cX5_compileFactor 57 = .ok (.aload_n 0, 1) := dk_42 (dk_at dksX5_compileFactor_2 12 rfl rfl)
theorem dX5_compileFactor_58 : decode cX5_compileFactor 58 = .ok (.getfield 282, 3) := dk_180 1 26 (dk_at dksX5_compileFactor_2 13 rfl rfl)
theorem dX5_compileFactor_61 : decode cX5_compileFactor 61 = .ok (.ifCond .ne 7, 3) := dk_154 0 7 (dk_at dksX5_compileFactor_2 16 rfl rfl)
theorem dX5_compileFactor_64 : decode cX5_compileFactor 64 = .ok (.aload_n 0, 1) := dk_42 (dk_at dksX5_compileFactor_2 19 rfl rfl)
theorem dX5_compileFactor_65 : decode cX5_compileFactor 65 = .ok (.invokevirtual 374, 3) := dk_182 1 118 (dk_at dksX5_compileFactor_2 20 rfl rfl)
theorem dX5_compileFactor_68 : decode cX5_compileFactor 68 = .ok (.aload_n 0, 1) := dk_42 (dk_at dksX5_compileFactor_2 23 rfl rfl)
theorem dX5_compileFactor_69 : decode cX5_compileFactor 69 = .ok (.bipush 41, 2) := dk_16 41 (dk_at dksX5_compileFactor_3 0 rfl rfl)
theorem dX5_compileFactor_71 : decode cX5_compileFactor 71 = .ok (.invokevirtual 338, 3) := dk_182 1 82 (dk_at dksX5_compileFactor_3 2 rfl rfl)
theorem dX5_compileFactor_74 : decode cX5_compileFactor 74 = .ok (.aload_n 0, 1) := dk_42 (dk_at dksX5_compileFactor_3 5 rfl rfl)
theorem dX5_compileFactor_75 : decode cX5_compileFactor 75 = .ok (.dup, 1) := dk_89 (dk_at dksX5_compileFactor_3 6 rfl rfl)
theorem dX5_compileFactor_76 : decode cX5_compileFactor 76 = .ok (.getfield 285, 3) := dk_180 1 29 (dk_at dksX5_compileFactor_3 7 rfl rfl)
theorem dX5_compileFactor_79 : decode cX5_compileFactor 79 = .ok (.iconst 1, 1) := dk_4 (dk_at dksX5_compileFactor_3 10 rfl rfl)
theorem dX5_compileFactor_80 : decode cX5_compileFactor 80 = .ok (.isub, 1) := dk_100 (dk_at dksX5_compileFactor_3 11 rfl rfl)
theorem dX5_compileFactor_81 : decode cX5_compileFactor 81 = .ok (.putfield 285, 3) := dk_181 1 29 (dk_at dksX5_compileFactor_3 12 rfl rfl)
theorem dX5_compileFactor_84 : decode cX5_compileFactor 84 = .ok (.goto 76, 3) := dk_167 0 76 (dk_at dksX5_compileFactor_3 15 rfl rfl)
theorem dX5_compileFactor_87 : decode cX5_compileFactor 87 = .ok (.aload_n 0, 1) := dk_42 (dk_at dksX5_compileFactor_3 18 rfl rfl)
theorem dX5_compileFactor_88 : decode cX5_compileFactor 88 = .ok (.invokevirtual 377, 3) := dk_182 1 121 (dk_at dksX5_compileFactor_3 19 rfl rfl)
theorem dX5_compileFactor_91 : decode cX5_compileFactor 91 = .ok (.aload_n 0, 1) := dk_42 (dk_at dksX5_compileFactor_3 22 rfl rfl)
theorem dX5_compileFactor_92 : decode cX5_compileFactor 92 = .ok (.bipush 60, 2) := dk_16 60 (dk_at dksX5_compileFactor_4 0 rfl rfl)
theorem dX5_compileFactor_94 : decode cX5_compileFactor 94 = .ok (.invokevirtual 315, 3) := dk_182 1 59 (dk_at dksX5_compileFactor_4 2 rfl rfl)
theorem dX5_compileFactor_97 : decode cX5_compileFactor 97 = .ok (.ifCond .eq 8, 3) := dk_153 0 8 (dk_at dksX5_compileFactor_4 5 rfl rfl)
theorem dX5_compileFactor_100 : decode cX5_compileFactor 100 = .ok (.bipush (-20), 2) := dk_16 236 (dk_at dksX5_compileFactor_4 8 rfl rfl)
theorem dX5_compileFactor_102 : decode cX5_compileFactor 102 = .ok (.goto 19, 3) := dk_167 0 19 (dk_at dksX5_compileFactor_4 10 rfl rfl)
theorem dX5_compileFactor_105 : decode cX5_compileFactor 105 = .ok (.aload_n 0, 1) := dk_42 (dk_at dksX5_compileFactor_4 13 rfl rfl)
theorem dX5_compileFactor_106 : decode cX5_compileFactor 106 = .ok (.bipush 61, 2) := dk_16 61 (dk_at dksX5_compileFactor_4 14 rfl rfl)
theorem dX5_compileFactor_108 : decode cX5_compileFactor 108 = .ok (.invokevirtual 315, 3) := dk_182 1 59 (dk_at dksX5_compileFactor_4 16 rfl rfl)
theorem dX5_compileFactor_111 : decode cX5_compileFactor 111 = .ok (.ifCond .eq 8, 3) := dk_153 0 8 (dk_at dksX5_compileFactor_4 19 rfl rfl)
theorem dX5_compileFactor_114 : decode cX5_compileFactor 114 = .ok (.bipush (-21), 2) := dk_16 235 (dk_at dksX5_compileFactor_4 22 rfl rfl)
theorem dX5_compileFactor_116 : decode cX5_compileFactor 116 = .ok (.goto 5, 3) := dk_167 0 5 (dk_at dksX5_compileFactor_5 0 rfl rfl)
theorem dX5_compileFactor_119 : decode cX5_compileFactor 119 = .ok (.bipush (-22), 2) := dk_16 234 (dk_at dksX5_compileFactor_5 3 rfl rfl)
theorem dX5_compileFactor_121 : decode cX5_compileFactor 121 = .ok (.istore_n 1, 1) := dk_60 (dk_at dksX5_compileFactor_5 5 rfl rfl)
theorem dX5_compileFactor_122 : decode cX5_compileFactor 122 = .ok (.aload_n 0, 1) := dk_42 (dk_at dksX5_compileFactor_5 6 rfl rfl)
theorem dX5_compileFactor_123 : decode cX5_compileFactor 123 = .ok (.iload_n 1, 1) := dk_27 (dk_at dksX5_compileFactor_5 7 rfl rfl)
theorem dX5_compileFactor_124 : decode cX5_compileFactor 124 = .ok (.bipush (-22), 2) := dk_16 234 (dk_at dksX5_compileFactor_5 8 rfl rfl)
theorem dX5_compileFactor_126 : decode cX5_compileFactor 126 = .ok (.if_icmp .ne 12, 3) := dk_160 0 12 (dk_at dksX5_compileFactor_5 10 rfl rfl)
theorem dX5_compileFactor_129 : decode cX5_compileFactor 129 = .ok (.aload_n 0, 1) := dk_42 (dk_at dksX5_compileFactor_5 13 rfl rfl)
theorem dX5_compileFactor_130 : decode cX5_compileFactor 130 = .ok (.bipush 62, 2) := dk_16 62 (dk_at dksX5_compileFactor_5 14 rfl rfl)
theorem dX5_compileFactor_132 : decode cX5_compileFactor 132 = .ok (.invokevirtual 315, 3) := dk_182 1 59 (dk_at dksX5_compileFactor_5 16 rfl rfl)
theorem dX5_compileFactor_135 : decode cX5_compileFactor 135 = .ok (.ifCond .eq 7, 3) := dk_153 0 7 (dk_at dksX5_compileFactor_5 19 rfl rfl)
theorem dX5_compileFactor_138 : decode cX5_compileFactor 138 = .ok (.iconst 1, 1) := dk_4 (dk_at dksX5_compileFactor_5 22 rfl rfl)
theorem dX5_compileFactor_139 : decode cX5_compileFactor 139 = .ok (.goto 4, 3) := dk_167 0 4 (dk_at dksX5_compileFactor_6 0 rfl rfl)
theorem dX5_compileFactor_142 : decode cX5_compileFactor 142 = .ok (.iconst 0, 1) := dk_3 (dk_at dksX5_compileFactor_6 3 rfl rfl)
theorem dX5_compileFactor_143 : decode cX5_compileFactor 143 = .ok (.iconst 1, 1) := dk_4 (dk_at dksX5_compileFactor_6 4 rfl rfl)
theorem dX5_compileFactor_144 : decode cX5_compileFactor 144 = .ok (.invokevirtual 308, 3) := dk_182 1 52 (dk_at dksX5_compileFactor_6 5 rfl rfl)
theorem dX5_compileFactor_147 : decode cX5_compileFactor 147 = .ok (.aload_n 0, 1) := dk_42 (dk_at dksX5_compileFactor_6 8 rfl rfl)
theorem dX5_compileFactor_148 : decode cX5_compileFactor 148 = .ok (.invokevirtual 312, 3) := dk_182 1 56 (dk_at dksX5_compileFactor_6 9 rfl rfl)
theorem dX5_compileFactor_151 : decode cX5_compileFactor 151 = .ok (.aload_n 0, 1) := dk_42 (dk_at dksX5_compileFactor_6 12 rfl rfl)
theorem dX5_compileFactor_152 : decode cX5_compileFactor 152 = .ok (.invokevirtual 377, 3) := dk_182 1 121 (dk_at dksX5_compileFactor_6 13 rfl rfl)
theorem dX5_compileFactor_155 : decode cX5_compileFactor 155 = .ok (.aload_n 0, 1) := dk_42 (dk_at dksX5_compileFactor_6 16 rfl rfl)
theorem dX5_compileFactor_156 : decode cX5_compileFactor 156 = .ok (.iload_n 1, 1) := dk_27 (dk_at dksX5_compileFactor_6 17 rfl rfl)
theorem dX5_compileFactor_157 : decode cX5_compileFactor 157 = .ok (.invokevirtual 363, 3) := dk_182 1 107 (dk_at dksX5_compileFactor_6 18 rfl rfl)
theorem dX5_compileFactor_160 : decode cX5_compileFactor 160 = .ok (.return_, 1) := dk_177 (dk_at dksX5_compileFactor_6 21 rfl rfl)
def dkwX5_enter_1 : List UInt8 := [4, 96, 181, 1, 29, 42, 182, 1, 56, 177]
abbrev dktX5_enter_1 : List UInt8 := dkwX5_enter_1 ++ []
def dkwX5_enter_0 : List UInt8 := [42, 42, 180, 1, 29, 16, 6, 162, 0, 7, 4, 167, 0, 4, 3, 6, 182, 1, 52, 42, 89, 180, 1, 29]
abbrev dktX5_enter_0 : List UInt8 := dkwX5_enter_0 ++ dktX5_enter_1
theorem dksX5_enter_0 : cX5_enter.data.toList.drop 0 = dktX5_enter_0 := by decide +kernel
theorem dksX5_enter_1 : cX5_enter.data.toList.drop 24 = dktX5_enter_1 := dk_seg dksX5_enter_0 24 rfl rfl
theorem dX5_enter_0 : decode cX5_enter 0 = .ok (.aload_n 0, 1) := dk_42 (dk_at dksX5_enter_0 0 rfl rfl)
theorem dX5_enter_1 : decode cX5_enter 1 = .ok (.aload_n 0, 1) := dk_42 (dk_at dksX5_enter_0 1 rfl rfl)
theorem dX5_enter_2 : decode cX5_enter 2 = .ok (.getfield 285, 3) := dk_180 1 29 (dk_at dksX5_enter_0 2 rfl rfl)
theorem dX5_enter_5 : decode cX5_enter 5 = .ok (.bipush 6, 2) := dk_16 6 (dk_at dksX5_enter_0 5 rfl rfl)
theorem dX5_enter_7 : decode cX5_enter 7 = .ok (.if_icmp .ge 7, 3) := dk_162 0 7 (dk_at dksX5_enter_0 7 rfl rfl)
theorem dX5_enter_10 : decode cX5_enter 10 = .ok (.iconst 1, 1) := dk_4 (dk_at dksX5_enter_0 10 rfl rfl)
theorem dX5_enter_11 : decode cX5_enter 11 = .ok (.goto 4, 3) := dk_167 0 4 (dk_at dksX5_enter_0 11 rfl rfl)
theorem dX5_enter_14 : decode cX5_enter 14 = .ok (.iconst 0, 1) := dk_3 (dk_at dksX5_enter_0 14 rfl rfl)
theorem dX5_enter_15 : decode cX5_enter 15 = .ok (.iconst 3, 1) := dk_6 (dk_at dksX5_enter_0 15 rfl rfl)
theorem dX5_enter_16 : decode cX5_enter 16 = .ok (.invokevirtual 308, 3) := dk_182 1 52 (dk_at dksX5_enter_0 16 rfl rfl)
theorem dX5_enter_19 : decode cX5_enter 19 = .ok (.aload_n 0, 1) := dk_42 (dk_at dksX5_enter_0 19 rfl rfl)
theorem dX5_enter_20 : decode cX5_enter 20 = .ok (.dup, 1) := dk_89 (dk_at dksX5_enter_0 20 rfl rfl)
theorem dX5_enter_21 : decode cX5_enter 21 = .ok (.getfield 285, 3) := dk_180 1 29 (dk_at dksX5_enter_0 21 rfl rfl)
theorem dX5_enter_24 : decode cX5_enter 24 = .ok (.iconst 1, 1) := dk_4 (dk_at dksX5_enter_1 0 rfl rfl)
theorem dX5_enter_25 : decode cX5_enter 25 = .ok (.iadd, 1) := dk_96 (dk_at dksX5_enter_1 1 rfl rfl)
theorem dX5_enter_26 : decode cX5_enter 26 = .ok (.putfield 285, 3) := dk_181 1 29 (dk_at dksX5_enter_1 2 rfl rfl)
theorem dX5_enter_29 : decode cX5_enter 29 = .ok (.aload_n 0, 1) := dk_42 (dk_at dksX5_enter_1 5 rfl rfl)
theorem dX5_enter_30 : decode cX5_enter 30 = .ok (.invokevirtual 312, 3) := dk_182 1 56 (dk_at dksX5_enter_1 6 rfl rfl)
theorem dX5_enter_33 : decode cX5_enter 33 = .ok (.return_, 1) := dk_177 (dk_at dksX5_enter_1 9 rfl rfl)
def dkwX5_emit_1 : List UInt8 := [181, 1, 104, 177]
abbrev dktX5_emit_1 : List UInt8 := dkwX5_emit_1 ++ []
def dkwX5_emit_0 : List UInt8 := [42, 180, 1, 26, 154, 0, 23, 42, 180, 0, 60, 42, 180, 1, 104, 27, 79, 42, 89, 180, 1, 104, 4, 96]
abbrev dktX5_emit_0 : List UInt8 := dkwX5_emit_0 ++ dktX5_emit_1
theorem dksX5_emit_0 : cX5_emit.data.toList.drop 0 = dktX5_emit_0 := by decide +kernel
theorem dksX5_emit_1 : cX5_emit.data.toList.drop 24 = dktX5_emit_1 := dk_seg dksX5_emit_0 24 rfl rfl
theorem dX5_emit_0 : decode cX5_emit 0 = .ok (.aload_n 0, 1) := dk_42 (dk_at dksX5_emit_0 0 rfl rfl)
theorem dX5_emit_1 : decode cX5_emit 1 = .ok (.getfield 282, 3) := dk_180 1 26 (dk_at dksX5_emit_0 1 rfl rfl)
theorem dX5_emit_4 : decode cX5_emit 4 = .ok (.ifCond .ne 23, 3) := dk_154 0 23 (dk_at dksX5_emit_0 4 rfl rfl)
theorem dX5_emit_7 : decode cX5_emit 7 = .ok (.aload_n 0, 1) := dk_42 (dk_at dksX5_emit_0 7 rfl rfl)
theorem dX5_emit_8 : decode cX5_emit 8 = .ok (.getfield 60, 3) := dk_180 0 60 (dk_at dksX5_emit_0 8 rfl rfl)
theorem dX5_emit_11 : decode cX5_emit 11 = .ok (.aload_n 0, 1) := dk_42 (dk_at dksX5_emit_0 11 rfl rfl)
theorem dX5_emit_12 : decode cX5_emit 12 = .ok (.getfield 360, 3) := dk_180 1 104 (dk_at dksX5_emit_0 12 rfl rfl)
theorem dX5_emit_15 : decode cX5_emit 15 = .ok (.iload_n 1, 1) := dk_27 (dk_at dksX5_emit_0 15 rfl rfl)
theorem dX5_emit_16 : decode cX5_emit 16 = .ok (.iastore, 1) := dk_79 (dk_at dksX5_emit_0 16 rfl rfl)
theorem dX5_emit_17 : decode cX5_emit 17 = .ok (.aload_n 0, 1) := dk_42 (dk_at dksX5_emit_0 17 rfl rfl)
theorem dX5_emit_18 : decode cX5_emit 18 = .ok (.dup, 1) := dk_89 (dk_at dksX5_emit_0 18 rfl rfl)
theorem dX5_emit_19 : decode cX5_emit 19 = .ok (.getfield 360, 3) := dk_180 1 104 (dk_at dksX5_emit_0 19 rfl rfl)
theorem dX5_emit_22 : decode cX5_emit 22 = .ok (.iconst 1, 1) := dk_4 (dk_at dksX5_emit_0 22 rfl rfl)
theorem dX5_emit_23 : decode cX5_emit 23 = .ok (.iadd, 1) := dk_96 (dk_at dksX5_emit_0 23 rfl rfl)
theorem dX5_emit_24 : decode cX5_emit 24 = .ok (.putfield 360, 3) := dk_181 1 104 (dk_at dksX5_emit_1 0 rfl rfl)
theorem dX5_emit_27 : decode cX5_emit 27 = .ok (.return_, 1) := dk_177 (dk_at dksX5_emit_1 3 rfl rfl)
def dkwX5_compileValue_3 : List UInt8 := [167, 0, 4, 3, 4, 182, 1, 52, 42, 2, 27, 100, 182, 1, 107, 42, 182, 1, 56, 177]
abbrev dktX5_compileValue_3 : List UInt8 := dkwX5_compileValue_3 ++ []
def dkwX5_compileValue_2 : List UInt8 := [182, 1, 48, 154, 0, 9, 132, 1, 1, 167, 255, 231, 42, 27, 42, 180, 0, 56, 190, 162, 0, 7, 4]
abbrev dktX5_compileValue_2 : List UInt8 := dkwX5_compileValue_2 ++ dktX5_compileValue_3
def dkwX5_compileValue_1 : List UInt8 := [182, 1, 107, 177, 3, 60, 27, 42, 180, 0, 56, 190, 162, 0, 22, 42, 42, 180, 0, 56, 27, 50]
abbrev dktX5_compileValue_1 : List UInt8 := dkwX5_compileValue_1 ++ dktX5_compileValue_2
def dkwX5_compileValue_0 : List UInt8 := [42, 180, 1, 26, 154, 0, 11, 42, 180, 1, 17, 5, 160, 0, 16, 42, 42, 3, 17, 39, 15, 182, 1, 74]
abbrev dktX5_compileValue_0 : List UInt8 := dkwX5_compileValue_0 ++ dktX5_compileValue_1
theorem dksX5_compileValue_0 : cX5_compileValue.data.toList.drop 0 = dktX5_compileValue_0 := by decide +kernel
theorem dksX5_compileValue_1 : cX5_compileValue.data.toList.drop 24 = dktX5_compileValue_1 := dk_seg dksX5_compileValue_0 24 rfl rfl
theorem dksX5_compileValue_2 : cX5_compileValue.data.toList.drop 46 = dktX5_compileValue_2 := dk_seg dksX5_compileValue_1 22 rfl rfl
theorem dksX5_compileValue_3 : cX5_compileValue.data.toList.drop 69 = dktX5_compileValue_3 := dk_seg dksX5_compileValue_2 23 rfl rfl
theorem dX5_compileValue_0 : decode cX5_compileValue 0 = .ok (.aload_n 0, 1) := dk_42 (dk_at dksX5_compileValue_0 0 rfl rfl)
theorem dX5_compileValue_1 : decode cX5_compileValue 1 = .ok (.getfield 282, 3) := dk_180 1 26 (dk_at dksX5_compileValue_0 1 rfl rfl)
theorem dX5_compileValue_4 : decode cX5_compileValue 4 = .ok (.ifCond .ne 11, 3) := dk_154 0 11 (dk_at dksX5_compileValue_0 4 rfl rfl)
theorem dX5_compileValue_7 : decode cX5_compileValue 7 = .ok (.aload_n 0, 1) := dk_42 (dk_at dksX5_compileValue_0 7 rfl rfl)
theorem dX5_compileValue_8 : decode cX5_compileValue 8 = .ok (.getfield 273, 3) := dk_180 1 17 (dk_at dksX5_compileValue_0 8 rfl rfl)
theorem dX5_compileValue_11 : decode cX5_compileValue 11 = .ok (.iconst 2, 1) := dk_5 (dk_at dksX5_compileValue_0 11 rfl rfl)
theorem dX5_compileValue_12 : decode cX5_compileValue 12 = .ok (.if_icmp .ne 16, 3) := dk_160 0 16 (dk_at dksX5_compileValue_0 12 rfl rfl)
theorem dX5_compileValue_15 : decode cX5_compileValue 15 = .ok (.aload_n 0, 1) := dk_42 (dk_at dksX5_compileValue_0 15 rfl rfl)
theorem dX5_compileValue_16 : decode cX5_compileValue 16 = .ok (.aload_n 0, 1) := dk_42 (dk_at dksX5_compileValue_0 16 rfl rfl)
theorem dX5_compileValue_17 : decode cX5_compileValue 17 = .ok (.iconst 0, 1) := dk_3 (dk_at dksX5_compileValue_0 17 rfl rfl)
theorem dX5_compileValue_18 : decode cX5_compileValue 18 = .ok (.sipush 9999, 3) := dk_17 39 15 (dk_at dksX5_compileValue_0 18 rfl rfl)
theorem dX5_compileValue_21 : decode cX5_compileValue 21 = .ok (.invokevirtual 330, 3) := dk_182 1 74 (dk_at dksX5_compileValue_0 21 rfl rfl)
theorem dX5_compileValue_24 : decode cX5_compileValue 24 = .ok (.invokevirtual 363, 3) := dk_182 1 107 (dk_at dksX5_compileValue_1 0 rfl rfl)
theorem dX5_compileValue_27 : decode cX5_compileValue 27 = .ok (.return_, 1) := dk_177 (dk_at dksX5_compileValue_1 3 rfl rfl)
theorem dX5_compileValue_28 : decode cX5_compileValue 28 = .ok (.iconst 0, 1) := dk_3 (dk_at dksX5_compileValue_1 4 rfl rfl)
theorem dX5_compileValue_29 : decode cX5_compileValue 29 = .ok (.istore_n 1, 1) := dk_60 (dk_at dksX5_compileValue_1 5 rfl rfl)
theorem dX5_compileValue_30 : decode cX5_compileValue 30 = .ok (.iload_n 1, 1) := dk_27 (dk_at dksX5_compileValue_1 6 rfl rfl)
theorem dX5_compileValue_31 : decode cX5_compileValue 31 = .ok (.aload_n 0, 1) := dk_42 (dk_at dksX5_compileValue_1 7 rfl rfl)
theorem dX5_compileValue_32 : decode cX5_compileValue 32 = .ok (.getfield 56, 3) := dk_180 0 56 (dk_at dksX5_compileValue_1 8 rfl rfl)
theorem dX5_compileValue_35 : decode cX5_compileValue 35 = .ok (.arraylength, 1) := dk_190 (dk_at dksX5_compileValue_1 11 rfl rfl)
theorem dX5_compileValue_36 : decode cX5_compileValue 36 = .ok (.if_icmp .ge 22, 3) := dk_162 0 22 (dk_at dksX5_compileValue_1 12 rfl rfl)
theorem dX5_compileValue_39 : decode cX5_compileValue 39 = .ok (.aload_n 0, 1) := dk_42 (dk_at dksX5_compileValue_1 15 rfl rfl)
theorem dX5_compileValue_40 : decode cX5_compileValue 40 = .ok (.aload_n 0, 1) := dk_42 (dk_at dksX5_compileValue_1 16 rfl rfl)
theorem dX5_compileValue_41 : decode cX5_compileValue 41 = .ok (.getfield 56, 3) := dk_180 0 56 (dk_at dksX5_compileValue_1 17 rfl rfl)
theorem dX5_compileValue_44 : decode cX5_compileValue 44 = .ok (.iload_n 1, 1) := dk_27 (dk_at dksX5_compileValue_1 20 rfl rfl)
theorem dX5_compileValue_45 : decode cX5_compileValue 45 = .ok (.aaload, 1) := dk_50 (dk_at dksX5_compileValue_1 21 rfl rfl)
theorem dX5_compileValue_46 : decode cX5_compileValue 46 = .ok (.invokevirtual 304, 3) := dk_182 1 48 (dk_at dksX5_compileValue_2 0 rfl rfl)
theorem dX5_compileValue_49 : decode cX5_compileValue 49 = .ok (.ifCond .ne 9, 3) := dk_154 0 9 (dk_at dksX5_compileValue_2 3 rfl rfl)
theorem dX5_compileValue_52 : decode cX5_compileValue 52 = .ok (.iinc 1 1, 3) := dk_132 1 1 (dk_at dksX5_compileValue_2 6 rfl rfl)
theorem dX5_compileValue_55 : decode cX5_compileValue 55 = .ok (.goto (-25), 3) := dk_167 255 231 (dk_at dksX5_compileValue_2 9 rfl rfl)
theorem dX5_compileValue_58 : decode cX5_compileValue 58 = .ok (.aload_n 0, 1) := dk_42 (dk_at dksX5_compileValue_2 12 rfl rfl)
theorem dX5_compileValue_59 : decode cX5_compileValue 59 = .ok (.iload_n 1, 1) := dk_27 (dk_at dksX5_compileValue_2 13 rfl rfl)
theorem dX5_compileValue_60 : decode cX5_compileValue 60 = .ok (.aload_n 0, 1) := dk_42 (dk_at dksX5_compileValue_2 14 rfl rfl)
theorem dX5_compileValue_61 : decode cX5_compileValue 61 = .ok (.getfield 56, 3) := dk_180 0 56 (dk_at dksX5_compileValue_2 15 rfl rfl)
theorem dX5_compileValue_64 : decode cX5_compileValue 64 = .ok (.arraylength, 1) := dk_190 (dk_at dksX5_compileValue_2 18 rfl rfl)
theorem dX5_compileValue_65 : decode cX5_compileValue 65 = .ok (.if_icmp .ge 7, 3) := dk_162 0 7 (dk_at dksX5_compileValue_2 19 rfl rfl)
theorem dX5_compileValue_68 : decode cX5_compileValue 68 = .ok (.iconst 1, 1) := dk_4 (dk_at dksX5_compileValue_2 22 rfl rfl)
theorem dX5_compileValue_69 : decode cX5_compileValue 69 = .ok (.goto 4, 3) := dk_167 0 4 (dk_at dksX5_compileValue_3 0 rfl rfl)
theorem dX5_compileValue_72 : decode cX5_compileValue 72 = .ok (.iconst 0, 1) := dk_3 (dk_at dksX5_compileValue_3 3 rfl rfl)
theorem dX5_compileValue_73 : decode cX5_compileValue 73 = .ok (.iconst 1, 1) := dk_4 (dk_at dksX5_compileValue_3 4 rfl rfl)
theorem dX5_compileValue_74 : decode cX5_compileValue 74 = .ok (.invokevirtual 308, 3) := dk_182 1 52 (dk_at dksX5_compileValue_3 5 rfl rfl)
theorem dX5_compileValue_77 : decode cX5_compileValue 77 = .ok (.aload_n 0, 1) := dk_42 (dk_at dksX5_compileValue_3 8 rfl rfl)
theorem dX5_compileValue_78 : decode cX5_compileValue 78 = .ok (.iconst (-1), 1) := dk_2 (dk_at dksX5_compileValue_3 9 rfl rfl)
theorem dX5_compileValue_79 : decode cX5_compileValue 79 = .ok (.iload_n 1, 1) := dk_27 (dk_at dksX5_compileValue_3 10 rfl rfl)
theorem dX5_compileValue_80 : decode cX5_compileValue 80 = .ok (.isub, 1) := dk_100 (dk_at dksX5_compileValue_3 11 rfl rfl)
theorem dX5_compileValue_81 : decode cX5_compileValue 81 = .ok (.invokevirtual 363, 3) := dk_182 1 107 (dk_at dksX5_compileValue_3 12 rfl rfl)
theorem dX5_compileValue_84 : decode cX5_compileValue 84 = .ok (.aload_n 0, 1) := dk_42 (dk_at dksX5_compileValue_3 15 rfl rfl)
theorem dX5_compileValue_85 : decode cX5_compileValue 85 = .ok (.invokevirtual 312, 3) := dk_182 1 56 (dk_at dksX5_compileValue_3 16 rfl rfl)
theorem dX5_compileValue_88 : decode cX5_compileValue 88 = .ok (.return_, 1) := dk_177 (dk_at dksX5_compileValue_3 19 rfl rfl)
def dkwX5_accept_0 : List UInt8 := [42, 43, 182, 1, 48, 61, 28, 153, 0, 7, 42, 182, 1, 32, 28, 172]
abbrev dktX5_accept_0 : List UInt8 := dkwX5_accept_0 ++ []
theorem dksX5_accept_0 : cX5_accept.data.toList.drop 0 = dktX5_accept_0 := by decide +kernel
theorem dX5_accept_0 : decode cX5_accept 0 = .ok (.aload_n 0, 1) := dk_42 (dk_at dksX5_accept_0 0 rfl rfl)
theorem dX5_accept_1 : decode cX5_accept 1 = .ok (.aload_n 1, 1) := dk_43 (dk_at dksX5_accept_0 1 rfl rfl)
theorem dX5_accept_2 : decode cX5_accept 2 = .ok (.invokevirtual 304, 3) := dk_182 1 48 (dk_at dksX5_accept_0 2 rfl rfl)
theorem dX5_accept_5 : decode cX5_accept 5 = .ok (.istore_n 2, 1) := dk_61 (dk_at dksX5_accept_0 5 rfl rfl)
theorem dX5_accept_6 : decode cX5_accept 6 = .ok (.iload_n 2, 1) := dk_28 (dk_at dksX5_accept_0 6 rfl rfl)
theorem dX5_accept_7 : decode cX5_accept 7 = .ok (.ifCond .eq 7, 3) := dk_153 0 7 (dk_at dksX5_accept_0 7 rfl rfl)
theorem dX5_accept_10 : decode cX5_accept 10 = .ok (.aload_n 0, 1) := dk_42 (dk_at dksX5_accept_0 10 rfl rfl)
theorem dX5_accept_11 : decode cX5_accept 11 = .ok (.invokevirtual 288, 3) := dk_182 1 32 (dk_at dksX5_accept_0 11 rfl rfl)
theorem dX5_accept_14 : decode cX5_accept 14 = .ok (.iload_n 2, 1) := dk_28 (dk_at dksX5_accept_0 14 rfl rfl)
theorem dX5_accept_15 : decode cX5_accept 15 = .ok (.ireturn, 1) := dk_172 (dk_at dksX5_accept_0 15 rfl rfl)
def dkwX5_holdsFor_5 : List UInt8 := [132, 3, 1, 167, 255, 139, 42, 180, 0, 63, 3, 47, 10, 148, 154, 0, 7, 4, 167, 0, 4, 3, 172]
abbrev dktX5_holdsFor_5 : List UInt8 := dkwX5_holdsFor_5 ++ []
def dkwX5_holdsFor_4 : List UInt8 := [4, 100, 21, 4, 42, 180, 0, 63, 28, 4, 100, 47, 42, 180, 0, 63, 28, 47, 184, 1, 137, 80]
abbrev dktX5_holdsFor_4 : List UInt8 := dkwX5_holdsFor_4 ++ dktX5_holdsFor_5
def dkwX5_holdsFor_3 : List UInt8 := [27, 2, 21, 4, 100, 182, 1, 134, 133, 80, 132, 2, 1, 167, 0, 33, 132, 2, 255, 42, 180, 0, 63, 28]
abbrev dktX5_holdsFor_3 : List UInt8 := dkwX5_holdsFor_3 ++ dktX5_holdsFor_4
def dkwX5_holdsFor_2 : List UInt8 := [21, 4, 16, 236, 164, 0, 36, 42, 180, 0, 63, 28, 21, 4, 155, 0, 9, 21, 4, 133, 167, 0, 13, 42]
abbrev dktX5_holdsFor_2 : List UInt8 := dkwX5_holdsFor_2 ++ dktX5_holdsFor_3
def dkwX5_holdsFor_1 : List UInt8 := [160, 0, 24, 42, 180, 0, 63, 28, 4, 100, 10, 42, 180, 0, 63, 28, 4, 100, 47, 101, 80, 167, 0, 73]
abbrev dktX5_holdsFor_1 : List UInt8 := dkwX5_holdsFor_1 ++ dktX5_holdsFor_2
def dkwX5_holdsFor_0 : List UInt8 := [3, 61, 3, 62, 29, 42, 180, 1, 104, 162, 0, 115, 42, 180, 0, 60, 29, 46, 54, 4, 21, 4, 16, 233]
abbrev dktX5_holdsFor_0 : List UInt8 := dkwX5_holdsFor_0 ++ dktX5_holdsFor_1
theorem dksX5_holdsFor_0 : cX5_holdsFor.data.toList.drop 0 = dktX5_holdsFor_0 := by decide +kernel
theorem dksX5_holdsFor_1 : cX5_holdsFor.data.toList.drop 24 = dktX5_holdsFor_1 := dk_seg dksX5_holdsFor_0 24 rfl rfl
theorem dksX5_holdsFor_2 : cX5_holdsFor.data.toList.drop 48 = dktX5_holdsFor_2 := dk_seg dksX5_holdsFor_1 24 rfl rfl
theorem dksX5_holdsFor_3 : cX5_holdsFor.data.toList.drop 72 = dktX5_holdsFor_3 := dk_seg dksX5_holdsFor_2 24 rfl rfl
theorem dksX5_holdsFor_4 : cX5_holdsFor.data.toList.drop 96 = dktX5_holdsFor_4 := dk_seg dksX5_holdsFor_3 24 rfl rfl
theorem dksX5_holdsFor_5 : cX5_holdsFor.data.toList.drop 118 = dktX5_holdsFor_5 := dk_seg dksX5_holdsFor_4 22 rfl rfl
theorem dX5_holdsFor_0 : decode cX5_holdsFor 0 = .ok (.iconst 0, 1) := dk_3 (dk_at dksX5_holdsFor_0 0 rfl rfl)
theorem dX5_holdsFor_1 : decode cX5_holdsFor 1 = .ok (.istore_n 2, 1) := dk_61 (dk_at dksX5_holdsFor_0 1 rfl rfl)
theorem dX5_holdsFor_2 : decode cX5_holdsFor 2 = .ok (.iconst 0, 1) := dk_3 (dk_at dksX5_holdsFor_0 2 rfl rfl)
theorem dX5_holdsFor_3 : decode cX5_holdsFor 3 = .ok (.istore_n 3, 1) := dk_62 (dk_at dksX5_holdsFor_0 3 rfl rfl)
theorem dX5_holdsFor_4 : decode cX5_holdsFor 4 = .ok (.iload_n 3, 1) := dk_29 (dk_at dksX5_holdsFor_0 4 rfl rfl)
theorem dX5_holdsFor_5 : decode cX5_holdsFor 5 = .ok (.aload_n 0, 1) := dk_42 (dk_at dksX5_holdsFor_0 5 rfl rfl)
theorem dX5_holdsFor_6 : decode cX5_holdsFor 6 = .ok (.getfield 360, 3) := dk_180 1 104 (dk_at dksX5_holdsFor_0 6 rfl rfl)
theorem dX5_holdsFor_9 : decode cX5_holdsFor 9 = .ok (.if_icmp .ge 115, 3) := dk_162 0 115 (dk_at dksX5_holdsFor_0 9 rfl rfl)
theorem dX5_holdsFor_12 : decode cX5_holdsFor 12 = .ok (.aload_n 0, 1) := dk_42 (dk_at dksX5_holdsFor_0 12 rfl rfl)
theorem dX5_holdsFor_13 : decode cX5_holdsFor 13 = .ok (.getfield 60, 3) := dk_180 0 60 (dk_at dksX5_holdsFor_0 13 rfl rfl)
theorem dX5_holdsFor_16 : decode cX5_holdsFor 16 = .ok (.iload_n 3, 1) := dk_29 (dk_at dksX5_holdsFor_0 16 rfl rfl)
theorem dX5_holdsFor_17 : decode cX5_holdsFor 17 = .ok (.iaload, 1) := dk_46 (dk_at dksX5_holdsFor_0 17 rfl rfl)
theorem dX5_holdsFor_18 : decode cX5_holdsFor 18 = .ok (.istore 4, 2) := dk_54 4 (dk_at dksX5_holdsFor_0 18 rfl rfl)
theorem dX5_holdsFor_20 : decode cX5_holdsFor 20 = .ok (.iload 4, 2) := dk_21 4 (dk_at dksX5_holdsFor_0 20 rfl rfl)
theorem dX5_holdsFor_22 : decode cX5_holdsFor 22 = .ok (.bipush (-23), 2) := dk_16 233 (dk_at dksX5_holdsFor_0 22 rfl rfl)
theorem dX5_holdsFor_24 : decode cX5_holdsFor 24 = .ok (.if_icmp .ne 24, 3) := dk_160 0 24 (dk_at dksX5_holdsFor_1 0 rfl rfl)
theorem dX5_holdsFor_27 : decode cX5_holdsFor 27 = .ok (.aload_n 0, 1) := dk_42 (dk_at dksX5_holdsFor_1 3 rfl rfl)
theorem dX5_holdsFor_28 : decode cX5_holdsFor 28 = .ok (.getfield 63, 3) := dk_180 0 63 (dk_at dksX5_holdsFor_1 4 rfl rfl)
theorem dX5_holdsFor_31 : decode cX5_holdsFor 31 = .ok (.iload_n 2, 1) := dk_28 (dk_at dksX5_holdsFor_1 7 rfl rfl)
theorem dX5_holdsFor_32 : decode cX5_holdsFor 32 = .ok (.iconst 1, 1) := dk_4 (dk_at dksX5_holdsFor_1 8 rfl rfl)
theorem dX5_holdsFor_33 : decode cX5_holdsFor 33 = .ok (.isub, 1) := dk_100 (dk_at dksX5_holdsFor_1 9 rfl rfl)
theorem dX5_holdsFor_34 : decode cX5_holdsFor 34 = .ok (.lconst 1, 1) := dk_10 (dk_at dksX5_holdsFor_1 10 rfl rfl)
theorem dX5_holdsFor_35 : decode cX5_holdsFor 35 = .ok (.aload_n 0, 1) := dk_42 (dk_at dksX5_holdsFor_1 11 rfl rfl)
theorem dX5_holdsFor_36 : decode cX5_holdsFor 36 = .ok (.getfield 63, 3) := dk_180 0 63 (dk_at dksX5_holdsFor_1 12 rfl rfl)
theorem dX5_holdsFor_39 : decode cX5_holdsFor 39 = .ok (.iload_n 2, 1) := dk_28 (dk_at dksX5_holdsFor_1 15 rfl rfl)
theorem dX5_holdsFor_40 : decode cX5_holdsFor 40 = .ok (.iconst 1, 1) := dk_4 (dk_at dksX5_holdsFor_1 16 rfl rfl)
theorem dX5_holdsFor_41 : decode cX5_holdsFor 41 = .ok (.isub, 1) := dk_100 (dk_at dksX5_holdsFor_1 17 rfl rfl)
theorem dX5_holdsFor_42 : decode cX5_holdsFor 42 = .ok (.laload, 1) := dk_47 (dk_at dksX5_holdsFor_1 18 rfl rfl)
theorem dX5_holdsFor_43 : decode cX5_holdsFor 43 = .ok (.lsub, 1) := dk_101 (dk_at dksX5_holdsFor_1 19 rfl rfl)
theorem dX5_holdsFor_44 : decode cX5_holdsFor 44 = .ok (.lastore, 1) := dk_80 (dk_at dksX5_holdsFor_1 20 rfl rfl)
theorem dX5_holdsFor_45 : decode cX5_holdsFor 45 = .ok (.goto 73, 3) := dk_167 0 73 (dk_at dksX5_holdsFor_1 21 rfl rfl)
theorem dX5_holdsFor_48 : decode cX5_holdsFor 48 = .ok (.iload 4, 2) := dk_21 4 (dk_at dksX5_holdsFor_2 0 rfl rfl)
theorem dX5_holdsFor_50 : decode cX5_holdsFor 50 = .ok (.bipush (-20), 2) := dk_16 236 (dk_at dksX5_holdsFor_2 2 rfl rfl)
theorem dX5_holdsFor_52 : decode cX5_holdsFor 52 = .ok (.if_icmp .le 36, 3) := dk_164 0 36 (dk_at dksX5_holdsFor_2 4 rfl rfl)
theorem dX5_holdsFor_55 : decode cX5_holdsFor 55 = .ok (.aload_n 0, 1) := dk_42 (dk_at dksX5_holdsFor_2 7 rfl rfl)
theorem dX5_holdsFor_56 : decode cX5_holdsFor 56 = .ok (.getfield 63, 3) := dk_180 0 63 (dk_at dksX5_holdsFor_2 8 rfl rfl)
theorem dX5_holdsFor_59 : decode cX5_holdsFor 59 = .ok (.iload_n 2, 1) := dk_28 (dk_at dksX5_holdsFor_2 11 rfl rfl)
theorem dX5_holdsFor_60 : decode cX5_holdsFor 60 = .ok (.iload 4, 2) := dk_21 4 (dk_at dksX5_holdsFor_2 12 rfl rfl)
theorem dX5_holdsFor_62 : decode cX5_holdsFor 62 = .ok (.ifCond .lt 9, 3) := dk_155 0 9 (dk_at dksX5_holdsFor_2 14 rfl rfl)
theorem dX5_holdsFor_65 : decode cX5_holdsFor 65 = .ok (.iload 4, 2) := dk_21 4 (dk_at dksX5_holdsFor_2 17 rfl rfl)
theorem dX5_holdsFor_67 : decode cX5_holdsFor 67 = .ok (.i2l, 1) := dk_133 (dk_at dksX5_holdsFor_2 19 rfl rfl)
theorem dX5_holdsFor_68 : decode cX5_holdsFor 68 = .ok (.goto 13, 3) := dk_167 0 13 (dk_at dksX5_holdsFor_2 20 rfl rfl)
theorem dX5_holdsFor_71 : decode cX5_holdsFor 71 = .ok (.aload_n 0, 1) := dk_42 (dk_at dksX5_holdsFor_2 23 rfl rfl)
theorem dX5_holdsFor_72 : decode cX5_holdsFor 72 = .ok (.iload_n 1, 1) := dk_27 (dk_at dksX5_holdsFor_3 0 rfl rfl)
theorem dX5_holdsFor_73 : decode cX5_holdsFor 73 = .ok (.iconst (-1), 1) := dk_2 (dk_at dksX5_holdsFor_3 1 rfl rfl)
theorem dX5_holdsFor_74 : decode cX5_holdsFor 74 = .ok (.iload 4, 2) := dk_21 4 (dk_at dksX5_holdsFor_3 2 rfl rfl)
theorem dX5_holdsFor_76 : decode cX5_holdsFor 76 = .ok (.isub, 1) := dk_100 (dk_at dksX5_holdsFor_3 4 rfl rfl)
theorem dX5_holdsFor_77 : decode cX5_holdsFor 77 = .ok (.invokevirtual 390, 3) := dk_182 1 134 (dk_at dksX5_holdsFor_3 5 rfl rfl)
theorem dX5_holdsFor_80 : decode cX5_holdsFor 80 = .ok (.i2l, 1) := dk_133 (dk_at dksX5_holdsFor_3 8 rfl rfl)
theorem dX5_holdsFor_81 : decode cX5_holdsFor 81 = .ok (.lastore, 1) := dk_80 (dk_at dksX5_holdsFor_3 9 rfl rfl)
theorem dX5_holdsFor_82 : decode cX5_holdsFor 82 = .ok (.iinc 2 1, 3) := dk_132 2 1 (dk_at dksX5_holdsFor_3 10 rfl rfl)
theorem dX5_holdsFor_85 : decode cX5_holdsFor 85 = .ok (.goto 33, 3) := dk_167 0 33 (dk_at dksX5_holdsFor_3 13 rfl rfl)
theorem dX5_holdsFor_88 : decode cX5_holdsFor 88 = .ok (.iinc 2 (-1), 3) := dk_132 2 255 (dk_at dksX5_holdsFor_3 16 rfl rfl)
theorem dX5_holdsFor_91 : decode cX5_holdsFor 91 = .ok (.aload_n 0, 1) := dk_42 (dk_at dksX5_holdsFor_3 19 rfl rfl)
theorem dX5_holdsFor_92 : decode cX5_holdsFor 92 = .ok (.getfield 63, 3) := dk_180 0 63 (dk_at dksX5_holdsFor_3 20 rfl rfl)
theorem dX5_holdsFor_95 : decode cX5_holdsFor 95 = .ok (.iload_n 2, 1) := dk_28 (dk_at dksX5_holdsFor_3 23 rfl rfl)
theorem dX5_holdsFor_96 : decode cX5_holdsFor 96 = .ok (.iconst 1, 1) := dk_4 (dk_at dksX5_holdsFor_4 0 rfl rfl)
theorem dX5_holdsFor_97 : decode cX5_holdsFor 97 = .ok (.isub, 1) := dk_100 (dk_at dksX5_holdsFor_4 1 rfl rfl)
theorem dX5_holdsFor_98 : decode cX5_holdsFor 98 = .ok (.iload 4, 2) := dk_21 4 (dk_at dksX5_holdsFor_4 2 rfl rfl)
theorem dX5_holdsFor_100 : decode cX5_holdsFor 100 = .ok (.aload_n 0, 1) := dk_42 (dk_at dksX5_holdsFor_4 4 rfl rfl)
theorem dX5_holdsFor_101 : decode cX5_holdsFor 101 = .ok (.getfield 63, 3) := dk_180 0 63 (dk_at dksX5_holdsFor_4 5 rfl rfl)
theorem dX5_holdsFor_104 : decode cX5_holdsFor 104 = .ok (.iload_n 2, 1) := dk_28 (dk_at dksX5_holdsFor_4 8 rfl rfl)
theorem dX5_holdsFor_105 : decode cX5_holdsFor 105 = .ok (.iconst 1, 1) := dk_4 (dk_at dksX5_holdsFor_4 9 rfl rfl)
theorem dX5_holdsFor_106 : decode cX5_holdsFor 106 = .ok (.isub, 1) := dk_100 (dk_at dksX5_holdsFor_4 10 rfl rfl)
theorem dX5_holdsFor_107 : decode cX5_holdsFor 107 = .ok (.laload, 1) := dk_47 (dk_at dksX5_holdsFor_4 11 rfl rfl)
theorem dX5_holdsFor_108 : decode cX5_holdsFor 108 = .ok (.aload_n 0, 1) := dk_42 (dk_at dksX5_holdsFor_4 12 rfl rfl)
theorem dX5_holdsFor_109 : decode cX5_holdsFor 109 = .ok (.getfield 63, 3) := dk_180 0 63 (dk_at dksX5_holdsFor_4 13 rfl rfl)
theorem dX5_holdsFor_112 : decode cX5_holdsFor 112 = .ok (.iload_n 2, 1) := dk_28 (dk_at dksX5_holdsFor_4 16 rfl rfl)
theorem dX5_holdsFor_113 : decode cX5_holdsFor 113 = .ok (.laload, 1) := dk_47 (dk_at dksX5_holdsFor_4 17 rfl rfl)
theorem dX5_holdsFor_114 : decode cX5_holdsFor 114 = .ok (.invokestatic 393, 3) := dk_184 1 137 (dk_at dksX5_holdsFor_4 18 rfl rfl)
theorem dX5_holdsFor_117 : decode cX5_holdsFor 117 = .ok (.lastore, 1) := dk_80 (dk_at dksX5_holdsFor_4 21 rfl rfl)
theorem dX5_holdsFor_118 : decode cX5_holdsFor 118 = .ok (.iinc 3 1, 3) := dk_132 3 1 (dk_at dksX5_holdsFor_5 0 rfl rfl)
theorem dX5_holdsFor_121 : decode cX5_holdsFor 121 = .ok (.goto (-117), 3) := dk_167 255 139 (dk_at dksX5_holdsFor_5 3 rfl rfl)
theorem dX5_holdsFor_124 : decode cX5_holdsFor 124 = .ok (.aload_n 0, 1) := dk_42 (dk_at dksX5_holdsFor_5 6 rfl rfl)
theorem dX5_holdsFor_125 : decode cX5_holdsFor 125 = .ok (.getfield 63, 3) := dk_180 0 63 (dk_at dksX5_holdsFor_5 7 rfl rfl)
theorem dX5_holdsFor_128 : decode cX5_holdsFor 128 = .ok (.iconst 0, 1) := dk_3 (dk_at dksX5_holdsFor_5 10 rfl rfl)
theorem dX5_holdsFor_129 : decode cX5_holdsFor 129 = .ok (.laload, 1) := dk_47 (dk_at dksX5_holdsFor_5 11 rfl rfl)
theorem dX5_holdsFor_130 : decode cX5_holdsFor 130 = .ok (.lconst 1, 1) := dk_10 (dk_at dksX5_holdsFor_5 12 rfl rfl)
theorem dX5_holdsFor_131 : decode cX5_holdsFor 131 = .ok (.lcmp, 1) := dk_148 (dk_at dksX5_holdsFor_5 13 rfl rfl)
theorem dX5_holdsFor_132 : decode cX5_holdsFor 132 = .ok (.ifCond .ne 7, 3) := dk_154 0 7 (dk_at dksX5_holdsFor_5 14 rfl rfl)
theorem dX5_holdsFor_135 : decode cX5_holdsFor 135 = .ok (.iconst 1, 1) := dk_4 (dk_at dksX5_holdsFor_5 17 rfl rfl)
theorem dX5_holdsFor_136 : decode cX5_holdsFor 136 = .ok (.goto 4, 3) := dk_167 0 4 (dk_at dksX5_holdsFor_5 18 rfl rfl)
theorem dX5_holdsFor_139 : decode cX5_holdsFor 139 = .ok (.iconst 0, 1) := dk_3 (dk_at dksX5_holdsFor_5 21 rfl rfl)
theorem dX5_holdsFor_140 : decode cX5_holdsFor 140 = .ok (.ireturn, 1) := dk_172 (dk_at dksX5_holdsFor_5 22 rfl rfl)
def dkwX5_property_5 : List UInt8 := [184, 0, 183, 172, 42, 27, 5, 182, 0, 96, 172]
abbrev dktX5_property_5 : List UInt8 := dkwX5_property_5 ++ []
def dkwX5_property_4 : List UInt8 := [182, 0, 96, 42, 182, 0, 127, 184, 0, 130, 153, 0, 7, 4, 167, 0, 4, 3, 172, 42, 27, 182, 0, 181]
abbrev dktX5_property_4 : List UInt8 := dkwX5_property_4 ++ dktX5_property_5
def dkwX5_property_3 : List UInt8 := [182, 0, 96, 184, 0, 212, 172, 42, 27, 182, 0, 144, 172, 42, 182, 0, 127, 2, 159, 0, 23, 42, 27, 4]
abbrev dktX5_property_3 : List UInt8 := dkwX5_property_3 ++ dktX5_property_4
def dkwX5_property_2 : List UInt8 := [27, 172, 42, 27, 3, 182, 0, 96, 172, 42, 27, 4, 182, 0, 96, 184, 0, 183, 172, 42, 27, 4]
abbrev dktX5_property_2 : List UInt8 := dkwX5_property_2 ++ dktX5_property_3
def dkwX5_property_1 : List UInt8 := [170, 0, 0, 0, 0, 0, 117, 0, 0, 0, 0, 0, 0, 0, 6, 0, 0, 0, 43, 0, 0, 0, 45, 0, 0, 0, 52, 0, 0, 0, 62, 0, 0, 0, 72, 0, 0, 0, 78, 0, 0, 0, 108]
abbrev dktX5_property_1 : List UInt8 := dkwX5_property_1 ++ dktX5_property_2
def dkwX5_property_0 : List UInt8 := [28]
abbrev dktX5_property_0 : List UInt8 := dkwX5_property_0 ++ dktX5_property_1
theorem dksX5_property_0 : cX5_property.data.toList.drop 0 = dktX5_property_0 := by decide +kernel
theorem dksX5_property_1 : cX5_property.data.toList.drop 1 = dktX5_property_1 := dk_seg dksX5_property_0 1 rfl rfl
theorem dksX5_property_2 : cX5_property.data.toList.drop 44 = dktX5_property_2 := dk_seg dksX5_property_1 43 rfl rfl
theorem dksX5_property_3 : cX5_property.data.toList.drop 66 = dktX5_property_3 := dk_seg dksX5_property_2 22 rfl rfl
theorem dksX5_property_4 : cX5_property.data.toList.drop 90 = dktX5_property_4 := dk_seg dksX5_property_3 24 rfl rfl
theorem dksX5_property_5 : cX5_property.data.toList.drop 114 = dktX5_property_5 := dk_seg dksX5_property_4 24 rfl rfl
theorem dX5_property_0 : decode cX5_property 0 = .ok (.iload_n 2, 1) := dk_28 (dk_at dksX5_property_0 0 rfl rfl)
theorem dX5_property_1 : decode cX5_property 1 = .ok (.tableswitch 117 0 6 #[43, 45, 52, 62, 72, 78, 108], 43) := by decide +kernel
theorem dX5_property_44 : decode cX5_property 44 = .ok (.iload_n 1, 1) := dk_27 (dk_at dksX5_property_2 0 rfl rfl)
theorem dX5_property_45 : decode cX5_property 45 = .ok (.ireturn, 1) := dk_172 (dk_at dksX5_property_2 1 rfl rfl)
theorem dX5_property_46 : decode cX5_property 46 = .ok (.aload_n 0, 1) := dk_42 (dk_at dksX5_property_2 2 rfl rfl)
theorem dX5_property_47 : decode cX5_property 47 = .ok (.iload_n 1, 1) := dk_27 (dk_at dksX5_property_2 3 rfl rfl)
theorem dX5_property_48 : decode cX5_property 48 = .ok (.iconst 0, 1) := dk_3 (dk_at dksX5_property_2 4 rfl rfl)
theorem dX5_property_49 : decode cX5_property 49 = .ok (.invokevirtual 96, 3) := dk_182 0 96 (dk_at dksX5_property_2 5 rfl rfl)
theorem dX5_property_52 : decode cX5_property 52 = .ok (.ireturn, 1) := dk_172 (dk_at dksX5_property_2 8 rfl rfl)
theorem dX5_property_53 : decode cX5_property 53 = .ok (.aload_n 0, 1) := dk_42 (dk_at dksX5_property_2 9 rfl rfl)
theorem dX5_property_54 : decode cX5_property 54 = .ok (.iload_n 1, 1) := dk_27 (dk_at dksX5_property_2 10 rfl rfl)
theorem dX5_property_55 : decode cX5_property 55 = .ok (.iconst 1, 1) := dk_4 (dk_at dksX5_property_2 11 rfl rfl)
theorem dX5_property_56 : decode cX5_property 56 = .ok (.invokevirtual 96, 3) := dk_182 0 96 (dk_at dksX5_property_2 12 rfl rfl)
theorem dX5_property_59 : decode cX5_property 59 = .ok (.invokestatic 183, 3) := dk_184 0 183 (dk_at dksX5_property_2 15 rfl rfl)
theorem dX5_property_62 : decode cX5_property 62 = .ok (.ireturn, 1) := dk_172 (dk_at dksX5_property_2 18 rfl rfl)
theorem dX5_property_63 : decode cX5_property 63 = .ok (.aload_n 0, 1) := dk_42 (dk_at dksX5_property_2 19 rfl rfl)
theorem dX5_property_64 : decode cX5_property 64 = .ok (.iload_n 1, 1) := dk_27 (dk_at dksX5_property_2 20 rfl rfl)
theorem dX5_property_65 : decode cX5_property 65 = .ok (.iconst 1, 1) := dk_4 (dk_at dksX5_property_2 21 rfl rfl)
theorem dX5_property_66 : decode cX5_property 66 = .ok (.invokevirtual 96, 3) := dk_182 0 96 (dk_at dksX5_property_3 0 rfl rfl)
theorem dX5_property_69 : decode cX5_property 69 = .ok (.invokestatic 212, 3) := dk_184 0 212 (dk_at dksX5_property_3 3 rfl rfl)
theorem dX5_property_72 : decode cX5_property 72 = .ok (.ireturn, 1) := dk_172 (dk_at dksX5_property_3 6 rfl rfl)
theorem dX5_property_73 : decode cX5_property 73 = .ok (.aload_n 0, 1) := dk_42 (dk_at dksX5_property_3 7 rfl rfl)
theorem dX5_property_74 : decode cX5_property 74 = .ok (.iload_n 1, 1) := dk_27 (dk_at dksX5_property_3 8 rfl rfl)
theorem dX5_property_75 : decode cX5_property 75 = .ok (.invokevirtual 144, 3) := dk_182 0 144 (dk_at dksX5_property_3 9 rfl rfl)
theorem dX5_property_78 : decode cX5_property 78 = .ok (.ireturn, 1) := dk_172 (dk_at dksX5_property_3 12 rfl rfl)
theorem dX5_property_79 : decode cX5_property 79 = .ok (.aload_n 0, 1) := dk_42 (dk_at dksX5_property_3 13 rfl rfl)
theorem dX5_property_80 : decode cX5_property 80 = .ok (.invokevirtual 127, 3) := dk_182 0 127 (dk_at dksX5_property_3 14 rfl rfl)
theorem dX5_property_83 : decode cX5_property 83 = .ok (.iconst (-1), 1) := dk_2 (dk_at dksX5_property_3 17 rfl rfl)
theorem dX5_property_84 : decode cX5_property 84 = .ok (.if_icmp .eq 23, 3) := dk_159 0 23 (dk_at dksX5_property_3 18 rfl rfl)
theorem dX5_property_87 : decode cX5_property 87 = .ok (.aload_n 0, 1) := dk_42 (dk_at dksX5_property_3 21 rfl rfl)
theorem dX5_property_88 : decode cX5_property 88 = .ok (.iload_n 1, 1) := dk_27 (dk_at dksX5_property_3 22 rfl rfl)
theorem dX5_property_89 : decode cX5_property 89 = .ok (.iconst 1, 1) := dk_4 (dk_at dksX5_property_3 23 rfl rfl)
theorem dX5_property_90 : decode cX5_property 90 = .ok (.invokevirtual 96, 3) := dk_182 0 96 (dk_at dksX5_property_4 0 rfl rfl)
theorem dX5_property_93 : decode cX5_property 93 = .ok (.aload_n 0, 1) := dk_42 (dk_at dksX5_property_4 3 rfl rfl)
theorem dX5_property_94 : decode cX5_property 94 = .ok (.invokevirtual 127, 3) := dk_182 0 127 (dk_at dksX5_property_4 4 rfl rfl)
theorem dX5_property_97 : decode cX5_property 97 = .ok (.invokestatic 130, 3) := dk_184 0 130 (dk_at dksX5_property_4 7 rfl rfl)
theorem dX5_property_100 : decode cX5_property 100 = .ok (.ifCond .eq 7, 3) := dk_153 0 7 (dk_at dksX5_property_4 10 rfl rfl)
theorem dX5_property_103 : decode cX5_property 103 = .ok (.iconst 1, 1) := dk_4 (dk_at dksX5_property_4 13 rfl rfl)
theorem dX5_property_104 : decode cX5_property 104 = .ok (.goto 4, 3) := dk_167 0 4 (dk_at dksX5_property_4 14 rfl rfl)
theorem dX5_property_107 : decode cX5_property 107 = .ok (.iconst 0, 1) := dk_3 (dk_at dksX5_property_4 17 rfl rfl)
theorem dX5_property_108 : decode cX5_property 108 = .ok (.ireturn, 1) := dk_172 (dk_at dksX5_property_4 18 rfl rfl)
theorem dX5_property_109 : decode cX5_property 109 = .ok (.aload_n 0, 1) := dk_42 (dk_at dksX5_property_4 19 rfl rfl)
theorem dX5_property_110 : decode cX5_property 110 = .ok (.iload_n 1, 1) := dk_27 (dk_at dksX5_property_4 20 rfl rfl)
theorem dX5_property_111 : decode cX5_property 111 = .ok (.invokevirtual 181, 3) := dk_182 0 181 (dk_at dksX5_property_4 21 rfl rfl)
theorem dX5_property_114 : decode cX5_property 114 = .ok (.invokestatic 183, 3) := dk_184 0 183 (dk_at dksX5_property_5 0 rfl rfl)
theorem dX5_property_117 : decode cX5_property 117 = .ok (.ireturn, 1) := dk_172 (dk_at dksX5_property_5 3 rfl rfl)
theorem dX5_property_118 : decode cX5_property 118 = .ok (.aload_n 0, 1) := dk_42 (dk_at dksX5_property_5 4 rfl rfl)
theorem dX5_property_119 : decode cX5_property 119 = .ok (.iload_n 1, 1) := dk_27 (dk_at dksX5_property_5 5 rfl rfl)
theorem dX5_property_120 : decode cX5_property 120 = .ok (.iconst 2, 1) := dk_5 (dk_at dksX5_property_5 6 rfl rfl)
theorem dX5_property_121 : decode cX5_property 121 = .ok (.invokevirtual 96, 3) := dk_182 0 96 (dk_at dksX5_property_5 7 rfl rfl)
theorem dX5_property_124 : decode cX5_property 124 = .ok (.ireturn, 1) := dk_172 (dk_at dksX5_property_5 10 rfl rfl)
def dkwX5_operate_3 : List UInt8 := [31, 33, 148, 158, 0, 7, 10, 167, 0, 4, 9, 173, 31, 33, 127, 173, 31, 33, 129, 173]
abbrev dktX5_operate_3 : List UInt8 := dkwX5_operate_3 ++ []
def dkwX5_operate_2 : List UInt8 := [31, 33, 148, 156, 0, 7, 10, 167, 0, 4, 9, 173, 31, 33, 148, 154, 0, 7, 10, 167, 0, 4, 9, 173]
abbrev dktX5_operate_2 : List UInt8 := dkwX5_operate_2 ++ dktX5_operate_3
def dkwX5_operate_1 : List UInt8 := [170, 0, 0, 0, 0, 0, 75, 255, 255, 255, 232, 255, 255, 255, 236, 0, 0, 0, 71, 0, 0, 0, 75, 0, 0, 0, 59, 0, 0, 0, 47, 0, 0, 0, 35]
abbrev dktX5_operate_1 : List UInt8 := dkwX5_operate_1 ++ dktX5_operate_2
def dkwX5_operate_0 : List UInt8 := [26]
abbrev dktX5_operate_0 : List UInt8 := dkwX5_operate_0 ++ dktX5_operate_1
theorem dksX5_operate_0 : cX5_operate.data.toList.drop 0 = dktX5_operate_0 := by decide +kernel
theorem dksX5_operate_1 : cX5_operate.data.toList.drop 1 = dktX5_operate_1 := dk_seg dksX5_operate_0 1 rfl rfl
theorem dksX5_operate_2 : cX5_operate.data.toList.drop 36 = dktX5_operate_2 := dk_seg dksX5_operate_1 35 rfl rfl
theorem dksX5_operate_3 : cX5_operate.data.toList.drop 60 = dktX5_operate_3 := dk_seg dksX5_operate_2 24 rfl rfl
theorem dX5_operate_0 : decode cX5_operate 0 = .ok (.iload_n 0, 1) := dk_26 (dk_at dksX5_operate_0 0 rfl rfl)
theorem dX5_operate_1 : decode cX5_operate 1 = .ok (.tableswitch 75 (-24) (-20) #[71, 75, 59, 47, 35], 35) := by decide +kernel
theorem dX5_operate_36 : decode cX5_operate 36 = .ok (.lload_n 1, 1) := dk_31 (dk_at dksX5_operate_2 0 rfl rfl)
theorem dX5_operate_37 : decode cX5_operate 37 = .ok (.lload_n 3, 1) := dk_33 (dk_at dksX5_operate_2 1 rfl rfl)
theorem dX5_operate_38 : decode cX5_operate 38 = .ok (.lcmp, 1) := dk_148 (dk_at dksX5_operate_2 2 rfl rfl)
theorem dX5_operate_39 : decode cX5_operate 39 = .ok (.ifCond .ge 7, 3) := dk_156 0 7 (dk_at dksX5_operate_2 3 rfl rfl)
theorem dX5_operate_42 : decode cX5_operate 42 = .ok (.lconst 1, 1) := dk_10 (dk_at dksX5_operate_2 6 rfl rfl)
theorem dX5_operate_43 : decode cX5_operate 43 = .ok (.goto 4, 3) := dk_167 0 4 (dk_at dksX5_operate_2 7 rfl rfl)
theorem dX5_operate_46 : decode cX5_operate 46 = .ok (.lconst 0, 1) := dk_9 (dk_at dksX5_operate_2 10 rfl rfl)
theorem dX5_operate_47 : decode cX5_operate 47 = .ok (.lreturn, 1) := dk_173 (dk_at dksX5_operate_2 11 rfl rfl)
theorem dX5_operate_48 : decode cX5_operate 48 = .ok (.lload_n 1, 1) := dk_31 (dk_at dksX5_operate_2 12 rfl rfl)
theorem dX5_operate_49 : decode cX5_operate 49 = .ok (.lload_n 3, 1) := dk_33 (dk_at dksX5_operate_2 13 rfl rfl)
theorem dX5_operate_50 : decode cX5_operate 50 = .ok (.lcmp, 1) := dk_148 (dk_at dksX5_operate_2 14 rfl rfl)
theorem dX5_operate_51 : decode cX5_operate 51 = .ok (.ifCond .ne 7, 3) := dk_154 0 7 (dk_at dksX5_operate_2 15 rfl rfl)
theorem dX5_operate_54 : decode cX5_operate 54 = .ok (.lconst 1, 1) := dk_10 (dk_at dksX5_operate_2 18 rfl rfl)
theorem dX5_operate_55 : decode cX5_operate 55 = .ok (.goto 4, 3) := dk_167 0 4 (dk_at dksX5_operate_2 19 rfl rfl)
theorem dX5_operate_58 : decode cX5_operate 58 = .ok (.lconst 0, 1) := dk_9 (dk_at dksX5_operate_2 22 rfl rfl)
theorem dX5_operate_59 : decode cX5_operate 59 = .ok (.lreturn, 1) := dk_173 (dk_at dksX5_operate_2 23 rfl rfl)
theorem dX5_operate_60 : decode cX5_operate 60 = .ok (.lload_n 1, 1) := dk_31 (dk_at dksX5_operate_3 0 rfl rfl)
theorem dX5_operate_61 : decode cX5_operate 61 = .ok (.lload_n 3, 1) := dk_33 (dk_at dksX5_operate_3 1 rfl rfl)
theorem dX5_operate_62 : decode cX5_operate 62 = .ok (.lcmp, 1) := dk_148 (dk_at dksX5_operate_3 2 rfl rfl)
theorem dX5_operate_63 : decode cX5_operate 63 = .ok (.ifCond .le 7, 3) := dk_158 0 7 (dk_at dksX5_operate_3 3 rfl rfl)
theorem dX5_operate_66 : decode cX5_operate 66 = .ok (.lconst 1, 1) := dk_10 (dk_at dksX5_operate_3 6 rfl rfl)
theorem dX5_operate_67 : decode cX5_operate 67 = .ok (.goto 4, 3) := dk_167 0 4 (dk_at dksX5_operate_3 7 rfl rfl)
theorem dX5_operate_70 : decode cX5_operate 70 = .ok (.lconst 0, 1) := dk_9 (dk_at dksX5_operate_3 10 rfl rfl)
theorem dX5_operate_71 : decode cX5_operate 71 = .ok (.lreturn, 1) := dk_173 (dk_at dksX5_operate_3 11 rfl rfl)
theorem dX5_operate_72 : decode cX5_operate 72 = .ok (.lload_n 1, 1) := dk_31 (dk_at dksX5_operate_3 12 rfl rfl)
theorem dX5_operate_73 : decode cX5_operate 73 = .ok (.lload_n 3, 1) := dk_33 (dk_at dksX5_operate_3 13 rfl rfl)
theorem dX5_operate_74 : decode cX5_operate 74 = .ok (.land, 1) := dk_127 (dk_at dksX5_operate_3 14 rfl rfl)
theorem dX5_operate_75 : decode cX5_operate 75 = .ok (.lreturn, 1) := dk_173 (dk_at dksX5_operate_3 15 rfl rfl)
theorem dX5_operate_76 : decode cX5_operate 76 = .ok (.lload_n 1, 1) := dk_31 (dk_at dksX5_operate_3 16 rfl rfl)
theorem dX5_operate_77 : decode cX5_operate 77 = .ok (.lload_n 3, 1) := dk_33 (dk_at dksX5_operate_3 17 rfl rfl)
theorem dX5_operate_78 : decode cX5_operate 78 = .ok (.lor, 1) := dk_129 (dk_at dksX5_operate_3 18 rfl rfl)
theorem dX5_operate_79 : decode cX5_operate 79 = .ok (.lreturn, 1) := dk_173 (dk_at dksX5_operate_3 19 rfl rfl)
