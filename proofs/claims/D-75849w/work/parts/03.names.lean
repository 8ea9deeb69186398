/-! classes, methods, words: out of claim/names -/
set_option maxRecDepth 100000
def RX0 : String := "KeyTurnsLaw"
abbrev cX0_load : ByteArray := method_3_code
def yX0_load : MethodName := ⟨RX0, "load", "(LKeyTurns;I[J)I"⟩
abbrev cX0_size : ByteArray := method_4_code
def yX0_size : MethodName := ⟨RX0, "size", "(LKeyTurns;I[J)I"⟩
abbrev cX0_version : ByteArray := method_5_code
def yX0_version : MethodName := ⟨RX0, "version", "(LKeyTurns;II[J)I"⟩
abbrev cX0_record : ByteArray := method_6_code
def yX0_record : MethodName := ⟨RX0, "record", "(LKeyTurns;II[J)I"⟩
abbrev cX0_client : ByteArray := method_7_code
def yX0_client : MethodName := ⟨RX0, "client", "(LKeyTurns;II[J)I"⟩
abbrev cX0_canUse : ByteArray := method_8_code
def yX0_canUse : MethodName := ⟨RX0, "canUse", "(LKeyTurns;II[J)I"⟩
abbrev cX0_readsBy : ByteArray := method_9_code
def yX0_readsBy : MethodName := ⟨RX0, "readsBy", "(LKeyTurns;II[J)I"⟩
abbrev cX0_couldRead : ByteArray := method_10_code
def yX0_couldRead : MethodName := ⟨RX0, "couldRead", "(LKeyTurns;II[J)I"⟩
abbrev cX0_nextAsk : ByteArray := method_11_code
def yX0_nextAsk : MethodName := ⟨RX0, "nextAsk", "(LKeyTurns;I[J)I"⟩
abbrev cX0_readersBehind : ByteArray := method_12_code
def yX0_readersBehind : MethodName := ⟨RX0, "readersBehind", "(LKeyTurns;II[J)I"⟩
abbrev cX0_dark : ByteArray := method_13_code
def yX0_dark : MethodName := ⟨RX0, "dark", "(LKeyTurns;II[J)I"⟩
abbrev cX0_leastBatch : ByteArray := method_14_code
def yX0_leastBatch : MethodName := ⟨RX0, "leastBatch", "(LKeyTurns;I[J)I"⟩
abbrev cX0_damage : ByteArray := method_15_code
def yX0_damage : MethodName := ⟨RX0, "damage", "(LKeyTurns;I[J)I"⟩
abbrev cX0_pass : ByteArray := method_16_code
def yX0_pass : MethodName := ⟨RX0, "pass", "(LKeyTurns;I[J)I"⟩
abbrev cX0_withdraw : ByteArray := method_17_code
def yX0_withdraw : MethodName := ⟨RX0, "withdraw", "(LKeyTurns;I[J)I"⟩
abbrev cX0_drop : ByteArray := method_18_code
def yX0_drop : MethodName := ⟨RX0, "drop", "(LKeyTurns;I[J)I"⟩
abbrev cX0_ask : ByteArray := method_19_code
def yX0_ask : MethodName := ⟨RX0, "ask", "(LKeyTurns;I[J)I"⟩
abbrev cX0_read : ByteArray := method_20_code
def yX0_read : MethodName := ⟨RX0, "read", "(LKeyTurns;II[J)I"⟩
abbrev cX0_setBatch : ByteArray := method_21_code
def yX0_setBatch : MethodName := ⟨RX0, "setBatch", "(LKeyTurns;I[J)I"⟩
abbrev cX0_format : ByteArray := method_22_code
def yX0_format : MethodName := ⟨RX0, "format", "(LKeyTurns;I[J)I"⟩
abbrev cX0_query : ByteArray := method_23_code
def yX0_query : MethodName := ⟨RX0, "query", "(LKeyTurns;I[J)I"⟩
theorem q108 : (Jvm.Cond.initialized "KeyTurnsLaw") ∈ lw_all := lw_g (lw_at lw_m1 0 rfl) rfl
theorem q167 : (Jvm.Cond.classLink "KeyTurnsLaw" (8 : Nat) "KeyTurns") ∈ lw_all := lw_g (lw_at lw_m1 59 rfl) rfl
theorem q169 : (Jvm.Cond.methodLink "KeyTurnsLaw" (79 : Nat) ({ cls := "KeyTurns", name := "<init>", desc := "()V" } : Jvm.MethodName)) ∈ lw_all := lw_g (lw_at lw_m1 61 rfl) rfl
theorem q449 : (Jvm.Cond.methodLink "KeyTurnsLaw" (83 : Nat) ({ cls := "KeyTurns", name := "feed", desc := "(IIIII)I" } : Jvm.MethodName)) ∈ lw_all := lw_g (lw_at lw_m2 101 rfl) rfl
theorem q457 : (Jvm.Cond.methodLink "KeyTurnsLaw" (98 : Nat) ({ cls := "KeyTurns", name := "errorPosition", desc := "()I" } : Jvm.MethodName)) ∈ lw_all := lw_g (lw_at lw_m2 109 rfl) rfl
theorem q461 : (Jvm.Cond.methodLink "KeyTurnsLaw" (124 : Nat) ({ cls := "KeyTurns", name := "sweepAt", desc := "(I)I" } : Jvm.MethodName)) ∈ lw_all := lw_g (lw_at lw_m2 113 rfl) rfl
theorem q549 : (Jvm.Cond.methodLink "KeyTurnsLaw" (128 : Nat) ({ cls := "KeyTurns", name := "nextIssue", desc := "()I" } : Jvm.MethodName)) ∈ lw_all := lw_g (lw_at lw_m2 201 rfl) rfl
theorem q565 : (Jvm.Cond.methodLink "KeyTurnsLaw" (147 : Nat) ({ cls := "KeyTurns", name := "meanWraps", desc := "()D" } : Jvm.MethodName)) ∈ lw_all := lw_g (lw_at lw_m2 217 rfl) rfl
theorem q590 : (Jvm.Cond.methodLink "KeyTurnsLaw" (152 : Nat) ({ cls := "KeyTurns", name := "readable", desc := "()F" } : Jvm.MethodName)) ∈ lw_all := lw_g (lw_at lw_m3 2 rfl) rfl
theorem q621 : (Jvm.Cond.methodLink "KeyTurnsLaw" (160 : Nat) ({ cls := "KeyTurns", name := "rotate", desc := "()I" } : Jvm.MethodName)) ∈ lw_all := lw_g (lw_at lw_m3 33 rfl) rfl
theorem q1407 : (Jvm.Cond.methodLink "KeyTurnsLaw" (167 : Nat) ({ cls := "KeyTurns", name := "make", desc := "()I" } : Jvm.MethodName)) ∈ lw_all := lw_g (lw_at lw_m6 99 rfl) rfl
theorem q1416 : (Jvm.Cond.methodLink "KeyTurnsLaw" (190 : Nat) ({ cls := "KeyTurns", name := "undoCount", desc := "()I" } : Jvm.MethodName)) ∈ lw_all := lw_g (lw_at lw_m6 108 rfl) rfl
theorem q1420 : (Jvm.Cond.methodLink "KeyTurnsLaw" (194 : Nat) ({ cls := "KeyTurns", name := "undo", desc := "()I" } : Jvm.MethodName)) ∈ lw_all := lw_g (lw_at lw_m6 112 rfl) rfl
theorem q1439 : (Jvm.Cond.methodLink "KeyTurnsLaw" (198 : Nat) ({ cls := "KeyTurns", name := "saveSnapshot", desc := "()V" } : Jvm.MethodName)) ∈ lw_all := lw_g (lw_at lw_m6 131 rfl) rfl
theorem q1443 : (Jvm.Cond.methodLink "KeyTurnsLaw" (202 : Nat) ({ cls := "KeyTurns", name := "restoreSnapshot", desc := "()Z" } : Jvm.MethodName)) ∈ lw_all := lw_g (lw_at lw_m6 135 rfl) rfl
theorem q1454 : (Jvm.Cond.methodLink "KeyTurnsLaw" (186 : Nat) ({ cls := "KeyTurns", name := "formattedByte", desc := "(I)I" } : Jvm.MethodName)) ∈ lw_all := lw_g (lw_at lw_m6 146 rfl) rfl
theorem q1482 : (Jvm.Cond.methodLink "KeyTurnsLaw" (88 : Nat) ({ cls := "KeyTurnsLaw", name := "load", desc := "(LKeyTurns;I[J)I" } : Jvm.MethodName)) ∈ lw_all := lw_g (lw_at lw_m6 174 rfl) rfl
theorem q1483 : (Jvm.Cond.static ({ cls := "KeyTurnsLaw", name := "load", desc := "(LKeyTurns;I[J)I" } : Jvm.MethodName)) ∈ lw_all := lw_g (lw_at lw_m6 175 rfl) rfl
theorem q1484 : (Jvm.Cond.codeWith ({ cls := "KeyTurnsLaw", name := "load", desc := "(LKeyTurns;I[J)I" } : Jvm.MethodName) method_3_code (4 : Nat) (Option.some Jvm.ClassFile.FieldType.int) [((0 : Nat), (9 : Nat), (12 : Nat), (13 : Nat))]) ∈ lw_all := lw_g (lw_at lw_m6 176 rfl) rfl
theorem q1485 : (Jvm.Cond.classLink "KeyTurnsLaw" (13 : Nat) "java/lang/IllegalArgumentException") ∈ lw_all := lw_g (lw_at lw_m6 177 rfl) rfl
theorem q1486 : (Jvm.Cond.methodLink "KeyTurnsLaw" (7 : Nat) ({ cls := "KeyTurns", name := "load", desc := "(I)I" } : Jvm.MethodName)) ∈ lw_all := lw_g (lw_at lw_m6 178 rfl) rfl
theorem q1793 : (Jvm.Cond.methodLink "KeyTurnsLaw" (102 : Nat) ({ cls := "KeyTurnsLaw", name := "size", desc := "(LKeyTurns;I[J)I" } : Jvm.MethodName)) ∈ lw_all := lw_g (lw_at lw_m8 5 rfl) rfl
theorem q1794 : (Jvm.Cond.static ({ cls := "KeyTurnsLaw", name := "size", desc := "(LKeyTurns;I[J)I" } : Jvm.MethodName)) ∈ lw_all := lw_g (lw_at lw_m8 6 rfl) rfl
theorem q1795 : (Jvm.Cond.codeWith ({ cls := "KeyTurnsLaw", name := "size", desc := "(LKeyTurns;I[J)I" } : Jvm.MethodName) method_4_code (4 : Nat) (Option.some Jvm.ClassFile.FieldType.int) [((0 : Nat), (9 : Nat), (12 : Nat), (18 : Nat))]) ∈ lw_all := lw_g (lw_at lw_m8 7 rfl) rfl
theorem q1796 : (Jvm.Cond.classLink "KeyTurnsLaw" (18 : Nat) "java/util/NoSuchElementException") ∈ lw_all := lw_g (lw_at lw_m8 8 rfl) rfl
theorem q1797 : (Jvm.Cond.methodLink "KeyTurnsLaw" (15 : Nat) ({ cls := "KeyTurns", name := "size", desc := "(I)I" } : Jvm.MethodName)) ∈ lw_all := lw_g (lw_at lw_m8 9 rfl) rfl
theorem q1823 : (Jvm.Cond.methodLink "KeyTurnsLaw" (105 : Nat) ({ cls := "KeyTurnsLaw", name := "version", desc := "(LKeyTurns;II[J)I" } : Jvm.MethodName)) ∈ lw_all := lw_g (lw_at lw_m8 35 rfl) rfl
theorem q1824 : (Jvm.Cond.static ({ cls := "KeyTurnsLaw", name := "version", desc := "(LKeyTurns;II[J)I" } : Jvm.MethodName)) ∈ lw_all := lw_g (lw_at lw_m8 36 rfl) rfl
theorem q1825 : (Jvm.Cond.codeWith ({ cls := "KeyTurnsLaw", name := "version", desc := "(LKeyTurns;II[J)I" } : Jvm.MethodName) method_5_code (5 : Nat) (Option.some Jvm.ClassFile.FieldType.int) [((0 : Nat), (10 : Nat), (13 : Nat), (18 : Nat))]) ∈ lw_all := lw_g (lw_at lw_m8 37 rfl) rfl
theorem q1826 : (Jvm.Cond.methodLink "KeyTurnsLaw" (20 : Nat) ({ cls := "KeyTurns", name := "version", desc := "(II)I" } : Jvm.MethodName)) ∈ lw_all := lw_g (lw_at lw_m8 38 rfl) rfl
theorem q1886 : (Jvm.Cond.methodLink "KeyTurnsLaw" (109 : Nat) ({ cls := "KeyTurnsLaw", name := "record", desc := "(LKeyTurns;II[J)I" } : Jvm.MethodName)) ∈ lw_all := lw_g (lw_at lw_m8 98 rfl) rfl
theorem q1887 : (Jvm.Cond.static ({ cls := "KeyTurnsLaw", name := "record", desc := "(LKeyTurns;II[J)I" } : Jvm.MethodName)) ∈ lw_all := lw_g (lw_at lw_m8 99 rfl) rfl
theorem q1888 : (Jvm.Cond.codeWith ({ cls := "KeyTurnsLaw", name := "record", desc := "(LKeyTurns;II[J)I" } : Jvm.MethodName) method_6_code (5 : Nat) (Option.some Jvm.ClassFile.FieldType.int) [((0 : Nat), (10 : Nat), (13 : Nat), (18 : Nat))]) ∈ lw_all := lw_g (lw_at lw_m8 100 rfl) rfl
theorem q1889 : (Jvm.Cond.methodLink "KeyTurnsLaw" (24 : Nat) ({ cls := "KeyTurns", name := "record", desc := "(II)I" } : Jvm.MethodName)) ∈ lw_all := lw_g (lw_at lw_m8 101 rfl) rfl
theorem q1907 : (Jvm.Cond.methodLink "KeyTurnsLaw" (112 : Nat) ({ cls := "KeyTurnsLaw", name := "client", desc := "(LKeyTurns;II[J)I" } : Jvm.MethodName)) ∈ lw_all := lw_g (lw_at lw_m8 119 rfl) rfl
theorem q1908 : (Jvm.Cond.static ({ cls := "KeyTurnsLaw", name := "client", desc := "(LKeyTurns;II[J)I" } : Jvm.MethodName)) ∈ lw_all := lw_g (lw_at lw_m8 120 rfl) rfl
theorem q1909 : (Jvm.Cond.codeWith ({ cls := "KeyTurnsLaw", name := "client", desc := "(LKeyTurns;II[J)I" } : Jvm.MethodName) method_7_code (5 : Nat) (Option.some Jvm.ClassFile.FieldType.int) [((0 : Nat), (10 : Nat), (13 : Nat), (18 : Nat))]) ∈ lw_all := lw_g (lw_at lw_m8 121 rfl) rfl
theorem q1910 : (Jvm.Cond.methodLink "KeyTurnsLaw" (27 : Nat) ({ cls := "KeyTurns", name := "client", desc := "(II)I" } : Jvm.MethodName)) ∈ lw_all := lw_g (lw_at lw_m8 122 rfl) rfl
theorem q1927 : (Jvm.Cond.methodLink "KeyTurnsLaw" (115 : Nat) ({ cls := "KeyTurnsLaw", name := "canUse", desc := "(LKeyTurns;II[J)I" } : Jvm.MethodName)) ∈ lw_all := lw_g (lw_at lw_m8 139 rfl) rfl
theorem q1928 : (Jvm.Cond.static ({ cls := "KeyTurnsLaw", name := "canUse", desc := "(LKeyTurns;II[J)I" } : Jvm.MethodName)) ∈ lw_all := lw_g (lw_at lw_m8 140 rfl) rfl
theorem q1929 : (Jvm.Cond.codeWith ({ cls := "KeyTurnsLaw", name := "canUse", desc := "(LKeyTurns;II[J)I" } : Jvm.MethodName) method_8_code (5 : Nat) (Option.some Jvm.ClassFile.FieldType.int) [((0 : Nat), (17 : Nat), (20 : Nat), (18 : Nat))]) ∈ lw_all := lw_g (lw_at lw_m8 141 rfl) rfl
theorem q1930 : (Jvm.Cond.methodLink "KeyTurnsLaw" (30 : Nat) ({ cls := "KeyTurns", name := "canUse", desc := "(II)Z" } : Jvm.MethodName)) ∈ lw_all := lw_g (lw_at lw_m8 142 rfl) rfl
theorem q1935 : (Jvm.Cond.methodLink "KeyTurnsLaw" (118 : Nat) ({ cls := "KeyTurnsLaw", name := "readsBy", desc := "(LKeyTurns;II[J)I" } : Jvm.MethodName)) ∈ lw_all := lw_g (lw_at lw_m8 147 rfl) rfl
theorem q1936 : (Jvm.Cond.static ({ cls := "KeyTurnsLaw", name := "readsBy", desc := "(LKeyTurns;II[J)I" } : Jvm.MethodName)) ∈ lw_all := lw_g (lw_at lw_m8 148 rfl) rfl
theorem q1937 : (Jvm.Cond.codeWith ({ cls := "KeyTurnsLaw", name := "readsBy", desc := "(LKeyTurns;II[J)I" } : Jvm.MethodName) method_9_code (5 : Nat) (Option.some Jvm.ClassFile.FieldType.int) [((0 : Nat), (10 : Nat), (13 : Nat), (18 : Nat))]) ∈ lw_all := lw_g (lw_at lw_m8 149 rfl) rfl
theorem q1938 : (Jvm.Cond.methodLink "KeyTurnsLaw" (34 : Nat) ({ cls := "KeyTurns", name := "readsBy", desc := "(II)I" } : Jvm.MethodName)) ∈ lw_all := lw_g (lw_at lw_m8 150 rfl) rfl
theorem q1943 : (Jvm.Cond.methodLink "KeyTurnsLaw" (121 : Nat) ({ cls := "KeyTurnsLaw", name := "couldRead", desc := "(LKeyTurns;II[J)I" } : Jvm.MethodName)) ∈ lw_all := lw_g (lw_at lw_m8 155 rfl) rfl
theorem q1944 : (Jvm.Cond.static ({ cls := "KeyTurnsLaw", name := "couldRead", desc := "(LKeyTurns;II[J)I" } : Jvm.MethodName)) ∈ lw_all := lw_g (lw_at lw_m8 156 rfl) rfl
theorem q1945 : (Jvm.Cond.codeWith ({ cls := "KeyTurnsLaw", name := "couldRead", desc := "(LKeyTurns;II[J)I" } : Jvm.MethodName) method_10_code (5 : Nat) (Option.some Jvm.ClassFile.FieldType.int) [((0 : Nat), (10 : Nat), (13 : Nat), (18 : Nat))]) ∈ lw_all := lw_g (lw_at lw_m8 157 rfl) rfl
theorem q1946 : (Jvm.Cond.methodLink "KeyTurnsLaw" (37 : Nat) ({ cls := "KeyTurns", name := "couldRead", desc := "(II)I" } : Jvm.MethodName)) ∈ lw_all := lw_g (lw_at lw_m8 158 rfl) rfl
theorem q1956 : (Jvm.Cond.methodLink "KeyTurnsLaw" (132 : Nat) ({ cls := "KeyTurnsLaw", name := "nextAsk", desc := "(LKeyTurns;I[J)I" } : Jvm.MethodName)) ∈ lw_all := lw_g (lw_at lw_m8 168 rfl) rfl
theorem q1957 : (Jvm.Cond.static ({ cls := "KeyTurnsLaw", name := "nextAsk", desc := "(LKeyTurns;I[J)I" } : Jvm.MethodName)) ∈ lw_all := lw_g (lw_at lw_m8 169 rfl) rfl
theorem q1958 : (Jvm.Cond.codeWith ({ cls := "KeyTurnsLaw", name := "nextAsk", desc := "(LKeyTurns;I[J)I" } : Jvm.MethodName) method_11_code (4 : Nat) (Option.some Jvm.ClassFile.FieldType.int) [((0 : Nat), (9 : Nat), (12 : Nat), (18 : Nat))]) ∈ lw_all := lw_g (lw_at lw_m8 170 rfl) rfl
theorem q1959 : (Jvm.Cond.methodLink "KeyTurnsLaw" (40 : Nat) ({ cls := "KeyTurns", name := "nextAsk", desc := "(I)I" } : Jvm.MethodName)) ∈ lw_all := lw_g (lw_at lw_m8 171 rfl) rfl
theorem q1967 : (Jvm.Cond.methodLink "KeyTurnsLaw" (135 : Nat) ({ cls := "KeyTurnsLaw", name := "readersBehind", desc := "(LKeyTurns;II[J)I" } : Jvm.MethodName)) ∈ lw_all := lw_g (lw_at lw_m8 179 rfl) rfl
theorem q1968 : (Jvm.Cond.static ({ cls := "KeyTurnsLaw", name := "readersBehind", desc := "(LKeyTurns;II[J)I" } : Jvm.MethodName)) ∈ lw_all := lw_g (lw_at lw_m8 180 rfl) rfl
theorem q1969 : (Jvm.Cond.codeWith ({ cls := "KeyTurnsLaw", name := "readersBehind", desc := "(LKeyTurns;II[J)I" } : Jvm.MethodName) method_12_code (5 : Nat) (Option.some Jvm.ClassFile.FieldType.int) [((0 : Nat), (10 : Nat), (13 : Nat), (18 : Nat)), ((0 : Nat), (10 : Nat), (17 : Nat), (13 : Nat))]) ∈ lw_all := lw_g (lw_at lw_m8 181 rfl) rfl
theorem q1970 : (Jvm.Cond.methodLink "KeyTurnsLaw" (43 : Nat) ({ cls := "KeyTurns", name := "readersBehind", desc := "(II)I" } : Jvm.MethodName)) ∈ lw_all := lw_g (lw_at lw_m8 182 rfl) rfl
theorem q1992 : (Jvm.Cond.methodLink "KeyTurnsLaw" (138 : Nat) ({ cls := "KeyTurnsLaw", name := "dark", desc := "(LKeyTurns;II[J)I" } : Jvm.MethodName)) ∈ lw_all := lw_g (lw_at lw_m8 204 rfl) rfl
theorem q1993 : (Jvm.Cond.static ({ cls := "KeyTurnsLaw", name := "dark", desc := "(LKeyTurns;II[J)I" } : Jvm.MethodName)) ∈ lw_all := lw_g (lw_at lw_m8 205 rfl) rfl
theorem q1994 : (Jvm.Cond.codeWith ({ cls := "KeyTurnsLaw", name := "dark", desc := "(LKeyTurns;II[J)I" } : Jvm.MethodName) method_13_code (5 : Nat) (Option.some Jvm.ClassFile.FieldType.int) [((0 : Nat), (10 : Nat), (13 : Nat), (18 : Nat)), ((0 : Nat), (10 : Nat), (17 : Nat), (13 : Nat))]) ∈ lw_all := lw_g (lw_at lw_m8 206 rfl) rfl
theorem q1995 : (Jvm.Cond.methodLink "KeyTurnsLaw" (46 : Nat) ({ cls := "KeyTurns", name := "dark", desc := "(II)I" } : Jvm.MethodName)) ∈ lw_all := lw_g (lw_at lw_m8 207 rfl) rfl
theorem q2016 : (Jvm.Cond.methodLink "KeyTurnsLaw" (141 : Nat) ({ cls := "KeyTurnsLaw", name := "leastBatch", desc := "(LKeyTurns;I[J)I" } : Jvm.MethodName)) ∈ lw_all := lw_g (lw_at lw_m8 228 rfl) rfl
theorem q2017 : (Jvm.Cond.static ({ cls := "KeyTurnsLaw", name := "leastBatch", desc := "(LKeyTurns;I[J)I" } : Jvm.MethodName)) ∈ lw_all := lw_g (lw_at lw_m8 229 rfl) rfl
theorem q2018 : (Jvm.Cond.codeWith ({ cls := "KeyTurnsLaw", name := "leastBatch", desc := "(LKeyTurns;I[J)I" } : Jvm.MethodName) method_14_code (4 : Nat) (Option.some Jvm.ClassFile.FieldType.int) [((0 : Nat), (9 : Nat), (12 : Nat), (13 : Nat))]) ∈ lw_all := lw_g (lw_at lw_m8 230 rfl) rfl
theorem q2019 : (Jvm.Cond.methodLink "KeyTurnsLaw" (49 : Nat) ({ cls := "KeyTurns", name := "leastBatch", desc := "(I)I" } : Jvm.MethodName)) ∈ lw_all := lw_g (lw_at lw_m8 231 rfl) rfl
theorem q2023 : (Jvm.Cond.methodLink "KeyTurnsLaw" (144 : Nat) ({ cls := "KeyTurnsLaw", name := "damage", desc := "(LKeyTurns;I[J)I" } : Jvm.MethodName)) ∈ lw_all := lw_g (lw_at lw_m8 235 rfl) rfl
theorem q2024 : (Jvm.Cond.static ({ cls := "KeyTurnsLaw", name := "damage", desc := "(LKeyTurns;I[J)I" } : Jvm.MethodName)) ∈ lw_all := lw_g (lw_at lw_m8 236 rfl) rfl
theorem q2025 : (Jvm.Cond.codeWith ({ cls := "KeyTurnsLaw", name := "damage", desc := "(LKeyTurns;I[J)I" } : Jvm.MethodName) method_15_code (4 : Nat) (Option.some Jvm.ClassFile.FieldType.int) [((0 : Nat), (9 : Nat), (12 : Nat), (18 : Nat))]) ∈ lw_all := lw_g (lw_at lw_m8 237 rfl) rfl
theorem q2026 : (Jvm.Cond.methodLink "KeyTurnsLaw" (52 : Nat) ({ cls := "KeyTurns", name := "damage", desc := "(I)I" } : Jvm.MethodName)) ∈ lw_all := lw_g (lw_at lw_m8 238 rfl) rfl
theorem q2064 : (Jvm.Cond.methodLink "KeyTurnsLaw" (157 : Nat) ({ cls := "KeyTurnsLaw", name := "pass", desc := "(LKeyTurns;I[J)I" } : Jvm.MethodName)) ∈ lw_all := lw_g (lw_at lw_m9 36 rfl) rfl
theorem q2065 : (Jvm.Cond.static ({ cls := "KeyTurnsLaw", name := "pass", desc := "(LKeyTurns;I[J)I" } : Jvm.MethodName)) ∈ lw_all := lw_g (lw_at lw_m9 37 rfl) rfl
theorem q2066 : (Jvm.Cond.codeWith ({ cls := "KeyTurnsLaw", name := "pass", desc := "(LKeyTurns;I[J)I" } : Jvm.MethodName) method_16_code (4 : Nat) (Option.some Jvm.ClassFile.FieldType.int) [((0 : Nat), (9 : Nat), (12 : Nat), (13 : Nat))]) ∈ lw_all := lw_g (lw_at lw_m9 38 rfl) rfl
theorem q2067 : (Jvm.Cond.methodLink "KeyTurnsLaw" (55 : Nat) ({ cls := "KeyTurns", name := "pass", desc := "(I)I" } : Jvm.MethodName)) ∈ lw_all := lw_g (lw_at lw_m9 39 rfl) rfl
theorem q2087 : (Jvm.Cond.methodLink "KeyTurnsLaw" (164 : Nat) ({ cls := "KeyTurnsLaw", name := "withdraw", desc := "(LKeyTurns;I[J)I" } : Jvm.MethodName)) ∈ lw_all := lw_g (lw_at lw_m9 59 rfl) rfl
theorem q2088 : (Jvm.Cond.static ({ cls := "KeyTurnsLaw", name := "withdraw", desc := "(LKeyTurns;I[J)I" } : Jvm.MethodName)) ∈ lw_all := lw_g (lw_at lw_m9 60 rfl) rfl
theorem q2089 : (Jvm.Cond.codeWith ({ cls := "KeyTurnsLaw", name := "withdraw", desc := "(LKeyTurns;I[J)I" } : Jvm.MethodName) method_17_code (4 : Nat) (Option.some Jvm.ClassFile.FieldType.int) [((0 : Nat), (9 : Nat), (12 : Nat), (18 : Nat))]) ∈ lw_all := lw_g (lw_at lw_m9 61 rfl) rfl
theorem q2090 : (Jvm.Cond.methodLink "KeyTurnsLaw" (58 : Nat) ({ cls := "KeyTurns", name := "withdraw", desc := "(I)I" } : Jvm.MethodName)) ∈ lw_all := lw_g (lw_at lw_m9 62 rfl) rfl
theorem q2094 : (Jvm.Cond.methodLink "KeyTurnsLaw" (171 : Nat) ({ cls := "KeyTurnsLaw", name := "drop", desc := "(LKeyTurns;I[J)I" } : Jvm.MethodName)) ∈ lw_all := lw_g (lw_at lw_m9 66 rfl) rfl
theorem q2095 : (Jvm.Cond.static ({ cls := "KeyTurnsLaw", name := "drop", desc := "(LKeyTurns;I[J)I" } : Jvm.MethodName)) ∈ lw_all := lw_g (lw_at lw_m9 67 rfl) rfl
theorem q2096 : (Jvm.Cond.codeWith ({ cls := "KeyTurnsLaw", name := "drop", desc := "(LKeyTurns;I[J)I" } : Jvm.MethodName) method_18_code (4 : Nat) (Option.some Jvm.ClassFile.FieldType.int) [((0 : Nat), (9 : Nat), (12 : Nat), (18 : Nat))]) ∈ lw_all := lw_g (lw_at lw_m9 68 rfl) rfl
theorem q2097 : (Jvm.Cond.methodLink "KeyTurnsLaw" (61 : Nat) ({ cls := "KeyTurns", name := "drop", desc := "(I)I" } : Jvm.MethodName)) ∈ lw_all := lw_g (lw_at lw_m9 69 rfl) rfl
theorem q2101 : (Jvm.Cond.methodLink "KeyTurnsLaw" (174 : Nat) ({ cls := "KeyTurnsLaw", name := "ask", desc := "(LKeyTurns;I[J)I" } : Jvm.MethodName)) ∈ lw_all := lw_g (lw_at lw_m9 73 rfl) rfl
theorem q2102 : (Jvm.Cond.static ({ cls := "KeyTurnsLaw", name := "ask", desc := "(LKeyTurns;I[J)I" } : Jvm.MethodName)) ∈ lw_all := lw_g (lw_at lw_m9 74 rfl) rfl
theorem q2103 : (Jvm.Cond.codeWith ({ cls := "KeyTurnsLaw", name := "ask", desc := "(LKeyTurns;I[J)I" } : Jvm.MethodName) method_19_code (4 : Nat) (Option.some Jvm.ClassFile.FieldType.int) [((0 : Nat), (9 : Nat), (12 : Nat), (18 : Nat))]) ∈ lw_all := lw_g (lw_at lw_m9 75 rfl) rfl
theorem q2104 : (Jvm.Cond.methodLink "KeyTurnsLaw" (64 : Nat) ({ cls := "KeyTurns", name := "ask", desc := "(I)I" } : Jvm.MethodName)) ∈ lw_all := lw_g (lw_at lw_m9 76 rfl) rfl
theorem q2109 : (Jvm.Cond.methodLink "KeyTurnsLaw" (177 : Nat) ({ cls := "KeyTurnsLaw", name := "read", desc := "(LKeyTurns;II[J)I" } : Jvm.MethodName)) ∈ lw_all := lw_g (lw_at lw_m9 81 rfl) rfl
theorem q2110 : (Jvm.Cond.static ({ cls := "KeyTurnsLaw", name := "read", desc := "(LKeyTurns;II[J)I" } : Jvm.MethodName)) ∈ lw_all := lw_g (lw_at lw_m9 82 rfl) rfl
theorem q2111 : (Jvm.Cond.codeWith ({ cls := "KeyTurnsLaw", name := "read", desc := "(LKeyTurns;II[J)I" } : Jvm.MethodName) method_20_code (5 : Nat) (Option.some Jvm.ClassFile.FieldType.int) [((0 : Nat), (10 : Nat), (13 : Nat), (18 : Nat))]) ∈ lw_all := lw_g (lw_at lw_m9 83 rfl) rfl
theorem q2112 : (Jvm.Cond.methodLink "KeyTurnsLaw" (67 : Nat) ({ cls := "KeyTurns", name := "read", desc := "(II)I" } : Jvm.MethodName)) ∈ lw_all := lw_g (lw_at lw_m9 84 rfl) rfl
theorem q2116 : (Jvm.Cond.methodLink "KeyTurnsLaw" (180 : Nat) ({ cls := "KeyTurnsLaw", name := "setBatch", desc := "(LKeyTurns;I[J)I" } : Jvm.MethodName)) ∈ lw_all := lw_g (lw_at lw_m9 88 rfl) rfl
theorem q2117 : (Jvm.Cond.static ({ cls := "KeyTurnsLaw", name := "setBatch", desc := "(LKeyTurns;I[J)I" } : Jvm.MethodName)) ∈ lw_all := lw_g (lw_at lw_m9 89 rfl) rfl
theorem q2118 : (Jvm.Cond.codeWith ({ cls := "KeyTurnsLaw", name := "setBatch", desc := "(LKeyTurns;I[J)I" } : Jvm.MethodName) method_21_code (4 : Nat) (Option.some Jvm.ClassFile.FieldType.int) [((0 : Nat), (9 : Nat), (12 : Nat), (13 : Nat))]) ∈ lw_all := lw_g (lw_at lw_m9 90 rfl) rfl
theorem q2119 : (Jvm.Cond.methodLink "KeyTurnsLaw" (70 : Nat) ({ cls := "KeyTurns", name := "setBatch", desc := "(I)I" } : Jvm.MethodName)) ∈ lw_all := lw_g (lw_at lw_m9 91 rfl) rfl
theorem q2124 : (Jvm.Cond.methodLink "KeyTurnsLaw" (183 : Nat) ({ cls := "KeyTurnsLaw", name := "format", desc := "(LKeyTurns;I[J)I" } : Jvm.MethodName)) ∈ lw_all := lw_g (lw_at lw_m9 96 rfl) rfl
theorem q2125 : (Jvm.Cond.static ({ cls := "KeyTurnsLaw", name := "format", desc := "(LKeyTurns;I[J)I" } : Jvm.MethodName)) ∈ lw_all := lw_g (lw_at lw_m9 97 rfl) rfl
theorem q2126 : (Jvm.Cond.codeWith ({ cls := "KeyTurnsLaw", name := "format", desc := "(LKeyTurns;I[J)I" } : Jvm.MethodName) method_22_code (4 : Nat) (Option.some Jvm.ClassFile.FieldType.int) [((0 : Nat), (9 : Nat), (12 : Nat), (18 : Nat))]) ∈ lw_all := lw_g (lw_at lw_m9 98 rfl) rfl
theorem q2127 : (Jvm.Cond.methodLink "KeyTurnsLaw" (73 : Nat) ({ cls := "KeyTurns", name := "format", desc := "(I)I" } : Jvm.MethodName)) ∈ lw_all := lw_g (lw_at lw_m9 99 rfl) rfl
theorem q2139 : (Jvm.Cond.methodLink "KeyTurnsLaw" (207 : Nat) ({ cls := "KeyTurnsLaw", name := "query", desc := "(LKeyTurns;I[J)I" } : Jvm.MethodName)) ∈ lw_all := lw_g (lw_at lw_m9 111 rfl) rfl
theorem q2140 : (Jvm.Cond.static ({ cls := "KeyTurnsLaw", name := "query", desc := "(LKeyTurns;I[J)I" } : Jvm.MethodName)) ∈ lw_all := lw_g (lw_at lw_m9 112 rfl) rfl
theorem q2141 : (Jvm.Cond.codeWith ({ cls := "KeyTurnsLaw", name := "query", desc := "(LKeyTurns;I[J)I" } : Jvm.MethodName) method_23_code (4 : Nat) (Option.some Jvm.ClassFile.FieldType.int) [((0 : Nat), (9 : Nat), (12 : Nat), (13 : Nat))]) ∈ lw_all := lw_g (lw_at lw_m9 113 rfl) rfl
theorem q2142 : (Jvm.Cond.methodLink "KeyTurnsLaw" (76 : Nat) ({ cls := "KeyTurns", name := "query", desc := "(I)I" } : Jvm.MethodName)) ∈ lw_all := lw_g (lw_at lw_m9 114 rfl) rfl
theorem q2443 : (Jvm.Cond.classLink "KeyTurnsLaw" (80 : Nat) "KeyTurnsModel") ∈ lw_all := lw_g (lw_at lw_m10 175 rfl) rfl
theorem q2445 : (Jvm.Cond.methodLink "KeyTurnsLaw" (82 : Nat) ({ cls := "KeyTurnsModel", name := "<init>", desc := "()V" } : Jvm.MethodName)) ∈ lw_all := lw_g (lw_at lw_m10 177 rfl) rfl
theorem q2551 : (Jvm.Cond.methodLink "KeyTurnsLaw" (94 : Nat) ({ cls := "KeyTurnsModel", name := "thrown", desc := "()I" } : Jvm.MethodName)) ∈ lw_all := lw_g (lw_at lw_m11 43 rfl) rfl
theorem q2555 : (Jvm.Cond.methodLink "KeyTurnsLaw" (104 : Nat) ({ cls := "KeyTurnsModel", name := "size", desc := "(I)I" } : Jvm.MethodName)) ∈ lw_all := lw_g (lw_at lw_m11 47 rfl) rfl
theorem q2610 : (Jvm.Cond.methodLink "KeyTurnsLaw" (108 : Nat) ({ cls := "KeyTurnsModel", name := "version", desc := "(II)I" } : Jvm.MethodName)) ∈ lw_all := lw_g (lw_at lw_m11 102 rfl) rfl
theorem q2629 : (Jvm.Cond.methodLink "KeyTurnsLaw" (111 : Nat) ({ cls := "KeyTurnsModel", name := "record", desc := "(II)I" } : Jvm.MethodName)) ∈ lw_all := lw_g (lw_at lw_m11 121 rfl) rfl
theorem q2661 : (Jvm.Cond.methodLink "KeyTurnsLaw" (114 : Nat) ({ cls := "KeyTurnsModel", name := "client", desc := "(II)I" } : Jvm.MethodName)) ∈ lw_all := lw_g (lw_at lw_m11 153 rfl) rfl
theorem q2676 : (Jvm.Cond.methodLink "KeyTurnsLaw" (117 : Nat) ({ cls := "KeyTurnsModel", name := "canUse", desc := "(II)Z" } : Jvm.MethodName)) ∈ lw_all := lw_g (lw_at lw_m11 168 rfl) rfl
theorem q2680 : (Jvm.Cond.methodLink "KeyTurnsLaw" (120 : Nat) ({ cls := "KeyTurnsModel", name := "readsBy", desc := "(II)I" } : Jvm.MethodName)) ∈ lw_all := lw_g (lw_at lw_m11 172 rfl) rfl
theorem q2688 : (Jvm.Cond.methodLink "KeyTurnsLaw" (123 : Nat) ({ cls := "KeyTurnsModel", name := "couldRead", desc := "(II)I" } : Jvm.MethodName)) ∈ lw_all := lw_g (lw_at lw_m11 180 rfl) rfl
theorem q2695 : (Jvm.Cond.methodLink "KeyTurnsLaw" (127 : Nat) ({ cls := "KeyTurnsModel", name := "sweepAt", desc := "(I)I" } : Jvm.MethodName)) ∈ lw_all := lw_g (lw_at lw_m11 187 rfl) rfl
theorem q2703 : (Jvm.Cond.methodLink "KeyTurnsLaw" (131 : Nat) ({ cls := "KeyTurnsModel", name := "nextIssue", desc := "()I" } : Jvm.MethodName)) ∈ lw_all := lw_g (lw_at lw_m11 195 rfl) rfl
theorem q2707 : (Jvm.Cond.methodLink "KeyTurnsLaw" (134 : Nat) ({ cls := "KeyTurnsModel", name := "nextAsk", desc := "(I)I" } : Jvm.MethodName)) ∈ lw_all := lw_g (lw_at lw_m11 199 rfl) rfl
theorem q2711 : (Jvm.Cond.methodLink "KeyTurnsLaw" (137 : Nat) ({ cls := "KeyTurnsModel", name := "readersBehind", desc := "(II)I" } : Jvm.MethodName)) ∈ lw_all := lw_g (lw_at lw_m11 203 rfl) rfl
theorem q2754 : (Jvm.Cond.methodLink "KeyTurnsLaw" (140 : Nat) ({ cls := "KeyTurnsModel", name := "dark", desc := "(II)I" } : Jvm.MethodName)) ∈ lw_all := lw_g (lw_at lw_m12 6 rfl) rfl
theorem q2758 : (Jvm.Cond.methodLink "KeyTurnsLaw" (143 : Nat) ({ cls := "KeyTurnsModel", name := "leastBatch", desc := "(I)I" } : Jvm.MethodName)) ∈ lw_all := lw_g (lw_at lw_m12 10 rfl) rfl
theorem q2762 : (Jvm.Cond.methodLink "KeyTurnsLaw" (146 : Nat) ({ cls := "KeyTurnsModel", name := "damage", desc := "(I)I" } : Jvm.MethodName)) ∈ lw_all := lw_g (lw_at lw_m12 14 rfl) rfl
theorem q2782 : (Jvm.Cond.methodLink "KeyTurnsLaw" (151 : Nat) ({ cls := "KeyTurnsModel", name := "meanWraps", desc := "()D" } : Jvm.MethodName)) ∈ lw_all := lw_g (lw_at lw_m12 34 rfl) rfl
theorem q2786 : (Jvm.Cond.methodLink "KeyTurnsLaw" (156 : Nat) ({ cls := "KeyTurnsModel", name := "readable", desc := "()F" } : Jvm.MethodName)) ∈ lw_all := lw_g (lw_at lw_m12 38 rfl) rfl
theorem q2790 : (Jvm.Cond.methodLink "KeyTurnsLaw" (159 : Nat) ({ cls := "KeyTurnsModel", name := "pass", desc := "(I)I" } : Jvm.MethodName)) ∈ lw_all := lw_g (lw_at lw_m12 42 rfl) rfl
theorem q2798 : (Jvm.Cond.methodLink "KeyTurnsLaw" (163 : Nat) ({ cls := "KeyTurnsModel", name := "rotate", desc := "()I" } : Jvm.MethodName)) ∈ lw_all := lw_g (lw_at lw_m12 50 rfl) rfl
theorem q2802 : (Jvm.Cond.methodLink "KeyTurnsLaw" (166 : Nat) ({ cls := "KeyTurnsModel", name := "withdraw", desc := "(I)I" } : Jvm.MethodName)) ∈ lw_all := lw_g (lw_at lw_m12 54 rfl) rfl
theorem q2806 : (Jvm.Cond.methodLink "KeyTurnsLaw" (170 : Nat) ({ cls := "KeyTurnsModel", name := "make", desc := "()I" } : Jvm.MethodName)) ∈ lw_all := lw_g (lw_at lw_m12 58 rfl) rfl
theorem q2814 : (Jvm.Cond.methodLink "KeyTurnsLaw" (173 : Nat) ({ cls := "KeyTurnsModel", name := "drop", desc := "(I)I" } : Jvm.MethodName)) ∈ lw_all := lw_g (lw_at lw_m12 66 rfl) rfl
theorem q2818 : (Jvm.Cond.methodLink "KeyTurnsLaw" (176 : Nat) ({ cls := "KeyTurnsModel", name := "ask", desc := "(I)I" } : Jvm.MethodName)) ∈ lw_all := lw_g (lw_at lw_m12 70 rfl) rfl
theorem q2822 : (Jvm.Cond.methodLink "KeyTurnsLaw" (179 : Nat) ({ cls := "KeyTurnsModel", name := "read", desc := "(II)I" } : Jvm.MethodName)) ∈ lw_all := lw_g (lw_at lw_m12 74 rfl) rfl
theorem q2826 : (Jvm.Cond.methodLink "KeyTurnsLaw" (182 : Nat) ({ cls := "KeyTurnsModel", name := "setBatch", desc := "(I)I" } : Jvm.MethodName)) ∈ lw_all := lw_g (lw_at lw_m12 78 rfl) rfl
theorem q2830 : (Jvm.Cond.methodLink "KeyTurnsLaw" (185 : Nat) ({ cls := "KeyTurnsModel", name := "format", desc := "(I)I" } : Jvm.MethodName)) ∈ lw_all := lw_g (lw_at lw_m12 82 rfl) rfl
theorem q2842 : (Jvm.Cond.methodLink "KeyTurnsLaw" (189 : Nat) ({ cls := "KeyTurnsModel", name := "formattedByte", desc := "(I)I" } : Jvm.MethodName)) ∈ lw_all := lw_g (lw_at lw_m12 94 rfl) rfl
theorem q2846 : (Jvm.Cond.methodLink "KeyTurnsLaw" (193 : Nat) ({ cls := "KeyTurnsModel", name := "undoCount", desc := "()I" } : Jvm.MethodName)) ∈ lw_all := lw_g (lw_at lw_m12 98 rfl) rfl
theorem q2850 : (Jvm.Cond.methodLink "KeyTurnsLaw" (197 : Nat) ({ cls := "KeyTurnsModel", name := "undo", desc := "()I" } : Jvm.MethodName)) ∈ lw_all := lw_g (lw_at lw_m12 102 rfl) rfl
theorem q2854 : (Jvm.Cond.methodLink "KeyTurnsLaw" (201 : Nat) ({ cls := "KeyTurnsModel", name := "saveSnapshot", desc := "()V" } : Jvm.MethodName)) ∈ lw_all := lw_g (lw_at lw_m12 106 rfl) rfl
theorem q2858 : (Jvm.Cond.methodLink "KeyTurnsLaw" (206 : Nat) ({ cls := "KeyTurnsModel", name := "restoreSnapshot", desc := "()Z" } : Jvm.MethodName)) ∈ lw_all := lw_g (lw_at lw_m12 110 rfl) rfl
theorem q2862 : (Jvm.Cond.methodLink "KeyTurnsLaw" (87 : Nat) ({ cls := "KeyTurnsModel", name := "feed", desc := "(IIIII)I" } : Jvm.MethodName)) ∈ lw_all := lw_g (lw_at lw_m12 114 rfl) rfl
theorem q2866 : (Jvm.Cond.methodLink "KeyTurnsLaw" (101 : Nat) ({ cls := "KeyTurnsModel", name := "errorPosition", desc := "()I" } : Jvm.MethodName)) ∈ lw_all := lw_g (lw_at lw_m12 118 rfl) rfl
theorem q2870 : (Jvm.Cond.methodLink "KeyTurnsLaw" (93 : Nat) ({ cls := "KeyTurnsModel", name := "load", desc := "(I)I" } : Jvm.MethodName)) ∈ lw_all := lw_g (lw_at lw_m12 122 rfl) rfl
theorem q2957 : (Jvm.Cond.methodLink "KeyTurnsLaw" (209 : Nat) ({ cls := "KeyTurnsModel", name := "query", desc := "(I)I" } : Jvm.MethodName)) ∈ lw_all := lw_g (lw_at lw_m12 209 rfl) rfl
def RX1 : String := "KeyTurns"
def TX1 : u_T := fun k => match k with
  | 0 => ("KeyTurns", "now", "LKeyTurns$State;", false)
  | 1 => ("KeyTurns", "snapshot", "LKeyTurns$State;", false)
  | 2 => ("KeyTurns", "history", "Ljava/util/ArrayDeque;", true)
  | 3 => ("KeyTurns", "buffer", "[B", true)
  | 4 => ("KeyTurns", "buffered", "I", false)
  | 5 => ("KeyTurns", "errorAt", "I", false)
  | _ => ("KeyTurns", "formatted", "Ljava/lang/String;", false)
def tyX1 : Nat → FieldType := fun k => match k with
  | 0 => .object "KeyTurns$State"
  | 1 => .object "KeyTurns$State"
  | 2 => .object "java/util/ArrayDeque"
  | 3 => .array .byte
  | 4 => .int
  | 5 => .int
  | _ => .object "java/lang/String"
abbrev wsX10 : List Cond := u_ws RX1 TX1 7
theorem nmX1 : ∀ a, a < 7 → ∀ b, b < 7 → a ≠ b → (TX1 a).2.1 ≠ (TX1 b).2.1 := by decide +kernel
theorem tyX1_ok : ∀ k, k < 7 → parseFieldDescriptor (TX1 k).2.2.1 = some (tyX1 k) := by decide +kernel
abbrev cX1_init : ByteArray := prog_1_method_9_code
def yX1_init : MethodName := ⟨RX1, "<init>", "()V"⟩
abbrev cX1_begun : ByteArray := prog_1_method_6_code
def yX1_begun : MethodName := ⟨RX1, "begun", "(IIII)LKeyTurns$State;"⟩
abbrev cX1_feed : ByteArray := prog_1_method_10_code
def yX1_feed : MethodName := ⟨RX1, "feed", "(IIIII)I"⟩
abbrev cX1_append : ByteArray := prog_1_method_11_code
def yX1_append : MethodName := ⟨RX1, "append", "(I)V"⟩
abbrev cX1_errorPosition : ByteArray := prog_1_method_15_code
def yX1_errorPosition : MethodName := ⟨RX1, "errorPosition", "()I"⟩
abbrev cX1_sweepAt : ByteArray := prog_1_method_27_code
def yX1_sweepAt : MethodName := ⟨RX1, "sweepAt", "(I)I"⟩
abbrev cX1_isIn : ByteArray := prog_1_method_1_code
def yX1_isIn : MethodName := ⟨RX1, "isIn", "(JJJ)Z"⟩
abbrev cX1_nextIssue : ByteArray := prog_1_method_28_code
def yX1_nextIssue : MethodName := ⟨RX1, "nextIssue", "()I"⟩
abbrev cX1_meanWraps : ByteArray := prog_1_method_36_code
def yX1_meanWraps : MethodName := ⟨RX1, "meanWraps", "()D"⟩
abbrev cX1_asInt : ByteArray := prog_1_method_2_code
def yX1_asInt : MethodName := ⟨RX1, "asInt", "(Z)I"⟩
abbrev cX1_readable : ByteArray := prog_1_method_37_code
def yX1_readable : MethodName := ⟨RX1, "readable", "()F"⟩
abbrev cX1_has : ByteArray := prog_1_method_3_code
def yX1_has : MethodName := ⟨RX1, "has", "(II)Z"⟩
abbrev cX1_rotate : ByteArray := prog_1_method_40_code
def yX1_rotate : MethodName := ⟨RX1, "rotate", "()I"⟩
abbrev cX1_keeping : ByteArray := prog_1_method_38_code
def yX1_keeping : MethodName := ⟨RX1, "keeping", "()LKeyTurns$State;"⟩
abbrev cX1_make : ByteArray := prog_1_method_42_code
def yX1_make : MethodName := ⟨RX1, "make", "()I"⟩
abbrev cX1_undoCount : ByteArray := prog_1_method_47_code
def yX1_undoCount : MethodName := ⟨RX1, "undoCount", "()I"⟩
abbrev cX1_undo : ByteArray := prog_1_method_48_code
def yX1_undo : MethodName := ⟨RX1, "undo", "()I"⟩
abbrev cX1_saveSnapshot : ByteArray := prog_1_method_49_code
def yX1_saveSnapshot : MethodName := ⟨RX1, "saveSnapshot", "()V"⟩
abbrev cX1_restoreSnapshot : ByteArray := prog_1_method_50_code
def yX1_restoreSnapshot : MethodName := ⟨RX1, "restoreSnapshot", "()Z"⟩
abbrev cX1_formattedByte : ByteArray := prog_1_method_52_code
def yX1_formattedByte : MethodName := ⟨RX1, "formattedByte", "(I)I"⟩
abbrev cX1_load : ByteArray := prog_1_method_14_code
def yX1_load : MethodName := ⟨RX1, "load", "(I)I"⟩
abbrev cX1_startReading : ByteArray := prog_1_method_12_code
def yX1_startReading : MethodName := ⟨RX1, "startReading", "(II)V"⟩
abbrev cX1_requireArgument : ByteArray := prog_1_method_4_code
def yX1_requireArgument : MethodName := ⟨RX1, "requireArgument", "(Z)V"⟩
abbrev cX1_failed : ByteArray := prog_1_method_13_code
def yX1_failed : MethodName := ⟨RX1, "failed", "(LKeyTurns$TextError;I)I"⟩
abbrev cX1_size : ByteArray := prog_1_method_16_code
def yX1_size : MethodName := ⟨RX1, "size", "(I)I"⟩
abbrev cX1_requireElement : ByteArray := prog_1_method_5_code
def yX1_requireElement : MethodName := ⟨RX1, "requireElement", "(Z)V"⟩
abbrev cX1_version : ByteArray := prog_1_method_21_code
def yX1_version : MethodName := ⟨RX1, "version", "(II)I"⟩
abbrev cX1_versionOf : ByteArray := prog_1_method_17_code
def yX1_versionOf : MethodName := ⟨RX1, "versionOf", "(I)LKeyTurns$Version;"⟩
abbrev cX1_withdrawnAt : ByteArray := prog_1_method_20_code
def yX1_withdrawnAt : MethodName := ⟨RX1, "withdrawnAt", "(LKeyTurns$Version;)I"⟩
abbrev cX1_record : ByteArray := prog_1_method_22_code
def yX1_record : MethodName := ⟨RX1, "record", "(II)I"⟩
abbrev cX1_recordOf : ByteArray := prog_1_method_18_code
def yX1_recordOf : MethodName := ⟨RX1, "recordOf", "(I)LKeyTurns$Sealed;"⟩
abbrev cX1_client : ByteArray := prog_1_method_23_code
def yX1_client : MethodName := ⟨RX1, "client", "(II)I"⟩
abbrev cX1_clientOf : ByteArray := prog_1_method_19_code
def yX1_clientOf : MethodName := ⟨RX1, "clientOf", "(I)LKeyTurns$Client;"⟩
abbrev cX1_canUse : ByteArray := prog_1_method_24_code
def yX1_canUse : MethodName := ⟨RX1, "canUse", "(II)Z"⟩
abbrev cX1_readsBy : ByteArray := prog_1_method_25_code
def yX1_readsBy : MethodName := ⟨RX1, "readsBy", "(II)I"⟩
abbrev cX1_couldRead : ByteArray := prog_1_method_26_code
def yX1_couldRead : MethodName := ⟨RX1, "couldRead", "(II)I"⟩
abbrev cX1_nextAsk : ByteArray := prog_1_method_29_code
def yX1_nextAsk : MethodName := ⟨RX1, "nextAsk", "(I)I"⟩
abbrev cX1_readersBehind : ByteArray := prog_1_method_31_code
def yX1_readersBehind : MethodName := ⟨RX1, "readersBehind", "(II)I"⟩
abbrev cX1_behind : ByteArray := prog_1_method_30_code
def yX1_behind : MethodName := ⟨RX1, "behind", "(I)LKeyTurns$State;"⟩
abbrev cX1_dark : ByteArray := prog_1_method_32_code
def yX1_dark : MethodName := ⟨RX1, "dark", "(II)I"⟩
abbrev cX1_leastBatch : ByteArray := prog_1_method_33_code
def yX1_leastBatch : MethodName := ⟨RX1, "leastBatch", "(I)I"⟩
abbrev cX1_damage : ByteArray := prog_1_method_35_code
def yX1_damage : MethodName := ⟨RX1, "damage", "(I)I"⟩
abbrev cX1_isStuck : ByteArray := prog_1_method_34_code
def yX1_isStuck : MethodName := ⟨RX1, "isStuck", "(I)Z"⟩
abbrev cX1_pass : ByteArray := prog_1_method_39_code
def yX1_pass : MethodName := ⟨RX1, "pass", "(I)I"⟩
abbrev cX1_withdraw : ByteArray := prog_1_method_41_code
def yX1_withdraw : MethodName := ⟨RX1, "withdraw", "(I)I"⟩
abbrev cX1_drop : ByteArray := prog_1_method_43_code
def yX1_drop : MethodName := ⟨RX1, "drop", "(I)I"⟩
abbrev cX1_ask : ByteArray := prog_1_method_44_code
def yX1_ask : MethodName := ⟨RX1, "ask", "(I)I"⟩
abbrev cX1_read : ByteArray := prog_1_method_45_code
def yX1_read : MethodName := ⟨RX1, "read", "(II)I"⟩
abbrev cX1_setBatch : ByteArray := prog_1_method_46_code
def yX1_setBatch : MethodName := ⟨RX1, "setBatch", "(I)I"⟩
abbrev cX1_format : ByteArray := prog_1_method_51_code
def yX1_format : MethodName := ⟨RX1, "format", "(I)I"⟩
abbrev cX1_query : ByteArray := prog_1_method_53_code
def yX1_query : MethodName := ⟨RX1, "query", "(I)I"⟩
abbrev cX1_propertyCode : ByteArray := prog_1_method_7_code
def yX1_propertyCode : MethodName := ⟨RX1, "propertyCode", "(Ljava/lang/String;)I"⟩
abbrev cX1_of : ByteArray := prog_1_method_8_code
def yX1_of : MethodName := ⟨RX1, "of", "(ILKeyTurns$State;I)I"⟩
theorem q109 : (Jvm.Cond.initialized "KeyTurns") ∈ lw_all := lw_g (lw_at lw_m1 1 rfl) rfl
theorem q168 : (Jvm.Cond.instantiable "KeyTurns" (7 : Nat)) ∈ lw_all := lw_g (lw_at lw_m1 60 rfl) rfl
theorem q170 : (Jvm.Cond.instanceMethod ({ cls := "KeyTurns", name := "<init>", desc := "()V" } : Jvm.MethodName)) ∈ lw_all := lw_g (lw_at lw_m1 62 rfl) rfl
theorem q171 : (Jvm.Cond.code ({ cls := "KeyTurns", name := "<init>", desc := "()V" } : Jvm.MethodName) prog_1_method_9_code (1 : Nat) (Option.none : Option Jvm.ClassFile.FieldType)) ∈ lw_all := lw_g (lw_at lw_m1 63 rfl) rfl
theorem q172 : (Jvm.Cond.methodLink "KeyTurns" (106 : Nat) ({ cls := "java/lang/Object", name := "<init>", desc := "()V" } : Jvm.MethodName)) ∈ lw_all := lw_g (lw_at lw_m1 64 rfl) rfl
theorem q175 : (Jvm.Cond.classLink "KeyTurns" (109 : Nat) "java/util/ArrayDeque") ∈ lw_all := lw_g (lw_at lw_m1 67 rfl) rfl
theorem q177 : (Jvm.Cond.methodLink "KeyTurns" (111 : Nat) ({ cls := "java/util/ArrayDeque", name := "<init>", desc := "()V" } : Jvm.MethodName)) ∈ lw_all := lw_g (lw_at lw_m1 69 rfl) rfl
theorem q196 : (Jvm.Cond.stringRef "KeyTurns" (123 : Nat) "") ∈ lw_tbl := lw_at lw_m1 88 rfl
theorem q197 : (Jvm.Cond.methodLink "KeyTurns" (129 : Nat) ({ cls := "KeyTurns", name := "begun", desc := "(IIII)LKeyTurns$State;" } : Jvm.MethodName)) ∈ lw_all := lw_g (lw_at lw_m1 89 rfl) rfl
theorem q198 : (Jvm.Cond.static ({ cls := "KeyTurns", name := "begun", desc := "(IIII)LKeyTurns$State;" } : Jvm.MethodName)) ∈ lw_all := lw_g (lw_at lw_m1 90 rfl) rfl
theorem q199 : (Jvm.Cond.code ({ cls := "KeyTurns", name := "begun", desc := "(IIII)LKeyTurns$State;" } : Jvm.MethodName) prog_1_method_6_code (5 : Nat) (Option.some (Jvm.ClassFile.FieldType.object "KeyTurns$State"))) ∈ lw_all := lw_g (lw_at lw_m1 91 rfl) rfl
theorem q200 : (Jvm.Cond.classLink "KeyTurns" (10 : Nat) "KeyTurns$State") ∈ lw_all := lw_g (lw_at lw_m1 92 rfl) rfl
theorem q202 : (Jvm.Cond.methodLink "KeyTurns" (12 : Nat) ({ cls := "KeyTurns$State", name := "<init>", desc := "(IIII)V" } : Jvm.MethodName)) ∈ lw_all := lw_g (lw_at lw_m1 94 rfl) rfl
theorem q259 : (Jvm.Cond.fieldLinkNest "KeyTurns" (206 : Nat) "KeyTurns$State" "span" "I" "KeyTurns") ∈ lw_tbl := lw_at lw_m1 151 rfl
theorem q261 : (Jvm.Cond.fieldLinkNest "KeyTurns" (209 : Nat) "KeyTurns$State" "overlap" "I" "KeyTurns") ∈ lw_tbl := lw_at lw_m1 153 rfl
theorem q263 : (Jvm.Cond.fieldLinkNest "KeyTurns" (212 : Nat) "KeyTurns$State" "lead" "I" "KeyTurns") ∈ lw_tbl := lw_at lw_m1 155 rfl
theorem q265 : (Jvm.Cond.fieldLinkNest "KeyTurns" (15 : Nat) "KeyTurns$State" "versions" "Ljava/util/ArrayList;" "KeyTurns") ∈ lw_tbl := lw_at lw_m1 157 rfl
theorem q267 : (Jvm.Cond.fieldLinkNest "KeyTurns" (58 : Nat) "KeyTurns$State" "records" "Ljava/util/ArrayList;" "KeyTurns") ∈ lw_tbl := lw_at lw_m1 159 rfl
theorem q270 : (Jvm.Cond.fieldLinkNest "KeyTurns" (203 : Nat) "KeyTurns$State" "clients" "Ljava/util/ArrayList;" "KeyTurns") ∈ lw_tbl := lw_at lw_m1 162 rfl
theorem q273 : (Jvm.Cond.fieldLinkNest "KeyTurns" (197 : Nat) "KeyTurns$State" "hour" "I" "KeyTurns") ∈ lw_tbl := lw_at lw_m1 165 rfl
theorem q275 : (Jvm.Cond.fieldLinkNest "KeyTurns" (215 : Nat) "KeyTurns$State" "batch" "I" "KeyTurns") ∈ lw_tbl := lw_at lw_m1 167 rfl
theorem q277 : (Jvm.Cond.fieldLinkNest "KeyTurns" (224 : Nat) "KeyTurns$State" "forced" "I" "KeyTurns") ∈ lw_tbl := lw_at lw_m1 169 rfl
theorem q279 : (Jvm.Cond.fieldLinkNest "KeyTurns" (225 : Nat) "KeyTurns$State" "swept" "I" "KeyTurns") ∈ lw_tbl := lw_at lw_m1 171 rfl
theorem q313 : (Jvm.Cond.classLink "KeyTurns" (19 : Nat) "KeyTurns$Issued") ∈ lw_all := lw_g (lw_at lw_m1 205 rfl) rfl
theorem q315 : (Jvm.Cond.methodLink "KeyTurns" (23 : Nat) ({ cls := "KeyTurns$Issued", name := "<init>", desc := "(III)V" } : Jvm.MethodName)) ∈ lw_all := lw_g (lw_at lw_m1 207 rfl) rfl
theorem q335 : (Jvm.Cond.fieldLink "KeyTurns" (246 : Nat) "KeyTurns$Version" "first" "I") ∈ lw_all := lw_g (lw_at lw_m1 227 rfl) rfl
theorem q339 : (Jvm.Cond.fieldLink "KeyTurns" (249 : Nat) "KeyTurns$Version" "last" "I") ∈ lw_all := lw_g (lw_at lw_m1 231 rfl) rfl
theorem q347 : (Jvm.Cond.methodLink "KeyTurns" (26 : Nat) ({ cls := "java/util/ArrayList", name := "add", desc := "(Ljava/lang/Object;)Z" } : Jvm.MethodName)) ∈ lw_all := lw_g (lw_at lw_m1 239 rfl) rfl
theorem q379 : (Jvm.Cond.selects "KeyTurns" ({ cls := "java/lang/Object", name := "getClass", desc := "()Ljava/lang/Class;" } : Jvm.MethodName) ({ cls := "java/lang/Object", name := "getClass", desc := "()Ljava/lang/Class;" } : Jvm.MethodName)) ∈ lw_all := lw_g (lw_at lw_m2 31 rfl) rfl
theorem q426 : (Jvm.Cond.fieldLink "KeyTurns" (133 : Nat) "KeyTurns" "now" "LKeyTurns$State;") ∈ lw_all := lw_g (lw_at lw_m2 78 rfl) rfl
theorem q427 : (Jvm.Cond.fieldLink "KeyTurns" (186 : Nat) "KeyTurns" "snapshot" "LKeyTurns$State;") ∈ lw_all := lw_g (lw_at lw_m2 79 rfl) rfl
theorem q428 : (Jvm.Cond.fieldLink "KeyTurns" (112 : Nat) "KeyTurns" "history" "Ljava/util/ArrayDeque;") ∈ lw_all := lw_g (lw_at lw_m2 80 rfl) rfl
theorem q430 : (Jvm.Cond.fieldLink "KeyTurns" (116 : Nat) "KeyTurns" "buffer" "[B") ∈ lw_all := lw_g (lw_at lw_m2 82 rfl) rfl
theorem q431 : (Jvm.Cond.fieldLink "KeyTurns" (137 : Nat) "KeyTurns" "buffered" "I") ∈ lw_all := lw_g (lw_at lw_m2 83 rfl) rfl
theorem q432 : (Jvm.Cond.fieldLink "KeyTurns" (120 : Nat) "KeyTurns" "errorAt" "I") ∈ lw_all := lw_g (lw_at lw_m2 84 rfl) rfl
theorem q433 : (Jvm.Cond.fieldLink "KeyTurns" (125 : Nat) "KeyTurns" "formatted" "Ljava/lang/String;") ∈ lw_all := lw_g (lw_at lw_m2 85 rfl) rfl
theorem q434 : (Jvm.Cond.lays "KeyTurns" "KeyTurns" "now" "LKeyTurns$State;") ∈ lw_all := lw_g (lw_at lw_m2 86 rfl) rfl
theorem q435 : (Jvm.Cond.soleField "KeyTurns" "now") ∈ lw_all := lw_g (lw_at lw_m2 87 rfl) rfl
theorem q436 : (Jvm.Cond.lays "KeyTurns" "KeyTurns" "snapshot" "LKeyTurns$State;") ∈ lw_all := lw_g (lw_at lw_m2 88 rfl) rfl
theorem q437 : (Jvm.Cond.soleField "KeyTurns" "snapshot") ∈ lw_all := lw_g (lw_at lw_m2 89 rfl) rfl
theorem q438 : (Jvm.Cond.laysFinal "KeyTurns" "KeyTurns" "history" "Ljava/util/ArrayDeque;") ∈ lw_all := lw_g (lw_at lw_m2 90 rfl) rfl
theorem q439 : (Jvm.Cond.soleField "KeyTurns" "history") ∈ lw_all := lw_g (lw_at lw_m2 91 rfl) rfl
theorem q440 : (Jvm.Cond.laysFinal "KeyTurns" "KeyTurns" "buffer" "[B") ∈ lw_all := lw_g (lw_at lw_m2 92 rfl) rfl
theorem q441 : (Jvm.Cond.soleField "KeyTurns" "buffer") ∈ lw_all := lw_g (lw_at lw_m2 93 rfl) rfl
theorem q442 : (Jvm.Cond.lays "KeyTurns" "KeyTurns" "buffered" "I") ∈ lw_all := lw_g (lw_at lw_m2 94 rfl) rfl
theorem q443 : (Jvm.Cond.soleField "KeyTurns" "buffered") ∈ lw_all := lw_g (lw_at lw_m2 95 rfl) rfl
theorem q444 : (Jvm.Cond.lays "KeyTurns" "KeyTurns" "errorAt" "I") ∈ lw_all := lw_g (lw_at lw_m2 96 rfl) rfl
theorem q445 : (Jvm.Cond.soleField "KeyTurns" "errorAt") ∈ lw_all := lw_g (lw_at lw_m2 97 rfl) rfl
theorem q446 : (Jvm.Cond.lays "KeyTurns" "KeyTurns" "formatted" "Ljava/lang/String;") ∈ lw_all := lw_g (lw_at lw_m2 98 rfl) rfl
theorem q447 : (Jvm.Cond.soleField "KeyTurns" "formatted") ∈ lw_all := lw_g (lw_at lw_m2 99 rfl) rfl
theorem q448 : (Jvm.Cond.superclass "KeyTurns" "java/lang/Object") ∈ lw_all := lw_g (lw_at lw_m2 100 rfl) rfl
theorem q450 : (Jvm.Cond.instanceMethod ({ cls := "KeyTurns", name := "feed", desc := "(IIIII)I" } : Jvm.MethodName)) ∈ lw_all := lw_g (lw_at lw_m2 102 rfl) rfl
theorem q451 : (Jvm.Cond.selects "KeyTurns" ({ cls := "KeyTurns", name := "feed", desc := "(IIIII)I" } : Jvm.MethodName) ({ cls := "KeyTurns", name := "feed", desc := "(IIIII)I" } : Jvm.MethodName)) ∈ lw_all := lw_g (lw_at lw_m2 103 rfl) rfl
theorem q452 : (Jvm.Cond.code ({ cls := "KeyTurns", name := "feed", desc := "(IIIII)I" } : Jvm.MethodName) prog_1_method_10_code (6 : Nat) (Option.some Jvm.ClassFile.FieldType.int)) ∈ lw_all := lw_g (lw_at lw_m2 104 rfl) rfl
theorem q453 : (Jvm.Cond.methodLink "KeyTurns" (140 : Nat) ({ cls := "KeyTurns", name := "append", desc := "(I)V" } : Jvm.MethodName)) ∈ lw_all := lw_g (lw_at lw_m2 105 rfl) rfl
theorem q454 : (Jvm.Cond.privateMethod ({ cls := "KeyTurns", name := "append", desc := "(I)V" } : Jvm.MethodName)) ∈ lw_tbl := lw_at lw_m2 106 rfl
theorem q455 : (Jvm.Cond.instanceMethod ({ cls := "KeyTurns", name := "append", desc := "(I)V" } : Jvm.MethodName)) ∈ lw_all := lw_g (lw_at lw_m2 107 rfl) rfl
theorem q456 : (Jvm.Cond.code ({ cls := "KeyTurns", name := "append", desc := "(I)V" } : Jvm.MethodName) prog_1_method_11_code (3 : Nat) (Option.none : Option Jvm.ClassFile.FieldType)) ∈ lw_all := lw_g (lw_at lw_m2 108 rfl) rfl
theorem q458 : (Jvm.Cond.instanceMethod ({ cls := "KeyTurns", name := "errorPosition", desc := "()I" } : Jvm.MethodName)) ∈ lw_all := lw_g (lw_at lw_m2 110 rfl) rfl
theorem q459 : (Jvm.Cond.selects "KeyTurns" ({ cls := "KeyTurns", name := "errorPosition", desc := "()I" } : Jvm.MethodName) ({ cls := "KeyTurns", name := "errorPosition", desc := "()I" } : Jvm.MethodName)) ∈ lw_all := lw_g (lw_at lw_m2 111 rfl) rfl
theorem q460 : (Jvm.Cond.code ({ cls := "KeyTurns", name := "errorPosition", desc := "()I" } : Jvm.MethodName) prog_1_method_15_code (1 : Nat) (Option.some Jvm.ClassFile.FieldType.int)) ∈ lw_all := lw_g (lw_at lw_m2 112 rfl) rfl
theorem q462 : (Jvm.Cond.instanceMethod ({ cls := "KeyTurns", name := "sweepAt", desc := "(I)I" } : Jvm.MethodName)) ∈ lw_all := lw_g (lw_at lw_m2 114 rfl) rfl
theorem q463 : (Jvm.Cond.selects "KeyTurns" ({ cls := "KeyTurns", name := "sweepAt", desc := "(I)I" } : Jvm.MethodName) ({ cls := "KeyTurns", name := "sweepAt", desc := "(I)I" } : Jvm.MethodName)) ∈ lw_all := lw_g (lw_at lw_m2 115 rfl) rfl
theorem q464 : (Jvm.Cond.code ({ cls := "KeyTurns", name := "sweepAt", desc := "(I)I" } : Jvm.MethodName) prog_1_method_27_code (2 : Nat) (Option.some Jvm.ClassFile.FieldType.int)) ∈ lw_all := lw_g (lw_at lw_m2 116 rfl) rfl
theorem q465 : (Jvm.Cond.methodLink "KeyTurns" (313 : Nat) ({ cls := "KeyTurns$State", name := "dueAt", desc := "(I)I" } : Jvm.MethodName)) ∈ lw_all := lw_g (lw_at lw_m2 117 rfl) rfl
theorem q510 : (Jvm.Cond.static ({ cls := "KeyTurns", name := "isIn", desc := "(JJJ)Z" } : Jvm.MethodName)) ∈ lw_all := lw_g (lw_at lw_m2 162 rfl) rfl
theorem q511 : (Jvm.Cond.code ({ cls := "KeyTurns", name := "isIn", desc := "(JJJ)Z" } : Jvm.MethodName) prog_1_method_1_code (6 : Nat) (Option.some Jvm.ClassFile.FieldType.boolean)) ∈ lw_all := lw_g (lw_at lw_m2 163 rfl) rfl
theorem q550 : (Jvm.Cond.instanceMethod ({ cls := "KeyTurns", name := "nextIssue", desc := "()I" } : Jvm.MethodName)) ∈ lw_all := lw_g (lw_at lw_m2 202 rfl) rfl
theorem q551 : (Jvm.Cond.selects "KeyTurns" ({ cls := "KeyTurns", name := "nextIssue", desc := "()I" } : Jvm.MethodName) ({ cls := "KeyTurns", name := "nextIssue", desc := "()I" } : Jvm.MethodName)) ∈ lw_all := lw_g (lw_at lw_m2 203 rfl) rfl
theorem q552 : (Jvm.Cond.code ({ cls := "KeyTurns", name := "nextIssue", desc := "()I" } : Jvm.MethodName) prog_1_method_28_code (2 : Nat) (Option.some Jvm.ClassFile.FieldType.int)) ∈ lw_all := lw_g (lw_at lw_m2 204 rfl) rfl
theorem q553 : (Jvm.Cond.methodLink "KeyTurns" (316 : Nat) ({ cls := "KeyTurns$State", name := "isDue", desc := "(I)Z" } : Jvm.MethodName)) ∈ lw_all := lw_g (lw_at lw_m2 205 rfl) rfl
theorem q566 : (Jvm.Cond.instanceMethod ({ cls := "KeyTurns", name := "meanWraps", desc := "()D" } : Jvm.MethodName)) ∈ lw_all := lw_g (lw_at lw_m2 218 rfl) rfl
theorem q567 : (Jvm.Cond.selects "KeyTurns" ({ cls := "KeyTurns", name := "meanWraps", desc := "()D" } : Jvm.MethodName) ({ cls := "KeyTurns", name := "meanWraps", desc := "()D" } : Jvm.MethodName)) ∈ lw_all := lw_g (lw_at lw_m2 219 rfl) rfl
theorem q568 : (Jvm.Cond.code ({ cls := "KeyTurns", name := "meanWraps", desc := "()D" } : Jvm.MethodName) prog_1_method_36_code (2 : Nat) (Option.some Jvm.ClassFile.FieldType.double)) ∈ lw_all := lw_g (lw_at lw_m2 220 rfl) rfl
theorem q569 : (Jvm.Cond.methodLink "KeyTurns" (200 : Nat) ({ cls := "KeyTurns$State", name := "recordCount", desc := "()I" } : Jvm.MethodName)) ∈ lw_all := lw_g (lw_at lw_m2 221 rfl) rfl
theorem q574 : (Jvm.Cond.static ({ cls := "KeyTurns", name := "asInt", desc := "(Z)I" } : Jvm.MethodName)) ∈ lw_all := lw_g (lw_at lw_m2 226 rfl) rfl
theorem q575 : (Jvm.Cond.code ({ cls := "KeyTurns", name := "asInt", desc := "(Z)I" } : Jvm.MethodName) prog_1_method_2_code (1 : Nat) (Option.some Jvm.ClassFile.FieldType.int)) ∈ lw_all := lw_g (lw_at lw_m2 227 rfl) rfl
theorem q576 : (Jvm.Cond.methodLink "KeyTurns" (221 : Nat) ({ cls := "KeyTurns$State", name := "wrapCount", desc := "()I" } : Jvm.MethodName)) ∈ lw_all := lw_g (lw_at lw_m2 228 rfl) rfl
theorem q591 : (Jvm.Cond.instanceMethod ({ cls := "KeyTurns", name := "readable", desc := "()F" } : Jvm.MethodName)) ∈ lw_all := lw_g (lw_at lw_m3 3 rfl) rfl
theorem q592 : (Jvm.Cond.selects "KeyTurns" ({ cls := "KeyTurns", name := "readable", desc := "()F" } : Jvm.MethodName) ({ cls := "KeyTurns", name := "readable", desc := "()F" } : Jvm.MethodName)) ∈ lw_all := lw_g (lw_at lw_m3 4 rfl) rfl
theorem q593 : (Jvm.Cond.code ({ cls := "KeyTurns", name := "readable", desc := "()F" } : Jvm.MethodName) prog_1_method_37_code (4 : Nat) (Option.some Jvm.ClassFile.FieldType.float)) ∈ lw_all := lw_g (lw_at lw_m3 5 rfl) rfl
theorem q594 : (Jvm.Cond.methodLink "KeyTurns" (189 : Nat) ({ cls := "java/util/ArrayList", name := "size", desc := "()I" } : Jvm.MethodName)) ∈ lw_all := lw_g (lw_at lw_m3 6 rfl) rfl
theorem q595 : (Jvm.Cond.methodLink "KeyTurns" (294 : Nat) ({ cls := "KeyTurns$State", name := "readable", desc := "(I)I" } : Jvm.MethodName)) ∈ lw_all := lw_g (lw_at lw_m3 7 rfl) rfl
theorem q614 : (Jvm.Cond.static ({ cls := "KeyTurns", name := "has", desc := "(II)Z" } : Jvm.MethodName)) ∈ lw_all := lw_g (lw_at lw_m3 26 rfl) rfl
theorem q615 : (Jvm.Cond.code ({ cls := "KeyTurns", name := "has", desc := "(II)Z" } : Jvm.MethodName) prog_1_method_3_code (2 : Nat) (Option.some Jvm.ClassFile.FieldType.boolean)) ∈ lw_all := lw_g (lw_at lw_m3 27 rfl) rfl
theorem q622 : (Jvm.Cond.instanceMethod ({ cls := "KeyTurns", name := "rotate", desc := "()I" } : Jvm.MethodName)) ∈ lw_all := lw_g (lw_at lw_m3 34 rfl) rfl
theorem q623 : (Jvm.Cond.selects "KeyTurns" ({ cls := "KeyTurns", name := "rotate", desc := "()I" } : Jvm.MethodName) ({ cls := "KeyTurns", name := "rotate", desc := "()I" } : Jvm.MethodName)) ∈ lw_all := lw_g (lw_at lw_m3 35 rfl) rfl
theorem q624 : (Jvm.Cond.code ({ cls := "KeyTurns", name := "rotate", desc := "()I" } : Jvm.MethodName) prog_1_method_40_code (2 : Nat) (Option.some Jvm.ClassFile.FieldType.int)) ∈ lw_all := lw_g (lw_at lw_m3 36 rfl) rfl
theorem q625 : (Jvm.Cond.methodLink "KeyTurns" (374 : Nat) ({ cls := "KeyTurns$State", name := "latest", desc := "()LKeyTurns$Version;" } : Jvm.MethodName)) ∈ lw_all := lw_g (lw_at lw_m3 37 rfl) rfl
theorem q626 : (Jvm.Cond.methodLink "KeyTurns" (368 : Nat) ({ cls := "KeyTurns", name := "keeping", desc := "()LKeyTurns$State;" } : Jvm.MethodName)) ∈ lw_all := lw_g (lw_at lw_m3 38 rfl) rfl
theorem q627 : (Jvm.Cond.privateMethod ({ cls := "KeyTurns", name := "keeping", desc := "()LKeyTurns$State;" } : Jvm.MethodName)) ∈ lw_tbl := lw_at lw_m3 39 rfl
theorem q628 : (Jvm.Cond.instanceMethod ({ cls := "KeyTurns", name := "keeping", desc := "()LKeyTurns$State;" } : Jvm.MethodName)) ∈ lw_all := lw_g (lw_at lw_m3 40 rfl) rfl
theorem q629 : (Jvm.Cond.code ({ cls := "KeyTurns", name := "keeping", desc := "()LKeyTurns$State;" } : Jvm.MethodName) prog_1_method_38_code (1 : Nat) (Option.some (Jvm.ClassFile.FieldType.object "KeyTurns$State"))) ∈ lw_all := lw_g (lw_at lw_m3 41 rfl) rfl
theorem q630 : (Jvm.Cond.methodLink "KeyTurns" (357 : Nat) ({ cls := "java/util/ArrayDeque", name := "size", desc := "()I" } : Jvm.MethodName)) ∈ lw_all := lw_g (lw_at lw_m3 42 rfl) rfl
theorem q637 : (Jvm.Cond.methodLink "KeyTurns" (358 : Nat) ({ cls := "java/util/ArrayDeque", name := "removeFirst", desc := "()Ljava/lang/Object;" } : Jvm.MethodName)) ∈ lw_all := lw_g (lw_at lw_m3 49 rfl) rfl
theorem q715 : (Jvm.Cond.methodLink "KeyTurns" (362 : Nat) ({ cls := "java/util/ArrayDeque", name := "addLast", desc := "(Ljava/lang/Object;)V" } : Jvm.MethodName)) ∈ lw_all := lw_g (lw_at lw_m3 127 rfl) rfl
theorem q731 : (Jvm.Cond.methodLink "KeyTurns" (322 : Nat) ({ cls := "KeyTurns$State", name := "copy", desc := "(ZZ)LKeyTurns$State;" } : Jvm.MethodName)) ∈ lw_all := lw_g (lw_at lw_m3 143 rfl) rfl
theorem q769 : (Jvm.Cond.fieldLinkNest "KeyTurns" (67 : Nat) "KeyTurns$Sealed" "made" "I" "KeyTurns") ∈ lw_tbl := lw_at lw_m3 181 rfl
theorem q771 : (Jvm.Cond.fieldLinkNest "KeyTurns" (70 : Nat) "KeyTurns$Sealed" "wraps" "Ljava/util/BitSet;" "KeyTurns") ∈ lw_tbl := lw_at lw_m3 183 rfl
theorem q774 : (Jvm.Cond.fieldLinkNest "KeyTurns" (104 : Nat) "KeyTurns$Sealed" "forced" "I" "KeyTurns") ∈ lw_tbl := lw_at lw_m3 186 rfl
theorem q778 : (Jvm.Cond.fieldLinkNest "KeyTurns" (388 : Nat) "KeyTurns$Sealed" "dropped" "Z" "KeyTurns") ∈ lw_tbl := lw_at lw_m3 190 rfl
theorem q825 : (Jvm.Cond.fieldLinkNest "KeyTurns" (279 : Nat) "KeyTurns$Client" "period" "I" "KeyTurns") ∈ lw_tbl := lw_at lw_m3 237 rfl
theorem q827 : (Jvm.Cond.fieldLinkNest "KeyTurns" (282 : Nat) "KeyTurns$Client" "offset" "I" "KeyTurns") ∈ lw_tbl := lw_at lw_m3 239 rfl
theorem q829 : (Jvm.Cond.fieldLinkNest "KeyTurns" (285 : Nat) "KeyTurns$Client" "asked" "I" "KeyTurns") ∈ lw_tbl := lw_at lw_m4 1 rfl
theorem q832 : (Jvm.Cond.fieldLinkNest "KeyTurns" (297 : Nat) "KeyTurns$Client" "reads" "I" "KeyTurns") ∈ lw_tbl := lw_at lw_m4 4 rfl
theorem q834 : (Jvm.Cond.fieldLinkNest "KeyTurns" (288 : Nat) "KeyTurns$Client" "learned" "I" "KeyTurns") ∈ lw_tbl := lw_at lw_m4 6 rfl
theorem q837 : (Jvm.Cond.fieldLinkNest "KeyTurns" (291 : Nat) "KeyTurns$Client" "gone" "I" "KeyTurns") ∈ lw_tbl := lw_at lw_m4 9 rfl
theorem q1346 : (Jvm.Cond.methodLink "KeyTurns" (378 : Nat) ({ cls := "KeyTurns$State", name := "issue", desc := "(I)I" } : Jvm.MethodName)) ∈ lw_all := lw_g (lw_at lw_m6 38 rfl) rfl
theorem q1370 : (Jvm.Cond.fieldLinkNest "KeyTurns" (237 : Nat) "KeyTurns$Withdrawn" "at" "I" "KeyTurns") ∈ lw_tbl := lw_at lw_m6 62 rfl
theorem q1377 : (Jvm.Cond.methodLink "KeyTurns" (381 : Nat) ({ cls := "KeyTurns$State", name := "clean", desc := "()I" } : Jvm.MethodName)) ∈ lw_all := lw_g (lw_at lw_m6 69 rfl) rfl
theorem q1408 : (Jvm.Cond.instanceMethod ({ cls := "KeyTurns", name := "make", desc := "()I" } : Jvm.MethodName)) ∈ lw_all := lw_g (lw_at lw_m6 100 rfl) rfl
theorem q1409 : (Jvm.Cond.selects "KeyTurns" ({ cls := "KeyTurns", name := "make", desc := "()I" } : Jvm.MethodName) ({ cls := "KeyTurns", name := "make", desc := "()I" } : Jvm.MethodName)) ∈ lw_all := lw_g (lw_at lw_m6 101 rfl) rfl
theorem q1410 : (Jvm.Cond.code ({ cls := "KeyTurns", name := "make", desc := "()I" } : Jvm.MethodName) prog_1_method_42_code (2 : Nat) (Option.some Jvm.ClassFile.FieldType.int)) ∈ lw_all := lw_g (lw_at lw_m6 102 rfl) rfl
theorem q1411 : (Jvm.Cond.methodLink "KeyTurns" (384 : Nat) ({ cls := "KeyTurns$State", name := "make", desc := "()LKeyTurns$Sealed;" } : Jvm.MethodName)) ∈ lw_all := lw_g (lw_at lw_m6 103 rfl) rfl
theorem q1417 : (Jvm.Cond.instanceMethod ({ cls := "KeyTurns", name := "undoCount", desc := "()I" } : Jvm.MethodName)) ∈ lw_all := lw_g (lw_at lw_m6 109 rfl) rfl
theorem q1418 : (Jvm.Cond.selects "KeyTurns" ({ cls := "KeyTurns", name := "undoCount", desc := "()I" } : Jvm.MethodName) ({ cls := "KeyTurns", name := "undoCount", desc := "()I" } : Jvm.MethodName)) ∈ lw_all := lw_g (lw_at lw_m6 110 rfl) rfl
theorem q1419 : (Jvm.Cond.code ({ cls := "KeyTurns", name := "undoCount", desc := "()I" } : Jvm.MethodName) prog_1_method_47_code (1 : Nat) (Option.some Jvm.ClassFile.FieldType.int)) ∈ lw_all := lw_g (lw_at lw_m6 111 rfl) rfl
theorem q1421 : (Jvm.Cond.instanceMethod ({ cls := "KeyTurns", name := "undo", desc := "()I" } : Jvm.MethodName)) ∈ lw_all := lw_g (lw_at lw_m6 113 rfl) rfl
theorem q1422 : (Jvm.Cond.selects "KeyTurns" ({ cls := "KeyTurns", name := "undo", desc := "()I" } : Jvm.MethodName) ({ cls := "KeyTurns", name := "undo", desc := "()I" } : Jvm.MethodName)) ∈ lw_all := lw_g (lw_at lw_m6 114 rfl) rfl
theorem q1423 : (Jvm.Cond.code ({ cls := "KeyTurns", name := "undo", desc := "()I" } : Jvm.MethodName) prog_1_method_48_code (1 : Nat) (Option.some Jvm.ClassFile.FieldType.int)) ∈ lw_all := lw_g (lw_at lw_m6 115 rfl) rfl
theorem q1424 : (Jvm.Cond.methodLink "KeyTurns" (398 : Nat) ({ cls := "java/util/ArrayDeque", name := "isEmpty", desc := "()Z" } : Jvm.MethodName)) ∈ lw_all := lw_g (lw_at lw_m6 116 rfl) rfl
theorem q1428 : (Jvm.Cond.methodLink "KeyTurns" (402 : Nat) ({ cls := "java/util/ArrayDeque", name := "removeLast", desc := "()Ljava/lang/Object;" } : Jvm.MethodName)) ∈ lw_all := lw_g (lw_at lw_m6 120 rfl) rfl
theorem q1440 : (Jvm.Cond.instanceMethod ({ cls := "KeyTurns", name := "saveSnapshot", desc := "()V" } : Jvm.MethodName)) ∈ lw_all := lw_g (lw_at lw_m6 132 rfl) rfl
theorem q1441 : (Jvm.Cond.selects "KeyTurns" ({ cls := "KeyTurns", name := "saveSnapshot", desc := "()V" } : Jvm.MethodName) ({ cls := "KeyTurns", name := "saveSnapshot", desc := "()V" } : Jvm.MethodName)) ∈ lw_all := lw_g (lw_at lw_m6 133 rfl) rfl
theorem q1442 : (Jvm.Cond.code ({ cls := "KeyTurns", name := "saveSnapshot", desc := "()V" } : Jvm.MethodName) prog_1_method_49_code (1 : Nat) (Option.none : Option Jvm.ClassFile.FieldType)) ∈ lw_all := lw_g (lw_at lw_m6 134 rfl) rfl
theorem q1444 : (Jvm.Cond.instanceMethod ({ cls := "KeyTurns", name := "restoreSnapshot", desc := "()Z" } : Jvm.MethodName)) ∈ lw_all := lw_g (lw_at lw_m6 136 rfl) rfl
theorem q1445 : (Jvm.Cond.selects "KeyTurns" ({ cls := "KeyTurns", name := "restoreSnapshot", desc := "()Z" } : Jvm.MethodName) ({ cls := "KeyTurns", name := "restoreSnapshot", desc := "()Z" } : Jvm.MethodName)) ∈ lw_all := lw_g (lw_at lw_m6 137 rfl) rfl
theorem q1446 : (Jvm.Cond.code ({ cls := "KeyTurns", name := "restoreSnapshot", desc := "()Z" } : Jvm.MethodName) prog_1_method_50_code (1 : Nat) (Option.some Jvm.ClassFile.FieldType.boolean)) ∈ lw_all := lw_g (lw_at lw_m6 138 rfl) rfl
theorem q1447 : (Jvm.Cond.methodLink "KeyTurns" (183 : Nat) ({ cls := "java/util/ArrayDeque", name := "clear", desc := "()V" } : Jvm.MethodName)) ∈ lw_all := lw_g (lw_at lw_m6 139 rfl) rfl
theorem q1455 : (Jvm.Cond.instanceMethod ({ cls := "KeyTurns", name := "formattedByte", desc := "(I)I" } : Jvm.MethodName)) ∈ lw_all := lw_g (lw_at lw_m6 147 rfl) rfl
theorem q1456 : (Jvm.Cond.selects "KeyTurns" ({ cls := "KeyTurns", name := "formattedByte", desc := "(I)I" } : Jvm.MethodName) ({ cls := "KeyTurns", name := "formattedByte", desc := "(I)I" } : Jvm.MethodName)) ∈ lw_all := lw_g (lw_at lw_m6 148 rfl) rfl
theorem q1457 : (Jvm.Cond.code ({ cls := "KeyTurns", name := "formattedByte", desc := "(I)I" } : Jvm.MethodName) prog_1_method_52_code (2 : Nat) (Option.some Jvm.ClassFile.FieldType.int)) ∈ lw_all := lw_g (lw_at lw_m6 149 rfl) rfl
theorem q1458 : (Jvm.Cond.methodLink "KeyTurns" (425 : Nat) ({ cls := "java/lang/String", name := "length", desc := "()I" } : Jvm.MethodName)) ∈ lw_all := lw_g (lw_at lw_m6 150 rfl) rfl
theorem q1459 : (Jvm.Cond.methodLink "KeyTurns" (150 : Nat) ({ cls := "KeyTurns", name := "isIn", desc := "(JJJ)Z" } : Jvm.MethodName)) ∈ lw_all := lw_g (lw_at lw_m6 151 rfl) rfl
theorem q1460 : (Jvm.Cond.methodLink "KeyTurns" (428 : Nat) ({ cls := "java/lang/String", name := "charAt", desc := "(I)C" } : Jvm.MethodName)) ∈ lw_all := lw_g (lw_at lw_m6 152 rfl) rfl
theorem q1487 : (Jvm.Cond.instanceMethod ({ cls := "KeyTurns", name := "load", desc := "(I)I" } : Jvm.MethodName)) ∈ lw_all := lw_g (lw_at lw_m6 179 rfl) rfl
theorem q1488 : (Jvm.Cond.selects "KeyTurns" ({ cls := "KeyTurns", name := "load", desc := "(I)I" } : Jvm.MethodName) ({ cls := "KeyTurns", name := "load", desc := "(I)I" } : Jvm.MethodName)) ∈ lw_all := lw_g (lw_at lw_m6 180 rfl) rfl
theorem q1489 : (Jvm.Cond.codeWith ({ cls := "KeyTurns", name := "load", desc := "(I)I" } : Jvm.MethodName) prog_1_method_14_code (3 : Nat) (Option.some Jvm.ClassFile.FieldType.int) [((8 : Nat), (24 : Nat), (27 : Nat), (159 : Nat))]) ∈ lw_all := lw_g (lw_at lw_m6 181 rfl) rfl
theorem q1490 : (Jvm.Cond.classLink "KeyTurns" (159 : Nat) "KeyTurns$TextError") ∈ lw_all := lw_g (lw_at lw_m6 182 rfl) rfl
theorem q1491 : (Jvm.Cond.methodLink "KeyTurns" (166 : Nat) ({ cls := "KeyTurns", name := "startReading", desc := "(II)V" } : Jvm.MethodName)) ∈ lw_all := lw_g (lw_at lw_m6 183 rfl) rfl
theorem q1492 : (Jvm.Cond.privateMethod ({ cls := "KeyTurns", name := "startReading", desc := "(II)V" } : Jvm.MethodName)) ∈ lw_tbl := lw_at lw_m6 184 rfl
theorem q1493 : (Jvm.Cond.instanceMethod ({ cls := "KeyTurns", name := "startReading", desc := "(II)V" } : Jvm.MethodName)) ∈ lw_all := lw_g (lw_at lw_m6 185 rfl) rfl
theorem q1494 : (Jvm.Cond.code ({ cls := "KeyTurns", name := "startReading", desc := "(II)V" } : Jvm.MethodName) prog_1_method_12_code (3 : Nat) (Option.none : Option Jvm.ClassFile.FieldType)) ∈ lw_all := lw_g (lw_at lw_m6 186 rfl) rfl
theorem q1495 : (Jvm.Cond.methodLink "KeyTurns" (144 : Nat) ({ cls := "java/lang/Math", name := "min", desc := "(II)I" } : Jvm.MethodName)) ∈ lw_all := lw_g (lw_at lw_m6 187 rfl) rfl
theorem q1496 : (Jvm.Cond.methodLink "KeyTurns" (154 : Nat) ({ cls := "KeyTurns", name := "requireArgument", desc := "(Z)V" } : Jvm.MethodName)) ∈ lw_all := lw_g (lw_at lw_m6 188 rfl) rfl
theorem q1497 : (Jvm.Cond.static ({ cls := "KeyTurns", name := "requireArgument", desc := "(Z)V" } : Jvm.MethodName)) ∈ lw_all := lw_g (lw_at lw_m6 189 rfl) rfl
theorem q1498 : (Jvm.Cond.code ({ cls := "KeyTurns", name := "requireArgument", desc := "(Z)V" } : Jvm.MethodName) prog_1_method_4_code (1 : Nat) (Option.none : Option Jvm.ClassFile.FieldType)) ∈ lw_all := lw_g (lw_at lw_m6 190 rfl) rfl
theorem q1499 : (Jvm.Cond.classLink "KeyTurns" (1 : Nat) "java/lang/IllegalArgumentException") ∈ lw_all := lw_g (lw_at lw_m6 191 rfl) rfl
theorem q1500 : (Jvm.Cond.methodLink "KeyTurns" (3 : Nat) ({ cls := "java/lang/IllegalArgumentException", name := "<init>", desc := "()V" } : Jvm.MethodName)) ∈ lw_all := lw_g (lw_at lw_m6 192 rfl) rfl
theorem q1504 : (Jvm.Cond.classLink "KeyTurns" (170 : Nat) "KeyTurns$KeysParser") ∈ lw_all := lw_g (lw_at lw_m6 196 rfl) rfl
theorem q1506 : (Jvm.Cond.methodLink "KeyTurns" (172 : Nat) ({ cls := "KeyTurns$KeysParser", name := "<init>", desc := "(LKeyTurns;I)V" } : Jvm.MethodName)) ∈ lw_all := lw_g (lw_at lw_m6 198 rfl) rfl
theorem q1615 : (Jvm.Cond.methodLink "KeyTurns" (175 : Nat) ({ cls := "KeyTurns$KeysParser", name := "parse", desc := "()LKeyTurns$State;" } : Jvm.MethodName)) ∈ lw_all := lw_g (lw_at lw_m7 67 rfl) rfl
theorem q1667 : (Jvm.Cond.fieldLinkNest "KeyTurns" (163 : Nat) "KeyTurns$TextError" "code" "I" "KeyTurns") ∈ lw_tbl := lw_at lw_m7 119 rfl
theorem q1669 : (Jvm.Cond.fieldLinkNest "KeyTurns" (158 : Nat) "KeyTurns$TextError" "position" "I" "KeyTurns") ∈ lw_tbl := lw_at lw_m7 121 rfl
theorem q1789 : (Jvm.Cond.methodLink "KeyTurns" (179 : Nat) ({ cls := "KeyTurns", name := "failed", desc := "(LKeyTurns$TextError;I)I" } : Jvm.MethodName)) ∈ lw_all := lw_g (lw_at lw_m8 1 rfl) rfl
theorem q1790 : (Jvm.Cond.privateMethod ({ cls := "KeyTurns", name := "failed", desc := "(LKeyTurns$TextError;I)I" } : Jvm.MethodName)) ∈ lw_tbl := lw_at lw_m8 2 rfl
theorem q1791 : (Jvm.Cond.instanceMethod ({ cls := "KeyTurns", name := "failed", desc := "(LKeyTurns$TextError;I)I" } : Jvm.MethodName)) ∈ lw_all := lw_g (lw_at lw_m8 3 rfl) rfl
theorem q1792 : (Jvm.Cond.code ({ cls := "KeyTurns", name := "failed", desc := "(LKeyTurns$TextError;I)I" } : Jvm.MethodName) prog_1_method_13_code (3 : Nat) (Option.some Jvm.ClassFile.FieldType.int)) ∈ lw_all := lw_g (lw_at lw_m8 4 rfl) rfl
theorem q1798 : (Jvm.Cond.instanceMethod ({ cls := "KeyTurns", name := "size", desc := "(I)I" } : Jvm.MethodName)) ∈ lw_all := lw_g (lw_at lw_m8 10 rfl) rfl
theorem q1799 : (Jvm.Cond.selects "KeyTurns" ({ cls := "KeyTurns", name := "size", desc := "(I)I" } : Jvm.MethodName) ({ cls := "KeyTurns", name := "size", desc := "(I)I" } : Jvm.MethodName)) ∈ lw_all := lw_g (lw_at lw_m8 11 rfl) rfl
theorem q1800 : (Jvm.Cond.code ({ cls := "KeyTurns", name := "size", desc := "(I)I" } : Jvm.MethodName) prog_1_method_16_code (2 : Nat) (Option.some Jvm.ClassFile.FieldType.int)) ∈ lw_all := lw_g (lw_at lw_m8 12 rfl) rfl
theorem q1801 : (Jvm.Cond.constantLong "KeyTurns" (192 : Nat) (13 : Int64)) ∈ lw_all := lw_g (lw_at lw_m8 13 rfl) rfl
theorem q1802 : (Jvm.Cond.methodLink "KeyTurns" (194 : Nat) ({ cls := "KeyTurns", name := "requireElement", desc := "(Z)V" } : Jvm.MethodName)) ∈ lw_all := lw_g (lw_at lw_m8 14 rfl) rfl
theorem q1803 : (Jvm.Cond.static ({ cls := "KeyTurns", name := "requireElement", desc := "(Z)V" } : Jvm.MethodName)) ∈ lw_all := lw_g (lw_at lw_m8 15 rfl) rfl
theorem q1804 : (Jvm.Cond.code ({ cls := "KeyTurns", name := "requireElement", desc := "(Z)V" } : Jvm.MethodName) prog_1_method_5_code (1 : Nat) (Option.none : Option Jvm.ClassFile.FieldType)) ∈ lw_all := lw_g (lw_at lw_m8 16 rfl) rfl
theorem q1805 : (Jvm.Cond.classLink "KeyTurns" (7 : Nat) "java/util/NoSuchElementException") ∈ lw_all := lw_g (lw_at lw_m8 17 rfl) rfl
theorem q1806 : (Jvm.Cond.methodLink "KeyTurns" (9 : Nat) ({ cls := "java/util/NoSuchElementException", name := "<init>", desc := "()V" } : Jvm.MethodName)) ∈ lw_all := lw_g (lw_at lw_m8 18 rfl) rfl
theorem q1807 : (Jvm.Cond.methodLink "KeyTurns" (86 : Nat) ({ cls := "KeyTurns$State", name := "writing", desc := "()I" } : Jvm.MethodName)) ∈ lw_all := lw_g (lw_at lw_m8 19 rfl) rfl
theorem q1808 : (Jvm.Cond.methodLink "KeyTurns" (218 : Nat) ({ cls := "KeyTurns$State", name := "inForce", desc := "()I" } : Jvm.MethodName)) ∈ lw_all := lw_g (lw_at lw_m8 20 rfl) rfl
theorem q1827 : (Jvm.Cond.instanceMethod ({ cls := "KeyTurns", name := "version", desc := "(II)I" } : Jvm.MethodName)) ∈ lw_all := lw_g (lw_at lw_m8 39 rfl) rfl
theorem q1828 : (Jvm.Cond.selects "KeyTurns" ({ cls := "KeyTurns", name := "version", desc := "(II)I" } : Jvm.MethodName) ({ cls := "KeyTurns", name := "version", desc := "(II)I" } : Jvm.MethodName)) ∈ lw_all := lw_g (lw_at lw_m8 40 rfl) rfl
theorem q1829 : (Jvm.Cond.code ({ cls := "KeyTurns", name := "version", desc := "(II)I" } : Jvm.MethodName) prog_1_method_21_code (4 : Nat) (Option.some Jvm.ClassFile.FieldType.int)) ∈ lw_all := lw_g (lw_at lw_m8 41 rfl) rfl
theorem q1830 : (Jvm.Cond.methodLink "KeyTurns" (240 : Nat) ({ cls := "KeyTurns", name := "versionOf", desc := "(I)LKeyTurns$Version;" } : Jvm.MethodName)) ∈ lw_all := lw_g (lw_at lw_m8 42 rfl) rfl
theorem q1831 : (Jvm.Cond.privateMethod ({ cls := "KeyTurns", name := "versionOf", desc := "(I)LKeyTurns$Version;" } : Jvm.MethodName)) ∈ lw_tbl := lw_at lw_m8 43 rfl
theorem q1832 : (Jvm.Cond.instanceMethod ({ cls := "KeyTurns", name := "versionOf", desc := "(I)LKeyTurns$Version;" } : Jvm.MethodName)) ∈ lw_all := lw_g (lw_at lw_m8 44 rfl) rfl
theorem q1833 : (Jvm.Cond.code ({ cls := "KeyTurns", name := "versionOf", desc := "(I)LKeyTurns$Version;" } : Jvm.MethodName) prog_1_method_17_code (2 : Nat) (Option.some (Jvm.ClassFile.FieldType.object "KeyTurns$Version"))) ∈ lw_all := lw_g (lw_at lw_m8 45 rfl) rfl
theorem q1834 : (Jvm.Cond.methodLink "KeyTurns" (61 : Nat) ({ cls := "java/util/ArrayList", name := "get", desc := "(I)Ljava/lang/Object;" } : Jvm.MethodName)) ∈ lw_all := lw_g (lw_at lw_m8 46 rfl) rfl
theorem q1835 : (Jvm.Cond.classLink "KeyTurns" (228 : Nat) "KeyTurns$Version") ∈ lw_all := lw_g (lw_at lw_m8 47 rfl) rfl
theorem q1836 : (Jvm.Cond.constantLong "KeyTurns" (244 : Nat) (4 : Int64)) ∈ lw_all := lw_g (lw_at lw_m8 48 rfl) rfl
theorem q1837 : (Jvm.Cond.methodLink "KeyTurns" (252 : Nat) ({ cls := "KeyTurns", name := "withdrawnAt", desc := "(LKeyTurns$Version;)I" } : Jvm.MethodName)) ∈ lw_all := lw_g (lw_at lw_m8 49 rfl) rfl
theorem q1838 : (Jvm.Cond.static ({ cls := "KeyTurns", name := "withdrawnAt", desc := "(LKeyTurns$Version;)I" } : Jvm.MethodName)) ∈ lw_all := lw_g (lw_at lw_m8 50 rfl) rfl
theorem q1839 : (Jvm.Cond.code ({ cls := "KeyTurns", name := "withdrawnAt", desc := "(LKeyTurns$Version;)I" } : Jvm.MethodName) prog_1_method_20_code (2 : Nat) (Option.some Jvm.ClassFile.FieldType.int)) ∈ lw_all := lw_g (lw_at lw_m8 51 rfl) rfl
theorem q1840 : (Jvm.Cond.classLink "KeyTurns" (235 : Nat) "KeyTurns$Withdrawn") ∈ lw_all := lw_g (lw_at lw_m8 52 rfl) rfl
theorem q1841 : (Jvm.Cond.methodLink "KeyTurns" (256 : Nat) ({ cls := "KeyTurns$Standing", name := "of", desc := "(LKeyTurns$Version;I)I" } : Jvm.MethodName)) ∈ lw_all := lw_g (lw_at lw_m8 53 rfl) rfl
theorem q1882 : (Jvm.Cond.methodLink "KeyTurns" (261 : Nat) ({ cls := "KeyTurns$State", name := "wrappedBy", desc := "(I)I" } : Jvm.MethodName)) ∈ lw_all := lw_g (lw_at lw_m8 94 rfl) rfl
theorem q1890 : (Jvm.Cond.instanceMethod ({ cls := "KeyTurns", name := "record", desc := "(II)I" } : Jvm.MethodName)) ∈ lw_all := lw_g (lw_at lw_m8 102 rfl) rfl
theorem q1891 : (Jvm.Cond.selects "KeyTurns" ({ cls := "KeyTurns", name := "record", desc := "(II)I" } : Jvm.MethodName) ({ cls := "KeyTurns", name := "record", desc := "(II)I" } : Jvm.MethodName)) ∈ lw_all := lw_g (lw_at lw_m8 103 rfl) rfl
theorem q1892 : (Jvm.Cond.code ({ cls := "KeyTurns", name := "record", desc := "(II)I" } : Jvm.MethodName) prog_1_method_22_code (4 : Nat) (Option.some Jvm.ClassFile.FieldType.int)) ∈ lw_all := lw_g (lw_at lw_m8 104 rfl) rfl
theorem q1893 : (Jvm.Cond.methodLink "KeyTurns" (264 : Nat) ({ cls := "KeyTurns", name := "recordOf", desc := "(I)LKeyTurns$Sealed;" } : Jvm.MethodName)) ∈ lw_all := lw_g (lw_at lw_m8 105 rfl) rfl
theorem q1894 : (Jvm.Cond.privateMethod ({ cls := "KeyTurns", name := "recordOf", desc := "(I)LKeyTurns$Sealed;" } : Jvm.MethodName)) ∈ lw_tbl := lw_at lw_m8 106 rfl
theorem q1895 : (Jvm.Cond.instanceMethod ({ cls := "KeyTurns", name := "recordOf", desc := "(I)LKeyTurns$Sealed;" } : Jvm.MethodName)) ∈ lw_all := lw_g (lw_at lw_m8 107 rfl) rfl
theorem q1896 : (Jvm.Cond.code ({ cls := "KeyTurns", name := "recordOf", desc := "(I)LKeyTurns$Sealed;" } : Jvm.MethodName) prog_1_method_18_code (2 : Nat) (Option.some (Jvm.ClassFile.FieldType.object "KeyTurns$Sealed"))) ∈ lw_all := lw_g (lw_at lw_m8 108 rfl) rfl
theorem q1897 : (Jvm.Cond.methodLink "KeyTurns" (230 : Nat) ({ cls := "KeyTurns$State", name := "isThere", desc := "(I)Z" } : Jvm.MethodName)) ∈ lw_all := lw_g (lw_at lw_m8 109 rfl) rfl
theorem q1898 : (Jvm.Cond.classLink "KeyTurns" (65 : Nat) "KeyTurns$Sealed") ∈ lw_all := lw_g (lw_at lw_m8 110 rfl) rfl
theorem q1899 : (Jvm.Cond.constantLong "KeyTurns" (268 : Nat) (5 : Int64)) ∈ lw_all := lw_g (lw_at lw_m8 111 rfl) rfl
theorem q1900 : (Jvm.Cond.methodLink "KeyTurns" (73 : Nat) ({ cls := "java/util/BitSet", name := "cardinality", desc := "()I" } : Jvm.MethodName)) ∈ lw_all := lw_g (lw_at lw_m8 112 rfl) rfl
theorem q1901 : (Jvm.Cond.methodLink "KeyTurns" (270 : Nat) ({ cls := "KeyTurns$Sealed", name := "set", desc := "()I" } : Jvm.MethodName)) ∈ lw_all := lw_g (lw_at lw_m8 113 rfl) rfl
theorem q1902 : (Jvm.Cond.methodLink "KeyTurns" (82 : Nat) ({ cls := "KeyTurns$State", name := "endOf", desc := "(LKeyTurns$Sealed;)I" } : Jvm.MethodName)) ∈ lw_all := lw_g (lw_at lw_m8 114 rfl) rfl
theorem q1903 : (Jvm.Cond.methodLink "KeyTurns" (96 : Nat) ({ cls := "KeyTurns$State", name := "readers", desc := "(I)I" } : Jvm.MethodName)) ∈ lw_all := lw_g (lw_at lw_m8 115 rfl) rfl
theorem q1911 : (Jvm.Cond.instanceMethod ({ cls := "KeyTurns", name := "client", desc := "(II)I" } : Jvm.MethodName)) ∈ lw_all := lw_g (lw_at lw_m8 123 rfl) rfl
theorem q1912 : (Jvm.Cond.selects "KeyTurns" ({ cls := "KeyTurns", name := "client", desc := "(II)I" } : Jvm.MethodName) ({ cls := "KeyTurns", name := "client", desc := "(II)I" } : Jvm.MethodName)) ∈ lw_all := lw_g (lw_at lw_m8 124 rfl) rfl
theorem q1913 : (Jvm.Cond.code ({ cls := "KeyTurns", name := "client", desc := "(II)I" } : Jvm.MethodName) prog_1_method_23_code (4 : Nat) (Option.some Jvm.ClassFile.FieldType.int)) ∈ lw_all := lw_g (lw_at lw_m8 125 rfl) rfl
theorem q1914 : (Jvm.Cond.methodLink "KeyTurns" (273 : Nat) ({ cls := "KeyTurns", name := "clientOf", desc := "(I)LKeyTurns$Client;" } : Jvm.MethodName)) ∈ lw_all := lw_g (lw_at lw_m8 126 rfl) rfl
theorem q1915 : (Jvm.Cond.privateMethod ({ cls := "KeyTurns", name := "clientOf", desc := "(I)LKeyTurns$Client;" } : Jvm.MethodName)) ∈ lw_tbl := lw_at lw_m8 127 rfl
theorem q1916 : (Jvm.Cond.instanceMethod ({ cls := "KeyTurns", name := "clientOf", desc := "(I)LKeyTurns$Client;" } : Jvm.MethodName)) ∈ lw_all := lw_g (lw_at lw_m8 128 rfl) rfl
theorem q1917 : (Jvm.Cond.code ({ cls := "KeyTurns", name := "clientOf", desc := "(I)LKeyTurns$Client;" } : Jvm.MethodName) prog_1_method_19_code (2 : Nat) (Option.some (Jvm.ClassFile.FieldType.object "KeyTurns$Client"))) ∈ lw_all := lw_g (lw_at lw_m8 129 rfl) rfl
theorem q1918 : (Jvm.Cond.classLink "KeyTurns" (233 : Nat) "KeyTurns$Client") ∈ lw_all := lw_g (lw_at lw_m8 130 rfl) rfl
theorem q1919 : (Jvm.Cond.constantLong "KeyTurns" (277 : Nat) (7 : Int64)) ∈ lw_all := lw_g (lw_at lw_m8 131 rfl) rfl
theorem q1920 : (Jvm.Cond.methodLink "KeyTurns" (99 : Nat) ({ cls := "java/lang/Integer", name := "bitCount", desc := "(I)I" } : Jvm.MethodName)) ∈ lw_all := lw_g (lw_at lw_m8 132 rfl) rfl
theorem q1926 : (Jvm.Cond.methodLink "KeyTurns" (300 : Nat) ({ cls := "KeyTurns$Client", name := "greatest", desc := "(II)I" } : Jvm.MethodName)) ∈ lw_all := lw_g (lw_at lw_m8 138 rfl) rfl
theorem q1931 : (Jvm.Cond.instanceMethod ({ cls := "KeyTurns", name := "canUse", desc := "(II)Z" } : Jvm.MethodName)) ∈ lw_all := lw_g (lw_at lw_m8 143 rfl) rfl
theorem q1932 : (Jvm.Cond.selects "KeyTurns" ({ cls := "KeyTurns", name := "canUse", desc := "(II)Z" } : Jvm.MethodName) ({ cls := "KeyTurns", name := "canUse", desc := "(II)Z" } : Jvm.MethodName)) ∈ lw_all := lw_g (lw_at lw_m8 144 rfl) rfl
theorem q1933 : (Jvm.Cond.code ({ cls := "KeyTurns", name := "canUse", desc := "(II)Z" } : Jvm.MethodName) prog_1_method_24_code (5 : Nat) (Option.some Jvm.ClassFile.FieldType.boolean)) ∈ lw_all := lw_g (lw_at lw_m8 145 rfl) rfl
theorem q1934 : (Jvm.Cond.methodLink "KeyTurns" (303 : Nat) ({ cls := "KeyTurns$Client", name := "canUse", desc := "(II)Z" } : Jvm.MethodName)) ∈ lw_all := lw_g (lw_at lw_m8 146 rfl) rfl
theorem q1939 : (Jvm.Cond.instanceMethod ({ cls := "KeyTurns", name := "readsBy", desc := "(II)I" } : Jvm.MethodName)) ∈ lw_all := lw_g (lw_at lw_m8 151 rfl) rfl
theorem q1940 : (Jvm.Cond.selects "KeyTurns" ({ cls := "KeyTurns", name := "readsBy", desc := "(II)I" } : Jvm.MethodName) ({ cls := "KeyTurns", name := "readsBy", desc := "(II)I" } : Jvm.MethodName)) ∈ lw_all := lw_g (lw_at lw_m8 152 rfl) rfl
theorem q1941 : (Jvm.Cond.code ({ cls := "KeyTurns", name := "readsBy", desc := "(II)I" } : Jvm.MethodName) prog_1_method_25_code (5 : Nat) (Option.some Jvm.ClassFile.FieldType.int)) ∈ lw_all := lw_g (lw_at lw_m8 153 rfl) rfl
theorem q1942 : (Jvm.Cond.methodLink "KeyTurns" (307 : Nat) ({ cls := "KeyTurns$State", name := "readsBy", desc := "(II)I" } : Jvm.MethodName)) ∈ lw_all := lw_g (lw_at lw_m8 154 rfl) rfl
theorem q1947 : (Jvm.Cond.instanceMethod ({ cls := "KeyTurns", name := "couldRead", desc := "(II)I" } : Jvm.MethodName)) ∈ lw_all := lw_g (lw_at lw_m8 159 rfl) rfl
theorem q1948 : (Jvm.Cond.selects "KeyTurns" ({ cls := "KeyTurns", name := "couldRead", desc := "(II)I" } : Jvm.MethodName) ({ cls := "KeyTurns", name := "couldRead", desc := "(II)I" } : Jvm.MethodName)) ∈ lw_all := lw_g (lw_at lw_m8 160 rfl) rfl
theorem q1949 : (Jvm.Cond.code ({ cls := "KeyTurns", name := "couldRead", desc := "(II)I" } : Jvm.MethodName) prog_1_method_26_code (3 : Nat) (Option.some Jvm.ClassFile.FieldType.int)) ∈ lw_all := lw_g (lw_at lw_m8 161 rfl) rfl
theorem q1950 : (Jvm.Cond.methodLink "KeyTurns" (310 : Nat) ({ cls := "KeyTurns$State", name := "could", desc := "(II)I" } : Jvm.MethodName)) ∈ lw_all := lw_g (lw_at lw_m8 162 rfl) rfl
theorem q1960 : (Jvm.Cond.instanceMethod ({ cls := "KeyTurns", name := "nextAsk", desc := "(I)I" } : Jvm.MethodName)) ∈ lw_all := lw_g (lw_at lw_m8 172 rfl) rfl
theorem q1961 : (Jvm.Cond.selects "KeyTurns" ({ cls := "KeyTurns", name := "nextAsk", desc := "(I)I" } : Jvm.MethodName) ({ cls := "KeyTurns", name := "nextAsk", desc := "(I)I" } : Jvm.MethodName)) ∈ lw_all := lw_g (lw_at lw_m8 173 rfl) rfl
theorem q1962 : (Jvm.Cond.code ({ cls := "KeyTurns", name := "nextAsk", desc := "(I)I" } : Jvm.MethodName) prog_1_method_29_code (4 : Nat) (Option.some Jvm.ClassFile.FieldType.int)) ∈ lw_all := lw_g (lw_at lw_m8 174 rfl) rfl
theorem q1963 : (Jvm.Cond.methodLink "KeyTurns" (319 : Nat) ({ cls := "KeyTurns$Client", name := "isHour", desc := "(I)Z" } : Jvm.MethodName)) ∈ lw_all := lw_g (lw_at lw_m8 175 rfl) rfl
theorem q1971 : (Jvm.Cond.instanceMethod ({ cls := "KeyTurns", name := "readersBehind", desc := "(II)I" } : Jvm.MethodName)) ∈ lw_all := lw_g (lw_at lw_m8 183 rfl) rfl
theorem q1972 : (Jvm.Cond.selects "KeyTurns" ({ cls := "KeyTurns", name := "readersBehind", desc := "(II)I" } : Jvm.MethodName) ({ cls := "KeyTurns", name := "readersBehind", desc := "(II)I" } : Jvm.MethodName)) ∈ lw_all := lw_g (lw_at lw_m8 184 rfl) rfl
theorem q1973 : (Jvm.Cond.code ({ cls := "KeyTurns", name := "readersBehind", desc := "(II)I" } : Jvm.MethodName) prog_1_method_31_code (4 : Nat) (Option.some Jvm.ClassFile.FieldType.int)) ∈ lw_all := lw_g (lw_at lw_m8 185 rfl) rfl
theorem q1974 : (Jvm.Cond.constantLong "KeyTurns" (329 : Nat) (100 : Int64)) ∈ lw_all := lw_g (lw_at lw_m8 186 rfl) rfl
theorem q1975 : (Jvm.Cond.methodLink "KeyTurns" (331 : Nat) ({ cls := "KeyTurns", name := "behind", desc := "(I)LKeyTurns$State;" } : Jvm.MethodName)) ∈ lw_all := lw_g (lw_at lw_m8 187 rfl) rfl
theorem q1976 : (Jvm.Cond.privateMethod ({ cls := "KeyTurns", name := "behind", desc := "(I)LKeyTurns$State;" } : Jvm.MethodName)) ∈ lw_tbl := lw_at lw_m8 188 rfl
theorem q1977 : (Jvm.Cond.instanceMethod ({ cls := "KeyTurns", name := "behind", desc := "(I)LKeyTurns$State;" } : Jvm.MethodName)) ∈ lw_all := lw_g (lw_at lw_m8 189 rfl) rfl
theorem q1978 : (Jvm.Cond.code ({ cls := "KeyTurns", name := "behind", desc := "(I)LKeyTurns$State;" } : Jvm.MethodName) prog_1_method_30_code (4 : Nat) (Option.some (Jvm.ClassFile.FieldType.object "KeyTurns$State"))) ∈ lw_all := lw_g (lw_at lw_m8 190 rfl) rfl
theorem q1979 : (Jvm.Cond.methodLink "KeyTurns" (326 : Nat) ({ cls := "KeyTurns$State", name := "pass", desc := "()V" } : Jvm.MethodName)) ∈ lw_all := lw_g (lw_at lw_m8 191 rfl) rfl
theorem q1996 : (Jvm.Cond.instanceMethod ({ cls := "KeyTurns", name := "dark", desc := "(II)I" } : Jvm.MethodName)) ∈ lw_all := lw_g (lw_at lw_m8 208 rfl) rfl
theorem q1997 : (Jvm.Cond.selects "KeyTurns" ({ cls := "KeyTurns", name := "dark", desc := "(II)I" } : Jvm.MethodName) ({ cls := "KeyTurns", name := "dark", desc := "(II)I" } : Jvm.MethodName)) ∈ lw_all := lw_g (lw_at lw_m8 209 rfl) rfl
theorem q1998 : (Jvm.Cond.code ({ cls := "KeyTurns", name := "dark", desc := "(II)I" } : Jvm.MethodName) prog_1_method_32_code (8 : Nat) (Option.some Jvm.ClassFile.FieldType.int)) ∈ lw_all := lw_g (lw_at lw_m8 210 rfl) rfl
theorem q1999 : (Jvm.Cond.methodLink "KeyTurns" (335 : Nat) ({ cls := "java/lang/Float", name := "floatToIntBits", desc := "(F)I" } : Jvm.MethodName)) ∈ lw_all := lw_g (lw_at lw_m8 211 rfl) rfl
theorem q2009 : (Jvm.Cond.methodLink "KeyTurns" (341 : Nat) ({ cls := "KeyTurns$State", name := "share", desc := "(I)F" } : Jvm.MethodName)) ∈ lw_all := lw_g (lw_at lw_m8 221 rfl) rfl
theorem q2015 : (Jvm.Cond.methodLink "KeyTurns" (92 : Nat) ({ cls := "KeyTurns", name := "asInt", desc := "(Z)I" } : Jvm.MethodName)) ∈ lw_all := lw_g (lw_at lw_m8 227 rfl) rfl
theorem q2020 : (Jvm.Cond.instanceMethod ({ cls := "KeyTurns", name := "leastBatch", desc := "(I)I" } : Jvm.MethodName)) ∈ lw_all := lw_g (lw_at lw_m8 232 rfl) rfl
theorem q2021 : (Jvm.Cond.selects "KeyTurns" ({ cls := "KeyTurns", name := "leastBatch", desc := "(I)I" } : Jvm.MethodName) ({ cls := "KeyTurns", name := "leastBatch", desc := "(I)I" } : Jvm.MethodName)) ∈ lw_all := lw_g (lw_at lw_m8 233 rfl) rfl
theorem q2022 : (Jvm.Cond.code ({ cls := "KeyTurns", name := "leastBatch", desc := "(I)I" } : Jvm.MethodName) prog_1_method_33_code (5 : Nat) (Option.some Jvm.ClassFile.FieldType.int)) ∈ lw_all := lw_g (lw_at lw_m8 234 rfl) rfl
theorem q2027 : (Jvm.Cond.instanceMethod ({ cls := "KeyTurns", name := "damage", desc := "(I)I" } : Jvm.MethodName)) ∈ lw_all := lw_g (lw_at lw_m8 239 rfl) rfl
theorem q2028 : (Jvm.Cond.selects "KeyTurns" ({ cls := "KeyTurns", name := "damage", desc := "(I)I" } : Jvm.MethodName) ({ cls := "KeyTurns", name := "damage", desc := "(I)I" } : Jvm.MethodName)) ∈ lw_all := lw_g (lw_at lw_m9 0 rfl) rfl
theorem q2029 : (Jvm.Cond.code ({ cls := "KeyTurns", name := "damage", desc := "(I)I" } : Jvm.MethodName) prog_1_method_35_code (3 : Nat) (Option.some Jvm.ClassFile.FieldType.int)) ∈ lw_all := lw_g (lw_at lw_m9 1 rfl) rfl
theorem q2030 : (Jvm.Cond.methodLink "KeyTurns" (348 : Nat) ({ cls := "KeyTurns$State", name := "canWithdraw", desc := "(I)Z" } : Jvm.MethodName)) ∈ lw_all := lw_g (lw_at lw_m9 2 rfl) rfl
theorem q2034 : (Jvm.Cond.methodLink "KeyTurns" (351 : Nat) ({ cls := "KeyTurns", name := "isStuck", desc := "(I)Z" } : Jvm.MethodName)) ∈ lw_all := lw_g (lw_at lw_m9 6 rfl) rfl
theorem q2035 : (Jvm.Cond.privateMethod ({ cls := "KeyTurns", name := "isStuck", desc := "(I)Z" } : Jvm.MethodName)) ∈ lw_tbl := lw_at lw_m9 7 rfl
theorem q2036 : (Jvm.Cond.instanceMethod ({ cls := "KeyTurns", name := "isStuck", desc := "(I)Z" } : Jvm.MethodName)) ∈ lw_all := lw_g (lw_at lw_m9 8 rfl) rfl
theorem q2037 : (Jvm.Cond.code ({ cls := "KeyTurns", name := "isStuck", desc := "(I)Z" } : Jvm.MethodName) prog_1_method_34_code (2 : Nat) (Option.some Jvm.ClassFile.FieldType.boolean)) ∈ lw_all := lw_g (lw_at lw_m9 9 rfl) rfl
theorem q2038 : (Jvm.Cond.methodLink "KeyTurns" (345 : Nat) ({ cls := "KeyTurns$State", name := "isAlone", desc := "(I)Z" } : Jvm.MethodName)) ∈ lw_all := lw_g (lw_at lw_m9 10 rfl) rfl
theorem q2045 : (Jvm.Cond.methodLink "KeyTurns" (354 : Nat) ({ cls := "KeyTurns$State", name := "withdraw", desc := "(I)I" } : Jvm.MethodName)) ∈ lw_all := lw_g (lw_at lw_m9 17 rfl) rfl
theorem q2068 : (Jvm.Cond.instanceMethod ({ cls := "KeyTurns", name := "pass", desc := "(I)I" } : Jvm.MethodName)) ∈ lw_all := lw_g (lw_at lw_m9 40 rfl) rfl
theorem q2069 : (Jvm.Cond.selects "KeyTurns" ({ cls := "KeyTurns", name := "pass", desc := "(I)I" } : Jvm.MethodName) ({ cls := "KeyTurns", name := "pass", desc := "(I)I" } : Jvm.MethodName)) ∈ lw_all := lw_g (lw_at lw_m9 41 rfl) rfl
theorem q2070 : (Jvm.Cond.code ({ cls := "KeyTurns", name := "pass", desc := "(I)I" } : Jvm.MethodName) prog_1_method_39_code (5 : Nat) (Option.some Jvm.ClassFile.FieldType.int)) ∈ lw_all := lw_g (lw_at lw_m9 42 rfl) rfl
theorem q2071 : (Jvm.Cond.constantLong "KeyTurns" (366 : Nat) (200 : Int64)) ∈ lw_all := lw_g (lw_at lw_m9 43 rfl) rfl
theorem q2072 : (Jvm.Cond.methodLink "KeyTurns" (371 : Nat) ({ cls := "KeyTurns$State", name := "keep", desc := "()V" } : Jvm.MethodName)) ∈ lw_all := lw_g (lw_at lw_m9 44 rfl) rfl
theorem q2091 : (Jvm.Cond.instanceMethod ({ cls := "KeyTurns", name := "withdraw", desc := "(I)I" } : Jvm.MethodName)) ∈ lw_all := lw_g (lw_at lw_m9 63 rfl) rfl
theorem q2092 : (Jvm.Cond.selects "KeyTurns" ({ cls := "KeyTurns", name := "withdraw", desc := "(I)I" } : Jvm.MethodName) ({ cls := "KeyTurns", name := "withdraw", desc := "(I)I" } : Jvm.MethodName)) ∈ lw_all := lw_g (lw_at lw_m9 64 rfl) rfl
theorem q2093 : (Jvm.Cond.code ({ cls := "KeyTurns", name := "withdraw", desc := "(I)I" } : Jvm.MethodName) prog_1_method_41_code (3 : Nat) (Option.some Jvm.ClassFile.FieldType.int)) ∈ lw_all := lw_g (lw_at lw_m9 65 rfl) rfl
theorem q2098 : (Jvm.Cond.instanceMethod ({ cls := "KeyTurns", name := "drop", desc := "(I)I" } : Jvm.MethodName)) ∈ lw_all := lw_g (lw_at lw_m9 70 rfl) rfl
theorem q2099 : (Jvm.Cond.selects "KeyTurns" ({ cls := "KeyTurns", name := "drop", desc := "(I)I" } : Jvm.MethodName) ({ cls := "KeyTurns", name := "drop", desc := "(I)I" } : Jvm.MethodName)) ∈ lw_all := lw_g (lw_at lw_m9 71 rfl) rfl
theorem q2100 : (Jvm.Cond.code ({ cls := "KeyTurns", name := "drop", desc := "(I)I" } : Jvm.MethodName) prog_1_method_43_code (3 : Nat) (Option.some Jvm.ClassFile.FieldType.int)) ∈ lw_all := lw_g (lw_at lw_m9 72 rfl) rfl
theorem q2105 : (Jvm.Cond.instanceMethod ({ cls := "KeyTurns", name := "ask", desc := "(I)I" } : Jvm.MethodName)) ∈ lw_all := lw_g (lw_at lw_m9 77 rfl) rfl
theorem q2106 : (Jvm.Cond.selects "KeyTurns" ({ cls := "KeyTurns", name := "ask", desc := "(I)I" } : Jvm.MethodName) ({ cls := "KeyTurns", name := "ask", desc := "(I)I" } : Jvm.MethodName)) ∈ lw_all := lw_g (lw_at lw_m9 78 rfl) rfl
theorem q2107 : (Jvm.Cond.code ({ cls := "KeyTurns", name := "ask", desc := "(I)I" } : Jvm.MethodName) prog_1_method_44_code (4 : Nat) (Option.some Jvm.ClassFile.FieldType.int)) ∈ lw_all := lw_g (lw_at lw_m9 79 rfl) rfl
theorem q2108 : (Jvm.Cond.methodLink "KeyTurns" (392 : Nat) ({ cls := "KeyTurns$State", name := "ask", desc := "(LKeyTurns$Client;)I" } : Jvm.MethodName)) ∈ lw_all := lw_g (lw_at lw_m9 80 rfl) rfl
theorem q2113 : (Jvm.Cond.instanceMethod ({ cls := "KeyTurns", name := "read", desc := "(II)I" } : Jvm.MethodName)) ∈ lw_all := lw_g (lw_at lw_m9 85 rfl) rfl
theorem q2114 : (Jvm.Cond.selects "KeyTurns" ({ cls := "KeyTurns", name := "read", desc := "(II)I" } : Jvm.MethodName) ({ cls := "KeyTurns", name := "read", desc := "(II)I" } : Jvm.MethodName)) ∈ lw_all := lw_g (lw_at lw_m9 86 rfl) rfl
theorem q2115 : (Jvm.Cond.code ({ cls := "KeyTurns", name := "read", desc := "(II)I" } : Jvm.MethodName) prog_1_method_45_code (6 : Nat) (Option.some Jvm.ClassFile.FieldType.int)) ∈ lw_all := lw_g (lw_at lw_m9 87 rfl) rfl
theorem q2120 : (Jvm.Cond.instanceMethod ({ cls := "KeyTurns", name := "setBatch", desc := "(I)I" } : Jvm.MethodName)) ∈ lw_all := lw_g (lw_at lw_m9 92 rfl) rfl
theorem q2121 : (Jvm.Cond.selects "KeyTurns" ({ cls := "KeyTurns", name := "setBatch", desc := "(I)I" } : Jvm.MethodName) ({ cls := "KeyTurns", name := "setBatch", desc := "(I)I" } : Jvm.MethodName)) ∈ lw_all := lw_g (lw_at lw_m9 93 rfl) rfl
theorem q2122 : (Jvm.Cond.code ({ cls := "KeyTurns", name := "setBatch", desc := "(I)I" } : Jvm.MethodName) prog_1_method_46_code (3 : Nat) (Option.some Jvm.ClassFile.FieldType.int)) ∈ lw_all := lw_g (lw_at lw_m9 94 rfl) rfl
theorem q2123 : (Jvm.Cond.constantLong "KeyTurns" (396 : Nat) (30 : Int64)) ∈ lw_all := lw_g (lw_at lw_m9 95 rfl) rfl
theorem q2128 : (Jvm.Cond.instanceMethod ({ cls := "KeyTurns", name := "format", desc := "(I)I" } : Jvm.MethodName)) ∈ lw_all := lw_g (lw_at lw_m9 100 rfl) rfl
theorem q2129 : (Jvm.Cond.selects "KeyTurns" ({ cls := "KeyTurns", name := "format", desc := "(I)I" } : Jvm.MethodName) ({ cls := "KeyTurns", name := "format", desc := "(I)I" } : Jvm.MethodName)) ∈ lw_all := lw_g (lw_at lw_m9 101 rfl) rfl
theorem q2130 : (Jvm.Cond.code ({ cls := "KeyTurns", name := "format", desc := "(I)I" } : Jvm.MethodName) prog_1_method_51_code (6 : Nat) (Option.some Jvm.ClassFile.FieldType.int)) ∈ lw_all := lw_g (lw_at lw_m9 102 rfl) rfl
theorem q2131 : (Jvm.Cond.classLink "KeyTurns" (405 : Nat) "java/lang/StringBuilder") ∈ lw_all := lw_g (lw_at lw_m9 103 rfl) rfl
theorem q2132 : (Jvm.Cond.methodLink "KeyTurns" (407 : Nat) ({ cls := "java/lang/StringBuilder", name := "<init>", desc := "()V" } : Jvm.MethodName)) ∈ lw_all := lw_g (lw_at lw_m9 104 rfl) rfl
theorem q2133 : (Jvm.Cond.methodLink "KeyTurns" (408 : Nat) ({ cls := "java/util/BitSet", name := "nextSetBit", desc := "(I)I" } : Jvm.MethodName)) ∈ lw_all := lw_g (lw_at lw_m9 105 rfl) rfl
theorem q2134 : (Jvm.Cond.methodLink "KeyTurns" (411 : Nat) ({ cls := "java/lang/StringBuilder", name := "length", desc := "()I" } : Jvm.MethodName)) ∈ lw_all := lw_g (lw_at lw_m9 106 rfl) rfl
theorem q2135 : (Jvm.Cond.methodLink "KeyTurns" (412 : Nat) ({ cls := "java/lang/StringBuilder", name := "append", desc := "(C)Ljava/lang/StringBuilder;" } : Jvm.MethodName)) ∈ lw_all := lw_g (lw_at lw_m9 107 rfl) rfl
theorem q2136 : (Jvm.Cond.methodLink "KeyTurns" (415 : Nat) ({ cls := "java/lang/StringBuilder", name := "append", desc := "(I)Ljava/lang/StringBuilder;" } : Jvm.MethodName)) ∈ lw_all := lw_g (lw_at lw_m9 108 rfl) rfl
theorem q2137 : (Jvm.Cond.methodLink "KeyTurns" (418 : Nat) ({ cls := "KeyTurns", name := "has", desc := "(II)Z" } : Jvm.MethodName)) ∈ lw_all := lw_g (lw_at lw_m9 109 rfl) rfl
theorem q2138 : (Jvm.Cond.methodLink "KeyTurns" (421 : Nat) ({ cls := "java/lang/StringBuilder", name := "toString", desc := "()Ljava/lang/String;" } : Jvm.MethodName)) ∈ lw_all := lw_g (lw_at lw_m9 110 rfl) rfl
theorem q2143 : (Jvm.Cond.instanceMethod ({ cls := "KeyTurns", name := "query", desc := "(I)I" } : Jvm.MethodName)) ∈ lw_all := lw_g (lw_at lw_m9 115 rfl) rfl
theorem q2144 : (Jvm.Cond.selects "KeyTurns" ({ cls := "KeyTurns", name := "query", desc := "(I)I" } : Jvm.MethodName) ({ cls := "KeyTurns", name := "query", desc := "(I)I" } : Jvm.MethodName)) ∈ lw_all := lw_g (lw_at lw_m9 116 rfl) rfl
theorem q2145 : (Jvm.Cond.codeWith ({ cls := "KeyTurns", name := "query", desc := "(I)I" } : Jvm.MethodName) prog_1_method_53_code (6 : Nat) (Option.some Jvm.ClassFile.FieldType.int) [((18 : Nat), (23 : Nat), (26 : Nat), (159 : Nat))]) ∈ lw_all := lw_g (lw_at lw_m9 117 rfl) rfl
theorem q2146 : (Jvm.Cond.classLink "KeyTurns" (432 : Nat) "KeyTurns$QueryParser") ∈ lw_all := lw_g (lw_at lw_m9 118 rfl) rfl
theorem q2148 : (Jvm.Cond.methodLink "KeyTurns" (434 : Nat) ({ cls := "KeyTurns$QueryParser", name := "<init>", desc := "(LKeyTurns;I)V" } : Jvm.MethodName)) ∈ lw_all := lw_g (lw_at lw_m9 120 rfl) rfl
theorem q2153 : (Jvm.Cond.fieldLinkNest "KeyTurns" (445 : Nat) "KeyTurns$QueryParser" "isFirst" "Z" "KeyTurns") ∈ lw_tbl := lw_at lw_m9 125 rfl
theorem q2171 : (Jvm.Cond.methodLink "KeyTurns" (435 : Nat) ({ cls := "KeyTurns$QueryParser", name := "parse", desc := "()LKeyTurns$Test;" } : Jvm.MethodName)) ∈ lw_all := lw_g (lw_at lw_m9 143 rfl) rfl
theorem q2238 : (Jvm.Cond.static ({ cls := "KeyTurns", name := "propertyCode", desc := "(Ljava/lang/String;)I" } : Jvm.MethodName)) ∈ lw_all := lw_g (lw_at lw_m9 210 rfl) rfl
theorem q2239 : (Jvm.Cond.code ({ cls := "KeyTurns", name := "propertyCode", desc := "(Ljava/lang/String;)I" } : Jvm.MethodName) prog_1_method_7_code (2 : Nat) (Option.some Jvm.ClassFile.FieldType.int)) ∈ lw_all := lw_g (lw_at lw_m9 211 rfl) rfl
theorem q2240 : (Jvm.Cond.stringRef "KeyTurns" (32 : Nat) "record") ∈ lw_tbl := lw_at lw_m9 212 rfl
theorem q2241 : (Jvm.Cond.stringRef "KeyTurns" (34 : Nat) "made") ∈ lw_tbl := lw_at lw_m9 213 rfl
theorem q2242 : (Jvm.Cond.stringRef "KeyTurns" (36 : Nat) "wraps") ∈ lw_tbl := lw_at lw_m9 214 rfl
theorem q2243 : (Jvm.Cond.stringRef "KeyTurns" (38 : Nat) "newest") ∈ lw_tbl := lw_at lw_m9 215 rfl
theorem q2244 : (Jvm.Cond.stringRef "KeyTurns" (40 : Nat) "end") ∈ lw_tbl := lw_at lw_m9 216 rfl
theorem q2245 : (Jvm.Cond.stringRef "KeyTurns" (42 : Nat) "current") ∈ lw_tbl := lw_at lw_m9 217 rfl
theorem q2246 : (Jvm.Cond.stringRef "KeyTurns" (44 : Nat) "readers") ∈ lw_tbl := lw_at lw_m9 218 rfl
theorem q2247 : (Jvm.Cond.stringRef "KeyTurns" (46 : Nat) "forced") ∈ lw_tbl := lw_at lw_m9 219 rfl
theorem q2248 : (Jvm.Cond.methodLink "KeyTurns" (48 : Nat) ({ cls := "java/util/List", name := "of", desc := "(Ljava/lang/Object;Ljava/lang/Object;Ljava/lang/Object;Ljava/lang/Object;Ljava/lang/Object;Ljava/lang/Object;Ljava/lang/Object;Ljava/lang/Object;)Ljava/util/List;" } : Jvm.MethodName)) ∈ lw_all := lw_g (lw_at lw_m9 220 rfl) rfl
theorem q2302 : (Jvm.Cond.interfaceEntry "KeyTurns" (54 : Nat)) ∈ lw_tbl := lw_at lw_m10 34 rfl
theorem q2303 : (Jvm.Cond.methodLink "KeyTurns" (54 : Nat) ({ cls := "java/util/List", name := "indexOf", desc := "(Ljava/lang/Object;)I" } : Jvm.MethodName)) ∈ lw_all := lw_g (lw_at lw_m10 35 rfl) rfl
theorem q2320 : (Jvm.Cond.selects "KeyTurns" ({ cls := "java/lang/Object", name := "equals", desc := "(Ljava/lang/Object;)Z" } : Jvm.MethodName) ({ cls := "java/lang/Object", name := "equals", desc := "(Ljava/lang/Object;)Z" } : Jvm.MethodName)) ∈ lw_all := lw_g (lw_at lw_m10 52 rfl) rfl
theorem q2408 : (Jvm.Cond.constant "KeyTurns" (438 : Nat) (-1000000000 : Int32)) ∈ lw_all := lw_g (lw_at lw_m10 140 rfl) rfl
theorem q2409 : (Jvm.Cond.methodLink "KeyTurns" (439 : Nat) ({ cls := "KeyTurns$Test", name := "holds", desc := "(LKeyTurns$State;I)Z" } : Jvm.MethodName)) ∈ lw_all := lw_g (lw_at lw_m10 141 rfl) rfl
theorem q2419 : (Jvm.Cond.static ({ cls := "KeyTurns", name := "of", desc := "(ILKeyTurns$State;I)I" } : Jvm.MethodName)) ∈ lw_all := lw_g (lw_at lw_m10 151 rfl) rfl
theorem q2420 : (Jvm.Cond.code ({ cls := "KeyTurns", name := "of", desc := "(ILKeyTurns$State;I)I" } : Jvm.MethodName) prog_1_method_8_code (4 : Nat) (Option.some Jvm.ClassFile.FieldType.int)) ∈ lw_all := lw_g (lw_at lw_m10 152 rfl) rfl
theorem q2421 : (Jvm.Cond.methodLink "KeyTurns" (79 : Nat) ({ cls := "java/util/BitSet", name := "length", desc := "()I" } : Jvm.MethodName)) ∈ lw_all := lw_g (lw_at lw_m10 153 rfl) rfl
theorem q2431 : (Jvm.Cond.methodLink "KeyTurns" (89 : Nat) ({ cls := "java/util/BitSet", name := "get", desc := "(I)Z" } : Jvm.MethodName)) ∈ lw_all := lw_g (lw_at lw_m10 163 rfl) rfl
theorem q3034 : (Jvm.Cond.castable "KeyTurns" "java/lang/Object") ∈ lw_tbl := lw_at lw_m13 46 rfl
theorem in_X1 : ∀ w ∈ wsX10, w ∈ lw_all := lw_in wsX10 [434, 436, 438, 440, 442, 444, 446] (by decide +kernel) (by decide +kernel)
def RJ0 : String := "java/util/AbstractCollection"
abbrev cJ0_init : ByteArray := prog_50_method_1_code
def yJ0_init : MethodName := ⟨RJ0, "<init>", "()V"⟩
theorem q110 : (Jvm.Cond.initialized "java/util/AbstractCollection") ∈ lw_all := lw_g (lw_at lw_m1 2 rfl) rfl
theorem q181 : (Jvm.Cond.instanceMethod ({ cls := "java/util/AbstractCollection", name := "<init>", desc := "()V" } : Jvm.MethodName)) ∈ lw_all := lw_g (lw_at lw_m1 73 rfl) rfl
theorem q182 : (Jvm.Cond.code ({ cls := "java/util/AbstractCollection", name := "<init>", desc := "()V" } : Jvm.MethodName) prog_50_method_1_code (1 : Nat) (Option.none : Option Jvm.ClassFile.FieldType)) ∈ lw_all := lw_g (lw_at lw_m1 74 rfl) rfl
theorem q183 : (Jvm.Cond.methodLink "java/util/AbstractCollection" (1 : Nat) ({ cls := "java/lang/Object", name := "<init>", desc := "()V" } : Jvm.MethodName)) ∈ lw_all := lw_g (lw_at lw_m1 75 rfl) rfl
theorem q959 : (Jvm.Cond.declares ({ cls := "java/util/AbstractCollection", name := "size", desc := "()I" } : Jvm.MethodName)) ∈ lw_tbl := lw_at lw_m4 131 rfl
def RJ1 : String := "java/util/ArrayDeque"
def TJ1 : u_T := fun k => match k with
  | 0 => ("java/util/ArrayDeque", "elements", "[Ljava/lang/Object;", false)
  | 1 => ("java/util/ArrayDeque", "head", "I", false)
  | _ => ("java/util/ArrayDeque", "tail", "I", false)
def tyJ1 : Nat → FieldType := fun k => match k with
  | 0 => .array (.object "java/lang/Object")
  | 1 => .int
  | _ => .int
abbrev wsJ10 : List Cond := u_ws RJ1 TJ1 3
theorem nmJ1 : ∀ a, a < 3 → ∀ b, b < 3 → a ≠ b → (TJ1 a).2.1 ≠ (TJ1 b).2.1 := by decide +kernel
theorem tyJ1_ok : ∀ k, k < 3 → parseFieldDescriptor (TJ1 k).2.2.1 = some (tyJ1 k) := by decide +kernel
abbrev cJ1_init : ByteArray := prog_55_method_3_code
def yJ1_init : MethodName := ⟨RJ1, "<init>", "()V"⟩
abbrev cJ1_size : ByteArray := prog_55_method_37_code
def yJ1_size : MethodName := ⟨RJ1, "size", "()I"⟩
abbrev cJ1_sub : ByteArray := prog_55_method_9_code
def yJ1_sub : MethodName := ⟨RJ1, "sub", "(III)I"⟩
abbrev cJ1_removeFirst : ByteArray := prog_55_method_18_code
def yJ1_removeFirst : MethodName := ⟨RJ1, "removeFirst", "()Ljava/lang/Object;"⟩
abbrev cJ1_pollFirst : ByteArray := prog_55_method_20_code
def yJ1_pollFirst : MethodName := ⟨RJ1, "pollFirst", "()Ljava/lang/Object;"⟩
abbrev cJ1_elementAt : ByteArray := prog_55_method_10_code
def yJ1_elementAt : MethodName := ⟨RJ1, "elementAt", "([Ljava/lang/Object;I)Ljava/lang/Object;"⟩
abbrev cJ1_inc : ByteArray := prog_55_method_6_code
def yJ1_inc : MethodName := ⟨RJ1, "inc", "(II)I"⟩
abbrev cJ1_addLast : ByteArray := prog_55_method_13_code
def yJ1_addLast : MethodName := ⟨RJ1, "addLast", "(Ljava/lang/Object;)V"⟩
abbrev cJ1_grow : ByteArray := prog_55_method_1_code
def yJ1_grow : MethodName := ⟨RJ1, "grow", "(I)V"⟩
abbrev cJ1_newCapacity : ByteArray := prog_55_method_2_code
def yJ1_newCapacity : MethodName := ⟨RJ1, "newCapacity", "(II)I"⟩
abbrev cJ1_isEmpty : ByteArray := prog_55_method_38_code
def yJ1_isEmpty : MethodName := ⟨RJ1, "isEmpty", "()Z"⟩
abbrev cJ1_removeLast : ByteArray := prog_55_method_19_code
def yJ1_removeLast : MethodName := ⟨RJ1, "removeLast", "()Ljava/lang/Object;"⟩
abbrev cJ1_pollLast : ByteArray := prog_55_method_21_code
def yJ1_pollLast : MethodName := ⟨RJ1, "pollLast", "()Ljava/lang/Object;"⟩
abbrev cJ1_dec : ByteArray := prog_55_method_7_code
def yJ1_dec : MethodName := ⟨RJ1, "dec", "(II)I"⟩
abbrev cJ1_clear : ByteArray := prog_55_method_53_code
def yJ1_clear : MethodName := ⟨RJ1, "clear", "()V"⟩
abbrev cJ1_circularClear : ByteArray := prog_55_method_54_code
def yJ1_circularClear : MethodName := ⟨RJ1, "circularClear", "([Ljava/lang/Object;II)V"⟩
theorem q111 : (Jvm.Cond.initialized "java/util/ArrayDeque") ∈ lw_all := lw_g (lw_at lw_m1 3 rfl) rfl
theorem q176 : (Jvm.Cond.instantiable "java/util/ArrayDeque" (3 : Nat)) ∈ lw_all := lw_g (lw_at lw_m1 68 rfl) rfl
theorem q178 : (Jvm.Cond.instanceMethod ({ cls := "java/util/ArrayDeque", name := "<init>", desc := "()V" } : Jvm.MethodName)) ∈ lw_all := lw_g (lw_at lw_m1 70 rfl) rfl
theorem q179 : (Jvm.Cond.code ({ cls := "java/util/ArrayDeque", name := "<init>", desc := "()V" } : Jvm.MethodName) prog_55_method_3_code (1 : Nat) (Option.none : Option Jvm.ClassFile.FieldType)) ∈ lw_all := lw_g (lw_at lw_m1 71 rfl) rfl
theorem q180 : (Jvm.Cond.methodLink "java/util/ArrayDeque" (42 : Nat) ({ cls := "java/util/AbstractCollection", name := "<init>", desc := "()V" } : Jvm.MethodName)) ∈ lw_all := lw_g (lw_at lw_m1 72 rfl) rfl
theorem q184 : (Jvm.Cond.classLink "java/util/ArrayDeque" (47 : Nat) "java/lang/Object") ∈ lw_all := lw_g (lw_at lw_m1 76 rfl) rfl
theorem q186 : (Jvm.Cond.fieldLink "java/util/ArrayDeque" (3 : Nat) "java/util/ArrayDeque" "elements" "[Ljava/lang/Object;") ∈ lw_all := lw_g (lw_at lw_m1 78 rfl) rfl
theorem q187 : (Jvm.Cond.fieldLink "java/util/ArrayDeque" (24 : Nat) "java/util/ArrayDeque" "head" "I") ∈ lw_all := lw_g (lw_at lw_m1 79 rfl) rfl
theorem q188 : (Jvm.Cond.fieldLink "java/util/ArrayDeque" (20 : Nat) "java/util/ArrayDeque" "tail" "I") ∈ lw_all := lw_g (lw_at lw_m1 80 rfl) rfl
theorem q189 : (Jvm.Cond.lays "java/util/ArrayDeque" "java/util/ArrayDeque" "elements" "[Ljava/lang/Object;") ∈ lw_all := lw_g (lw_at lw_m1 81 rfl) rfl
theorem q190 : (Jvm.Cond.soleField "java/util/ArrayDeque" "elements") ∈ lw_all := lw_g (lw_at lw_m1 82 rfl) rfl
theorem q191 : (Jvm.Cond.lays "java/util/ArrayDeque" "java/util/ArrayDeque" "head" "I") ∈ lw_all := lw_g (lw_at lw_m1 83 rfl) rfl
theorem q192 : (Jvm.Cond.soleField "java/util/ArrayDeque" "head") ∈ lw_all := lw_g (lw_at lw_m1 84 rfl) rfl
theorem q193 : (Jvm.Cond.lays "java/util/ArrayDeque" "java/util/ArrayDeque" "tail" "I") ∈ lw_all := lw_g (lw_at lw_m1 85 rfl) rfl
theorem q194 : (Jvm.Cond.soleField "java/util/ArrayDeque" "tail") ∈ lw_all := lw_g (lw_at lw_m1 86 rfl) rfl
theorem q195 : (Jvm.Cond.superclass "java/util/ArrayDeque" "java/util/AbstractCollection") ∈ lw_all := lw_g (lw_at lw_m1 87 rfl) rfl
theorem q402 : (Jvm.Cond.selects "java/util/ArrayDeque" ({ cls := "java/lang/Object", name := "getClass", desc := "()Ljava/lang/Class;" } : Jvm.MethodName) ({ cls := "java/lang/Object", name := "getClass", desc := "()Ljava/lang/Class;" } : Jvm.MethodName)) ∈ lw_all := lw_g (lw_at lw_m2 54 rfl) rfl
theorem q631 : (Jvm.Cond.instanceMethod ({ cls := "java/util/ArrayDeque", name := "size", desc := "()I" } : Jvm.MethodName)) ∈ lw_all := lw_g (lw_at lw_m3 43 rfl) rfl
theorem q632 : (Jvm.Cond.selects "java/util/ArrayDeque" ({ cls := "java/util/ArrayDeque", name := "size", desc := "()I" } : Jvm.MethodName) ({ cls := "java/util/ArrayDeque", name := "size", desc := "()I" } : Jvm.MethodName)) ∈ lw_all := lw_g (lw_at lw_m3 44 rfl) rfl
theorem q633 : (Jvm.Cond.code ({ cls := "java/util/ArrayDeque", name := "size", desc := "()I" } : Jvm.MethodName) prog_55_method_37_code (1 : Nat) (Option.some Jvm.ClassFile.FieldType.int)) ∈ lw_all := lw_g (lw_at lw_m3 45 rfl) rfl
theorem q634 : (Jvm.Cond.methodLink "java/util/ArrayDeque" (127 : Nat) ({ cls := "java/util/ArrayDeque", name := "sub", desc := "(III)I" } : Jvm.MethodName)) ∈ lw_all := lw_g (lw_at lw_m3 46 rfl) rfl
theorem q635 : (Jvm.Cond.static ({ cls := "java/util/ArrayDeque", name := "sub", desc := "(III)I" } : Jvm.MethodName)) ∈ lw_all := lw_g (lw_at lw_m3 47 rfl) rfl
theorem q636 : (Jvm.Cond.code ({ cls := "java/util/ArrayDeque", name := "sub", desc := "(III)I" } : Jvm.MethodName) prog_55_method_9_code (3 : Nat) (Option.some Jvm.ClassFile.FieldType.int)) ∈ lw_all := lw_g (lw_at lw_m3 48 rfl) rfl
theorem q638 : (Jvm.Cond.instanceMethod ({ cls := "java/util/ArrayDeque", name := "removeFirst", desc := "()Ljava/lang/Object;" } : Jvm.MethodName)) ∈ lw_all := lw_g (lw_at lw_m3 50 rfl) rfl
theorem q639 : (Jvm.Cond.selects "java/util/ArrayDeque" ({ cls := "java/util/ArrayDeque", name := "removeFirst", desc := "()Ljava/lang/Object;" } : Jvm.MethodName) ({ cls := "java/util/ArrayDeque", name := "removeFirst", desc := "()Ljava/lang/Object;" } : Jvm.MethodName)) ∈ lw_all := lw_g (lw_at lw_m3 51 rfl) rfl
theorem q640 : (Jvm.Cond.code ({ cls := "java/util/ArrayDeque", name := "removeFirst", desc := "()Ljava/lang/Object;" } : Jvm.MethodName) prog_55_method_18_code (2 : Nat) (Option.some (Jvm.ClassFile.FieldType.object "java/lang/Object"))) ∈ lw_all := lw_g (lw_at lw_m3 52 rfl) rfl
theorem q641 : (Jvm.Cond.methodLink "java/util/ArrayDeque" (93 : Nat) ({ cls := "java/util/ArrayDeque", name := "pollFirst", desc := "()Ljava/lang/Object;" } : Jvm.MethodName)) ∈ lw_all := lw_g (lw_at lw_m3 53 rfl) rfl
theorem q642 : (Jvm.Cond.instanceMethod ({ cls := "java/util/ArrayDeque", name := "pollFirst", desc := "()Ljava/lang/Object;" } : Jvm.MethodName)) ∈ lw_all := lw_g (lw_at lw_m3 54 rfl) rfl
theorem q643 : (Jvm.Cond.selects "java/util/ArrayDeque" ({ cls := "java/util/ArrayDeque", name := "pollFirst", desc := "()Ljava/lang/Object;" } : Jvm.MethodName) ({ cls := "java/util/ArrayDeque", name := "pollFirst", desc := "()Ljava/lang/Object;" } : Jvm.MethodName)) ∈ lw_all := lw_g (lw_at lw_m3 55 rfl) rfl
theorem q644 : (Jvm.Cond.code ({ cls := "java/util/ArrayDeque", name := "pollFirst", desc := "()Ljava/lang/Object;" } : Jvm.MethodName) prog_55_method_20_code (4 : Nat) (Option.some (Jvm.ClassFile.FieldType.object "java/lang/Object"))) ∈ lw_all := lw_g (lw_at lw_m3 56 rfl) rfl
theorem q645 : (Jvm.Cond.methodLink "java/util/ArrayDeque" (103 : Nat) ({ cls := "java/util/ArrayDeque", name := "elementAt", desc := "([Ljava/lang/Object;I)Ljava/lang/Object;" } : Jvm.MethodName)) ∈ lw_all := lw_g (lw_at lw_m3 57 rfl) rfl
theorem q646 : (Jvm.Cond.static ({ cls := "java/util/ArrayDeque", name := "elementAt", desc := "([Ljava/lang/Object;I)Ljava/lang/Object;" } : Jvm.MethodName)) ∈ lw_all := lw_g (lw_at lw_m3 58 rfl) rfl
theorem q647 : (Jvm.Cond.code ({ cls := "java/util/ArrayDeque", name := "elementAt", desc := "([Ljava/lang/Object;I)Ljava/lang/Object;" } : Jvm.MethodName) prog_55_method_10_code (2 : Nat) (Option.some (Jvm.ClassFile.FieldType.object "java/lang/Object"))) ∈ lw_all := lw_g (lw_at lw_m3 59 rfl) rfl
theorem q648 : (Jvm.Cond.methodLink "java/util/ArrayDeque" (74 : Nat) ({ cls := "java/util/ArrayDeque", name := "inc", desc := "(II)I" } : Jvm.MethodName)) ∈ lw_all := lw_g (lw_at lw_m3 60 rfl) rfl
theorem q649 : (Jvm.Cond.static ({ cls := "java/util/ArrayDeque", name := "inc", desc := "(II)I" } : Jvm.MethodName)) ∈ lw_all := lw_g (lw_at lw_m3 61 rfl) rfl
theorem q650 : (Jvm.Cond.code ({ cls := "java/util/ArrayDeque", name := "inc", desc := "(II)I" } : Jvm.MethodName) prog_55_method_6_code (2 : Nat) (Option.some Jvm.ClassFile.FieldType.int)) ∈ lw_all := lw_g (lw_at lw_m3 62 rfl) rfl
theorem q651 : (Jvm.Cond.classLink "java/util/ArrayDeque" (97 : Nat) "java/util/NoSuchElementException") ∈ lw_all := lw_g (lw_at lw_m3 63 rfl) rfl
theorem q692 : (Jvm.Cond.methodLink "java/util/ArrayDeque" (99 : Nat) ({ cls := "java/util/NoSuchElementException", name := "<init>", desc := "()V" } : Jvm.MethodName)) ∈ lw_all := lw_g (lw_at lw_m3 104 rfl) rfl
theorem q716 : (Jvm.Cond.instanceMethod ({ cls := "java/util/ArrayDeque", name := "addLast", desc := "(Ljava/lang/Object;)V" } : Jvm.MethodName)) ∈ lw_all := lw_g (lw_at lw_m3 128 rfl) rfl
theorem q717 : (Jvm.Cond.selects "java/util/ArrayDeque" ({ cls := "java/util/ArrayDeque", name := "addLast", desc := "(Ljava/lang/Object;)V" } : Jvm.MethodName) ({ cls := "java/util/ArrayDeque", name := "addLast", desc := "(Ljava/lang/Object;)V" } : Jvm.MethodName)) ∈ lw_all := lw_g (lw_at lw_m3 129 rfl) rfl
theorem q718 : (Jvm.Cond.code ({ cls := "java/util/ArrayDeque", name := "addLast", desc := "(Ljava/lang/Object;)V" } : Jvm.MethodName) prog_55_method_13_code (3 : Nat) (Option.none : Option Jvm.ClassFile.FieldType)) ∈ lw_all := lw_g (lw_at lw_m3 130 rfl) rfl
theorem q719 : (Jvm.Cond.methodLink "java/util/ArrayDeque" (71 : Nat) ({ cls := "java/util/ArrayDeque", name := "grow", desc := "(I)V" } : Jvm.MethodName)) ∈ lw_all := lw_g (lw_at lw_m3 131 rfl) rfl
theorem q720 : (Jvm.Cond.privateMethod ({ cls := "java/util/ArrayDeque", name := "grow", desc := "(I)V" } : Jvm.MethodName)) ∈ lw_tbl := lw_at lw_m3 132 rfl
theorem q721 : (Jvm.Cond.instanceMethod ({ cls := "java/util/ArrayDeque", name := "grow", desc := "(I)V" } : Jvm.MethodName)) ∈ lw_all := lw_g (lw_at lw_m3 133 rfl) rfl
theorem q722 : (Jvm.Cond.code ({ cls := "java/util/ArrayDeque", name := "grow", desc := "(I)V" } : Jvm.MethodName) prog_55_method_1_code (9 : Nat) (Option.none : Option Jvm.ClassFile.FieldType)) ∈ lw_all := lw_g (lw_at lw_m3 134 rfl) rfl
theorem q723 : (Jvm.Cond.constant "java/util/ArrayDeque" (9 : Nat) (2147483639 : Int32)) ∈ lw_all := lw_g (lw_at lw_m3 135 rfl) rfl
theorem q724 : (Jvm.Cond.methodLink "java/util/ArrayDeque" (10 : Nat) ({ cls := "java/util/ArrayDeque", name := "newCapacity", desc := "(II)I" } : Jvm.MethodName)) ∈ lw_all := lw_g (lw_at lw_m3 136 rfl) rfl
theorem q725 : (Jvm.Cond.privateMethod ({ cls := "java/util/ArrayDeque", name := "newCapacity", desc := "(II)I" } : Jvm.MethodName)) ∈ lw_tbl := lw_at lw_m3 137 rfl
theorem q726 : (Jvm.Cond.instanceMethod ({ cls := "java/util/ArrayDeque", name := "newCapacity", desc := "(II)I" } : Jvm.MethodName)) ∈ lw_all := lw_g (lw_at lw_m3 138 rfl) rfl
theorem q727 : (Jvm.Cond.code ({ cls := "java/util/ArrayDeque", name := "newCapacity", desc := "(II)I" } : Jvm.MethodName) prog_55_method_2_code (5 : Nat) (Option.some Jvm.ClassFile.FieldType.int)) ∈ lw_all := lw_g (lw_at lw_m3 139 rfl) rfl
theorem q728 : (Jvm.Cond.constant "java/util/ArrayDeque" (41 : Nat) (2147483647 : Int32)) ∈ lw_all := lw_g (lw_at lw_m3 140 rfl) rfl
theorem q729 : (Jvm.Cond.methodLink "java/util/ArrayDeque" (14 : Nat) ({ cls := "java/util/Arrays", name := "copyOf", desc := "([Ljava/lang/Object;I)[Ljava/lang/Object;" } : Jvm.MethodName)) ∈ lw_all := lw_g (lw_at lw_m3 141 rfl) rfl
theorem q730 : (Jvm.Cond.methodLink "java/util/ArrayDeque" (27 : Nat) ({ cls := "java/lang/System", name := "arraycopy", desc := "(Ljava/lang/Object;ILjava/lang/Object;II)V" } : Jvm.MethodName)) ∈ lw_all := lw_g (lw_at lw_m3 142 rfl) rfl
theorem q1425 : (Jvm.Cond.instanceMethod ({ cls := "java/util/ArrayDeque", name := "isEmpty", desc := "()Z" } : Jvm.MethodName)) ∈ lw_all := lw_g (lw_at lw_m6 117 rfl) rfl
theorem q1426 : (Jvm.Cond.selects "java/util/ArrayDeque" ({ cls := "java/util/ArrayDeque", name := "isEmpty", desc := "()Z" } : Jvm.MethodName) ({ cls := "java/util/ArrayDeque", name := "isEmpty", desc := "()Z" } : Jvm.MethodName)) ∈ lw_all := lw_g (lw_at lw_m6 118 rfl) rfl
theorem q1427 : (Jvm.Cond.code ({ cls := "java/util/ArrayDeque", name := "isEmpty", desc := "()Z" } : Jvm.MethodName) prog_55_method_38_code (1 : Nat) (Option.some Jvm.ClassFile.FieldType.boolean)) ∈ lw_all := lw_g (lw_at lw_m6 119 rfl) rfl
theorem q1429 : (Jvm.Cond.instanceMethod ({ cls := "java/util/ArrayDeque", name := "removeLast", desc := "()Ljava/lang/Object;" } : Jvm.MethodName)) ∈ lw_all := lw_g (lw_at lw_m6 121 rfl) rfl
theorem q1430 : (Jvm.Cond.selects "java/util/ArrayDeque" ({ cls := "java/util/ArrayDeque", name := "removeLast", desc := "()Ljava/lang/Object;" } : Jvm.MethodName) ({ cls := "java/util/ArrayDeque", name := "removeLast", desc := "()Ljava/lang/Object;" } : Jvm.MethodName)) ∈ lw_all := lw_g (lw_at lw_m6 122 rfl) rfl
theorem q1431 : (Jvm.Cond.code ({ cls := "java/util/ArrayDeque", name := "removeLast", desc := "()Ljava/lang/Object;" } : Jvm.MethodName) prog_55_method_19_code (2 : Nat) (Option.some (Jvm.ClassFile.FieldType.object "java/lang/Object"))) ∈ lw_all := lw_g (lw_at lw_m6 123 rfl) rfl
theorem q1432 : (Jvm.Cond.methodLink "java/util/ArrayDeque" (100 : Nat) ({ cls := "java/util/ArrayDeque", name := "pollLast", desc := "()Ljava/lang/Object;" } : Jvm.MethodName)) ∈ lw_all := lw_g (lw_at lw_m6 124 rfl) rfl
theorem q1433 : (Jvm.Cond.instanceMethod ({ cls := "java/util/ArrayDeque", name := "pollLast", desc := "()Ljava/lang/Object;" } : Jvm.MethodName)) ∈ lw_all := lw_g (lw_at lw_m6 125 rfl) rfl
theorem q1434 : (Jvm.Cond.selects "java/util/ArrayDeque" ({ cls := "java/util/ArrayDeque", name := "pollLast", desc := "()Ljava/lang/Object;" } : Jvm.MethodName) ({ cls := "java/util/ArrayDeque", name := "pollLast", desc := "()Ljava/lang/Object;" } : Jvm.MethodName)) ∈ lw_all := lw_g (lw_at lw_m6 126 rfl) rfl
theorem q1435 : (Jvm.Cond.code ({ cls := "java/util/ArrayDeque", name := "pollLast", desc := "()Ljava/lang/Object;" } : Jvm.MethodName) prog_55_method_21_code (4 : Nat) (Option.some (Jvm.ClassFile.FieldType.object "java/lang/Object"))) ∈ lw_all := lw_g (lw_at lw_m6 127 rfl) rfl
theorem q1436 : (Jvm.Cond.methodLink "java/util/ArrayDeque" (68 : Nat) ({ cls := "java/util/ArrayDeque", name := "dec", desc := "(II)I" } : Jvm.MethodName)) ∈ lw_all := lw_g (lw_at lw_m6 128 rfl) rfl
theorem q1437 : (Jvm.Cond.static ({ cls := "java/util/ArrayDeque", name := "dec", desc := "(II)I" } : Jvm.MethodName)) ∈ lw_all := lw_g (lw_at lw_m6 129 rfl) rfl
theorem q1438 : (Jvm.Cond.code ({ cls := "java/util/ArrayDeque", name := "dec", desc := "(II)I" } : Jvm.MethodName) prog_55_method_7_code (2 : Nat) (Option.some Jvm.ClassFile.FieldType.int)) ∈ lw_all := lw_g (lw_at lw_m6 130 rfl) rfl
theorem q1448 : (Jvm.Cond.instanceMethod ({ cls := "java/util/ArrayDeque", name := "clear", desc := "()V" } : Jvm.MethodName)) ∈ lw_all := lw_g (lw_at lw_m6 140 rfl) rfl
theorem q1449 : (Jvm.Cond.selects "java/util/ArrayDeque" ({ cls := "java/util/ArrayDeque", name := "clear", desc := "()V" } : Jvm.MethodName) ({ cls := "java/util/ArrayDeque", name := "clear", desc := "()V" } : Jvm.MethodName)) ∈ lw_all := lw_g (lw_at lw_m6 141 rfl) rfl
theorem q1450 : (Jvm.Cond.code ({ cls := "java/util/ArrayDeque", name := "clear", desc := "()V" } : Jvm.MethodName) prog_55_method_53_code (1 : Nat) (Option.none : Option Jvm.ClassFile.FieldType)) ∈ lw_all := lw_g (lw_at lw_m6 142 rfl) rfl
theorem q1451 : (Jvm.Cond.methodLink "java/util/ArrayDeque" (181 : Nat) ({ cls := "java/util/ArrayDeque", name := "circularClear", desc := "([Ljava/lang/Object;II)V" } : Jvm.MethodName)) ∈ lw_all := lw_g (lw_at lw_m6 143 rfl) rfl
theorem q1452 : (Jvm.Cond.static ({ cls := "java/util/ArrayDeque", name := "circularClear", desc := "([Ljava/lang/Object;II)V" } : Jvm.MethodName)) ∈ lw_all := lw_g (lw_at lw_m6 144 rfl) rfl
theorem q1453 : (Jvm.Cond.code ({ cls := "java/util/ArrayDeque", name := "circularClear", desc := "([Ljava/lang/Object;II)V" } : Jvm.MethodName) prog_55_method_54_code (4 : Nat) (Option.none : Option Jvm.ClassFile.FieldType)) ∈ lw_all := lw_g (lw_at lw_m6 145 rfl) rfl
theorem q3035 : (Jvm.Cond.castable "java/util/ArrayDeque" "java/lang/Object") ∈ lw_tbl := lw_at lw_m13 47 rfl
theorem in_J1 : ∀ w ∈ wsJ10, w ∈ lw_all := lw_in wsJ10 [189, 191, 193] (by decide +kernel) (by decide +kernel)
def RX2 : String := "KeyTurns$State"
def TX2 : u_T := fun k => match k with
  | 0 => ("KeyTurns$State", "span", "I", true)
  | 1 => ("KeyTurns$State", "overlap", "I", true)
  | 2 => ("KeyTurns$State", "lead", "I", true)
  | 3 => ("KeyTurns$State", "versions", "Ljava/util/ArrayList;", true)
  | 4 => ("KeyTurns$State", "records", "Ljava/util/ArrayList;", true)
  | 5 => ("KeyTurns$State", "clients", "Ljava/util/ArrayList;", true)
  | 6 => ("KeyTurns$State", "past", "Ljava/util/LinkedList;", true)
  | 7 => ("KeyTurns$State", "hour", "I", false)
  | 8 => ("KeyTurns$State", "batch", "I", false)
  | 9 => ("KeyTurns$State", "forced", "I", false)
  | 10 => ("KeyTurns$State", "swept", "I", false)
  | 11 => ("KeyTurns$State", "due", "[I", true)
  | 12 => ("KeyTurns$State", "ends", "[I", true)
  | _ => ("KeyTurns$State", "dueMany", "I", false)
def tyX2 : Nat → FieldType := fun k => match k with
  | 0 => .int
  | 1 => .int
  | 2 => .int
  | 3 => .object "java/util/ArrayList"
  | 4 => .object "java/util/ArrayList"
  | 5 => .object "java/util/ArrayList"
  | 6 => .object "java/util/LinkedList"
  | 7 => .int
  | 8 => .int
  | 9 => .int
  | 10 => .int
  | 11 => .array .int
  | 12 => .array .int
  | _ => .int
abbrev wsX20 : List Cond := u_ws RX2 TX2 14
theorem nmX2 : ∀ a, a < 14 → ∀ b, b < 14 → a ≠ b → (TX2 a).2.1 ≠ (TX2 b).2.1 := by decide +kernel
theorem tyX2_ok : ∀ k, k < 14 → parseFieldDescriptor (TX2 k).2.2.1 = some (tyX2 k) := by decide +kernel
abbrev cX2_init : ByteArray := prog_16_method_1_code
def yX2_init : MethodName := ⟨RX2, "<init>", "(IIII)V"⟩
abbrev cX2_dueAt : ByteArray := prog_16_method_22_code
def yX2_dueAt : MethodName := ⟨RX2, "dueAt", "(I)I"⟩
abbrev cX2_layDue : ByteArray := prog_16_method_21_code
def yX2_layDue : MethodName := ⟨RX2, "layDue", "()V"⟩
abbrev cX2_writing : ByteArray := prog_16_method_7_code
def yX2_writing : MethodName := ⟨RX2, "writing", "()I"⟩
abbrev cX2_isThere : ByteArray := prog_16_method_16_code
def yX2_isThere : MethodName := ⟨RX2, "isThere", "(I)Z"⟩
abbrev cX2_endOf : ByteArray := prog_16_method_20_code
def yX2_endOf : MethodName := ⟨RX2, "endOf", "(LKeyTurns$Sealed;)I"⟩
abbrev cX2_isDue : ByteArray := prog_16_method_11_code
def yX2_isDue : MethodName := ⟨RX2, "isDue", "(I)Z"⟩
abbrev cX2_latest : ByteArray := prog_16_method_8_code
def yX2_latest : MethodName := ⟨RX2, "latest", "()LKeyTurns$Version;"⟩
abbrev cX2_dueFirst : ByteArray := prog_16_method_10_code
def yX2_dueFirst : MethodName := ⟨RX2, "dueFirst", "(I)I"⟩
abbrev cX2_recordCount : ByteArray := prog_16_method_17_code
def yX2_recordCount : MethodName := ⟨RX2, "recordCount", "()I"⟩
abbrev cX2_wrapCount : ByteArray := prog_16_method_24_code
def yX2_wrapCount : MethodName := ⟨RX2, "wrapCount", "()I"⟩
abbrev cX2_readable : ByteArray := prog_16_method_29_code
def yX2_readable : MethodName := ⟨RX2, "readable", "(I)I"⟩
abbrev cX2_readsBy : ByteArray := prog_16_method_27_code
def yX2_readsBy : MethodName := ⟨RX2, "readsBy", "(II)I"⟩
abbrev cX2_copy : ByteArray := prog_16_method_2_code
def yX2_copy : MethodName := ⟨RX2, "copy", "(ZZ)LKeyTurns$State;"⟩
abbrev cX2_issue : ByteArray := prog_16_method_9_code
def yX2_issue : MethodName := ⟨RX2, "issue", "(I)I"⟩
abbrev cX2_clean : ByteArray := prog_16_method_18_code
def yX2_clean : MethodName := ⟨RX2, "clean", "()I"⟩
abbrev cX2_cleans : ByteArray := prog_16_method_19_code
def yX2_cleans : MethodName := ⟨RX2, "cleans", "(LKeyTurns$Sealed;)Z"⟩
abbrev cX2_make : ByteArray := prog_16_method_15_code
def yX2_make : MethodName := ⟨RX2, "make", "()LKeyTurns$Sealed;"⟩
abbrev cX2_ask : ByteArray := prog_16_method_26_code
def yX2_ask : MethodName := ⟨RX2, "ask", "(LKeyTurns$Client;)I"⟩
abbrev cX2_inForce : ByteArray := prog_16_method_6_code
def yX2_inForce : MethodName := ⟨RX2, "inForce", "()I"⟩
abbrev cX2_isWriting : ByteArray := prog_16_method_5_code
def yX2_isWriting : MethodName := ⟨RX2, "isWriting", "(LKeyTurns$Version;)Z"⟩
abbrev cX2_count : ByteArray := prog_16_method_3_code
def yX2_count : MethodName := ⟨RX2, "count", "(LKeyTurns$VersionTest;)I"⟩
abbrev cX2_wrappedBy : ByteArray := prog_16_method_25_code
def yX2_wrappedBy : MethodName := ⟨RX2, "wrappedBy", "(I)I"⟩
abbrev cX2_readers : ByteArray := prog_16_method_28_code
def yX2_readers : MethodName := ⟨RX2, "readers", "(I)I"⟩
abbrev cX2_could : ByteArray := prog_16_method_33_code
def yX2_could : MethodName := ⟨RX2, "could", "(II)I"⟩
abbrev cX2_pass : ByteArray := prog_16_method_31_code
def yX2_pass : MethodName := ⟨RX2, "pass", "()V"⟩
abbrev cX2_sweep : ByteArray := prog_16_method_23_code
def yX2_sweep : MethodName := ⟨RX2, "sweep", "()V"⟩
abbrev cX2_share : ByteArray := prog_16_method_30_code
def yX2_share : MethodName := ⟨RX2, "share", "(I)F"⟩
abbrev cX2_canWithdraw : ByteArray := prog_16_method_12_code
def yX2_canWithdraw : MethodName := ⟨RX2, "canWithdraw", "(I)Z"⟩
abbrev cX2_isAlone : ByteArray := prog_16_method_13_code
def yX2_isAlone : MethodName := ⟨RX2, "isAlone", "(I)Z"⟩
abbrev cX2_lambda_isAlone_0 : ByteArray := prog_16_method_36_code
def yX2_lambda_isAlone_0 : MethodName := ⟨RX2, "lambda$isAlone$0", "(ILKeyTurns$Version;)Z"⟩
abbrev cX2_withdraw : ByteArray := prog_16_method_14_code
def yX2_withdraw : MethodName := ⟨RX2, "withdraw", "(I)I"⟩
abbrev cX2_lambda_withdraw_1 : ByteArray := prog_16_method_35_code
def yX2_lambda_withdraw_1 : MethodName := ⟨RX2, "lambda$withdraw$1", "(LKeyTurns$Version;)Z"⟩
abbrev cX2_greatest : ByteArray := prog_16_method_4_code
def yX2_greatest : MethodName := ⟨RX2, "greatest", "(LKeyTurns$VersionTest;)I"⟩
abbrev cX2_lambda_withdraw_2 : ByteArray := prog_16_method_34_code
def yX2_lambda_withdraw_2 : MethodName := ⟨RX2, "lambda$withdraw$2", "(LKeyTurns$Version;)Z"⟩
abbrev cX2_keep : ByteArray := prog_16_method_32_code
def yX2_keep : MethodName := ⟨RX2, "keep", "()V"⟩
theorem q112 : (Jvm.Cond.initialized "KeyTurns$State") ∈ lw_all := lw_g (lw_at lw_m1 4 rfl) rfl
theorem q201 : (Jvm.Cond.instantiable "KeyTurns$State" (14 : Nat)) ∈ lw_all := lw_g (lw_at lw_m1 93 rfl) rfl
theorem q203 : (Jvm.Cond.instanceMethod ({ cls := "KeyTurns$State", name := "<init>", desc := "(IIII)V" } : Jvm.MethodName)) ∈ lw_all := lw_g (lw_at lw_m1 95 rfl) rfl
theorem q204 : (Jvm.Cond.code ({ cls := "KeyTurns$State", name := "<init>", desc := "(IIII)V" } : Jvm.MethodName) prog_16_method_1_code (5 : Nat) (Option.none : Option Jvm.ClassFile.FieldType)) ∈ lw_all := lw_g (lw_at lw_m1 96 rfl) rfl
theorem q205 : (Jvm.Cond.methodLink "KeyTurns$State" (3 : Nat) ({ cls := "java/lang/Object", name := "<init>", desc := "()V" } : Jvm.MethodName)) ∈ lw_all := lw_g (lw_at lw_m1 97 rfl) rfl
theorem q206 : (Jvm.Cond.classLink "KeyTurns$State" (9 : Nat) "java/util/ArrayList") ∈ lw_all := lw_g (lw_at lw_m1 98 rfl) rfl
theorem q208 : (Jvm.Cond.methodLink "KeyTurns$State" (11 : Nat) ({ cls := "java/util/ArrayList", name := "<init>", desc := "()V" } : Jvm.MethodName)) ∈ lw_all := lw_g (lw_at lw_m1 100 rfl) rfl
theorem q237 : (Jvm.Cond.classLink "KeyTurns$State" (24 : Nat) "java/util/LinkedList") ∈ lw_all := lw_g (lw_at lw_m1 129 rfl) rfl
theorem q239 : (Jvm.Cond.methodLink "KeyTurns$State" (26 : Nat) ({ cls := "java/util/LinkedList", name := "<init>", desc := "()V" } : Jvm.MethodName)) ∈ lw_all := lw_g (lw_at lw_m1 131 rfl) rfl
theorem q258 : (Jvm.Cond.fieldLink "KeyTurns$State" (38 : Nat) "KeyTurns$State" "span" "I") ∈ lw_all := lw_g (lw_at lw_m1 150 rfl) rfl
theorem q260 : (Jvm.Cond.fieldLink "KeyTurns$State" (42 : Nat) "KeyTurns$State" "overlap" "I") ∈ lw_all := lw_g (lw_at lw_m1 152 rfl) rfl
theorem q262 : (Jvm.Cond.fieldLink "KeyTurns$State" (45 : Nat) "KeyTurns$State" "lead" "I") ∈ lw_all := lw_g (lw_at lw_m1 154 rfl) rfl
theorem q264 : (Jvm.Cond.fieldLink "KeyTurns$State" (12 : Nat) "KeyTurns$State" "versions" "Ljava/util/ArrayList;") ∈ lw_all := lw_g (lw_at lw_m1 156 rfl) rfl
theorem q266 : (Jvm.Cond.fieldLink "KeyTurns$State" (18 : Nat) "KeyTurns$State" "records" "Ljava/util/ArrayList;") ∈ lw_all := lw_g (lw_at lw_m1 158 rfl) rfl
theorem q268 : (Jvm.Cond.fieldLink "KeyTurns$State" (21 : Nat) "KeyTurns$State" "clients" "Ljava/util/ArrayList;") ∈ lw_all := lw_g (lw_at lw_m1 160 rfl) rfl
theorem q271 : (Jvm.Cond.fieldLink "KeyTurns$State" (27 : Nat) "KeyTurns$State" "past" "Ljava/util/LinkedList;") ∈ lw_all := lw_g (lw_at lw_m1 163 rfl) rfl
theorem q272 : (Jvm.Cond.fieldLink "KeyTurns$State" (98 : Nat) "KeyTurns$State" "hour" "I") ∈ lw_all := lw_g (lw_at lw_m1 164 rfl) rfl
theorem q274 : (Jvm.Cond.fieldLink "KeyTurns$State" (48 : Nat) "KeyTurns$State" "batch" "I") ∈ lw_all := lw_g (lw_at lw_m1 166 rfl) rfl
theorem q276 : (Jvm.Cond.fieldLink "KeyTurns$State" (101 : Nat) "KeyTurns$State" "forced" "I") ∈ lw_all := lw_g (lw_at lw_m1 168 rfl) rfl
theorem q278 : (Jvm.Cond.fieldLink "KeyTurns$State" (104 : Nat) "KeyTurns$State" "swept" "I") ∈ lw_all := lw_g (lw_at lw_m1 170 rfl) rfl
theorem q280 : (Jvm.Cond.fieldLink "KeyTurns$State" (31 : Nat) "KeyTurns$State" "due" "[I") ∈ lw_all := lw_g (lw_at lw_m1 172 rfl) rfl
theorem q281 : (Jvm.Cond.fieldLink "KeyTurns$State" (35 : Nat) "KeyTurns$State" "ends" "[I") ∈ lw_all := lw_g (lw_at lw_m1 173 rfl) rfl
theorem q282 : (Jvm.Cond.fieldLink "KeyTurns$State" (229 : Nat) "KeyTurns$State" "dueMany" "I") ∈ lw_all := lw_g (lw_at lw_m1 174 rfl) rfl
theorem q283 : (Jvm.Cond.laysFinal "KeyTurns$State" "KeyTurns$State" "span" "I") ∈ lw_all := lw_g (lw_at lw_m1 175 rfl) rfl
theorem q284 : (Jvm.Cond.soleField "KeyTurns$State" "span") ∈ lw_all := lw_g (lw_at lw_m1 176 rfl) rfl
theorem q285 : (Jvm.Cond.laysFinal "KeyTurns$State" "KeyTurns$State" "overlap" "I") ∈ lw_all := lw_g (lw_at lw_m1 177 rfl) rfl
theorem q286 : (Jvm.Cond.soleField "KeyTurns$State" "overlap") ∈ lw_all := lw_g (lw_at lw_m1 178 rfl) rfl
theorem q287 : (Jvm.Cond.laysFinal "KeyTurns$State" "KeyTurns$State" "lead" "I") ∈ lw_all := lw_g (lw_at lw_m1 179 rfl) rfl
theorem q288 : (Jvm.Cond.soleField "KeyTurns$State" "lead") ∈ lw_all := lw_g (lw_at lw_m1 180 rfl) rfl
theorem q289 : (Jvm.Cond.laysFinal "KeyTurns$State" "KeyTurns$State" "versions" "Ljava/util/ArrayList;") ∈ lw_all := lw_g (lw_at lw_m1 181 rfl) rfl
theorem q290 : (Jvm.Cond.soleField "KeyTurns$State" "versions") ∈ lw_all := lw_g (lw_at lw_m1 182 rfl) rfl
theorem q291 : (Jvm.Cond.laysFinal "KeyTurns$State" "KeyTurns$State" "records" "Ljava/util/ArrayList;") ∈ lw_all := lw_g (lw_at lw_m1 183 rfl) rfl
theorem q292 : (Jvm.Cond.soleField "KeyTurns$State" "records") ∈ lw_all := lw_g (lw_at lw_m1 184 rfl) rfl
theorem q293 : (Jvm.Cond.laysFinal "KeyTurns$State" "KeyTurns$State" "clients" "Ljava/util/ArrayList;") ∈ lw_all := lw_g (lw_at lw_m1 185 rfl) rfl
theorem q294 : (Jvm.Cond.soleField "KeyTurns$State" "clients") ∈ lw_all := lw_g (lw_at lw_m1 186 rfl) rfl
theorem q295 : (Jvm.Cond.laysFinal "KeyTurns$State" "KeyTurns$State" "past" "Ljava/util/LinkedList;") ∈ lw_all := lw_g (lw_at lw_m1 187 rfl) rfl
theorem q296 : (Jvm.Cond.soleField "KeyTurns$State" "past") ∈ lw_all := lw_g (lw_at lw_m1 188 rfl) rfl
theorem q297 : (Jvm.Cond.lays "KeyTurns$State" "KeyTurns$State" "hour" "I") ∈ lw_all := lw_g (lw_at lw_m1 189 rfl) rfl
theorem q298 : (Jvm.Cond.soleField "KeyTurns$State" "hour") ∈ lw_all := lw_g (lw_at lw_m1 190 rfl) rfl
theorem q299 : (Jvm.Cond.lays "KeyTurns$State" "KeyTurns$State" "batch" "I") ∈ lw_all := lw_g (lw_at lw_m1 191 rfl) rfl
theorem q300 : (Jvm.Cond.soleField "KeyTurns$State" "batch") ∈ lw_all := lw_g (lw_at lw_m1 192 rfl) rfl
theorem q301 : (Jvm.Cond.lays "KeyTurns$State" "KeyTurns$State" "forced" "I") ∈ lw_all := lw_g (lw_at lw_m1 193 rfl) rfl
theorem q302 : (Jvm.Cond.soleField "KeyTurns$State" "forced") ∈ lw_all := lw_g (lw_at lw_m1 194 rfl) rfl
theorem q303 : (Jvm.Cond.lays "KeyTurns$State" "KeyTurns$State" "swept" "I") ∈ lw_all := lw_g (lw_at lw_m1 195 rfl) rfl
theorem q304 : (Jvm.Cond.soleField "KeyTurns$State" "swept") ∈ lw_all := lw_g (lw_at lw_m1 196 rfl) rfl
theorem q305 : (Jvm.Cond.laysFinal "KeyTurns$State" "KeyTurns$State" "due" "[I") ∈ lw_all := lw_g (lw_at lw_m1 197 rfl) rfl
theorem q306 : (Jvm.Cond.soleField "KeyTurns$State" "due") ∈ lw_all := lw_g (lw_at lw_m1 198 rfl) rfl
theorem q307 : (Jvm.Cond.laysFinal "KeyTurns$State" "KeyTurns$State" "ends" "[I") ∈ lw_all := lw_g (lw_at lw_m1 199 rfl) rfl
theorem q308 : (Jvm.Cond.soleField "KeyTurns$State" "ends") ∈ lw_all := lw_g (lw_at lw_m1 200 rfl) rfl
theorem q309 : (Jvm.Cond.lays "KeyTurns$State" "KeyTurns$State" "dueMany" "I") ∈ lw_all := lw_g (lw_at lw_m1 201 rfl) rfl
theorem q310 : (Jvm.Cond.soleField "KeyTurns$State" "dueMany") ∈ lw_all := lw_g (lw_at lw_m1 202 rfl) rfl
theorem q311 : (Jvm.Cond.superclass "KeyTurns$State" "java/lang/Object") ∈ lw_all := lw_g (lw_at lw_m1 203 rfl) rfl
theorem q326 : (Jvm.Cond.fieldLink "KeyTurns$State" (293 : Nat) "KeyTurns$Version" "number" "I") ∈ lw_all := lw_g (lw_at lw_m1 218 rfl) rfl
theorem q332 : (Jvm.Cond.fieldLink "KeyTurns$State" (143 : Nat) "KeyTurns$Withdrawn" "first" "I") ∈ lw_all := lw_g (lw_at lw_m1 224 rfl) rfl
theorem q334 : (Jvm.Cond.fieldLink "KeyTurns$State" (159 : Nat) "KeyTurns$Version" "first" "I") ∈ lw_all := lw_g (lw_at lw_m1 226 rfl) rfl
theorem q338 : (Jvm.Cond.fieldLink "KeyTurns$State" (128 : Nat) "KeyTurns$Version" "last" "I") ∈ lw_all := lw_g (lw_at lw_m1 230 rfl) rfl
theorem q392 : (Jvm.Cond.selects "KeyTurns$State" ({ cls := "java/lang/Object", name := "getClass", desc := "()Ljava/lang/Class;" } : Jvm.MethodName) ({ cls := "java/lang/Object", name := "getClass", desc := "()Ljava/lang/Class;" } : Jvm.MethodName)) ∈ lw_all := lw_g (lw_at lw_m2 44 rfl) rfl
theorem q466 : (Jvm.Cond.instanceMethod ({ cls := "KeyTurns$State", name := "dueAt", desc := "(I)I" } : Jvm.MethodName)) ∈ lw_all := lw_g (lw_at lw_m2 118 rfl) rfl
theorem q467 : (Jvm.Cond.selects "KeyTurns$State" ({ cls := "KeyTurns$State", name := "dueAt", desc := "(I)I" } : Jvm.MethodName) ({ cls := "KeyTurns$State", name := "dueAt", desc := "(I)I" } : Jvm.MethodName)) ∈ lw_all := lw_g (lw_at lw_m2 119 rfl) rfl
theorem q468 : (Jvm.Cond.code ({ cls := "KeyTurns$State", name := "dueAt", desc := "(I)I" } : Jvm.MethodName) prog_16_method_22_code (2 : Nat) (Option.some Jvm.ClassFile.FieldType.int)) ∈ lw_all := lw_g (lw_at lw_m2 120 rfl) rfl
theorem q469 : (Jvm.Cond.methodLink "KeyTurns$State" (238 : Nat) ({ cls := "KeyTurns$State", name := "layDue", desc := "()V" } : Jvm.MethodName)) ∈ lw_all := lw_g (lw_at lw_m2 121 rfl) rfl
theorem q470 : (Jvm.Cond.privateMethod ({ cls := "KeyTurns$State", name := "layDue", desc := "()V" } : Jvm.MethodName)) ∈ lw_tbl := lw_at lw_m2 122 rfl
theorem q471 : (Jvm.Cond.instanceMethod ({ cls := "KeyTurns$State", name := "layDue", desc := "()V" } : Jvm.MethodName)) ∈ lw_all := lw_g (lw_at lw_m2 123 rfl) rfl
theorem q472 : (Jvm.Cond.code ({ cls := "KeyTurns$State", name := "layDue", desc := "()V" } : Jvm.MethodName) prog_16_method_21_code (4 : Nat) (Option.none : Option Jvm.ClassFile.FieldType)) ∈ lw_all := lw_g (lw_at lw_m2 124 rfl) rfl
theorem q473 : (Jvm.Cond.methodLink "KeyTurns$State" (187 : Nat) ({ cls := "KeyTurns$State", name := "writing", desc := "()I" } : Jvm.MethodName)) ∈ lw_all := lw_g (lw_at lw_m2 125 rfl) rfl
theorem q474 : (Jvm.Cond.instanceMethod ({ cls := "KeyTurns$State", name := "writing", desc := "()I" } : Jvm.MethodName)) ∈ lw_all := lw_g (lw_at lw_m2 126 rfl) rfl
theorem q475 : (Jvm.Cond.selects "KeyTurns$State" ({ cls := "KeyTurns$State", name := "writing", desc := "()I" } : Jvm.MethodName) ({ cls := "KeyTurns$State", name := "writing", desc := "()I" } : Jvm.MethodName)) ∈ lw_all := lw_g (lw_at lw_m2 127 rfl) rfl
theorem q476 : (Jvm.Cond.code ({ cls := "KeyTurns$State", name := "writing", desc := "()I" } : Jvm.MethodName) prog_16_method_7_code (2 : Nat) (Option.some Jvm.ClassFile.FieldType.int)) ∈ lw_all := lw_g (lw_at lw_m2 128 rfl) rfl
theorem q477 : (Jvm.Cond.methodLink "KeyTurns$State" (54 : Nat) ({ cls := "java/util/ArrayList", name := "size", desc := "()I" } : Jvm.MethodName)) ∈ lw_all := lw_g (lw_at lw_m2 129 rfl) rfl
theorem q481 : (Jvm.Cond.methodLink "KeyTurns$State" (58 : Nat) ({ cls := "java/util/ArrayList", name := "get", desc := "(I)Ljava/lang/Object;" } : Jvm.MethodName)) ∈ lw_all := lw_g (lw_at lw_m2 133 rfl) rfl
theorem q495 : (Jvm.Cond.classLink "KeyTurns$State" (62 : Nat) "KeyTurns$Version") ∈ lw_all := lw_g (lw_at lw_m2 147 rfl) rfl
theorem q496 : (Jvm.Cond.methodLink "KeyTurns$State" (117 : Nat) ({ cls := "KeyTurns$Version", name := "isInForce", desc := "(I)Z" } : Jvm.MethodName)) ∈ lw_all := lw_g (lw_at lw_m2 148 rfl) rfl
theorem q512 : (Jvm.Cond.methodLink "KeyTurns$State" (215 : Nat) ({ cls := "KeyTurns$State", name := "isThere", desc := "(I)Z" } : Jvm.MethodName)) ∈ lw_all := lw_g (lw_at lw_m2 164 rfl) rfl
theorem q513 : (Jvm.Cond.instanceMethod ({ cls := "KeyTurns$State", name := "isThere", desc := "(I)Z" } : Jvm.MethodName)) ∈ lw_all := lw_g (lw_at lw_m2 165 rfl) rfl
theorem q514 : (Jvm.Cond.selects "KeyTurns$State" ({ cls := "KeyTurns$State", name := "isThere", desc := "(I)Z" } : Jvm.MethodName) ({ cls := "KeyTurns$State", name := "isThere", desc := "(I)Z" } : Jvm.MethodName)) ∈ lw_all := lw_g (lw_at lw_m2 166 rfl) rfl
theorem q515 : (Jvm.Cond.code ({ cls := "KeyTurns$State", name := "isThere", desc := "(I)Z" } : Jvm.MethodName) prog_16_method_16_code (2 : Nat) (Option.some Jvm.ClassFile.FieldType.boolean)) ∈ lw_all := lw_g (lw_at lw_m2 167 rfl) rfl
theorem q516 : (Jvm.Cond.methodLinkNest "KeyTurns$State" (207 : Nat) ({ cls := "KeyTurns", name := "isIn", desc := "(JJJ)Z" } : Jvm.MethodName) "KeyTurns") ∈ lw_tbl := lw_at lw_m2 168 rfl
theorem q517 : (Jvm.Cond.classLink "KeyTurns$State" (68 : Nat) "KeyTurns$Sealed") ∈ lw_all := lw_g (lw_at lw_m2 169 rfl) rfl
theorem q518 : (Jvm.Cond.methodLink "KeyTurns$State" (232 : Nat) ({ cls := "java/util/BitSet", name := "get", desc := "(I)Z" } : Jvm.MethodName)) ∈ lw_all := lw_g (lw_at lw_m2 170 rfl) rfl
theorem q532 : (Jvm.Cond.methodLink "KeyTurns$State" (234 : Nat) ({ cls := "KeyTurns$State", name := "endOf", desc := "(LKeyTurns$Sealed;)I" } : Jvm.MethodName)) ∈ lw_all := lw_g (lw_at lw_m2 184 rfl) rfl
theorem q533 : (Jvm.Cond.instanceMethod ({ cls := "KeyTurns$State", name := "endOf", desc := "(LKeyTurns$Sealed;)I" } : Jvm.MethodName)) ∈ lw_all := lw_g (lw_at lw_m2 185 rfl) rfl
theorem q534 : (Jvm.Cond.selects "KeyTurns$State" ({ cls := "KeyTurns$State", name := "endOf", desc := "(LKeyTurns$Sealed;)I" } : Jvm.MethodName) ({ cls := "KeyTurns$State", name := "endOf", desc := "(LKeyTurns$Sealed;)I" } : Jvm.MethodName)) ∈ lw_all := lw_g (lw_at lw_m2 186 rfl) rfl
theorem q535 : (Jvm.Cond.code ({ cls := "KeyTurns$State", name := "endOf", desc := "(LKeyTurns$Sealed;)I" } : Jvm.MethodName) prog_16_method_20_code (4 : Nat) (Option.some Jvm.ClassFile.FieldType.int)) ∈ lw_all := lw_g (lw_at lw_m2 187 rfl) rfl
theorem q536 : (Jvm.Cond.methodLink "KeyTurns$State" (222 : Nat) ({ cls := "java/util/BitSet", name := "nextSetBit", desc := "(I)I" } : Jvm.MethodName)) ∈ lw_all := lw_g (lw_at lw_m2 188 rfl) rfl
theorem q548 : (Jvm.Cond.methodLink "KeyTurns$State" (160 : Nat) ({ cls := "java/lang/Math", name := "max", desc := "(II)I" } : Jvm.MethodName)) ∈ lw_all := lw_g (lw_at lw_m2 200 rfl) rfl
theorem q554 : (Jvm.Cond.instanceMethod ({ cls := "KeyTurns$State", name := "isDue", desc := "(I)Z" } : Jvm.MethodName)) ∈ lw_all := lw_g (lw_at lw_m2 206 rfl) rfl
theorem q555 : (Jvm.Cond.selects "KeyTurns$State" ({ cls := "KeyTurns$State", name := "isDue", desc := "(I)Z" } : Jvm.MethodName) ({ cls := "KeyTurns$State", name := "isDue", desc := "(I)Z" } : Jvm.MethodName)) ∈ lw_all := lw_g (lw_at lw_m2 207 rfl) rfl
theorem q556 : (Jvm.Cond.code ({ cls := "KeyTurns$State", name := "isDue", desc := "(I)Z" } : Jvm.MethodName) prog_16_method_11_code (2 : Nat) (Option.some Jvm.ClassFile.FieldType.boolean)) ∈ lw_all := lw_g (lw_at lw_m2 208 rfl) rfl
theorem q557 : (Jvm.Cond.methodLink "KeyTurns$State" (155 : Nat) ({ cls := "KeyTurns$State", name := "latest", desc := "()LKeyTurns$Version;" } : Jvm.MethodName)) ∈ lw_all := lw_g (lw_at lw_m2 209 rfl) rfl
theorem q558 : (Jvm.Cond.instanceMethod ({ cls := "KeyTurns$State", name := "latest", desc := "()LKeyTurns$Version;" } : Jvm.MethodName)) ∈ lw_all := lw_g (lw_at lw_m2 210 rfl) rfl
theorem q559 : (Jvm.Cond.selects "KeyTurns$State" ({ cls := "KeyTurns$State", name := "latest", desc := "()LKeyTurns$Version;" } : Jvm.MethodName) ({ cls := "KeyTurns$State", name := "latest", desc := "()LKeyTurns$Version;" } : Jvm.MethodName)) ∈ lw_all := lw_g (lw_at lw_m2 211 rfl) rfl
theorem q560 : (Jvm.Cond.code ({ cls := "KeyTurns$State", name := "latest", desc := "()LKeyTurns$Version;" } : Jvm.MethodName) prog_16_method_8_code (1 : Nat) (Option.some (Jvm.ClassFile.FieldType.object "KeyTurns$Version"))) ∈ lw_all := lw_g (lw_at lw_m2 212 rfl) rfl
theorem q561 : (Jvm.Cond.methodLink "KeyTurns$State" (166 : Nat) ({ cls := "KeyTurns$State", name := "dueFirst", desc := "(I)I" } : Jvm.MethodName)) ∈ lw_all := lw_g (lw_at lw_m2 213 rfl) rfl
theorem q562 : (Jvm.Cond.instanceMethod ({ cls := "KeyTurns$State", name := "dueFirst", desc := "(I)I" } : Jvm.MethodName)) ∈ lw_all := lw_g (lw_at lw_m2 214 rfl) rfl
theorem q563 : (Jvm.Cond.selects "KeyTurns$State" ({ cls := "KeyTurns$State", name := "dueFirst", desc := "(I)I" } : Jvm.MethodName) ({ cls := "KeyTurns$State", name := "dueFirst", desc := "(I)I" } : Jvm.MethodName)) ∈ lw_all := lw_g (lw_at lw_m2 215 rfl) rfl
theorem q564 : (Jvm.Cond.code ({ cls := "KeyTurns$State", name := "dueFirst", desc := "(I)I" } : Jvm.MethodName) prog_16_method_10_code (2 : Nat) (Option.some Jvm.ClassFile.FieldType.int)) ∈ lw_all := lw_g (lw_at lw_m2 216 rfl) rfl
theorem q570 : (Jvm.Cond.instanceMethod ({ cls := "KeyTurns$State", name := "recordCount", desc := "()I" } : Jvm.MethodName)) ∈ lw_all := lw_g (lw_at lw_m2 222 rfl) rfl
theorem q571 : (Jvm.Cond.selects "KeyTurns$State" ({ cls := "KeyTurns$State", name := "recordCount", desc := "()I" } : Jvm.MethodName) ({ cls := "KeyTurns$State", name := "recordCount", desc := "()I" } : Jvm.MethodName)) ∈ lw_all := lw_g (lw_at lw_m2 223 rfl) rfl
theorem q572 : (Jvm.Cond.code ({ cls := "KeyTurns$State", name := "recordCount", desc := "()I" } : Jvm.MethodName) prog_16_method_17_code (3 : Nat) (Option.some Jvm.ClassFile.FieldType.int)) ∈ lw_all := lw_g (lw_at lw_m2 224 rfl) rfl
theorem q573 : (Jvm.Cond.methodLinkNest "KeyTurns$State" (113 : Nat) ({ cls := "KeyTurns", name := "asInt", desc := "(Z)I" } : Jvm.MethodName) "KeyTurns") ∈ lw_tbl := lw_at lw_m2 225 rfl
theorem q577 : (Jvm.Cond.instanceMethod ({ cls := "KeyTurns$State", name := "wrapCount", desc := "()I" } : Jvm.MethodName)) ∈ lw_all := lw_g (lw_at lw_m2 229 rfl) rfl
theorem q578 : (Jvm.Cond.selects "KeyTurns$State" ({ cls := "KeyTurns$State", name := "wrapCount", desc := "()I" } : Jvm.MethodName) ({ cls := "KeyTurns$State", name := "wrapCount", desc := "()I" } : Jvm.MethodName)) ∈ lw_all := lw_g (lw_at lw_m2 230 rfl) rfl
theorem q579 : (Jvm.Cond.code ({ cls := "KeyTurns$State", name := "wrapCount", desc := "()I" } : Jvm.MethodName) prog_16_method_24_code (3 : Nat) (Option.some Jvm.ClassFile.FieldType.int)) ∈ lw_all := lw_g (lw_at lw_m2 231 rfl) rfl
theorem q580 : (Jvm.Cond.methodLink "KeyTurns$State" (241 : Nat) ({ cls := "java/util/BitSet", name := "cardinality", desc := "()I" } : Jvm.MethodName)) ∈ lw_all := lw_g (lw_at lw_m2 232 rfl) rfl
theorem q596 : (Jvm.Cond.instanceMethod ({ cls := "KeyTurns$State", name := "readable", desc := "(I)I" } : Jvm.MethodName)) ∈ lw_all := lw_g (lw_at lw_m3 8 rfl) rfl
theorem q597 : (Jvm.Cond.selects "KeyTurns$State" ({ cls := "KeyTurns$State", name := "readable", desc := "(I)I" } : Jvm.MethodName) ({ cls := "KeyTurns$State", name := "readable", desc := "(I)I" } : Jvm.MethodName)) ∈ lw_all := lw_g (lw_at lw_m3 9 rfl) rfl
theorem q598 : (Jvm.Cond.code ({ cls := "KeyTurns$State", name := "readable", desc := "(I)I" } : Jvm.MethodName) prog_16_method_29_code (4 : Nat) (Option.some Jvm.ClassFile.FieldType.int)) ∈ lw_all := lw_g (lw_at lw_m3 10 rfl) rfl
theorem q599 : (Jvm.Cond.methodLink "KeyTurns$State" (263 : Nat) ({ cls := "KeyTurns$State", name := "readsBy", desc := "(II)I" } : Jvm.MethodName)) ∈ lw_all := lw_g (lw_at lw_m3 11 rfl) rfl
theorem q600 : (Jvm.Cond.instanceMethod ({ cls := "KeyTurns$State", name := "readsBy", desc := "(II)I" } : Jvm.MethodName)) ∈ lw_all := lw_g (lw_at lw_m3 12 rfl) rfl
theorem q601 : (Jvm.Cond.selects "KeyTurns$State" ({ cls := "KeyTurns$State", name := "readsBy", desc := "(II)I" } : Jvm.MethodName) ({ cls := "KeyTurns$State", name := "readsBy", desc := "(II)I" } : Jvm.MethodName)) ∈ lw_all := lw_g (lw_at lw_m3 13 rfl) rfl
theorem q602 : (Jvm.Cond.code ({ cls := "KeyTurns$State", name := "readsBy", desc := "(II)I" } : Jvm.MethodName) prog_16_method_27_code (3 : Nat) (Option.some Jvm.ClassFile.FieldType.int)) ∈ lw_all := lw_g (lw_at lw_m3 14 rfl) rfl
theorem q603 : (Jvm.Cond.classLink "KeyTurns$State" (74 : Nat) "KeyTurns$Client") ∈ lw_all := lw_g (lw_at lw_m3 15 rfl) rfl
theorem q604 : (Jvm.Cond.methodLink "KeyTurns$State" (259 : Nat) ({ cls := "KeyTurns$Sealed", name := "set", desc := "()I" } : Jvm.MethodName)) ∈ lw_all := lw_g (lw_at lw_m3 16 rfl) rfl
theorem q609 : (Jvm.Cond.methodLink "KeyTurns$State" (261 : Nat) ({ cls := "KeyTurns$Client", name := "greatest", desc := "(II)I" } : Jvm.MethodName)) ∈ lw_all := lw_g (lw_at lw_m3 21 rfl) rfl
theorem q732 : (Jvm.Cond.instanceMethod ({ cls := "KeyTurns$State", name := "copy", desc := "(ZZ)LKeyTurns$State;" } : Jvm.MethodName)) ∈ lw_all := lw_g (lw_at lw_m3 144 rfl) rfl
theorem q733 : (Jvm.Cond.selects "KeyTurns$State" ({ cls := "KeyTurns$State", name := "copy", desc := "(ZZ)LKeyTurns$State;" } : Jvm.MethodName) ({ cls := "KeyTurns$State", name := "copy", desc := "(ZZ)LKeyTurns$State;" } : Jvm.MethodName)) ∈ lw_all := lw_g (lw_at lw_m3 145 rfl) rfl
theorem q734 : (Jvm.Cond.code ({ cls := "KeyTurns$State", name := "copy", desc := "(ZZ)LKeyTurns$State;" } : Jvm.MethodName) prog_16_method_2_code (6 : Nat) (Option.some (Jvm.ClassFile.FieldType.object "KeyTurns$State"))) ∈ lw_all := lw_g (lw_at lw_m3 146 rfl) rfl
theorem q735 : (Jvm.Cond.classLink "KeyTurns$State" (13 : Nat) "KeyTurns$State") ∈ lw_all := lw_g (lw_at lw_m3 147 rfl) rfl
theorem q736 : (Jvm.Cond.methodLink "KeyTurns$State" (51 : Nat) ({ cls := "KeyTurns$State", name := "<init>", desc := "(IIII)V" } : Jvm.MethodName)) ∈ lw_all := lw_g (lw_at lw_m3 148 rfl) rfl
theorem q737 : (Jvm.Cond.methodLink "KeyTurns$State" (64 : Nat) ({ cls := "java/util/ArrayList", name := "add", desc := "(Ljava/lang/Object;)Z" } : Jvm.MethodName)) ∈ lw_all := lw_g (lw_at lw_m3 149 rfl) rfl
theorem q738 : (Jvm.Cond.methodLink "KeyTurns$State" (70 : Nat) ({ cls := "KeyTurns$Sealed", name := "copy", desc := "()LKeyTurns$Sealed;" } : Jvm.MethodName)) ∈ lw_all := lw_g (lw_at lw_m3 150 rfl) rfl
theorem q772 : (Jvm.Cond.fieldLinkNest "KeyTurns$State" (199 : Nat) "KeyTurns$Sealed" "wraps" "Ljava/util/BitSet;" "KeyTurns") ∈ lw_tbl := lw_at lw_m3 184 rfl
theorem q775 : (Jvm.Cond.fieldLinkNest "KeyTurns$State" (228 : Nat) "KeyTurns$Sealed" "forced" "I" "KeyTurns") ∈ lw_tbl := lw_at lw_m3 187 rfl
theorem q777 : (Jvm.Cond.fieldLinkNest "KeyTurns$State" (211 : Nat) "KeyTurns$Sealed" "dropped" "Z" "KeyTurns") ∈ lw_tbl := lw_at lw_m3 189 rfl
theorem q809 : (Jvm.Cond.methodLink "KeyTurns$State" (76 : Nat) ({ cls := "KeyTurns$Client", name := "copy", desc := "()LKeyTurns$Client;" } : Jvm.MethodName)) ∈ lw_all := lw_g (lw_at lw_m3 221 rfl) rfl
theorem q830 : (Jvm.Cond.fieldLinkNest "KeyTurns$State" (247 : Nat) "KeyTurns$Client" "asked" "I" "KeyTurns") ∈ lw_tbl := lw_at lw_m4 2 rfl
theorem q835 : (Jvm.Cond.fieldLinkNest "KeyTurns$State" (244 : Nat) "KeyTurns$Client" "learned" "I" "KeyTurns") ∈ lw_tbl := lw_at lw_m4 7 rfl
theorem q838 : (Jvm.Cond.fieldLinkNest "KeyTurns$State" (250 : Nat) "KeyTurns$Client" "gone" "I" "KeyTurns") ∈ lw_tbl := lw_at lw_m4 10 rfl
theorem q840 : (Jvm.Cond.fieldLinkNest "KeyTurns$State" (253 : Nat) "KeyTurns$Client" "firsts" "[I" "KeyTurns") ∈ lw_tbl := lw_at lw_m4 12 rfl
theorem q842 : (Jvm.Cond.fieldLinkNest "KeyTurns$State" (256 : Nat) "KeyTurns$Client" "lasts" "[I" "KeyTurns") ∈ lw_tbl := lw_at lw_m4 14 rfl
theorem q860 : (Jvm.Cond.methodLink "KeyTurns$State" (79 : Nat) ({ cls := "java/util/LinkedList", name := "iterator", desc := "()Ljava/util/Iterator;" } : Jvm.MethodName)) ∈ lw_all := lw_g (lw_at lw_m4 32 rfl) rfl
theorem q947 : (Jvm.Cond.interfaceEntry "KeyTurns$State" (83 : Nat)) ∈ lw_tbl := lw_at lw_m4 119 rfl
theorem q948 : (Jvm.Cond.methodLink "KeyTurns$State" (83 : Nat) ({ cls := "java/util/Iterator", name := "hasNext", desc := "()Z" } : Jvm.MethodName)) ∈ lw_all := lw_g (lw_at lw_m4 120 rfl) rfl
theorem q976 : (Jvm.Cond.interfaceEntry "KeyTurns$State" (89 : Nat)) ∈ lw_tbl := lw_at lw_m4 148 rfl
theorem q977 : (Jvm.Cond.methodLink "KeyTurns$State" (89 : Nat) ({ cls := "java/util/Iterator", name := "next", desc := "()Ljava/lang/Object;" } : Jvm.MethodName)) ∈ lw_all := lw_g (lw_at lw_m4 149 rfl) rfl
theorem q1316 : (Jvm.Cond.classLink "KeyTurns$State" (93 : Nat) "[I") ∈ lw_all := lw_g (lw_at lw_m6 8 rfl) rfl
theorem q1317 : (Jvm.Cond.methodLink "KeyTurns$State" (94 : Nat) ({ cls := "java/util/LinkedList", name := "addLast", desc := "(Ljava/lang/Object;)V" } : Jvm.MethodName)) ∈ lw_all := lw_g (lw_at lw_m6 9 rfl) rfl
theorem q1347 : (Jvm.Cond.instanceMethod ({ cls := "KeyTurns$State", name := "issue", desc := "(I)I" } : Jvm.MethodName)) ∈ lw_all := lw_g (lw_at lw_m6 39 rfl) rfl
theorem q1348 : (Jvm.Cond.selects "KeyTurns$State" ({ cls := "KeyTurns$State", name := "issue", desc := "(I)I" } : Jvm.MethodName) ({ cls := "KeyTurns$State", name := "issue", desc := "(I)I" } : Jvm.MethodName)) ∈ lw_all := lw_g (lw_at lw_m6 40 rfl) rfl
theorem q1349 : (Jvm.Cond.code ({ cls := "KeyTurns$State", name := "issue", desc := "(I)I" } : Jvm.MethodName) prog_16_method_9_code (7 : Nat) (Option.some Jvm.ClassFile.FieldType.int)) ∈ lw_all := lw_g (lw_at lw_m6 41 rfl) rfl
theorem q1350 : (Jvm.Cond.classLink "KeyTurns$State" (131 : Nat) "KeyTurns$Issued") ∈ lw_all := lw_g (lw_at lw_m6 42 rfl) rfl
theorem q1351 : (Jvm.Cond.methodLink "KeyTurns$State" (133 : Nat) ({ cls := "KeyTurns$Issued", name := "endingAt", desc := "(I)LKeyTurns$Issued;" } : Jvm.MethodName)) ∈ lw_all := lw_g (lw_at lw_m6 43 rfl) rfl
theorem q1357 : (Jvm.Cond.methodLink "KeyTurns$State" (137 : Nat) ({ cls := "java/util/ArrayList", name := "set", desc := "(ILjava/lang/Object;)Ljava/lang/Object;" } : Jvm.MethodName)) ∈ lw_all := lw_g (lw_at lw_m6 49 rfl) rfl
theorem q1361 : (Jvm.Cond.classLink "KeyTurns$State" (141 : Nat) "KeyTurns$Withdrawn") ∈ lw_all := lw_g (lw_at lw_m6 53 rfl) rfl
theorem q1363 : (Jvm.Cond.methodLink "KeyTurns$State" (146 : Nat) ({ cls := "KeyTurns$Issued", name := "<init>", desc := "(III)V" } : Jvm.MethodName)) ∈ lw_all := lw_g (lw_at lw_m6 55 rfl) rfl
theorem q1364 : (Jvm.Cond.methodLink "KeyTurns$State" (152 : Nat) ({ cls := "KeyTurns$Withdrawn", name := "<init>", desc := "(LKeyTurns$Version;I)V" } : Jvm.MethodName)) ∈ lw_all := lw_g (lw_at lw_m6 56 rfl) rfl
theorem q1369 : (Jvm.Cond.fieldLinkNest "KeyTurns$State" (149 : Nat) "KeyTurns$Withdrawn" "at" "I" "KeyTurns") ∈ lw_tbl := lw_at lw_m6 61 rfl
theorem q1378 : (Jvm.Cond.instanceMethod ({ cls := "KeyTurns$State", name := "clean", desc := "()I" } : Jvm.MethodName)) ∈ lw_all := lw_g (lw_at lw_m6 70 rfl) rfl
theorem q1379 : (Jvm.Cond.selects "KeyTurns$State" ({ cls := "KeyTurns$State", name := "clean", desc := "()I" } : Jvm.MethodName) ({ cls := "KeyTurns$State", name := "clean", desc := "()I" } : Jvm.MethodName)) ∈ lw_all := lw_g (lw_at lw_m6 71 rfl) rfl
theorem q1380 : (Jvm.Cond.code ({ cls := "KeyTurns$State", name := "clean", desc := "()I" } : Jvm.MethodName) prog_16_method_18_code (3 : Nat) (Option.some Jvm.ClassFile.FieldType.int)) ∈ lw_all := lw_g (lw_at lw_m6 72 rfl) rfl
theorem q1381 : (Jvm.Cond.methodLink "KeyTurns$State" (218 : Nat) ({ cls := "KeyTurns$State", name := "cleans", desc := "(LKeyTurns$Sealed;)Z" } : Jvm.MethodName)) ∈ lw_all := lw_g (lw_at lw_m6 73 rfl) rfl
theorem q1382 : (Jvm.Cond.privateMethod ({ cls := "KeyTurns$State", name := "cleans", desc := "(LKeyTurns$Sealed;)Z" } : Jvm.MethodName)) ∈ lw_tbl := lw_at lw_m6 74 rfl
theorem q1383 : (Jvm.Cond.instanceMethod ({ cls := "KeyTurns$State", name := "cleans", desc := "(LKeyTurns$Sealed;)Z" } : Jvm.MethodName)) ∈ lw_all := lw_g (lw_at lw_m6 75 rfl) rfl
theorem q1384 : (Jvm.Cond.code ({ cls := "KeyTurns$State", name := "cleans", desc := "(LKeyTurns$Sealed;)Z" } : Jvm.MethodName) prog_16_method_19_code (5 : Nat) (Option.some Jvm.ClassFile.FieldType.boolean)) ∈ lw_all := lw_g (lw_at lw_m6 76 rfl) rfl
theorem q1385 : (Jvm.Cond.methodLink "KeyTurns$State" (170 : Nat) ({ cls := "KeyTurns$Version", name := "hasEnded", desc := "(I)Z" } : Jvm.MethodName)) ∈ lw_all := lw_g (lw_at lw_m6 77 rfl) rfl
theorem q1391 : (Jvm.Cond.methodLink "KeyTurns$State" (225 : Nat) ({ cls := "java/util/BitSet", name := "clear", desc := "(I)V" } : Jvm.MethodName)) ∈ lw_all := lw_g (lw_at lw_m6 83 rfl) rfl
theorem q1399 : (Jvm.Cond.methodLink "KeyTurns$State" (203 : Nat) ({ cls := "java/util/BitSet", name := "set", desc := "(I)V" } : Jvm.MethodName)) ∈ lw_all := lw_g (lw_at lw_m6 91 rfl) rfl
theorem q1412 : (Jvm.Cond.instanceMethod ({ cls := "KeyTurns$State", name := "make", desc := "()LKeyTurns$Sealed;" } : Jvm.MethodName)) ∈ lw_all := lw_g (lw_at lw_m6 104 rfl) rfl
theorem q1413 : (Jvm.Cond.selects "KeyTurns$State" ({ cls := "KeyTurns$State", name := "make", desc := "()LKeyTurns$Sealed;" } : Jvm.MethodName) ({ cls := "KeyTurns$State", name := "make", desc := "()LKeyTurns$Sealed;" } : Jvm.MethodName)) ∈ lw_all := lw_g (lw_at lw_m6 105 rfl) rfl
theorem q1414 : (Jvm.Cond.code ({ cls := "KeyTurns$State", name := "make", desc := "()LKeyTurns$Sealed;" } : Jvm.MethodName) prog_16_method_15_code (2 : Nat) (Option.some (Jvm.ClassFile.FieldType.object "KeyTurns$Sealed"))) ∈ lw_all := lw_g (lw_at lw_m6 106 rfl) rfl
theorem q1415 : (Jvm.Cond.methodLink "KeyTurns$State" (196 : Nat) ({ cls := "KeyTurns$Sealed", name := "<init>", desc := "(I)V" } : Jvm.MethodName)) ∈ lw_all := lw_g (lw_at lw_m6 107 rfl) rfl
theorem q1786 : (Jvm.Cond.instanceMethod ({ cls := "KeyTurns$State", name := "ask", desc := "(LKeyTurns$Client;)I" } : Jvm.MethodName)) ∈ lw_all := lw_g (lw_at lw_m7 238 rfl) rfl
theorem q1787 : (Jvm.Cond.selects "KeyTurns$State" ({ cls := "KeyTurns$State", name := "ask", desc := "(LKeyTurns$Client;)I" } : Jvm.MethodName) ({ cls := "KeyTurns$State", name := "ask", desc := "(LKeyTurns$Client;)I" } : Jvm.MethodName)) ∈ lw_all := lw_g (lw_at lw_m7 239 rfl) rfl
theorem q1788 : (Jvm.Cond.code ({ cls := "KeyTurns$State", name := "ask", desc := "(LKeyTurns$Client;)I" } : Jvm.MethodName) prog_16_method_26_code (4 : Nat) (Option.some Jvm.ClassFile.FieldType.int)) ∈ lw_all := lw_g (lw_at lw_m8 0 rfl) rfl
theorem q1809 : (Jvm.Cond.instanceMethod ({ cls := "KeyTurns$State", name := "inForce", desc := "()I" } : Jvm.MethodName)) ∈ lw_all := lw_g (lw_at lw_m8 21 rfl) rfl
theorem q1810 : (Jvm.Cond.selects "KeyTurns$State" ({ cls := "KeyTurns$State", name := "inForce", desc := "()I" } : Jvm.MethodName) ({ cls := "KeyTurns$State", name := "inForce", desc := "()I" } : Jvm.MethodName)) ∈ lw_all := lw_g (lw_at lw_m8 22 rfl) rfl
theorem q1811 : (Jvm.Cond.code ({ cls := "KeyTurns$State", name := "inForce", desc := "()I" } : Jvm.MethodName) prog_16_method_6_code (1 : Nat) (Option.some Jvm.ClassFile.FieldType.int)) ∈ lw_all := lw_g (lw_at lw_m8 23 rfl) rfl
theorem q1812 : (Jvm.Cond.privateMethod ({ cls := "KeyTurns$State", name := "isWriting", desc := "(LKeyTurns$Version;)Z" } : Jvm.MethodName)) ∈ lw_tbl := lw_at lw_m8 24 rfl
theorem q1813 : (Jvm.Cond.instanceMethod ({ cls := "KeyTurns$State", name := "isWriting", desc := "(LKeyTurns$Version;)Z" } : Jvm.MethodName)) ∈ lw_all := lw_g (lw_at lw_m8 25 rfl) rfl
theorem q1814 : (Jvm.Cond.code ({ cls := "KeyTurns$State", name := "isWriting", desc := "(LKeyTurns$Version;)Z" } : Jvm.MethodName) prog_16_method_5_code (2 : Nat) (Option.some Jvm.ClassFile.FieldType.boolean)) ∈ lw_all := lw_g (lw_at lw_m8 26 rfl) rfl
theorem q1815 : (Jvm.Cond.methodLink "KeyTurns$State" (124 : Nat) ({ cls := "KeyTurns$State", name := "count", desc := "(LKeyTurns$VersionTest;)I" } : Jvm.MethodName)) ∈ lw_all := lw_g (lw_at lw_m8 27 rfl) rfl
theorem q1816 : (Jvm.Cond.instanceMethod ({ cls := "KeyTurns$State", name := "count", desc := "(LKeyTurns$VersionTest;)I" } : Jvm.MethodName)) ∈ lw_all := lw_g (lw_at lw_m8 28 rfl) rfl
theorem q1817 : (Jvm.Cond.selects "KeyTurns$State" ({ cls := "KeyTurns$State", name := "count", desc := "(LKeyTurns$VersionTest;)I" } : Jvm.MethodName) ({ cls := "KeyTurns$State", name := "count", desc := "(LKeyTurns$VersionTest;)I" } : Jvm.MethodName)) ∈ lw_all := lw_g (lw_at lw_m8 29 rfl) rfl
theorem q1818 : (Jvm.Cond.code ({ cls := "KeyTurns$State", name := "count", desc := "(LKeyTurns$VersionTest;)I" } : Jvm.MethodName) prog_16_method_3_code (4 : Nat) (Option.some Jvm.ClassFile.FieldType.int)) ∈ lw_all := lw_g (lw_at lw_m8 30 rfl) rfl
theorem q1819 : (Jvm.Cond.interfaceEntry "KeyTurns$State" (107 : Nat)) ∈ lw_tbl := lw_at lw_m8 31 rfl
theorem q1820 : (Jvm.Cond.methodLink "KeyTurns$State" (107 : Nat) ({ cls := "KeyTurns$VersionTest", name := "is", desc := "(LKeyTurns$Version;)Z" } : Jvm.MethodName)) ∈ lw_all := lw_g (lw_at lw_m8 32 rfl) rfl
theorem q1883 : (Jvm.Cond.instanceMethod ({ cls := "KeyTurns$State", name := "wrappedBy", desc := "(I)I" } : Jvm.MethodName)) ∈ lw_all := lw_g (lw_at lw_m8 95 rfl) rfl
theorem q1884 : (Jvm.Cond.selects "KeyTurns$State" ({ cls := "KeyTurns$State", name := "wrappedBy", desc := "(I)I" } : Jvm.MethodName) ({ cls := "KeyTurns$State", name := "wrappedBy", desc := "(I)I" } : Jvm.MethodName)) ∈ lw_all := lw_g (lw_at lw_m8 96 rfl) rfl
theorem q1885 : (Jvm.Cond.code ({ cls := "KeyTurns$State", name := "wrappedBy", desc := "(I)I" } : Jvm.MethodName) prog_16_method_25_code (4 : Nat) (Option.some Jvm.ClassFile.FieldType.int)) ∈ lw_all := lw_g (lw_at lw_m8 97 rfl) rfl
theorem q1904 : (Jvm.Cond.instanceMethod ({ cls := "KeyTurns$State", name := "readers", desc := "(I)I" } : Jvm.MethodName)) ∈ lw_all := lw_g (lw_at lw_m8 116 rfl) rfl
theorem q1905 : (Jvm.Cond.selects "KeyTurns$State" ({ cls := "KeyTurns$State", name := "readers", desc := "(I)I" } : Jvm.MethodName) ({ cls := "KeyTurns$State", name := "readers", desc := "(I)I" } : Jvm.MethodName)) ∈ lw_all := lw_g (lw_at lw_m8 117 rfl) rfl
theorem q1906 : (Jvm.Cond.code ({ cls := "KeyTurns$State", name := "readers", desc := "(I)I" } : Jvm.MethodName) prog_16_method_28_code (4 : Nat) (Option.some Jvm.ClassFile.FieldType.int)) ∈ lw_all := lw_g (lw_at lw_m8 118 rfl) rfl
theorem q1951 : (Jvm.Cond.instanceMethod ({ cls := "KeyTurns$State", name := "could", desc := "(II)I" } : Jvm.MethodName)) ∈ lw_all := lw_g (lw_at lw_m8 163 rfl) rfl
theorem q1952 : (Jvm.Cond.selects "KeyTurns$State" ({ cls := "KeyTurns$State", name := "could", desc := "(II)I" } : Jvm.MethodName) ({ cls := "KeyTurns$State", name := "could", desc := "(II)I" } : Jvm.MethodName)) ∈ lw_all := lw_g (lw_at lw_m8 164 rfl) rfl
theorem q1953 : (Jvm.Cond.code ({ cls := "KeyTurns$State", name := "could", desc := "(II)I" } : Jvm.MethodName) prog_16_method_33_code (4 : Nat) (Option.some Jvm.ClassFile.FieldType.int)) ∈ lw_all := lw_g (lw_at lw_m8 165 rfl) rfl
theorem q1954 : (Jvm.Cond.methodLink "KeyTurns$State" (288 : Nat) ({ cls := "java/util/LinkedList", name := "size", desc := "()I" } : Jvm.MethodName)) ∈ lw_all := lw_g (lw_at lw_m8 166 rfl) rfl
theorem q1955 : (Jvm.Cond.methodLink "KeyTurns$State" (292 : Nat) ({ cls := "java/util/LinkedList", name := "get", desc := "(I)Ljava/lang/Object;" } : Jvm.MethodName)) ∈ lw_all := lw_g (lw_at lw_m8 167 rfl) rfl
theorem q1980 : (Jvm.Cond.instanceMethod ({ cls := "KeyTurns$State", name := "pass", desc := "()V" } : Jvm.MethodName)) ∈ lw_all := lw_g (lw_at lw_m8 192 rfl) rfl
theorem q1981 : (Jvm.Cond.selects "KeyTurns$State" ({ cls := "KeyTurns$State", name := "pass", desc := "()V" } : Jvm.MethodName) ({ cls := "KeyTurns$State", name := "pass", desc := "()V" } : Jvm.MethodName)) ∈ lw_all := lw_g (lw_at lw_m8 193 rfl) rfl
theorem q1982 : (Jvm.Cond.code ({ cls := "KeyTurns$State", name := "pass", desc := "()V" } : Jvm.MethodName) prog_16_method_31_code (3 : Nat) (Option.none : Option Jvm.ClassFile.FieldType)) ∈ lw_all := lw_g (lw_at lw_m8 194 rfl) rfl
theorem q1983 : (Jvm.Cond.methodLink "KeyTurns$State" (272 : Nat) ({ cls := "KeyTurns$State", name := "isDue", desc := "(I)Z" } : Jvm.MethodName)) ∈ lw_all := lw_g (lw_at lw_m8 195 rfl) rfl
theorem q1984 : (Jvm.Cond.methodLink "KeyTurns$State" (190 : Nat) ({ cls := "KeyTurns$State", name := "issue", desc := "(I)I" } : Jvm.MethodName)) ∈ lw_all := lw_g (lw_at lw_m8 196 rfl) rfl
theorem q1985 : (Jvm.Cond.methodLink "KeyTurns$State" (193 : Nat) ({ cls := "KeyTurns$State", name := "clean", desc := "()I" } : Jvm.MethodName)) ∈ lw_all := lw_g (lw_at lw_m8 197 rfl) rfl
theorem q1986 : (Jvm.Cond.methodLink "KeyTurns$State" (275 : Nat) ({ cls := "KeyTurns$State", name := "sweep", desc := "()V" } : Jvm.MethodName)) ∈ lw_all := lw_g (lw_at lw_m8 198 rfl) rfl
theorem q1987 : (Jvm.Cond.instanceMethod ({ cls := "KeyTurns$State", name := "sweep", desc := "()V" } : Jvm.MethodName)) ∈ lw_all := lw_g (lw_at lw_m8 199 rfl) rfl
theorem q1988 : (Jvm.Cond.selects "KeyTurns$State" ({ cls := "KeyTurns$State", name := "sweep", desc := "()V" } : Jvm.MethodName) ({ cls := "KeyTurns$State", name := "sweep", desc := "()V" } : Jvm.MethodName)) ∈ lw_all := lw_g (lw_at lw_m8 200 rfl) rfl
theorem q1989 : (Jvm.Cond.code ({ cls := "KeyTurns$State", name := "sweep", desc := "()V" } : Jvm.MethodName) prog_16_method_23_code (3 : Nat) (Option.none : Option Jvm.ClassFile.FieldType)) ∈ lw_all := lw_g (lw_at lw_m8 201 rfl) rfl
theorem q1990 : (Jvm.Cond.methodLink "KeyTurns$State" (278 : Nat) ({ cls := "KeyTurns$Client", name := "isHour", desc := "(I)Z" } : Jvm.MethodName)) ∈ lw_all := lw_g (lw_at lw_m8 202 rfl) rfl
theorem q1991 : (Jvm.Cond.methodLink "KeyTurns$State" (281 : Nat) ({ cls := "KeyTurns$State", name := "ask", desc := "(LKeyTurns$Client;)I" } : Jvm.MethodName)) ∈ lw_all := lw_g (lw_at lw_m8 203 rfl) rfl
theorem q2010 : (Jvm.Cond.instanceMethod ({ cls := "KeyTurns$State", name := "share", desc := "(I)F" } : Jvm.MethodName)) ∈ lw_all := lw_g (lw_at lw_m8 222 rfl) rfl
theorem q2011 : (Jvm.Cond.selects "KeyTurns$State" ({ cls := "KeyTurns$State", name := "share", desc := "(I)F" } : Jvm.MethodName) ({ cls := "KeyTurns$State", name := "share", desc := "(I)F" } : Jvm.MethodName)) ∈ lw_all := lw_g (lw_at lw_m8 223 rfl) rfl
theorem q2012 : (Jvm.Cond.code ({ cls := "KeyTurns$State", name := "share", desc := "(I)F" } : Jvm.MethodName) prog_16_method_30_code (3 : Nat) (Option.some Jvm.ClassFile.FieldType.float)) ∈ lw_all := lw_g (lw_at lw_m8 224 rfl) rfl
theorem q2013 : (Jvm.Cond.methodLink "KeyTurns$State" (266 : Nat) ({ cls := "KeyTurns$State", name := "recordCount", desc := "()I" } : Jvm.MethodName)) ∈ lw_all := lw_g (lw_at lw_m8 225 rfl) rfl
theorem q2014 : (Jvm.Cond.methodLink "KeyTurns$State" (269 : Nat) ({ cls := "KeyTurns$State", name := "readable", desc := "(I)I" } : Jvm.MethodName)) ∈ lw_all := lw_g (lw_at lw_m8 226 rfl) rfl
theorem q2031 : (Jvm.Cond.instanceMethod ({ cls := "KeyTurns$State", name := "canWithdraw", desc := "(I)Z" } : Jvm.MethodName)) ∈ lw_all := lw_g (lw_at lw_m9 3 rfl) rfl
theorem q2032 : (Jvm.Cond.selects "KeyTurns$State" ({ cls := "KeyTurns$State", name := "canWithdraw", desc := "(I)Z" } : Jvm.MethodName) ({ cls := "KeyTurns$State", name := "canWithdraw", desc := "(I)Z" } : Jvm.MethodName)) ∈ lw_all := lw_g (lw_at lw_m9 4 rfl) rfl
theorem q2033 : (Jvm.Cond.code ({ cls := "KeyTurns$State", name := "canWithdraw", desc := "(I)Z" } : Jvm.MethodName) prog_16_method_12_code (3 : Nat) (Option.some Jvm.ClassFile.FieldType.boolean)) ∈ lw_all := lw_g (lw_at lw_m9 5 rfl) rfl
theorem q2039 : (Jvm.Cond.instanceMethod ({ cls := "KeyTurns$State", name := "isAlone", desc := "(I)Z" } : Jvm.MethodName)) ∈ lw_all := lw_g (lw_at lw_m9 11 rfl) rfl
theorem q2040 : (Jvm.Cond.selects "KeyTurns$State" ({ cls := "KeyTurns$State", name := "isAlone", desc := "(I)Z" } : Jvm.MethodName) ({ cls := "KeyTurns$State", name := "isAlone", desc := "(I)Z" } : Jvm.MethodName)) ∈ lw_all := lw_g (lw_at lw_m9 12 rfl) rfl
theorem q2041 : (Jvm.Cond.code ({ cls := "KeyTurns$State", name := "isAlone", desc := "(I)Z" } : Jvm.MethodName) prog_16_method_13_code (2 : Nat) (Option.some Jvm.ClassFile.FieldType.boolean)) ∈ lw_all := lw_g (lw_at lw_m9 13 rfl) rfl
theorem q2042 : (Jvm.Cond.privateMethod ({ cls := "KeyTurns$State", name := "lambda$isAlone$0", desc := "(ILKeyTurns$Version;)Z" } : Jvm.MethodName)) ∈ lw_tbl := lw_at lw_m9 14 rfl
theorem q2043 : (Jvm.Cond.instanceMethod ({ cls := "KeyTurns$State", name := "lambda$isAlone$0", desc := "(ILKeyTurns$Version;)Z" } : Jvm.MethodName)) ∈ lw_all := lw_g (lw_at lw_m9 15 rfl) rfl
theorem q2044 : (Jvm.Cond.code ({ cls := "KeyTurns$State", name := "lambda$isAlone$0", desc := "(ILKeyTurns$Version;)Z" } : Jvm.MethodName) prog_16_method_36_code (3 : Nat) (Option.some Jvm.ClassFile.FieldType.boolean)) ∈ lw_all := lw_g (lw_at lw_m9 16 rfl) rfl
theorem q2046 : (Jvm.Cond.instanceMethod ({ cls := "KeyTurns$State", name := "withdraw", desc := "(I)I" } : Jvm.MethodName)) ∈ lw_all := lw_g (lw_at lw_m9 18 rfl) rfl
theorem q2047 : (Jvm.Cond.selects "KeyTurns$State" ({ cls := "KeyTurns$State", name := "withdraw", desc := "(I)I" } : Jvm.MethodName) ({ cls := "KeyTurns$State", name := "withdraw", desc := "(I)I" } : Jvm.MethodName)) ∈ lw_all := lw_g (lw_at lw_m9 19 rfl) rfl
theorem q2048 : (Jvm.Cond.code ({ cls := "KeyTurns$State", name := "withdraw", desc := "(I)I" } : Jvm.MethodName) prog_16_method_14_code (6 : Nat) (Option.some Jvm.ClassFile.FieldType.int)) ∈ lw_all := lw_g (lw_at lw_m9 20 rfl) rfl
theorem q2049 : (Jvm.Cond.static ({ cls := "KeyTurns$State", name := "lambda$withdraw$1", desc := "(LKeyTurns$Version;)Z" } : Jvm.MethodName)) ∈ lw_all := lw_g (lw_at lw_m9 21 rfl) rfl
theorem q2050 : (Jvm.Cond.code ({ cls := "KeyTurns$State", name := "lambda$withdraw$1", desc := "(LKeyTurns$Version;)Z" } : Jvm.MethodName) prog_16_method_35_code (1 : Nat) (Option.some Jvm.ClassFile.FieldType.boolean)) ∈ lw_all := lw_g (lw_at lw_m9 22 rfl) rfl
theorem q2051 : (Jvm.Cond.methodLink "KeyTurns$State" (179 : Nat) ({ cls := "KeyTurns$State", name := "greatest", desc := "(LKeyTurns$VersionTest;)I" } : Jvm.MethodName)) ∈ lw_all := lw_g (lw_at lw_m9 23 rfl) rfl
theorem q2052 : (Jvm.Cond.instanceMethod ({ cls := "KeyTurns$State", name := "greatest", desc := "(LKeyTurns$VersionTest;)I" } : Jvm.MethodName)) ∈ lw_all := lw_g (lw_at lw_m9 24 rfl) rfl
theorem q2053 : (Jvm.Cond.selects "KeyTurns$State" ({ cls := "KeyTurns$State", name := "greatest", desc := "(LKeyTurns$VersionTest;)I" } : Jvm.MethodName) ({ cls := "KeyTurns$State", name := "greatest", desc := "(LKeyTurns$VersionTest;)I" } : Jvm.MethodName)) ∈ lw_all := lw_g (lw_at lw_m9 25 rfl) rfl
theorem q2054 : (Jvm.Cond.code ({ cls := "KeyTurns$State", name := "greatest", desc := "(LKeyTurns$VersionTest;)I" } : Jvm.MethodName) prog_16_method_4_code (3 : Nat) (Option.some Jvm.ClassFile.FieldType.int)) ∈ lw_all := lw_g (lw_at lw_m9 26 rfl) rfl
theorem q2055 : (Jvm.Cond.methodLink "KeyTurns$State" (182 : Nat) ({ cls := "KeyTurns$Issued", name := "withdrawn", desc := "(I)LKeyTurns$Withdrawn;" } : Jvm.MethodName)) ∈ lw_all := lw_g (lw_at lw_m9 27 rfl) rfl
theorem q2061 : (Jvm.Cond.privateMethod ({ cls := "KeyTurns$State", name := "lambda$withdraw$2", desc := "(LKeyTurns$Version;)Z" } : Jvm.MethodName)) ∈ lw_tbl := lw_at lw_m9 33 rfl
theorem q2062 : (Jvm.Cond.instanceMethod ({ cls := "KeyTurns$State", name := "lambda$withdraw$2", desc := "(LKeyTurns$Version;)Z" } : Jvm.MethodName)) ∈ lw_all := lw_g (lw_at lw_m9 34 rfl) rfl
theorem q2063 : (Jvm.Cond.code ({ cls := "KeyTurns$State", name := "lambda$withdraw$2", desc := "(LKeyTurns$Version;)Z" } : Jvm.MethodName) prog_16_method_34_code (2 : Nat) (Option.some Jvm.ClassFile.FieldType.boolean)) ∈ lw_all := lw_g (lw_at lw_m9 35 rfl) rfl
theorem q2073 : (Jvm.Cond.instanceMethod ({ cls := "KeyTurns$State", name := "keep", desc := "()V" } : Jvm.MethodName)) ∈ lw_all := lw_g (lw_at lw_m9 45 rfl) rfl
theorem q2074 : (Jvm.Cond.selects "KeyTurns$State" ({ cls := "KeyTurns$State", name := "keep", desc := "()V" } : Jvm.MethodName) ({ cls := "KeyTurns$State", name := "keep", desc := "()V" } : Jvm.MethodName)) ∈ lw_all := lw_g (lw_at lw_m9 46 rfl) rfl
theorem q2075 : (Jvm.Cond.code ({ cls := "KeyTurns$State", name := "keep", desc := "()V" } : Jvm.MethodName) prog_16_method_32_code (3 : Nat) (Option.none : Option Jvm.ClassFile.FieldType)) ∈ lw_all := lw_g (lw_at lw_m9 47 rfl) rfl
theorem q2076 : (Jvm.Cond.methodLink "KeyTurns$State" (285 : Nat) ({ cls := "KeyTurns$State", name := "readers", desc := "(I)I" } : Jvm.MethodName)) ∈ lw_all := lw_g (lw_at lw_m9 48 rfl) rfl
theorem q2077 : (Jvm.Cond.methodLink "KeyTurns$State" (289 : Nat) ({ cls := "java/util/LinkedList", name := "removeFirst", desc := "()Ljava/lang/Object;" } : Jvm.MethodName)) ∈ lw_all := lw_g (lw_at lw_m9 49 rfl) rfl
theorem q2335 : (Jvm.Cond.selects "KeyTurns$State" ({ cls := "java/lang/Object", name := "equals", desc := "(Ljava/lang/Object;)Z" } : Jvm.MethodName) ({ cls := "java/lang/Object", name := "equals", desc := "(Ljava/lang/Object;)Z" } : Jvm.MethodName)) ∈ lw_all := lw_g (lw_at lw_m10 67 rfl) rfl
theorem q3036 : (Jvm.Cond.castable "KeyTurns$State" "java/lang/Object") ∈ lw_tbl := lw_at lw_m13 48 rfl
theorem in_X2 : ∀ w ∈ wsX20, w ∈ lw_all := lw_in wsX20 [283, 285, 287, 289, 291, 293, 295, 297, 299, 301, 303, 305, 307, 309] (by decide +kernel) (by decide +kernel)
def RJ2 : String := "java/util/AbstractList"
abbrev cJ2_init : ByteArray := prog_51_method_1_code
def yJ2_init : MethodName := ⟨RJ2, "<init>", "()V"⟩
abbrev cJ2_listIterator : ByteArray := prog_51_method_12_code
def yJ2_listIterator : MethodName := ⟨RJ2, "listIterator", "()Ljava/util/ListIterator;"⟩
theorem q113 : (Jvm.Cond.initialized "java/util/AbstractList") ∈ lw_all := lw_g (lw_at lw_m1 5 rfl) rfl
theorem q212 : (Jvm.Cond.instanceMethod ({ cls := "java/util/AbstractList", name := "<init>", desc := "()V" } : Jvm.MethodName)) ∈ lw_all := lw_g (lw_at lw_m1 104 rfl) rfl
theorem q213 : (Jvm.Cond.code ({ cls := "java/util/AbstractList", name := "<init>", desc := "()V" } : Jvm.MethodName) prog_51_method_1_code (1 : Nat) (Option.none : Option Jvm.ClassFile.FieldType)) ∈ lw_all := lw_g (lw_at lw_m1 105 rfl) rfl
theorem q214 : (Jvm.Cond.methodLink "java/util/AbstractList" (1 : Nat) ({ cls := "java/util/AbstractCollection", name := "<init>", desc := "()V" } : Jvm.MethodName)) ∈ lw_all := lw_g (lw_at lw_m1 106 rfl) rfl
theorem q221 : (Jvm.Cond.fieldLink "java/util/AbstractList" (7 : Nat) "java/util/AbstractList" "modCount" "I") ∈ lw_all := lw_g (lw_at lw_m1 113 rfl) rfl
theorem q234 : (Jvm.Cond.soleField "java/util/AbstractList" "modCount") ∈ lw_all := lw_g (lw_at lw_m1 126 rfl) rfl
theorem q868 : (Jvm.Cond.declares ({ cls := "java/util/AbstractList", name := "listIterator", desc := "()Ljava/util/ListIterator;" } : Jvm.MethodName)) ∈ lw_tbl := lw_at lw_m4 40 rfl
theorem q870 : (Jvm.Cond.instanceMethod ({ cls := "java/util/AbstractList", name := "listIterator", desc := "()Ljava/util/ListIterator;" } : Jvm.MethodName)) ∈ lw_all := lw_g (lw_at lw_m4 42 rfl) rfl
theorem q871 : (Jvm.Cond.code ({ cls := "java/util/AbstractList", name := "listIterator", desc := "()Ljava/util/ListIterator;" } : Jvm.MethodName) prog_51_method_12_code (1 : Nat) (Option.some (Jvm.ClassFile.FieldType.object "java/util/ListIterator"))) ∈ lw_all := lw_g (lw_at lw_m4 43 rfl) rfl
theorem q872 : (Jvm.Cond.methodLink "java/util/AbstractList" (47 : Nat) ({ cls := "java/util/AbstractList", name := "listIterator", desc := "(I)Ljava/util/ListIterator;" } : Jvm.MethodName)) ∈ lw_all := lw_g (lw_at lw_m4 44 rfl) rfl
theorem q873 : (Jvm.Cond.instanceMethod ({ cls := "java/util/AbstractList", name := "listIterator", desc := "(I)Ljava/util/ListIterator;" } : Jvm.MethodName)) ∈ lw_all := lw_g (lw_at lw_m4 45 rfl) rfl
theorem q874 : (Jvm.Cond.sameMethod "java/util/AbstractList" "java/util/AbstractList" "listIterator" "(I)Ljava/util/ListIterator;") ∈ lw_all := lw_g (lw_at lw_m4 46 rfl) rfl
theorem q946 : (Jvm.Cond.declares ({ cls := "java/util/AbstractList", name := "listIterator", desc := "(I)Ljava/util/ListIterator;" } : Jvm.MethodName)) ∈ lw_tbl := lw_at lw_m4 118 rfl
theorem q958 : (Jvm.Cond.sameMethod "java/util/AbstractList" "java/util/AbstractCollection" "size" "()I") ∈ lw_all := lw_g (lw_at lw_m4 130 rfl) rfl
theorem q991 : (Jvm.Cond.declares ({ cls := "java/util/AbstractList", name := "get", desc := "(I)Ljava/lang/Object;" } : Jvm.MethodName)) ∈ lw_tbl := lw_at lw_m4 163 rfl
theorem q992 : (Jvm.Cond.sameMethod "java/util/AbstractList" "java/util/AbstractList" "get" "(I)Ljava/lang/Object;") ∈ lw_all := lw_g (lw_at lw_m4 164 rfl) rfl
def RJ3 : String := "java/util/ArrayList"
def TJ3 : u_T := fun k => match k with
  | 0 => ("java/util/AbstractList", "modCount", "I", false)
  | 1 => ("java/util/ArrayList", "elementData", "[Ljava/lang/Object;", false)
  | _ => ("java/util/ArrayList", "size", "I", false)
def tyJ3 : Nat → FieldType := fun k => match k with
  | 0 => .int
  | 1 => .array (.object "java/lang/Object")
  | _ => .int
abbrev wsJ30 : List Cond := u_ws RJ3 TJ3 3
theorem nmJ3 : ∀ a, a < 3 → ∀ b, b < 3 → a ≠ b → (TJ3 a).2.1 ≠ (TJ3 b).2.1 := by decide +kernel
theorem tyJ3_ok : ∀ k, k < 3 → parseFieldDescriptor (TJ3 k).2.2.1 = some (tyJ3 k) := by decide +kernel
abbrev cJ3_init : ByteArray := prog_56_method_2_code
def yJ3_init : MethodName := ⟨RJ3, "<init>", "()V"⟩
abbrev cJ3_add : ByteArray := prog_56_method_25_code
def yJ3_add : MethodName := ⟨RJ3, "add", "(Ljava/lang/Object;)Z"⟩
abbrev cJ3_add_2 : ByteArray := prog_56_method_24_code
def yJ3_add_2 : MethodName := ⟨RJ3, "add", "(Ljava/lang/Object;[Ljava/lang/Object;I)V"⟩
abbrev cJ3_grow : ByteArray := prog_56_method_7_code
def yJ3_grow : MethodName := ⟨RJ3, "grow", "()[Ljava/lang/Object;"⟩
abbrev cJ3_grow_2 : ByteArray := prog_56_method_6_code
def yJ3_grow_2 : MethodName := ⟨RJ3, "grow", "(I)[Ljava/lang/Object;"⟩
abbrev cJ3_size : ByteArray := prog_56_method_8_code
def yJ3_size : MethodName := ⟨RJ3, "size", "()I"⟩
abbrev cJ3_get : ByteArray := prog_56_method_20_code
def yJ3_get : MethodName := ⟨RJ3, "get", "(I)Ljava/lang/Object;"⟩
abbrev cJ3_elementData : ByteArray := prog_56_method_18_code
def yJ3_elementData : MethodName := ⟨RJ3, "elementData", "(I)Ljava/lang/Object;"⟩
abbrev cJ3_listIterator : ByteArray := prog_56_method_53_code
def yJ3_listIterator : MethodName := ⟨RJ3, "listIterator", "(I)Ljava/util/ListIterator;"⟩
abbrev cJ3_rangeCheckForAdd : ByteArray := prog_56_method_45_code
def yJ3_rangeCheckForAdd : MethodName := ⟨RJ3, "rangeCheckForAdd", "(I)V"⟩
abbrev cJ3_set : ByteArray := prog_56_method_23_code
def yJ3_set : MethodName := ⟨RJ3, "set", "(ILjava/lang/Object;)Ljava/lang/Object;"⟩
abbrev cJ3_indexOf : ByteArray := prog_56_method_11_code
def yJ3_indexOf : MethodName := ⟨RJ3, "indexOf", "(Ljava/lang/Object;)I"⟩
abbrev cJ3_indexOfRange : ByteArray := prog_56_method_12_code
def yJ3_indexOfRange : MethodName := ⟨RJ3, "indexOfRange", "(Ljava/lang/Object;II)I"⟩
theorem q114 : (Jvm.Cond.initialized "java/util/ArrayList") ∈ lw_all := lw_g (lw_at lw_m1 6 rfl) rfl
theorem q207 : (Jvm.Cond.instantiable "java/util/ArrayList" (3 : Nat)) ∈ lw_all := lw_g (lw_at lw_m1 99 rfl) rfl
theorem q209 : (Jvm.Cond.instanceMethod ({ cls := "java/util/ArrayList", name := "<init>", desc := "()V" } : Jvm.MethodName)) ∈ lw_all := lw_g (lw_at lw_m1 101 rfl) rfl
theorem q210 : (Jvm.Cond.code ({ cls := "java/util/ArrayList", name := "<init>", desc := "()V" } : Jvm.MethodName) prog_56_method_2_code (1 : Nat) (Option.none : Option Jvm.ClassFile.FieldType)) ∈ lw_all := lw_g (lw_at lw_m1 102 rfl) rfl
theorem q211 : (Jvm.Cond.methodLink "java/util/ArrayList" (1 : Nat) ({ cls := "java/util/AbstractList", name := "<init>", desc := "()V" } : Jvm.MethodName)) ∈ lw_all := lw_g (lw_at lw_m1 103 rfl) rfl
theorem q215 : (Jvm.Cond.fieldLink "java/util/ArrayList" (39 : Nat) "java/util/ArrayList" "DEFAULTCAPACITY_EMPTY_ELEMENTDATA" "[Ljava/lang/Object;") ∈ lw_all := lw_g (lw_at lw_m1 107 rfl) rfl
theorem q216 : (Jvm.Cond.laysStatic "java/util/ArrayList" "DEFAULTCAPACITY_EMPTY_ELEMENTDATA" "[Ljava/lang/Object;") ∈ lw_tbl := lw_at lw_m1 108 rfl
theorem q217 : (Jvm.Cond.fieldLink "java/util/ArrayList" (9 : Nat) "java/util/ArrayList" "elementData" "[Ljava/lang/Object;") ∈ lw_all := lw_g (lw_at lw_m1 109 rfl) rfl
theorem q220 : (Jvm.Cond.fieldLink "java/util/ArrayList" (48 : Nat) "java/util/ArrayList" "size" "I") ∈ lw_all := lw_g (lw_at lw_m1 112 rfl) rfl
theorem q225 : (Jvm.Cond.sameField "java/util/ArrayList" "java/util/AbstractList" "modCount" "I") ∈ lw_all := lw_g (lw_at lw_m1 117 rfl) rfl
theorem q228 : (Jvm.Cond.fieldLink "java/util/ArrayList" (63 : Nat) "java/util/ArrayList" "modCount" "I") ∈ lw_all := lw_g (lw_at lw_m1 120 rfl) rfl
theorem q229 : (Jvm.Cond.lays "java/util/ArrayList" "java/util/ArrayList" "elementData" "[Ljava/lang/Object;") ∈ lw_all := lw_g (lw_at lw_m1 121 rfl) rfl
theorem q230 : (Jvm.Cond.soleField "java/util/ArrayList" "elementData") ∈ lw_all := lw_g (lw_at lw_m1 122 rfl) rfl
theorem q231 : (Jvm.Cond.lays "java/util/ArrayList" "java/util/ArrayList" "size" "I") ∈ lw_all := lw_g (lw_at lw_m1 123 rfl) rfl
theorem q232 : (Jvm.Cond.soleField "java/util/ArrayList" "size") ∈ lw_all := lw_g (lw_at lw_m1 124 rfl) rfl
theorem q233 : (Jvm.Cond.lays "java/util/ArrayList" "java/util/AbstractList" "modCount" "I") ∈ lw_all := lw_g (lw_at lw_m1 125 rfl) rfl
theorem q235 : (Jvm.Cond.superclass "java/util/ArrayList" "java/util/AbstractList") ∈ lw_all := lw_g (lw_at lw_m1 127 rfl) rfl
theorem q348 : (Jvm.Cond.instanceMethod ({ cls := "java/util/ArrayList", name := "add", desc := "(Ljava/lang/Object;)Z" } : Jvm.MethodName)) ∈ lw_all := lw_g (lw_at lw_m2 0 rfl) rfl
theorem q349 : (Jvm.Cond.selects "java/util/ArrayList" ({ cls := "java/util/ArrayList", name := "add", desc := "(Ljava/lang/Object;)Z" } : Jvm.MethodName) ({ cls := "java/util/ArrayList", name := "add", desc := "(Ljava/lang/Object;)Z" } : Jvm.MethodName)) ∈ lw_all := lw_g (lw_at lw_m2 1 rfl) rfl
theorem q350 : (Jvm.Cond.code ({ cls := "java/util/ArrayList", name := "add", desc := "(Ljava/lang/Object;)Z" } : Jvm.MethodName) prog_56_method_25_code (2 : Nat) (Option.some Jvm.ClassFile.FieldType.boolean)) ∈ lw_all := lw_g (lw_at lw_m2 2 rfl) rfl
theorem q351 : (Jvm.Cond.methodLink "java/util/ArrayList" (131 : Nat) ({ cls := "java/util/ArrayList", name := "add", desc := "(Ljava/lang/Object;[Ljava/lang/Object;I)V" } : Jvm.MethodName)) ∈ lw_all := lw_g (lw_at lw_m2 3 rfl) rfl
theorem q352 : (Jvm.Cond.privateMethod ({ cls := "java/util/ArrayList", name := "add", desc := "(Ljava/lang/Object;[Ljava/lang/Object;I)V" } : Jvm.MethodName)) ∈ lw_tbl := lw_at lw_m2 4 rfl
theorem q353 : (Jvm.Cond.instanceMethod ({ cls := "java/util/ArrayList", name := "add", desc := "(Ljava/lang/Object;[Ljava/lang/Object;I)V" } : Jvm.MethodName)) ∈ lw_all := lw_g (lw_at lw_m2 5 rfl) rfl
theorem q354 : (Jvm.Cond.code ({ cls := "java/util/ArrayList", name := "add", desc := "(Ljava/lang/Object;[Ljava/lang/Object;I)V" } : Jvm.MethodName) prog_56_method_24_code (4 : Nat) (Option.none : Option Jvm.ClassFile.FieldType)) ∈ lw_all := lw_g (lw_at lw_m2 6 rfl) rfl
theorem q355 : (Jvm.Cond.methodLink "java/util/ArrayList" (129 : Nat) ({ cls := "java/util/ArrayList", name := "grow", desc := "()[Ljava/lang/Object;" } : Jvm.MethodName)) ∈ lw_all := lw_g (lw_at lw_m2 7 rfl) rfl
theorem q356 : (Jvm.Cond.privateMethod ({ cls := "java/util/ArrayList", name := "grow", desc := "()[Ljava/lang/Object;" } : Jvm.MethodName)) ∈ lw_tbl := lw_at lw_m2 8 rfl
theorem q357 : (Jvm.Cond.instanceMethod ({ cls := "java/util/ArrayList", name := "grow", desc := "()[Ljava/lang/Object;" } : Jvm.MethodName)) ∈ lw_all := lw_g (lw_at lw_m2 9 rfl) rfl
theorem q358 : (Jvm.Cond.code ({ cls := "java/util/ArrayList", name := "grow", desc := "()[Ljava/lang/Object;" } : Jvm.MethodName) prog_56_method_7_code (1 : Nat) (Option.some (Jvm.ClassFile.FieldType.array (Jvm.ClassFile.FieldType.object "java/lang/Object")))) ∈ lw_all := lw_g (lw_at lw_m2 10 rfl) rfl
theorem q359 : (Jvm.Cond.methodLink "java/util/ArrayList" (69 : Nat) ({ cls := "java/util/ArrayList", name := "grow", desc := "(I)[Ljava/lang/Object;" } : Jvm.MethodName)) ∈ lw_all := lw_g (lw_at lw_m2 11 rfl) rfl
theorem q360 : (Jvm.Cond.privateMethod ({ cls := "java/util/ArrayList", name := "grow", desc := "(I)[Ljava/lang/Object;" } : Jvm.MethodName)) ∈ lw_tbl := lw_at lw_m2 12 rfl
theorem q361 : (Jvm.Cond.instanceMethod ({ cls := "java/util/ArrayList", name := "grow", desc := "(I)[Ljava/lang/Object;" } : Jvm.MethodName)) ∈ lw_all := lw_g (lw_at lw_m2 13 rfl) rfl
theorem q362 : (Jvm.Cond.code ({ cls := "java/util/ArrayList", name := "grow", desc := "(I)[Ljava/lang/Object;" } : Jvm.MethodName) prog_56_method_6_code (4 : Nat) (Option.some (Jvm.ClassFile.FieldType.array (Jvm.ClassFile.FieldType.object "java/lang/Object")))) ∈ lw_all := lw_g (lw_at lw_m2 14 rfl) rfl
theorem q363 : (Jvm.Cond.methodLink "java/util/ArrayList" (73 : Nat) ({ cls := "jdk/internal/util/ArraysSupport", name := "newLength", desc := "(III)I" } : Jvm.MethodName)) ∈ lw_all := lw_g (lw_at lw_m2 15 rfl) rfl
theorem q373 : (Jvm.Cond.methodLink "java/util/ArrayList" (66 : Nat) ({ cls := "java/util/Arrays", name := "copyOf", desc := "([Ljava/lang/Object;I)[Ljava/lang/Object;" } : Jvm.MethodName)) ∈ lw_all := lw_g (lw_at lw_m2 25 rfl) rfl
theorem q403 : (Jvm.Cond.selects "java/util/ArrayList" ({ cls := "java/lang/Object", name := "getClass", desc := "()Ljava/lang/Class;" } : Jvm.MethodName) ({ cls := "java/lang/Object", name := "getClass", desc := "()Ljava/lang/Class;" } : Jvm.MethodName)) ∈ lw_all := lw_g (lw_at lw_m2 55 rfl) rfl
theorem q424 : (Jvm.Cond.methodLink "java/util/ArrayList" (79 : Nat) ({ cls := "java/lang/Math", name := "max", desc := "(II)I" } : Jvm.MethodName)) ∈ lw_all := lw_g (lw_at lw_m2 76 rfl) rfl
theorem q425 : (Jvm.Cond.classLink "java/util/ArrayList" (7 : Nat) "java/lang/Object") ∈ lw_all := lw_g (lw_at lw_m2 77 rfl) rfl
theorem q478 : (Jvm.Cond.instanceMethod ({ cls := "java/util/ArrayList", name := "size", desc := "()I" } : Jvm.MethodName)) ∈ lw_all := lw_g (lw_at lw_m2 130 rfl) rfl
theorem q479 : (Jvm.Cond.selects "java/util/ArrayList" ({ cls := "java/util/ArrayList", name := "size", desc := "()I" } : Jvm.MethodName) ({ cls := "java/util/ArrayList", name := "size", desc := "()I" } : Jvm.MethodName)) ∈ lw_all := lw_g (lw_at lw_m2 131 rfl) rfl
theorem q480 : (Jvm.Cond.code ({ cls := "java/util/ArrayList", name := "size", desc := "()I" } : Jvm.MethodName) prog_56_method_8_code (1 : Nat) (Option.some Jvm.ClassFile.FieldType.int)) ∈ lw_all := lw_g (lw_at lw_m2 132 rfl) rfl
theorem q482 : (Jvm.Cond.instanceMethod ({ cls := "java/util/ArrayList", name := "get", desc := "(I)Ljava/lang/Object;" } : Jvm.MethodName)) ∈ lw_all := lw_g (lw_at lw_m2 134 rfl) rfl
theorem q483 : (Jvm.Cond.selects "java/util/ArrayList" ({ cls := "java/util/ArrayList", name := "get", desc := "(I)Ljava/lang/Object;" } : Jvm.MethodName) ({ cls := "java/util/ArrayList", name := "get", desc := "(I)Ljava/lang/Object;" } : Jvm.MethodName)) ∈ lw_all := lw_g (lw_at lw_m2 135 rfl) rfl
theorem q484 : (Jvm.Cond.code ({ cls := "java/util/ArrayList", name := "get", desc := "(I)Ljava/lang/Object;" } : Jvm.MethodName) prog_56_method_20_code (2 : Nat) (Option.some (Jvm.ClassFile.FieldType.object "java/lang/Object"))) ∈ lw_all := lw_g (lw_at lw_m2 136 rfl) rfl
theorem q485 : (Jvm.Cond.methodLink "java/util/ArrayList" (118 : Nat) ({ cls := "java/util/Objects", name := "checkIndex", desc := "(II)I" } : Jvm.MethodName)) ∈ lw_all := lw_g (lw_at lw_m2 137 rfl) rfl
theorem q491 : (Jvm.Cond.methodLink "java/util/ArrayList" (123 : Nat) ({ cls := "java/util/ArrayList", name := "elementData", desc := "(I)Ljava/lang/Object;" } : Jvm.MethodName)) ∈ lw_all := lw_g (lw_at lw_m2 143 rfl) rfl
theorem q492 : (Jvm.Cond.instanceMethod ({ cls := "java/util/ArrayList", name := "elementData", desc := "(I)Ljava/lang/Object;" } : Jvm.MethodName)) ∈ lw_all := lw_g (lw_at lw_m2 144 rfl) rfl
theorem q493 : (Jvm.Cond.selects "java/util/ArrayList" ({ cls := "java/util/ArrayList", name := "elementData", desc := "(I)Ljava/lang/Object;" } : Jvm.MethodName) ({ cls := "java/util/ArrayList", name := "elementData", desc := "(I)Ljava/lang/Object;" } : Jvm.MethodName)) ∈ lw_all := lw_g (lw_at lw_m2 145 rfl) rfl
theorem q494 : (Jvm.Cond.code ({ cls := "java/util/ArrayList", name := "elementData", desc := "(I)Ljava/lang/Object;" } : Jvm.MethodName) prog_56_method_18_code (2 : Nat) (Option.some (Jvm.ClassFile.FieldType.object "java/lang/Object"))) ∈ lw_all := lw_g (lw_at lw_m2 146 rfl) rfl
theorem q875 : (Jvm.Cond.selects "java/util/ArrayList" ({ cls := "java/util/AbstractList", name := "listIterator", desc := "(I)Ljava/util/ListIterator;" } : Jvm.MethodName) ({ cls := "java/util/ArrayList", name := "listIterator", desc := "(I)Ljava/util/ListIterator;" } : Jvm.MethodName)) ∈ lw_all := lw_g (lw_at lw_m4 47 rfl) rfl
theorem q876 : (Jvm.Cond.instanceMethod ({ cls := "java/util/ArrayList", name := "listIterator", desc := "(I)Ljava/util/ListIterator;" } : Jvm.MethodName)) ∈ lw_all := lw_g (lw_at lw_m4 48 rfl) rfl
theorem q877 : (Jvm.Cond.code ({ cls := "java/util/ArrayList", name := "listIterator", desc := "(I)Ljava/util/ListIterator;" } : Jvm.MethodName) prog_56_method_53_code (2 : Nat) (Option.some (Jvm.ClassFile.FieldType.object "java/util/ListIterator"))) ∈ lw_all := lw_g (lw_at lw_m4 49 rfl) rfl
theorem q878 : (Jvm.Cond.methodLink "java/util/ArrayList" (135 : Nat) ({ cls := "java/util/ArrayList", name := "rangeCheckForAdd", desc := "(I)V" } : Jvm.MethodName)) ∈ lw_all := lw_g (lw_at lw_m4 50 rfl) rfl
theorem q879 : (Jvm.Cond.privateMethod ({ cls := "java/util/ArrayList", name := "rangeCheckForAdd", desc := "(I)V" } : Jvm.MethodName)) ∈ lw_tbl := lw_at lw_m4 51 rfl
theorem q880 : (Jvm.Cond.instanceMethod ({ cls := "java/util/ArrayList", name := "rangeCheckForAdd", desc := "(I)V" } : Jvm.MethodName)) ∈ lw_all := lw_g (lw_at lw_m4 52 rfl) rfl
theorem q881 : (Jvm.Cond.code ({ cls := "java/util/ArrayList", name := "rangeCheckForAdd", desc := "(I)V" } : Jvm.MethodName) prog_56_method_45_code (2 : Nat) (Option.none : Option Jvm.ClassFile.FieldType)) ∈ lw_all := lw_g (lw_at lw_m4 53 rfl) rfl
theorem q882 : (Jvm.Cond.classLink "java/util/ArrayList" (262 : Nat) "java/util/ArrayList$ListItr") ∈ lw_all := lw_g (lw_at lw_m4 54 rfl) rfl
theorem q884 : (Jvm.Cond.methodLink "java/util/ArrayList" (264 : Nat) ({ cls := "java/util/ArrayList$ListItr", name := "<init>", desc := "(Ljava/util/ArrayList;I)V" } : Jvm.MethodName)) ∈ lw_all := lw_g (lw_at lw_m4 56 rfl) rfl
theorem q960 : (Jvm.Cond.selects "java/util/ArrayList" ({ cls := "java/util/AbstractList", name := "size", desc := "()I" } : Jvm.MethodName) ({ cls := "java/util/ArrayList", name := "size", desc := "()I" } : Jvm.MethodName)) ∈ lw_all := lw_g (lw_at lw_m4 132 rfl) rfl
theorem q993 : (Jvm.Cond.selects "java/util/ArrayList" ({ cls := "java/util/AbstractList", name := "get", desc := "(I)Ljava/lang/Object;" } : Jvm.MethodName) ({ cls := "java/util/ArrayList", name := "get", desc := "(I)Ljava/lang/Object;" } : Jvm.MethodName)) ∈ lw_all := lw_g (lw_at lw_m4 165 rfl) rfl
theorem q1358 : (Jvm.Cond.instanceMethod ({ cls := "java/util/ArrayList", name := "set", desc := "(ILjava/lang/Object;)Ljava/lang/Object;" } : Jvm.MethodName)) ∈ lw_all := lw_g (lw_at lw_m6 50 rfl) rfl
theorem q1359 : (Jvm.Cond.selects "java/util/ArrayList" ({ cls := "java/util/ArrayList", name := "set", desc := "(ILjava/lang/Object;)Ljava/lang/Object;" } : Jvm.MethodName) ({ cls := "java/util/ArrayList", name := "set", desc := "(ILjava/lang/Object;)Ljava/lang/Object;" } : Jvm.MethodName)) ∈ lw_all := lw_g (lw_at lw_m6 51 rfl) rfl
theorem q1360 : (Jvm.Cond.code ({ cls := "java/util/ArrayList", name := "set", desc := "(ILjava/lang/Object;)Ljava/lang/Object;" } : Jvm.MethodName) prog_56_method_23_code (4 : Nat) (Option.some (Jvm.ClassFile.FieldType.object "java/lang/Object"))) ∈ lw_all := lw_g (lw_at lw_m6 52 rfl) rfl
theorem q2306 : (Jvm.Cond.castable "java/util/ArrayList" "java/util/List") ∈ lw_tbl := lw_at lw_m10 38 rfl
theorem q2307 : (Jvm.Cond.selects "java/util/ArrayList" ({ cls := "java/util/List", name := "indexOf", desc := "(Ljava/lang/Object;)I" } : Jvm.MethodName) ({ cls := "java/util/ArrayList", name := "indexOf", desc := "(Ljava/lang/Object;)I" } : Jvm.MethodName)) ∈ lw_all := lw_g (lw_at lw_m10 39 rfl) rfl
theorem q2308 : (Jvm.Cond.unhidden "java/util/ArrayList" "indexOf" "(Ljava/lang/Object;)I") ∈ lw_tbl := lw_at lw_m10 40 rfl
theorem q2309 : (Jvm.Cond.instanceMethod ({ cls := "java/util/ArrayList", name := "indexOf", desc := "(Ljava/lang/Object;)I" } : Jvm.MethodName)) ∈ lw_all := lw_g (lw_at lw_m10 41 rfl) rfl
theorem q2310 : (Jvm.Cond.publicMethod ({ cls := "java/util/ArrayList", name := "indexOf", desc := "(Ljava/lang/Object;)I" } : Jvm.MethodName)) ∈ lw_tbl := lw_at lw_m10 42 rfl
theorem q2311 : (Jvm.Cond.code ({ cls := "java/util/ArrayList", name := "indexOf", desc := "(Ljava/lang/Object;)I" } : Jvm.MethodName) prog_56_method_11_code (2 : Nat) (Option.some Jvm.ClassFile.FieldType.int)) ∈ lw_all := lw_g (lw_at lw_m10 43 rfl) rfl
theorem q2312 : (Jvm.Cond.methodLink "java/util/ArrayList" (89 : Nat) ({ cls := "java/util/ArrayList", name := "indexOfRange", desc := "(Ljava/lang/Object;II)I" } : Jvm.MethodName)) ∈ lw_all := lw_g (lw_at lw_m10 44 rfl) rfl
theorem q2313 : (Jvm.Cond.instanceMethod ({ cls := "java/util/ArrayList", name := "indexOfRange", desc := "(Ljava/lang/Object;II)I" } : Jvm.MethodName)) ∈ lw_all := lw_g (lw_at lw_m10 45 rfl) rfl
theorem q2314 : (Jvm.Cond.selects "java/util/ArrayList" ({ cls := "java/util/ArrayList", name := "indexOfRange", desc := "(Ljava/lang/Object;II)I" } : Jvm.MethodName) ({ cls := "java/util/ArrayList", name := "indexOfRange", desc := "(Ljava/lang/Object;II)I" } : Jvm.MethodName)) ∈ lw_all := lw_g (lw_at lw_m10 46 rfl) rfl
theorem q2315 : (Jvm.Cond.code ({ cls := "java/util/ArrayList", name := "indexOfRange", desc := "(Ljava/lang/Object;II)I" } : Jvm.MethodName) prog_56_method_12_code (6 : Nat) (Option.some Jvm.ClassFile.FieldType.int)) ∈ lw_all := lw_g (lw_at lw_m10 47 rfl) rfl
theorem q2317 : (Jvm.Cond.methodLink "java/util/ArrayList" (93 : Nat) ({ cls := "java/lang/Object", name := "equals", desc := "(Ljava/lang/Object;)Z" } : Jvm.MethodName)) ∈ lw_all := lw_g (lw_at lw_m10 49 rfl) rfl
theorem q3037 : (Jvm.Cond.castable "java/util/ArrayList" "java/lang/Object") ∈ lw_tbl := lw_at lw_m13 49 rfl
theorem in_J3 : ∀ w ∈ wsJ30, w ∈ lw_all := lw_in wsJ30 [233, 229, 231] (by decide +kernel) (by decide +kernel)
def RJ4 : String := "java/util/AbstractSequentialList"
abbrev cJ4_init : ByteArray := prog_54_method_1_code
def yJ4_init : MethodName := ⟨RJ4, "<init>", "()V"⟩
abbrev cJ4_iterator : ByteArray := prog_54_method_7_code
def yJ4_iterator : MethodName := ⟨RJ4, "iterator", "()Ljava/util/Iterator;"⟩
theorem q115 : (Jvm.Cond.initialized "java/util/AbstractSequentialList") ∈ lw_all := lw_g (lw_at lw_m1 7 rfl) rfl
theorem q243 : (Jvm.Cond.instanceMethod ({ cls := "java/util/AbstractSequentialList", name := "<init>", desc := "()V" } : Jvm.MethodName)) ∈ lw_all := lw_g (lw_at lw_m1 135 rfl) rfl
theorem q244 : (Jvm.Cond.code ({ cls := "java/util/AbstractSequentialList", name := "<init>", desc := "()V" } : Jvm.MethodName) prog_54_method_1_code (1 : Nat) (Option.none : Option Jvm.ClassFile.FieldType)) ∈ lw_all := lw_g (lw_at lw_m1 136 rfl) rfl
theorem q245 : (Jvm.Cond.methodLink "java/util/AbstractSequentialList" (1 : Nat) ({ cls := "java/util/AbstractList", name := "<init>", desc := "()V" } : Jvm.MethodName)) ∈ lw_all := lw_g (lw_at lw_m1 137 rfl) rfl
theorem q862 : (Jvm.Cond.declares ({ cls := "java/util/AbstractSequentialList", name := "iterator", desc := "()Ljava/util/Iterator;" } : Jvm.MethodName)) ∈ lw_tbl := lw_at lw_m4 34 rfl
theorem q864 : (Jvm.Cond.instanceMethod ({ cls := "java/util/AbstractSequentialList", name := "iterator", desc := "()Ljava/util/Iterator;" } : Jvm.MethodName)) ∈ lw_all := lw_g (lw_at lw_m4 36 rfl) rfl
theorem q865 : (Jvm.Cond.code ({ cls := "java/util/AbstractSequentialList", name := "iterator", desc := "()Ljava/util/Iterator;" } : Jvm.MethodName) prog_54_method_7_code (1 : Nat) (Option.some (Jvm.ClassFile.FieldType.object "java/util/Iterator"))) ∈ lw_all := lw_g (lw_at lw_m4 37 rfl) rfl
theorem q866 : (Jvm.Cond.methodLink "java/util/AbstractSequentialList" (65 : Nat) ({ cls := "java/util/AbstractSequentialList", name := "listIterator", desc := "()Ljava/util/ListIterator;" } : Jvm.MethodName)) ∈ lw_all := lw_g (lw_at lw_m4 38 rfl) rfl
theorem q867 : (Jvm.Cond.sameMethod "java/util/AbstractSequentialList" "java/util/AbstractList" "listIterator" "()Ljava/util/ListIterator;") ∈ lw_all := lw_g (lw_at lw_m4 39 rfl) rfl
def RJ5 : String := "java/util/LinkedList"
def TJ5 : u_T := fun k => match k with
  | 0 => ("java/util/AbstractList", "modCount", "I", false)
  | 1 => ("java/util/LinkedList", "size", "I", false)
  | 2 => ("java/util/LinkedList", "first", "Ljava/util/LinkedList$Node;", false)
  | _ => ("java/util/LinkedList", "last", "Ljava/util/LinkedList$Node;", false)
def tyJ5 : Nat → FieldType := fun k => match k with
  | 0 => .int
  | 1 => .int
  | 2 => .object "java/util/LinkedList$Node"
  | _ => .object "java/util/LinkedList$Node"
abbrev wsJ50 : List Cond := u_ws RJ5 TJ5 4
theorem nmJ5 : ∀ a, a < 4 → ∀ b, b < 4 → a ≠ b → (TJ5 a).2.1 ≠ (TJ5 b).2.1 := by decide +kernel
theorem tyJ5_ok : ∀ k, k < 4 → parseFieldDescriptor (TJ5 k).2.2.1 = some (tyJ5 k) := by decide +kernel
abbrev cJ5_init : ByteArray := prog_69_method_1_code
def yJ5_init : MethodName := ⟨RJ5, "<init>", "()V"⟩
abbrev cJ5_listIterator : ByteArray := prog_69_method_49_code
def yJ5_listIterator : MethodName := ⟨RJ5, "listIterator", "(I)Ljava/util/ListIterator;"⟩
abbrev cJ5_checkPositionIndex : ByteArray := prog_69_method_30_code
def yJ5_checkPositionIndex : MethodName := ⟨RJ5, "checkPositionIndex", "(I)V"⟩
abbrev cJ5_isPositionIndex : ByteArray := prog_69_method_27_code
def yJ5_isPositionIndex : MethodName := ⟨RJ5, "isPositionIndex", "(I)Z"⟩
abbrev cJ5_node : ByteArray := prog_69_method_31_code
def yJ5_node : MethodName := ⟨RJ5, "node", "(I)Ljava/util/LinkedList$Node;"⟩
abbrev cJ5_size : ByteArray := prog_69_method_16_code
def yJ5_size : MethodName := ⟨RJ5, "size", "()I"⟩
abbrev cJ5_get : ByteArray := prog_69_method_22_code
def yJ5_get : MethodName := ⟨RJ5, "get", "(I)Ljava/lang/Object;"⟩
abbrev cJ5_checkElementIndex : ByteArray := prog_69_method_29_code
def yJ5_checkElementIndex : MethodName := ⟨RJ5, "checkElementIndex", "(I)V"⟩
abbrev cJ5_isElementIndex : ByteArray := prog_69_method_26_code
def yJ5_isElementIndex : MethodName := ⟨RJ5, "isElementIndex", "(I)Z"⟩
abbrev cJ5_addLast : ByteArray := prog_69_method_14_code
def yJ5_addLast : MethodName := ⟨RJ5, "addLast", "(Ljava/lang/Object;)V"⟩
abbrev cJ5_linkLast : ByteArray := prog_69_method_4_code
def yJ5_linkLast : MethodName := ⟨RJ5, "linkLast", "(Ljava/lang/Object;)V"⟩
abbrev cJ5_removeFirst : ByteArray := prog_69_method_11_code
def yJ5_removeFirst : MethodName := ⟨RJ5, "removeFirst", "()Ljava/lang/Object;"⟩
abbrev cJ5_unlinkFirst : ByteArray := prog_69_method_6_code
def yJ5_unlinkFirst : MethodName := ⟨RJ5, "unlinkFirst", "(Ljava/util/LinkedList$Node;)Ljava/lang/Object;"⟩
abbrev cJ5_indexOf : ByteArray := prog_69_method_32_code
def yJ5_indexOf : MethodName := ⟨RJ5, "indexOf", "(Ljava/lang/Object;)I"⟩
theorem q116 : (Jvm.Cond.initialized "java/util/LinkedList") ∈ lw_all := lw_g (lw_at lw_m1 8 rfl) rfl
theorem q223 : (Jvm.Cond.sameField "java/util/LinkedList" "java/util/AbstractList" "modCount" "I") ∈ lw_all := lw_g (lw_at lw_m1 115 rfl) rfl
theorem q227 : (Jvm.Cond.fieldLink "java/util/LinkedList" (33 : Nat) "java/util/LinkedList" "modCount" "I") ∈ lw_all := lw_g (lw_at lw_m1 119 rfl) rfl
theorem q238 : (Jvm.Cond.instantiable "java/util/LinkedList" (4 : Nat)) ∈ lw_all := lw_g (lw_at lw_m1 130 rfl) rfl
theorem q240 : (Jvm.Cond.instanceMethod ({ cls := "java/util/LinkedList", name := "<init>", desc := "()V" } : Jvm.MethodName)) ∈ lw_all := lw_g (lw_at lw_m1 132 rfl) rfl
theorem q241 : (Jvm.Cond.code ({ cls := "java/util/LinkedList", name := "<init>", desc := "()V" } : Jvm.MethodName) prog_69_method_1_code (1 : Nat) (Option.none : Option Jvm.ClassFile.FieldType)) ∈ lw_all := lw_g (lw_at lw_m1 133 rfl) rfl
theorem q242 : (Jvm.Cond.methodLink "java/util/LinkedList" (1 : Nat) ({ cls := "java/util/AbstractSequentialList", name := "<init>", desc := "()V" } : Jvm.MethodName)) ∈ lw_all := lw_g (lw_at lw_m1 134 rfl) rfl
theorem q246 : (Jvm.Cond.fieldLink "java/util/LinkedList" (7 : Nat) "java/util/LinkedList" "size" "I") ∈ lw_all := lw_g (lw_at lw_m1 138 rfl) rfl
theorem q248 : (Jvm.Cond.fieldLink "java/util/LinkedList" (18 : Nat) "java/util/LinkedList" "first" "Ljava/util/LinkedList$Node;") ∈ lw_all := lw_g (lw_at lw_m1 140 rfl) rfl
theorem q249 : (Jvm.Cond.fieldLink "java/util/LinkedList" (27 : Nat) "java/util/LinkedList" "last" "Ljava/util/LinkedList$Node;") ∈ lw_all := lw_g (lw_at lw_m1 141 rfl) rfl
theorem q250 : (Jvm.Cond.lays "java/util/LinkedList" "java/util/LinkedList" "size" "I") ∈ lw_all := lw_g (lw_at lw_m1 142 rfl) rfl
theorem q251 : (Jvm.Cond.soleField "java/util/LinkedList" "size") ∈ lw_all := lw_g (lw_at lw_m1 143 rfl) rfl
theorem q252 : (Jvm.Cond.lays "java/util/LinkedList" "java/util/LinkedList" "first" "Ljava/util/LinkedList$Node;") ∈ lw_all := lw_g (lw_at lw_m1 144 rfl) rfl
theorem q253 : (Jvm.Cond.soleField "java/util/LinkedList" "first") ∈ lw_all := lw_g (lw_at lw_m1 145 rfl) rfl
theorem q254 : (Jvm.Cond.lays "java/util/LinkedList" "java/util/LinkedList" "last" "Ljava/util/LinkedList$Node;") ∈ lw_all := lw_g (lw_at lw_m1 146 rfl) rfl
theorem q255 : (Jvm.Cond.soleField "java/util/LinkedList" "last") ∈ lw_all := lw_g (lw_at lw_m1 147 rfl) rfl
theorem q256 : (Jvm.Cond.lays "java/util/LinkedList" "java/util/AbstractList" "modCount" "I") ∈ lw_all := lw_g (lw_at lw_m1 148 rfl) rfl
theorem q257 : (Jvm.Cond.superclass "java/util/LinkedList" "java/util/AbstractSequentialList") ∈ lw_all := lw_g (lw_at lw_m1 149 rfl) rfl
theorem q408 : (Jvm.Cond.selects "java/util/LinkedList" ({ cls := "java/lang/Object", name := "getClass", desc := "()Ljava/lang/Class;" } : Jvm.MethodName) ({ cls := "java/lang/Object", name := "getClass", desc := "()Ljava/lang/Class;" } : Jvm.MethodName)) ∈ lw_all := lw_g (lw_at lw_m2 60 rfl) rfl
theorem q861 : (Jvm.Cond.sameMethod "java/util/LinkedList" "java/util/AbstractSequentialList" "iterator" "()Ljava/util/Iterator;") ∈ lw_all := lw_g (lw_at lw_m4 33 rfl) rfl
theorem q863 : (Jvm.Cond.selects "java/util/LinkedList" ({ cls := "java/util/LinkedList", name := "iterator", desc := "()Ljava/util/Iterator;" } : Jvm.MethodName) ({ cls := "java/util/AbstractSequentialList", name := "iterator", desc := "()Ljava/util/Iterator;" } : Jvm.MethodName)) ∈ lw_all := lw_g (lw_at lw_m4 35 rfl) rfl
theorem q869 : (Jvm.Cond.selects "java/util/LinkedList" ({ cls := "java/util/AbstractSequentialList", name := "listIterator", desc := "()Ljava/util/ListIterator;" } : Jvm.MethodName) ({ cls := "java/util/AbstractList", name := "listIterator", desc := "()Ljava/util/ListIterator;" } : Jvm.MethodName)) ∈ lw_all := lw_g (lw_at lw_m4 41 rfl) rfl
theorem q909 : (Jvm.Cond.selects "java/util/LinkedList" ({ cls := "java/util/AbstractList", name := "listIterator", desc := "(I)Ljava/util/ListIterator;" } : Jvm.MethodName) ({ cls := "java/util/LinkedList", name := "listIterator", desc := "(I)Ljava/util/ListIterator;" } : Jvm.MethodName)) ∈ lw_all := lw_g (lw_at lw_m4 81 rfl) rfl
theorem q910 : (Jvm.Cond.instanceMethod ({ cls := "java/util/LinkedList", name := "listIterator", desc := "(I)Ljava/util/ListIterator;" } : Jvm.MethodName)) ∈ lw_all := lw_g (lw_at lw_m4 82 rfl) rfl
theorem q911 : (Jvm.Cond.code ({ cls := "java/util/LinkedList", name := "listIterator", desc := "(I)Ljava/util/ListIterator;" } : Jvm.MethodName) prog_69_method_49_code (2 : Nat) (Option.some (Jvm.ClassFile.FieldType.object "java/util/ListIterator"))) ∈ lw_all := lw_g (lw_at lw_m4 83 rfl) rfl
theorem q912 : (Jvm.Cond.methodLink "java/util/LinkedList" (76 : Nat) ({ cls := "java/util/LinkedList", name := "checkPositionIndex", desc := "(I)V" } : Jvm.MethodName)) ∈ lw_all := lw_g (lw_at lw_m4 84 rfl) rfl
theorem q913 : (Jvm.Cond.privateMethod ({ cls := "java/util/LinkedList", name := "checkPositionIndex", desc := "(I)V" } : Jvm.MethodName)) ∈ lw_tbl := lw_at lw_m4 85 rfl
theorem q914 : (Jvm.Cond.instanceMethod ({ cls := "java/util/LinkedList", name := "checkPositionIndex", desc := "(I)V" } : Jvm.MethodName)) ∈ lw_all := lw_g (lw_at lw_m4 86 rfl) rfl
theorem q915 : (Jvm.Cond.code ({ cls := "java/util/LinkedList", name := "checkPositionIndex", desc := "(I)V" } : Jvm.MethodName) prog_69_method_30_code (2 : Nat) (Option.none : Option Jvm.ClassFile.FieldType)) ∈ lw_all := lw_g (lw_at lw_m4 87 rfl) rfl
theorem q916 : (Jvm.Cond.methodLink "java/util/LinkedList" (128 : Nat) ({ cls := "java/util/LinkedList", name := "isPositionIndex", desc := "(I)Z" } : Jvm.MethodName)) ∈ lw_all := lw_g (lw_at lw_m4 88 rfl) rfl
theorem q917 : (Jvm.Cond.privateMethod ({ cls := "java/util/LinkedList", name := "isPositionIndex", desc := "(I)Z" } : Jvm.MethodName)) ∈ lw_tbl := lw_at lw_m4 89 rfl
theorem q918 : (Jvm.Cond.instanceMethod ({ cls := "java/util/LinkedList", name := "isPositionIndex", desc := "(I)Z" } : Jvm.MethodName)) ∈ lw_all := lw_g (lw_at lw_m4 90 rfl) rfl
theorem q919 : (Jvm.Cond.code ({ cls := "java/util/LinkedList", name := "isPositionIndex", desc := "(I)Z" } : Jvm.MethodName) prog_69_method_27_code (2 : Nat) (Option.some Jvm.ClassFile.FieldType.boolean)) ∈ lw_all := lw_g (lw_at lw_m4 91 rfl) rfl
theorem q920 : (Jvm.Cond.classLink "java/util/LinkedList" (150 : Nat) "java/util/LinkedList$ListItr") ∈ lw_all := lw_g (lw_at lw_m4 92 rfl) rfl
theorem q922 : (Jvm.Cond.methodLink "java/util/LinkedList" (152 : Nat) ({ cls := "java/util/LinkedList$ListItr", name := "<init>", desc := "(Ljava/util/LinkedList;I)V" } : Jvm.MethodName)) ∈ lw_all := lw_g (lw_at lw_m4 94 rfl) rfl
theorem q927 : (Jvm.Cond.instanceMethod ({ cls := "java/util/LinkedList", name := "node", desc := "(I)Ljava/util/LinkedList$Node;" } : Jvm.MethodName)) ∈ lw_all := lw_g (lw_at lw_m4 99 rfl) rfl
theorem q928 : (Jvm.Cond.selects "java/util/LinkedList" ({ cls := "java/util/LinkedList", name := "node", desc := "(I)Ljava/util/LinkedList$Node;" } : Jvm.MethodName) ({ cls := "java/util/LinkedList", name := "node", desc := "(I)Ljava/util/LinkedList$Node;" } : Jvm.MethodName)) ∈ lw_all := lw_g (lw_at lw_m4 100 rfl) rfl
theorem q929 : (Jvm.Cond.code ({ cls := "java/util/LinkedList", name := "node", desc := "(I)Ljava/util/LinkedList$Node;" } : Jvm.MethodName) prog_69_method_31_code (4 : Nat) (Option.some (Jvm.ClassFile.FieldType.object "java/util/LinkedList$Node"))) ∈ lw_all := lw_g (lw_at lw_m4 101 rfl) rfl
theorem q961 : (Jvm.Cond.selects "java/util/LinkedList" ({ cls := "java/util/AbstractList", name := "size", desc := "()I" } : Jvm.MethodName) ({ cls := "java/util/LinkedList", name := "size", desc := "()I" } : Jvm.MethodName)) ∈ lw_all := lw_g (lw_at lw_m4 133 rfl) rfl
theorem q962 : (Jvm.Cond.instanceMethod ({ cls := "java/util/LinkedList", name := "size", desc := "()I" } : Jvm.MethodName)) ∈ lw_all := lw_g (lw_at lw_m4 134 rfl) rfl
theorem q963 : (Jvm.Cond.code ({ cls := "java/util/LinkedList", name := "size", desc := "()I" } : Jvm.MethodName) prog_69_method_16_code (1 : Nat) (Option.some Jvm.ClassFile.FieldType.int)) ∈ lw_all := lw_g (lw_at lw_m4 135 rfl) rfl
theorem q994 : (Jvm.Cond.selects "java/util/LinkedList" ({ cls := "java/util/AbstractList", name := "get", desc := "(I)Ljava/lang/Object;" } : Jvm.MethodName) ({ cls := "java/util/LinkedList", name := "get", desc := "(I)Ljava/lang/Object;" } : Jvm.MethodName)) ∈ lw_all := lw_g (lw_at lw_m4 166 rfl) rfl
theorem q995 : (Jvm.Cond.instanceMethod ({ cls := "java/util/LinkedList", name := "get", desc := "(I)Ljava/lang/Object;" } : Jvm.MethodName)) ∈ lw_all := lw_g (lw_at lw_m4 167 rfl) rfl
theorem q996 : (Jvm.Cond.code ({ cls := "java/util/LinkedList", name := "get", desc := "(I)Ljava/lang/Object;" } : Jvm.MethodName) prog_69_method_22_code (2 : Nat) (Option.some (Jvm.ClassFile.FieldType.object "java/lang/Object"))) ∈ lw_all := lw_g (lw_at lw_m4 168 rfl) rfl
theorem q997 : (Jvm.Cond.methodLink "java/util/LinkedList" (90 : Nat) ({ cls := "java/util/LinkedList", name := "checkElementIndex", desc := "(I)V" } : Jvm.MethodName)) ∈ lw_all := lw_g (lw_at lw_m4 169 rfl) rfl
theorem q998 : (Jvm.Cond.privateMethod ({ cls := "java/util/LinkedList", name := "checkElementIndex", desc := "(I)V" } : Jvm.MethodName)) ∈ lw_tbl := lw_at lw_m4 170 rfl
theorem q999 : (Jvm.Cond.instanceMethod ({ cls := "java/util/LinkedList", name := "checkElementIndex", desc := "(I)V" } : Jvm.MethodName)) ∈ lw_all := lw_g (lw_at lw_m4 171 rfl) rfl
theorem q1000 : (Jvm.Cond.code ({ cls := "java/util/LinkedList", name := "checkElementIndex", desc := "(I)V" } : Jvm.MethodName) prog_69_method_29_code (2 : Nat) (Option.none : Option Jvm.ClassFile.FieldType)) ∈ lw_all := lw_g (lw_at lw_m4 172 rfl) rfl
theorem q1001 : (Jvm.Cond.methodLink "java/util/LinkedList" (115 : Nat) ({ cls := "java/util/LinkedList", name := "isElementIndex", desc := "(I)Z" } : Jvm.MethodName)) ∈ lw_all := lw_g (lw_at lw_m4 173 rfl) rfl
theorem q1002 : (Jvm.Cond.privateMethod ({ cls := "java/util/LinkedList", name := "isElementIndex", desc := "(I)Z" } : Jvm.MethodName)) ∈ lw_tbl := lw_at lw_m4 174 rfl
theorem q1003 : (Jvm.Cond.instanceMethod ({ cls := "java/util/LinkedList", name := "isElementIndex", desc := "(I)Z" } : Jvm.MethodName)) ∈ lw_all := lw_g (lw_at lw_m4 175 rfl) rfl
theorem q1004 : (Jvm.Cond.code ({ cls := "java/util/LinkedList", name := "isElementIndex", desc := "(I)Z" } : Jvm.MethodName) prog_69_method_26_code (2 : Nat) (Option.some Jvm.ClassFile.FieldType.boolean)) ∈ lw_all := lw_g (lw_at lw_m4 176 rfl) rfl
theorem q1005 : (Jvm.Cond.methodLink "java/util/LinkedList" (86 : Nat) ({ cls := "java/util/LinkedList", name := "node", desc := "(I)Ljava/util/LinkedList$Node;" } : Jvm.MethodName)) ∈ lw_all := lw_g (lw_at lw_m4 177 rfl) rfl
theorem q1318 : (Jvm.Cond.instanceMethod ({ cls := "java/util/LinkedList", name := "addLast", desc := "(Ljava/lang/Object;)V" } : Jvm.MethodName)) ∈ lw_all := lw_g (lw_at lw_m6 10 rfl) rfl
theorem q1319 : (Jvm.Cond.selects "java/util/LinkedList" ({ cls := "java/util/LinkedList", name := "addLast", desc := "(Ljava/lang/Object;)V" } : Jvm.MethodName) ({ cls := "java/util/LinkedList", name := "addLast", desc := "(Ljava/lang/Object;)V" } : Jvm.MethodName)) ∈ lw_all := lw_g (lw_at lw_m6 11 rfl) rfl
theorem q1320 : (Jvm.Cond.code ({ cls := "java/util/LinkedList", name := "addLast", desc := "(Ljava/lang/Object;)V" } : Jvm.MethodName) prog_69_method_14_code (2 : Nat) (Option.none : Option Jvm.ClassFile.FieldType)) ∈ lw_all := lw_g (lw_at lw_m6 12 rfl) rfl
theorem q1321 : (Jvm.Cond.methodLink "java/util/LinkedList" (57 : Nat) ({ cls := "java/util/LinkedList", name := "linkLast", desc := "(Ljava/lang/Object;)V" } : Jvm.MethodName)) ∈ lw_all := lw_g (lw_at lw_m6 13 rfl) rfl
theorem q1322 : (Jvm.Cond.instanceMethod ({ cls := "java/util/LinkedList", name := "linkLast", desc := "(Ljava/lang/Object;)V" } : Jvm.MethodName)) ∈ lw_all := lw_g (lw_at lw_m6 14 rfl) rfl
theorem q1323 : (Jvm.Cond.selects "java/util/LinkedList" ({ cls := "java/util/LinkedList", name := "linkLast", desc := "(Ljava/lang/Object;)V" } : Jvm.MethodName) ({ cls := "java/util/LinkedList", name := "linkLast", desc := "(Ljava/lang/Object;)V" } : Jvm.MethodName)) ∈ lw_all := lw_g (lw_at lw_m6 15 rfl) rfl
theorem q1324 : (Jvm.Cond.code ({ cls := "java/util/LinkedList", name := "linkLast", desc := "(Ljava/lang/Object;)V" } : Jvm.MethodName) prog_69_method_4_code (4 : Nat) (Option.none : Option Jvm.ClassFile.FieldType)) ∈ lw_all := lw_g (lw_at lw_m6 16 rfl) rfl
theorem q1325 : (Jvm.Cond.classLink "java/util/LinkedList" (22 : Nat) "java/util/LinkedList$Node") ∈ lw_all := lw_g (lw_at lw_m6 17 rfl) rfl
theorem q1327 : (Jvm.Cond.methodLink "java/util/LinkedList" (24 : Nat) ({ cls := "java/util/LinkedList$Node", name := "<init>", desc := "(Ljava/util/LinkedList$Node;Ljava/lang/Object;Ljava/util/LinkedList$Node;)V" } : Jvm.MethodName)) ∈ lw_all := lw_g (lw_at lw_m6 19 rfl) rfl
theorem q1333 : (Jvm.Cond.fieldLink "java/util/LinkedList" (39 : Nat) "java/util/LinkedList$Node" "item" "Ljava/lang/Object;") ∈ lw_all := lw_g (lw_at lw_m6 25 rfl) rfl
theorem q1336 : (Jvm.Cond.fieldLink "java/util/LinkedList" (36 : Nat) "java/util/LinkedList$Node" "next" "Ljava/util/LinkedList$Node;") ∈ lw_all := lw_g (lw_at lw_m6 28 rfl) rfl
theorem q1338 : (Jvm.Cond.fieldLink "java/util/LinkedList" (30 : Nat) "java/util/LinkedList$Node" "prev" "Ljava/util/LinkedList$Node;") ∈ lw_all := lw_g (lw_at lw_m6 30 rfl) rfl
theorem q2078 : (Jvm.Cond.instanceMethod ({ cls := "java/util/LinkedList", name := "removeFirst", desc := "()Ljava/lang/Object;" } : Jvm.MethodName)) ∈ lw_all := lw_g (lw_at lw_m9 50 rfl) rfl
theorem q2079 : (Jvm.Cond.selects "java/util/LinkedList" ({ cls := "java/util/LinkedList", name := "removeFirst", desc := "()Ljava/lang/Object;" } : Jvm.MethodName) ({ cls := "java/util/LinkedList", name := "removeFirst", desc := "()Ljava/lang/Object;" } : Jvm.MethodName)) ∈ lw_all := lw_g (lw_at lw_m9 51 rfl) rfl
theorem q2080 : (Jvm.Cond.code ({ cls := "java/util/LinkedList", name := "removeFirst", desc := "()Ljava/lang/Object;" } : Jvm.MethodName) prog_69_method_11_code (2 : Nat) (Option.some (Jvm.ClassFile.FieldType.object "java/lang/Object"))) ∈ lw_all := lw_g (lw_at lw_m9 52 rfl) rfl
theorem q2081 : (Jvm.Cond.classLink "java/util/LinkedList" (43 : Nat) "java/util/NoSuchElementException") ∈ lw_all := lw_g (lw_at lw_m9 53 rfl) rfl
theorem q2082 : (Jvm.Cond.methodLink "java/util/LinkedList" (45 : Nat) ({ cls := "java/util/NoSuchElementException", name := "<init>", desc := "()V" } : Jvm.MethodName)) ∈ lw_all := lw_g (lw_at lw_m9 54 rfl) rfl
theorem q2083 : (Jvm.Cond.methodLink "java/util/LinkedList" (46 : Nat) ({ cls := "java/util/LinkedList", name := "unlinkFirst", desc := "(Ljava/util/LinkedList$Node;)Ljava/lang/Object;" } : Jvm.MethodName)) ∈ lw_all := lw_g (lw_at lw_m9 55 rfl) rfl
theorem q2084 : (Jvm.Cond.privateMethod ({ cls := "java/util/LinkedList", name := "unlinkFirst", desc := "(Ljava/util/LinkedList$Node;)Ljava/lang/Object;" } : Jvm.MethodName)) ∈ lw_tbl := lw_at lw_m9 56 rfl
theorem q2085 : (Jvm.Cond.instanceMethod ({ cls := "java/util/LinkedList", name := "unlinkFirst", desc := "(Ljava/util/LinkedList$Node;)Ljava/lang/Object;" } : Jvm.MethodName)) ∈ lw_all := lw_g (lw_at lw_m9 57 rfl) rfl
theorem q2086 : (Jvm.Cond.code ({ cls := "java/util/LinkedList", name := "unlinkFirst", desc := "(Ljava/util/LinkedList$Node;)Ljava/lang/Object;" } : Jvm.MethodName) prog_69_method_6_code (4 : Nat) (Option.some (Jvm.ClassFile.FieldType.object "java/lang/Object"))) ∈ lw_all := lw_g (lw_at lw_m9 58 rfl) rfl
theorem q2362 : (Jvm.Cond.castable "java/util/LinkedList" "java/util/List") ∈ lw_tbl := lw_at lw_m10 94 rfl
theorem q2363 : (Jvm.Cond.selects "java/util/LinkedList" ({ cls := "java/util/List", name := "indexOf", desc := "(Ljava/lang/Object;)I" } : Jvm.MethodName) ({ cls := "java/util/LinkedList", name := "indexOf", desc := "(Ljava/lang/Object;)I" } : Jvm.MethodName)) ∈ lw_all := lw_g (lw_at lw_m10 95 rfl) rfl
theorem q2364 : (Jvm.Cond.unhidden "java/util/LinkedList" "indexOf" "(Ljava/lang/Object;)I") ∈ lw_tbl := lw_at lw_m10 96 rfl
theorem q2365 : (Jvm.Cond.instanceMethod ({ cls := "java/util/LinkedList", name := "indexOf", desc := "(Ljava/lang/Object;)I" } : Jvm.MethodName)) ∈ lw_all := lw_g (lw_at lw_m10 97 rfl) rfl
theorem q2366 : (Jvm.Cond.publicMethod ({ cls := "java/util/LinkedList", name := "indexOf", desc := "(Ljava/lang/Object;)I" } : Jvm.MethodName)) ∈ lw_tbl := lw_at lw_m10 98 rfl
theorem q2367 : (Jvm.Cond.code ({ cls := "java/util/LinkedList", name := "indexOf", desc := "(Ljava/lang/Object;)I" } : Jvm.MethodName) prog_69_method_32_code (4 : Nat) (Option.some Jvm.ClassFile.FieldType.int)) ∈ lw_all := lw_g (lw_at lw_m10 99 rfl) rfl
theorem q2368 : (Jvm.Cond.methodLink "java/util/LinkedList" (67 : Nat) ({ cls := "java/lang/Object", name := "equals", desc := "(Ljava/lang/Object;)Z" } : Jvm.MethodName)) ∈ lw_all := lw_g (lw_at lw_m10 100 rfl) rfl
theorem q3022 : (Jvm.Cond.selects "java/util/LinkedList" ({ cls := "java/util/LinkedList", name := "size", desc := "()I" } : Jvm.MethodName) ({ cls := "java/util/LinkedList", name := "size", desc := "()I" } : Jvm.MethodName)) ∈ lw_all := lw_g (lw_at lw_m13 34 rfl) rfl
theorem q3023 : (Jvm.Cond.selects "java/util/LinkedList" ({ cls := "java/util/LinkedList", name := "get", desc := "(I)Ljava/lang/Object;" } : Jvm.MethodName) ({ cls := "java/util/LinkedList", name := "get", desc := "(I)Ljava/lang/Object;" } : Jvm.MethodName)) ∈ lw_all := lw_g (lw_at lw_m13 35 rfl) rfl
theorem q3038 : (Jvm.Cond.castable "java/util/LinkedList" "java/lang/Object") ∈ lw_tbl := lw_at lw_m13 50 rfl
theorem in_J5 : ∀ w ∈ wsJ50, w ∈ lw_all := lw_in wsJ50 [256, 250, 252, 254] (by decide +kernel) (by decide +kernel)
def RX3 : String := "KeyTurns$Version"
abbrev cX3_init : ByteArray := prog_20_method_1_code
def yX3_init : MethodName := ⟨RX3, "<init>", "(III)V"⟩
abbrev cX3_isInForce : ByteArray := prog_20_method_3_code
def yX3_isInForce : MethodName := ⟨RX3, "isInForce", "(I)Z"⟩
abbrev cX3_spans : ByteArray := prog_20_method_2_code
def yX3_spans : MethodName := ⟨RX3, "spans", "(I)Z"⟩
abbrev cX3_hasEnded : ByteArray := prog_20_method_4_code
def yX3_hasEnded : MethodName := ⟨RX3, "hasEnded", "(I)Z"⟩
theorem q117 : (Jvm.Cond.initialized "KeyTurns$Version") ∈ lw_all := lw_g (lw_at lw_m1 9 rfl) rfl
theorem q319 : (Jvm.Cond.instanceMethod ({ cls := "KeyTurns$Version", name := "<init>", desc := "(III)V" } : Jvm.MethodName)) ∈ lw_all := lw_g (lw_at lw_m1 211 rfl) rfl
theorem q320 : (Jvm.Cond.code ({ cls := "KeyTurns$Version", name := "<init>", desc := "(III)V" } : Jvm.MethodName) prog_20_method_1_code (4 : Nat) (Option.none : Option Jvm.ClassFile.FieldType)) ∈ lw_all := lw_g (lw_at lw_m1 212 rfl) rfl
theorem q321 : (Jvm.Cond.methodLink "KeyTurns$Version" (1 : Nat) ({ cls := "java/lang/Object", name := "<init>", desc := "()V" } : Jvm.MethodName)) ∈ lw_all := lw_g (lw_at lw_m1 213 rfl) rfl
theorem q323 : (Jvm.Cond.fieldLink "KeyTurns$Version" (7 : Nat) "KeyTurns$Version" "number" "I") ∈ lw_all := lw_g (lw_at lw_m1 215 rfl) rfl
theorem q328 : (Jvm.Cond.fieldLink "KeyTurns$Version" (13 : Nat) "KeyTurns$Version" "first" "I") ∈ lw_all := lw_g (lw_at lw_m1 220 rfl) rfl
theorem q337 : (Jvm.Cond.fieldLink "KeyTurns$Version" (16 : Nat) "KeyTurns$Version" "last" "I") ∈ lw_all := lw_g (lw_at lw_m1 229 rfl) rfl
theorem q341 : (Jvm.Cond.soleField "KeyTurns$Version" "number") ∈ lw_all := lw_g (lw_at lw_m1 233 rfl) rfl
theorem q343 : (Jvm.Cond.soleField "KeyTurns$Version" "first") ∈ lw_all := lw_g (lw_at lw_m1 235 rfl) rfl
theorem q345 : (Jvm.Cond.soleField "KeyTurns$Version" "last") ∈ lw_all := lw_g (lw_at lw_m1 237 rfl) rfl
theorem q497 : (Jvm.Cond.instanceMethod ({ cls := "KeyTurns$Version", name := "isInForce", desc := "(I)Z" } : Jvm.MethodName)) ∈ lw_all := lw_g (lw_at lw_m2 149 rfl) rfl
theorem q498 : (Jvm.Cond.sameMethod "KeyTurns$Version" "KeyTurns$Version" "isInForce" "(I)Z") ∈ lw_all := lw_g (lw_at lw_m2 150 rfl) rfl
theorem q501 : (Jvm.Cond.code ({ cls := "KeyTurns$Version", name := "isInForce", desc := "(I)Z" } : Jvm.MethodName) prog_20_method_3_code (2 : Nat) (Option.some Jvm.ClassFile.FieldType.boolean)) ∈ lw_all := lw_g (lw_at lw_m2 153 rfl) rfl
theorem q502 : (Jvm.Cond.classLink "KeyTurns$Version" (25 : Nat) "KeyTurns$Issued") ∈ lw_all := lw_g (lw_at lw_m2 154 rfl) rfl
theorem q503 : (Jvm.Cond.methodLink "KeyTurns$Version" (27 : Nat) ({ cls := "KeyTurns$Version", name := "spans", desc := "(I)Z" } : Jvm.MethodName)) ∈ lw_all := lw_g (lw_at lw_m2 155 rfl) rfl
theorem q504 : (Jvm.Cond.instanceMethod ({ cls := "KeyTurns$Version", name := "spans", desc := "(I)Z" } : Jvm.MethodName)) ∈ lw_all := lw_g (lw_at lw_m2 156 rfl) rfl
theorem q505 : (Jvm.Cond.sameMethod "KeyTurns$Version" "KeyTurns$Version" "spans" "(I)Z") ∈ lw_all := lw_g (lw_at lw_m2 157 rfl) rfl
theorem q508 : (Jvm.Cond.code ({ cls := "KeyTurns$Version", name := "spans", desc := "(I)Z" } : Jvm.MethodName) prog_20_method_2_code (2 : Nat) (Option.some Jvm.ClassFile.FieldType.boolean)) ∈ lw_all := lw_g (lw_at lw_m2 160 rfl) rfl
theorem q509 : (Jvm.Cond.methodLinkNest "KeyTurns$Version" (19 : Nat) ({ cls := "KeyTurns", name := "isIn", desc := "(JJJ)Z" } : Jvm.MethodName) "KeyTurns") ∈ lw_tbl := lw_at lw_m2 161 rfl
theorem q1386 : (Jvm.Cond.instanceMethod ({ cls := "KeyTurns$Version", name := "hasEnded", desc := "(I)Z" } : Jvm.MethodName)) ∈ lw_all := lw_g (lw_at lw_m6 78 rfl) rfl
theorem q1387 : (Jvm.Cond.sameMethod "KeyTurns$Version" "KeyTurns$Version" "hasEnded" "(I)Z") ∈ lw_all := lw_g (lw_at lw_m6 79 rfl) rfl
theorem q1390 : (Jvm.Cond.code ({ cls := "KeyTurns$Version", name := "hasEnded", desc := "(I)Z" } : Jvm.MethodName) prog_20_method_4_code (2 : Nat) (Option.some Jvm.ClassFile.FieldType.boolean)) ∈ lw_all := lw_g (lw_at lw_m6 82 rfl) rfl
def RX4 : String := "KeyTurns$Issued"
def TX4 : u_T := fun k => match k with
  | 0 => ("KeyTurns$Version", "number", "I", true)
  | 1 => ("KeyTurns$Version", "first", "I", true)
  | _ => ("KeyTurns$Version", "last", "I", true)
def tyX4 : Nat → FieldType := fun k => match k with
  | 0 => .int
  | 1 => .int
  | _ => .int
abbrev wsX40 : List Cond := u_ws RX4 TX4 3
theorem nmX4 : ∀ a, a < 3 → ∀ b, b < 3 → a ≠ b → (TX4 a).2.1 ≠ (TX4 b).2.1 := by decide +kernel
theorem tyX4_ok : ∀ k, k < 3 → parseFieldDescriptor (TX4 k).2.2.1 = some (tyX4 k) := by decide +kernel
abbrev cX4_init : ByteArray := prog_4_method_1_code
def yX4_init : MethodName := ⟨RX4, "<init>", "(III)V"⟩
abbrev cX4_endingAt : ByteArray := prog_4_method_2_code
def yX4_endingAt : MethodName := ⟨RX4, "endingAt", "(I)LKeyTurns$Issued;"⟩
abbrev cX4_withdrawn : ByteArray := prog_4_method_3_code
def yX4_withdrawn : MethodName := ⟨RX4, "withdrawn", "(I)LKeyTurns$Withdrawn;"⟩
theorem q118 : (Jvm.Cond.initialized "KeyTurns$Issued") ∈ lw_all := lw_g (lw_at lw_m1 10 rfl) rfl
theorem q314 : (Jvm.Cond.instantiable "KeyTurns$Issued" (3 : Nat)) ∈ lw_all := lw_g (lw_at lw_m1 206 rfl) rfl
theorem q316 : (Jvm.Cond.instanceMethod ({ cls := "KeyTurns$Issued", name := "<init>", desc := "(III)V" } : Jvm.MethodName)) ∈ lw_all := lw_g (lw_at lw_m1 208 rfl) rfl
theorem q317 : (Jvm.Cond.code ({ cls := "KeyTurns$Issued", name := "<init>", desc := "(III)V" } : Jvm.MethodName) prog_4_method_1_code (4 : Nat) (Option.none : Option Jvm.ClassFile.FieldType)) ∈ lw_all := lw_g (lw_at lw_m1 209 rfl) rfl
theorem q318 : (Jvm.Cond.methodLink "KeyTurns$Issued" (1 : Nat) ({ cls := "KeyTurns$Version", name := "<init>", desc := "(III)V" } : Jvm.MethodName)) ∈ lw_all := lw_g (lw_at lw_m1 210 rfl) rfl
theorem q324 : (Jvm.Cond.fieldLink "KeyTurns$Issued" (9 : Nat) "KeyTurns$Issued" "number" "I") ∈ lw_all := lw_g (lw_at lw_m1 216 rfl) rfl
theorem q325 : (Jvm.Cond.sameField "KeyTurns$Issued" "KeyTurns$Version" "number" "I") ∈ lw_all := lw_g (lw_at lw_m1 217 rfl) rfl
theorem q330 : (Jvm.Cond.fieldLink "KeyTurns$Issued" (13 : Nat) "KeyTurns$Issued" "first" "I") ∈ lw_all := lw_g (lw_at lw_m1 222 rfl) rfl
theorem q331 : (Jvm.Cond.sameField "KeyTurns$Issued" "KeyTurns$Version" "first" "I") ∈ lw_all := lw_g (lw_at lw_m1 223 rfl) rfl
theorem q340 : (Jvm.Cond.laysFinal "KeyTurns$Issued" "KeyTurns$Version" "number" "I") ∈ lw_all := lw_g (lw_at lw_m1 232 rfl) rfl
theorem q342 : (Jvm.Cond.laysFinal "KeyTurns$Issued" "KeyTurns$Version" "first" "I") ∈ lw_all := lw_g (lw_at lw_m1 234 rfl) rfl
theorem q344 : (Jvm.Cond.laysFinal "KeyTurns$Issued" "KeyTurns$Version" "last" "I") ∈ lw_all := lw_g (lw_at lw_m1 236 rfl) rfl
theorem q346 : (Jvm.Cond.superclass "KeyTurns$Issued" "KeyTurns$Version") ∈ lw_all := lw_g (lw_at lw_m1 238 rfl) rfl
theorem q382 : (Jvm.Cond.selects "KeyTurns$Issued" ({ cls := "java/lang/Object", name := "getClass", desc := "()Ljava/lang/Class;" } : Jvm.MethodName) ({ cls := "java/lang/Object", name := "getClass", desc := "()Ljava/lang/Class;" } : Jvm.MethodName)) ∈ lw_all := lw_g (lw_at lw_m2 34 rfl) rfl
theorem q499 : (Jvm.Cond.selects "KeyTurns$Issued" ({ cls := "KeyTurns$Version", name := "isInForce", desc := "(I)Z" } : Jvm.MethodName) ({ cls := "KeyTurns$Version", name := "isInForce", desc := "(I)Z" } : Jvm.MethodName)) ∈ lw_all := lw_g (lw_at lw_m2 151 rfl) rfl
theorem q506 : (Jvm.Cond.selects "KeyTurns$Issued" ({ cls := "KeyTurns$Version", name := "spans", desc := "(I)Z" } : Jvm.MethodName) ({ cls := "KeyTurns$Version", name := "spans", desc := "(I)Z" } : Jvm.MethodName)) ∈ lw_all := lw_g (lw_at lw_m2 158 rfl) rfl
theorem q1352 : (Jvm.Cond.instanceMethod ({ cls := "KeyTurns$Issued", name := "endingAt", desc := "(I)LKeyTurns$Issued;" } : Jvm.MethodName)) ∈ lw_all := lw_g (lw_at lw_m6 44 rfl) rfl
theorem q1353 : (Jvm.Cond.selects "KeyTurns$Issued" ({ cls := "KeyTurns$Issued", name := "endingAt", desc := "(I)LKeyTurns$Issued;" } : Jvm.MethodName) ({ cls := "KeyTurns$Issued", name := "endingAt", desc := "(I)LKeyTurns$Issued;" } : Jvm.MethodName)) ∈ lw_all := lw_g (lw_at lw_m6 45 rfl) rfl
theorem q1354 : (Jvm.Cond.code ({ cls := "KeyTurns$Issued", name := "endingAt", desc := "(I)LKeyTurns$Issued;" } : Jvm.MethodName) prog_4_method_2_code (2 : Nat) (Option.some (Jvm.ClassFile.FieldType.object "KeyTurns$Issued"))) ∈ lw_all := lw_g (lw_at lw_m6 46 rfl) rfl
theorem q1355 : (Jvm.Cond.classLink "KeyTurns$Issued" (7 : Nat) "KeyTurns$Issued") ∈ lw_all := lw_g (lw_at lw_m6 47 rfl) rfl
theorem q1356 : (Jvm.Cond.methodLink "KeyTurns$Issued" (16 : Nat) ({ cls := "KeyTurns$Issued", name := "<init>", desc := "(III)V" } : Jvm.MethodName)) ∈ lw_all := lw_g (lw_at lw_m6 48 rfl) rfl
theorem q1388 : (Jvm.Cond.selects "KeyTurns$Issued" ({ cls := "KeyTurns$Version", name := "hasEnded", desc := "(I)Z" } : Jvm.MethodName) ({ cls := "KeyTurns$Version", name := "hasEnded", desc := "(I)Z" } : Jvm.MethodName)) ∈ lw_all := lw_g (lw_at lw_m6 80 rfl) rfl
theorem q2056 : (Jvm.Cond.instanceMethod ({ cls := "KeyTurns$Issued", name := "withdrawn", desc := "(I)LKeyTurns$Withdrawn;" } : Jvm.MethodName)) ∈ lw_all := lw_g (lw_at lw_m9 28 rfl) rfl
theorem q2057 : (Jvm.Cond.selects "KeyTurns$Issued" ({ cls := "KeyTurns$Issued", name := "withdrawn", desc := "(I)LKeyTurns$Withdrawn;" } : Jvm.MethodName) ({ cls := "KeyTurns$Issued", name := "withdrawn", desc := "(I)LKeyTurns$Withdrawn;" } : Jvm.MethodName)) ∈ lw_all := lw_g (lw_at lw_m9 29 rfl) rfl
theorem q2058 : (Jvm.Cond.code ({ cls := "KeyTurns$Issued", name := "withdrawn", desc := "(I)LKeyTurns$Withdrawn;" } : Jvm.MethodName) prog_4_method_3_code (2 : Nat) (Option.some (Jvm.ClassFile.FieldType.object "KeyTurns$Withdrawn"))) ∈ lw_all := lw_g (lw_at lw_m9 30 rfl) rfl
theorem q2059 : (Jvm.Cond.classLink "KeyTurns$Issued" (17 : Nat) "KeyTurns$Withdrawn") ∈ lw_all := lw_g (lw_at lw_m9 31 rfl) rfl
theorem q2060 : (Jvm.Cond.methodLink "KeyTurns$Issued" (19 : Nat) ({ cls := "KeyTurns$Withdrawn", name := "<init>", desc := "(LKeyTurns$Version;I)V" } : Jvm.MethodName)) ∈ lw_all := lw_g (lw_at lw_m9 32 rfl) rfl
theorem q2323 : (Jvm.Cond.selects "KeyTurns$Issued" ({ cls := "java/lang/Object", name := "equals", desc := "(Ljava/lang/Object;)Z" } : Jvm.MethodName) ({ cls := "java/lang/Object", name := "equals", desc := "(Ljava/lang/Object;)Z" } : Jvm.MethodName)) ∈ lw_all := lw_g (lw_at lw_m10 55 rfl) rfl
theorem q3026 : (Jvm.Cond.castable "KeyTurns$Issued" "KeyTurns$Version") ∈ lw_tbl := lw_at lw_m13 38 rfl
theorem q3039 : (Jvm.Cond.castable "KeyTurns$Issued" "java/lang/Object") ∈ lw_tbl := lw_at lw_m13 51 rfl
theorem in_X4 : ∀ w ∈ wsX40, w ∈ lw_all := lw_in wsX40 [340, 342, 344] (by decide +kernel) (by decide +kernel)
def RJ6 : String := "jdk/internal/util/ArraysSupport"
abbrev cJ6_newLength : ByteArray := prog_80_method_27_code
def yJ6_newLength : MethodName := ⟨RJ6, "newLength", "(III)I"⟩
abbrev cJ6_hugeLength : ByteArray := prog_80_method_28_code
def yJ6_hugeLength : MethodName := ⟨RJ6, "hugeLength", "(II)I"⟩
abbrev cJ6_vectorizedHashCode : ByteArray := prog_80_method_4_code
def yJ6_vectorizedHashCode : MethodName := ⟨RJ6, "vectorizedHashCode", "(Ljava/lang/Object;IIII)I"⟩
abbrev cJ6_signedHashCode : ByteArray := prog_80_method_5_code
def yJ6_signedHashCode : MethodName := ⟨RJ6, "signedHashCode", "(I[BII)I"⟩
abbrev cJ6_utf16hashCode : ByteArray := prog_80_method_10_code
def yJ6_utf16hashCode : MethodName := ⟨RJ6, "utf16hashCode", "(I[BII)I"⟩
abbrev cJ6_hashCode : ByteArray := prog_80_method_7_code
def yJ6_hashCode : MethodName := ⟨RJ6, "hashCode", "(I[CII)I"⟩
abbrev cJ6_hashCode_2 : ByteArray := prog_80_method_6_code
def yJ6_hashCode_2 : MethodName := ⟨RJ6, "hashCode", "(I[BII)I"⟩
abbrev cJ6_hashCode_3 : ByteArray := prog_80_method_8_code
def yJ6_hashCode_3 : MethodName := ⟨RJ6, "hashCode", "(I[SII)I"⟩
abbrev cJ6_hashCode_4 : ByteArray := prog_80_method_9_code
def yJ6_hashCode_4 : MethodName := ⟨RJ6, "hashCode", "(I[III)I"⟩
theorem q119 : (Jvm.Cond.initialized "jdk/internal/util/ArraysSupport") ∈ lw_all := lw_g (lw_at lw_m1 11 rfl) rfl
theorem q364 : (Jvm.Cond.static ({ cls := "jdk/internal/util/ArraysSupport", name := "newLength", desc := "(III)I" } : Jvm.MethodName)) ∈ lw_all := lw_g (lw_at lw_m2 16 rfl) rfl
theorem q365 : (Jvm.Cond.code ({ cls := "jdk/internal/util/ArraysSupport", name := "newLength", desc := "(III)I" } : Jvm.MethodName) prog_80_method_27_code (4 : Nat) (Option.some Jvm.ClassFile.FieldType.int)) ∈ lw_all := lw_g (lw_at lw_m2 17 rfl) rfl
theorem q366 : (Jvm.Cond.methodLink "jdk/internal/util/ArraysSupport" (194 : Nat) ({ cls := "java/lang/Math", name := "max", desc := "(II)I" } : Jvm.MethodName)) ∈ lw_all := lw_g (lw_at lw_m2 18 rfl) rfl
theorem q369 : (Jvm.Cond.constant "jdk/internal/util/ArraysSupport" (200 : Nat) (2147483639 : Int32)) ∈ lw_all := lw_g (lw_at lw_m2 21 rfl) rfl
theorem q370 : (Jvm.Cond.methodLink "jdk/internal/util/ArraysSupport" (201 : Nat) ({ cls := "jdk/internal/util/ArraysSupport", name := "hugeLength", desc := "(II)I" } : Jvm.MethodName)) ∈ lw_all := lw_g (lw_at lw_m2 22 rfl) rfl
theorem q371 : (Jvm.Cond.static ({ cls := "jdk/internal/util/ArraysSupport", name := "hugeLength", desc := "(II)I" } : Jvm.MethodName)) ∈ lw_all := lw_g (lw_at lw_m2 23 rfl) rfl
theorem q372 : (Jvm.Cond.code ({ cls := "jdk/internal/util/ArraysSupport", name := "hugeLength", desc := "(II)I" } : Jvm.MethodName) prog_80_method_28_code (3 : Nat) (Option.some Jvm.ClassFile.FieldType.int)) ∈ lw_all := lw_g (lw_at lw_m2 24 rfl) rfl
theorem q1719 : (Jvm.Cond.static ({ cls := "jdk/internal/util/ArraysSupport", name := "vectorizedHashCode", desc := "(Ljava/lang/Object;IIII)I" } : Jvm.MethodName)) ∈ lw_all := lw_g (lw_at lw_m7 171 rfl) rfl
theorem q1720 : (Jvm.Cond.code ({ cls := "jdk/internal/util/ArraysSupport", name := "vectorizedHashCode", desc := "(Ljava/lang/Object;IIII)I" } : Jvm.MethodName) prog_80_method_4_code (5 : Nat) (Option.some Jvm.ClassFile.FieldType.int)) ∈ lw_all := lw_g (lw_at lw_m7 172 rfl) rfl
theorem q1721 : (Jvm.Cond.classLink "jdk/internal/util/ArraysSupport" (60 : Nat) "[B") ∈ lw_all := lw_g (lw_at lw_m7 173 rfl) rfl
theorem q1722 : (Jvm.Cond.methodLink "jdk/internal/util/ArraysSupport" (62 : Nat) ({ cls := "jdk/internal/util/ArraysSupport", name := "signedHashCode", desc := "(I[BII)I" } : Jvm.MethodName)) ∈ lw_all := lw_g (lw_at lw_m7 174 rfl) rfl
theorem q1723 : (Jvm.Cond.static ({ cls := "jdk/internal/util/ArraysSupport", name := "signedHashCode", desc := "(I[BII)I" } : Jvm.MethodName)) ∈ lw_all := lw_g (lw_at lw_m7 175 rfl) rfl
theorem q1724 : (Jvm.Cond.code ({ cls := "jdk/internal/util/ArraysSupport", name := "signedHashCode", desc := "(I[BII)I" } : Jvm.MethodName) prog_80_method_5_code (6 : Nat) (Option.some Jvm.ClassFile.FieldType.int)) ∈ lw_all := lw_g (lw_at lw_m7 176 rfl) rfl
theorem q1725 : (Jvm.Cond.methodLink "jdk/internal/util/ArraysSupport" (66 : Nat) ({ cls := "jdk/internal/util/ArraysSupport", name := "utf16hashCode", desc := "(I[BII)I" } : Jvm.MethodName)) ∈ lw_all := lw_g (lw_at lw_m7 177 rfl) rfl
theorem q1726 : (Jvm.Cond.static ({ cls := "jdk/internal/util/ArraysSupport", name := "utf16hashCode", desc := "(I[BII)I" } : Jvm.MethodName)) ∈ lw_all := lw_g (lw_at lw_m7 178 rfl) rfl
theorem q1727 : (Jvm.Cond.code ({ cls := "jdk/internal/util/ArraysSupport", name := "utf16hashCode", desc := "(I[BII)I" } : Jvm.MethodName) prog_80_method_10_code (6 : Nat) (Option.some Jvm.ClassFile.FieldType.int)) ∈ lw_all := lw_g (lw_at lw_m7 179 rfl) rfl
theorem q1728 : (Jvm.Cond.fieldLink "jdk/internal/util/ArraysSupport" (106 : Nat) "jdk/internal/util/ArraysSupport" "JLA" "Ljdk/internal/access/JavaLangAccess;") ∈ lw_all := lw_g (lw_at lw_m7 180 rfl) rfl
theorem q1729 : (Jvm.Cond.laysStatic "jdk/internal/util/ArraysSupport" "JLA" "Ljdk/internal/access/JavaLangAccess;") ∈ lw_tbl := lw_at lw_m7 181 rfl
theorem q1730 : (Jvm.Cond.interfaceEntry "jdk/internal/util/ArraysSupport" (110 : Nat)) ∈ lw_tbl := lw_at lw_m7 182 rfl
theorem q1731 : (Jvm.Cond.methodLink "jdk/internal/util/ArraysSupport" (110 : Nat) ({ cls := "jdk/internal/access/JavaLangAccess", name := "getUTF16Char", desc := "([BI)C" } : Jvm.MethodName)) ∈ lw_all := lw_g (lw_at lw_m7 183 rfl) rfl
theorem q1741 : (Jvm.Cond.classLink "jdk/internal/util/ArraysSupport" (69 : Nat) "[C") ∈ lw_all := lw_g (lw_at lw_m7 193 rfl) rfl
theorem q1742 : (Jvm.Cond.methodLink "jdk/internal/util/ArraysSupport" (71 : Nat) ({ cls := "jdk/internal/util/ArraysSupport", name := "hashCode", desc := "(I[CII)I" } : Jvm.MethodName)) ∈ lw_all := lw_g (lw_at lw_m7 194 rfl) rfl
theorem q1743 : (Jvm.Cond.static ({ cls := "jdk/internal/util/ArraysSupport", name := "hashCode", desc := "(I[CII)I" } : Jvm.MethodName)) ∈ lw_all := lw_g (lw_at lw_m7 195 rfl) rfl
theorem q1744 : (Jvm.Cond.code ({ cls := "jdk/internal/util/ArraysSupport", name := "hashCode", desc := "(I[CII)I" } : Jvm.MethodName) prog_80_method_7_code (6 : Nat) (Option.some Jvm.ClassFile.FieldType.int)) ∈ lw_all := lw_g (lw_at lw_m7 196 rfl) rfl
theorem q1745 : (Jvm.Cond.methodLink "jdk/internal/util/ArraysSupport" (75 : Nat) ({ cls := "jdk/internal/util/ArraysSupport", name := "hashCode", desc := "(I[BII)I" } : Jvm.MethodName)) ∈ lw_all := lw_g (lw_at lw_m7 197 rfl) rfl
theorem q1746 : (Jvm.Cond.static ({ cls := "jdk/internal/util/ArraysSupport", name := "hashCode", desc := "(I[BII)I" } : Jvm.MethodName)) ∈ lw_all := lw_g (lw_at lw_m7 198 rfl) rfl
theorem q1747 : (Jvm.Cond.code ({ cls := "jdk/internal/util/ArraysSupport", name := "hashCode", desc := "(I[BII)I" } : Jvm.MethodName) prog_80_method_6_code (6 : Nat) (Option.some Jvm.ClassFile.FieldType.int)) ∈ lw_all := lw_g (lw_at lw_m7 199 rfl) rfl
theorem q1748 : (Jvm.Cond.classLink "jdk/internal/util/ArraysSupport" (77 : Nat) "[S") ∈ lw_all := lw_g (lw_at lw_m7 200 rfl) rfl
theorem q1749 : (Jvm.Cond.methodLink "jdk/internal/util/ArraysSupport" (79 : Nat) ({ cls := "jdk/internal/util/ArraysSupport", name := "hashCode", desc := "(I[SII)I" } : Jvm.MethodName)) ∈ lw_all := lw_g (lw_at lw_m7 201 rfl) rfl
theorem q1750 : (Jvm.Cond.static ({ cls := "jdk/internal/util/ArraysSupport", name := "hashCode", desc := "(I[SII)I" } : Jvm.MethodName)) ∈ lw_all := lw_g (lw_at lw_m7 202 rfl) rfl
theorem q1751 : (Jvm.Cond.code ({ cls := "jdk/internal/util/ArraysSupport", name := "hashCode", desc := "(I[SII)I" } : Jvm.MethodName) prog_80_method_8_code (6 : Nat) (Option.some Jvm.ClassFile.FieldType.int)) ∈ lw_all := lw_g (lw_at lw_m7 203 rfl) rfl
theorem q1752 : (Jvm.Cond.classLink "jdk/internal/util/ArraysSupport" (82 : Nat) "[I") ∈ lw_all := lw_g (lw_at lw_m7 204 rfl) rfl
theorem q1753 : (Jvm.Cond.methodLink "jdk/internal/util/ArraysSupport" (84 : Nat) ({ cls := "jdk/internal/util/ArraysSupport", name := "hashCode", desc := "(I[III)I" } : Jvm.MethodName)) ∈ lw_all := lw_g (lw_at lw_m7 205 rfl) rfl
theorem q1754 : (Jvm.Cond.static ({ cls := "jdk/internal/util/ArraysSupport", name := "hashCode", desc := "(I[III)I" } : Jvm.MethodName)) ∈ lw_all := lw_g (lw_at lw_m7 206 rfl) rfl
theorem q1755 : (Jvm.Cond.code ({ cls := "jdk/internal/util/ArraysSupport", name := "hashCode", desc := "(I[III)I" } : Jvm.MethodName) prog_80_method_9_code (6 : Nat) (Option.some Jvm.ClassFile.FieldType.int)) ∈ lw_all := lw_g (lw_at lw_m7 207 rfl) rfl
theorem q1756 : (Jvm.Cond.classLink "jdk/internal/util/ArraysSupport" (87 : Nat) "java/lang/IllegalArgumentException") ∈ lw_all := lw_g (lw_at lw_m7 208 rfl) rfl
theorem q1757 : (Jvm.Cond.classLink "jdk/internal/util/ArraysSupport" (89 : Nat) "java/lang/StringBuilder") ∈ lw_all := lw_g (lw_at lw_m7 209 rfl) rfl
theorem q1758 : (Jvm.Cond.methodLink "jdk/internal/util/ArraysSupport" (91 : Nat) ({ cls := "java/lang/StringBuilder", name := "<init>", desc := "()V" } : Jvm.MethodName)) ∈ lw_all := lw_g (lw_at lw_m7 210 rfl) rfl
theorem q1759 : (Jvm.Cond.stringRef "jdk/internal/util/ArraysSupport" (92 : Nat) "unrecognized basic type: ") ∈ lw_tbl := lw_at lw_m7 211 rfl
theorem q1760 : (Jvm.Cond.methodLink "jdk/internal/util/ArraysSupport" (94 : Nat) ({ cls := "java/lang/StringBuilder", name := "append", desc := "(Ljava/lang/String;)Ljava/lang/StringBuilder;" } : Jvm.MethodName)) ∈ lw_all := lw_g (lw_at lw_m7 212 rfl) rfl
theorem q1761 : (Jvm.Cond.methodLink "jdk/internal/util/ArraysSupport" (98 : Nat) ({ cls := "java/lang/StringBuilder", name := "append", desc := "(I)Ljava/lang/StringBuilder;" } : Jvm.MethodName)) ∈ lw_all := lw_g (lw_at lw_m7 213 rfl) rfl
theorem q1762 : (Jvm.Cond.methodLink "jdk/internal/util/ArraysSupport" (101 : Nat) ({ cls := "java/lang/StringBuilder", name := "toString", desc := "()Ljava/lang/String;" } : Jvm.MethodName)) ∈ lw_all := lw_g (lw_at lw_m7 214 rfl) rfl
theorem q1763 : (Jvm.Cond.methodLink "jdk/internal/util/ArraysSupport" (105 : Nat) ({ cls := "java/lang/IllegalArgumentException", name := "<init>", desc := "(Ljava/lang/String;)V" } : Jvm.MethodName)) ∈ lw_all := lw_g (lw_at lw_m7 215 rfl) rfl
def RJ7 : String := "java/lang/Math"
abbrev cJ7_max : ByteArray := prog_38_method_65_code
def yJ7_max : MethodName := ⟨RJ7, "max", "(II)I"⟩
abbrev cJ7_min : ByteArray := prog_38_method_69_code
def yJ7_min : MethodName := ⟨RJ7, "min", "(II)I"⟩
abbrev cJ7_min_2 : ByteArray := prog_38_method_70_code
def yJ7_min_2 : MethodName := ⟨RJ7, "min", "(JJ)J"⟩
theorem q120 : (Jvm.Cond.initialized "java/lang/Math") ∈ lw_all := lw_g (lw_at lw_m1 12 rfl) rfl
theorem q367 : (Jvm.Cond.static ({ cls := "java/lang/Math", name := "max", desc := "(II)I" } : Jvm.MethodName)) ∈ lw_all := lw_g (lw_at lw_m2 19 rfl) rfl
theorem q368 : (Jvm.Cond.code ({ cls := "java/lang/Math", name := "max", desc := "(II)I" } : Jvm.MethodName) prog_38_method_65_code (2 : Nat) (Option.some Jvm.ClassFile.FieldType.int)) ∈ lw_all := lw_g (lw_at lw_m2 20 rfl) rfl
theorem q419 : (Jvm.Cond.static ({ cls := "java/lang/Math", name := "min", desc := "(II)I" } : Jvm.MethodName)) ∈ lw_all := lw_g (lw_at lw_m2 71 rfl) rfl
theorem q420 : (Jvm.Cond.code ({ cls := "java/lang/Math", name := "min", desc := "(II)I" } : Jvm.MethodName) prog_38_method_69_code (2 : Nat) (Option.some Jvm.ClassFile.FieldType.int)) ∈ lw_all := lw_g (lw_at lw_m2 72 rfl) rfl
theorem q2933 : (Jvm.Cond.static ({ cls := "java/lang/Math", name := "min", desc := "(JJ)J" } : Jvm.MethodName)) ∈ lw_all := lw_g (lw_at lw_m12 185 rfl) rfl
theorem q2934 : (Jvm.Cond.code ({ cls := "java/lang/Math", name := "min", desc := "(JJ)J" } : Jvm.MethodName) prog_38_method_70_code (4 : Nat) (Option.some Jvm.ClassFile.FieldType.long)) ∈ lw_all := lw_g (lw_at lw_m12 186 rfl) rfl
def RJ8 : String := "java/util/Arrays"
abbrev cJ8_copyOf : ByteArray := prog_59_method_119_code
def yJ8_copyOf : MethodName := ⟨RJ8, "copyOf", "([Ljava/lang/Object;I)[Ljava/lang/Object;"⟩
abbrev cJ8_copyOf_2 : ByteArray := prog_59_method_120_code
def yJ8_copyOf_2 : MethodName := ⟨RJ8, "copyOf", "([Ljava/lang/Object;ILjava/lang/Class;)[Ljava/lang/Object;"⟩
abbrev cJ8_copyOf_3 : ByteArray := prog_59_method_124_code
def yJ8_copyOf_3 : MethodName := ⟨RJ8, "copyOf", "([JI)[J"⟩
abbrev cJ8_copyOf_4 : ByteArray := prog_59_method_121_code
def yJ8_copyOf_4 : MethodName := ⟨RJ8, "copyOf", "([BI)[B"⟩
abbrev cJ8_copyOfRange : ByteArray := prog_59_method_132_code
def yJ8_copyOfRange : MethodName := ⟨RJ8, "copyOfRange", "([BII)[B"⟩
abbrev cJ8_copyOfRangeByte : ByteArray := prog_59_method_133_code
def yJ8_copyOfRangeByte : MethodName := ⟨RJ8, "copyOfRangeByte", "([BII)[B"⟩
abbrev cJ8_checkLength : ByteArray := prog_59_method_131_code
def yJ8_checkLength : MethodName := ⟨RJ8, "checkLength", "(II)V"⟩
abbrev cJ8_fill : ByteArray := prog_59_method_110_code
def yJ8_fill : MethodName := ⟨RJ8, "fill", "([BIIB)V"⟩
abbrev cJ8_rangeCheck : ByteArray := prog_59_method_30_code
def yJ8_rangeCheck : MethodName := ⟨RJ8, "rangeCheck", "(III)V"⟩
theorem q121 : (Jvm.Cond.initialized "java/util/Arrays") ∈ lw_all := lw_g (lw_at lw_m1 13 rfl) rfl
theorem q374 : (Jvm.Cond.static ({ cls := "java/util/Arrays", name := "copyOf", desc := "([Ljava/lang/Object;I)[Ljava/lang/Object;" } : Jvm.MethodName)) ∈ lw_all := lw_g (lw_at lw_m2 26 rfl) rfl
theorem q375 : (Jvm.Cond.code ({ cls := "java/util/Arrays", name := "copyOf", desc := "([Ljava/lang/Object;I)[Ljava/lang/Object;" } : Jvm.MethodName) prog_59_method_119_code (2 : Nat) (Option.some (Jvm.ClassFile.FieldType.array (Jvm.ClassFile.FieldType.object "java/lang/Object")))) ∈ lw_all := lw_g (lw_at lw_m2 27 rfl) rfl
theorem q376 : (Jvm.Cond.methodLink "java/util/Arrays" (86 : Nat) ({ cls := "java/lang/Object", name := "getClass", desc := "()Ljava/lang/Class;" } : Jvm.MethodName)) ∈ lw_all := lw_g (lw_at lw_m2 28 rfl) rfl
theorem q413 : (Jvm.Cond.methodLink "java/util/Arrays" (300 : Nat) ({ cls := "java/util/Arrays", name := "copyOf", desc := "([Ljava/lang/Object;ILjava/lang/Class;)[Ljava/lang/Object;" } : Jvm.MethodName)) ∈ lw_all := lw_g (lw_at lw_m2 65 rfl) rfl
theorem q414 : (Jvm.Cond.static ({ cls := "java/util/Arrays", name := "copyOf", desc := "([Ljava/lang/Object;ILjava/lang/Class;)[Ljava/lang/Object;" } : Jvm.MethodName)) ∈ lw_all := lw_g (lw_at lw_m2 66 rfl) rfl
theorem q415 : (Jvm.Cond.code ({ cls := "java/util/Arrays", name := "copyOf", desc := "([Ljava/lang/Object;ILjava/lang/Class;)[Ljava/lang/Object;" } : Jvm.MethodName) prog_59_method_120_code (4 : Nat) (Option.some (Jvm.ClassFile.FieldType.array (Jvm.ClassFile.FieldType.object "java/lang/Object")))) ∈ lw_all := lw_g (lw_at lw_m2 67 rfl) rfl
theorem q416 : (Jvm.Cond.classLink "java/util/Arrays" (110 : Nat) "[Ljava/lang/Object;") ∈ lw_all := lw_g (lw_at lw_m2 68 rfl) rfl
theorem q417 : (Jvm.Cond.classLink "java/util/Arrays" (2 : Nat) "java/lang/Object") ∈ lw_all := lw_g (lw_at lw_m2 69 rfl) rfl
theorem q418 : (Jvm.Cond.methodLink "java/util/Arrays" (304 : Nat) ({ cls := "java/lang/Math", name := "min", desc := "(II)I" } : Jvm.MethodName)) ∈ lw_all := lw_g (lw_at lw_m2 70 rfl) rfl
theorem q421 : (Jvm.Cond.methodLink "java/util/Arrays" (150 : Nat) ({ cls := "java/lang/System", name := "arraycopy", desc := "(Ljava/lang/Object;ILjava/lang/Object;II)V" } : Jvm.MethodName)) ∈ lw_all := lw_g (lw_at lw_m2 73 rfl) rfl
theorem q799 : (Jvm.Cond.static ({ cls := "java/util/Arrays", name := "copyOf", desc := "([JI)[J" } : Jvm.MethodName)) ∈ lw_all := lw_g (lw_at lw_m3 211 rfl) rfl
theorem q800 : (Jvm.Cond.code ({ cls := "java/util/Arrays", name := "copyOf", desc := "([JI)[J" } : Jvm.MethodName) prog_59_method_124_code (3 : Nat) (Option.some (Jvm.ClassFile.FieldType.array Jvm.ClassFile.FieldType.long))) ∈ lw_all := lw_g (lw_at lw_m3 212 rfl) rfl
theorem q801 : (Jvm.Cond.methodLink "java/util/Arrays" (319 : Nat) ({ cls := "[J", name := "clone", desc := "()Ljava/lang/Object;" } : Jvm.MethodName)) ∈ lw_all := lw_g (lw_at lw_m3 213 rfl) rfl
theorem q807 : (Jvm.Cond.classLink "java/util/Arrays" (320 : Nat) "[J") ∈ lw_all := lw_g (lw_at lw_m3 219 rfl) rfl
theorem q1095 : (Jvm.Cond.static ({ cls := "java/util/Arrays", name := "copyOf", desc := "([BI)[B" } : Jvm.MethodName)) ∈ lw_all := lw_g (lw_at lw_m5 27 rfl) rfl
theorem q1096 : (Jvm.Cond.code ({ cls := "java/util/Arrays", name := "copyOf", desc := "([BI)[B" } : Jvm.MethodName) prog_59_method_121_code (3 : Nat) (Option.some (Jvm.ClassFile.FieldType.array Jvm.ClassFile.FieldType.byte))) ∈ lw_all := lw_g (lw_at lw_m5 28 rfl) rfl
theorem q1097 : (Jvm.Cond.methodLink "java/util/Arrays" (310 : Nat) ({ cls := "[B", name := "clone", desc := "()Ljava/lang/Object;" } : Jvm.MethodName)) ∈ lw_all := lw_g (lw_at lw_m5 29 rfl) rfl
theorem q1101 : (Jvm.Cond.classLink "java/util/Arrays" (311 : Nat) "[B") ∈ lw_all := lw_g (lw_at lw_m5 33 rfl) rfl
theorem q1205 : (Jvm.Cond.static ({ cls := "java/util/Arrays", name := "copyOfRange", desc := "([BII)[B" } : Jvm.MethodName)) ∈ lw_all := lw_g (lw_at lw_m5 137 rfl) rfl
theorem q1206 : (Jvm.Cond.code ({ cls := "java/util/Arrays", name := "copyOfRange", desc := "([BII)[B" } : Jvm.MethodName) prog_59_method_132_code (3 : Nat) (Option.some (Jvm.ClassFile.FieldType.array Jvm.ClassFile.FieldType.byte))) ∈ lw_all := lw_g (lw_at lw_m5 138 rfl) rfl
theorem q1207 : (Jvm.Cond.methodLink "java/util/Arrays" (339 : Nat) ({ cls := "java/util/Arrays", name := "copyOfRangeByte", desc := "([BII)[B" } : Jvm.MethodName)) ∈ lw_all := lw_g (lw_at lw_m5 139 rfl) rfl
theorem q1208 : (Jvm.Cond.static ({ cls := "java/util/Arrays", name := "copyOfRangeByte", desc := "([BII)[B" } : Jvm.MethodName)) ∈ lw_all := lw_g (lw_at lw_m5 140 rfl) rfl
theorem q1209 : (Jvm.Cond.code ({ cls := "java/util/Arrays", name := "copyOfRangeByte", desc := "([BII)[B" } : Jvm.MethodName) prog_59_method_133_code (5 : Nat) (Option.some (Jvm.ClassFile.FieldType.array Jvm.ClassFile.FieldType.byte))) ∈ lw_all := lw_g (lw_at lw_m5 141 rfl) rfl
theorem q1210 : (Jvm.Cond.methodLink "java/util/Arrays" (343 : Nat) ({ cls := "java/util/Arrays", name := "checkLength", desc := "(II)V" } : Jvm.MethodName)) ∈ lw_all := lw_g (lw_at lw_m5 142 rfl) rfl
theorem q1211 : (Jvm.Cond.static ({ cls := "java/util/Arrays", name := "checkLength", desc := "(II)V" } : Jvm.MethodName)) ∈ lw_all := lw_g (lw_at lw_m5 143 rfl) rfl
theorem q1212 : (Jvm.Cond.code ({ cls := "java/util/Arrays", name := "checkLength", desc := "(II)V" } : Jvm.MethodName) prog_59_method_131_code (2 : Nat) (Option.none : Option Jvm.ClassFile.FieldType)) ∈ lw_all := lw_g (lw_at lw_m5 144 rfl) rfl
theorem q1213 : (Jvm.Cond.classLink "java/util/Arrays" (43 : Nat) "java/lang/IllegalArgumentException") ∈ lw_all := lw_g (lw_at lw_m5 145 rfl) rfl
theorem q1222 : (Jvm.Cond.classLink "java/util/Arrays" (45 : Nat) "java/lang/StringBuilder") ∈ lw_all := lw_g (lw_at lw_m5 154 rfl) rfl
theorem q1223 : (Jvm.Cond.methodLink "java/util/Arrays" (47 : Nat) ({ cls := "java/lang/StringBuilder", name := "<init>", desc := "()V" } : Jvm.MethodName)) ∈ lw_all := lw_g (lw_at lw_m5 155 rfl) rfl
theorem q1224 : (Jvm.Cond.methodLink "java/util/Arrays" (54 : Nat) ({ cls := "java/lang/StringBuilder", name := "append", desc := "(I)Ljava/lang/StringBuilder;" } : Jvm.MethodName)) ∈ lw_all := lw_g (lw_at lw_m5 156 rfl) rfl
theorem q1249 : (Jvm.Cond.stringRef "java/util/Arrays" (337 : Nat) " > ") ∈ lw_tbl := lw_at lw_m5 181 rfl
theorem q1250 : (Jvm.Cond.methodLink "java/util/Arrays" (50 : Nat) ({ cls := "java/lang/StringBuilder", name := "append", desc := "(Ljava/lang/String;)Ljava/lang/StringBuilder;" } : Jvm.MethodName)) ∈ lw_all := lw_g (lw_at lw_m5 182 rfl) rfl
theorem q1251 : (Jvm.Cond.methodLink "java/util/Arrays" (61 : Nat) ({ cls := "java/lang/StringBuilder", name := "toString", desc := "()Ljava/lang/String;" } : Jvm.MethodName)) ∈ lw_all := lw_g (lw_at lw_m5 183 rfl) rfl
theorem q1252 : (Jvm.Cond.methodLink "java/util/Arrays" (65 : Nat) ({ cls := "java/lang/IllegalArgumentException", name := "<init>", desc := "(Ljava/lang/String;)V" } : Jvm.MethodName)) ∈ lw_all := lw_g (lw_at lw_m5 184 rfl) rfl
theorem q1536 : (Jvm.Cond.static ({ cls := "java/util/Arrays", name := "fill", desc := "([BIIB)V" } : Jvm.MethodName)) ∈ lw_all := lw_g (lw_at lw_m6 228 rfl) rfl
theorem q1537 : (Jvm.Cond.code ({ cls := "java/util/Arrays", name := "fill", desc := "([BIIB)V" } : Jvm.MethodName) prog_59_method_110_code (5 : Nat) (Option.none : Option Jvm.ClassFile.FieldType)) ∈ lw_all := lw_g (lw_at lw_m6 229 rfl) rfl
theorem q1538 : (Jvm.Cond.methodLink "java/util/Arrays" (13 : Nat) ({ cls := "java/util/Arrays", name := "rangeCheck", desc := "(III)V" } : Jvm.MethodName)) ∈ lw_all := lw_g (lw_at lw_m6 230 rfl) rfl
theorem q1539 : (Jvm.Cond.static ({ cls := "java/util/Arrays", name := "rangeCheck", desc := "(III)V" } : Jvm.MethodName)) ∈ lw_all := lw_g (lw_at lw_m6 231 rfl) rfl
theorem q1540 : (Jvm.Cond.code ({ cls := "java/util/Arrays", name := "rangeCheck", desc := "(III)V" } : Jvm.MethodName) prog_59_method_30_code (3 : Nat) (Option.none : Option Jvm.ClassFile.FieldType)) ∈ lw_all := lw_g (lw_at lw_m6 232 rfl) rfl
theorem q1541 : (Jvm.Cond.stringRef "java/util/Arrays" (48 : Nat) "fromIndex(") ∈ lw_tbl := lw_at lw_m6 233 rfl
theorem q1542 : (Jvm.Cond.stringRef "java/util/Arrays" (57 : Nat) ") > toIndex(") ∈ lw_tbl := lw_at lw_m6 234 rfl
theorem q1543 : (Jvm.Cond.stringRef "java/util/Arrays" (59 : Nat) ")") ∈ lw_tbl := lw_at lw_m6 235 rfl
def RX5 : String := "KeyTurnsModel"
def TX5 : u_T := fun k => match k with
  | 0 => ("KeyTurnsModel", "now", "[I", true)
  | 1 => ("KeyTurnsModel", "draft", "[I", true)
  | 2 => ("KeyTurnsModel", "aside", "[I", true)
  | 3 => ("KeyTurnsModel", "snapshot", "[I", true)
  | 4 => ("KeyTurnsModel", "history", "[I", true)
  | 5 => ("KeyTurnsModel", "undoCount", "I", false)
  | 6 => ("KeyTurnsModel", "thrown", "I", false)
  | 7 => ("KeyTurnsModel", "hasSnapshot", "Z", false)
  | 8 => ("KeyTurnsModel", "keys", "[I", false)
  | 9 => ("KeyTurnsModel", "formatted", "[I", true)
  | 10 => ("KeyTurnsModel", "formattedLength", "I", false)
  | 11 => ("KeyTurnsModel", "buffer", "[I", true)
  | 12 => ("KeyTurnsModel", "bufferLength", "I", false)
  | 13 => ("KeyTurnsModel", "limit", "I", false)
  | 14 => ("KeyTurnsModel", "next", "I", false)
  | 15 => ("KeyTurnsModel", "beginsAt", "I", false)
  | 16 => ("KeyTurnsModel", "token", "I", false)
  | 17 => ("KeyTurnsModel", "error", "I", false)
  | 18 => ("KeyTurnsModel", "errorAt", "I", false)
  | 19 => ("KeyTurnsModel", "errorPosition", "I", false)
  | 20 => ("KeyTurnsModel", "nested", "I", false)
  | 21 => ("KeyTurnsModel", "names", "[Ljava/lang/String;", true)
  | 22 => ("KeyTurnsModel", "codes", "[I", true)
  | 23 => ("KeyTurnsModel", "stack", "[J", true)
  | _ => ("KeyTurnsModel", "codeCount", "I", false)
def tyX5 : Nat → FieldType := fun k => match k with
  | 0 => .array .int
  | 1 => .array .int
  | 2 => .array .int
  | 3 => .array .int
  | 4 => .array .int
  | 5 => .int
  | 6 => .int
  | 7 => .boolean
  | 8 => .array .int
  | 9 => .array .int
  | 10 => .int
  | 11 => .array .int
  | 12 => .int
  | 13 => .int
  | 14 => .int
  | 15 => .int
  | 16 => .int
  | 17 => .int
  | 18 => .int
  | 19 => .int
  | 20 => .int
  | 21 => .array (.object "java/lang/String")
  | 22 => .array .int
  | 23 => .array .long
  | _ => .int
abbrev wsX50 : List Cond := u_ws RX5 TX5 25
theorem nmX5 : ∀ a, a < 25 → ∀ b, b < 25 → a ≠ b → (TX5 a).2.1 ≠ (TX5 b).2.1 := by decide +kernel
theorem tyX5_ok : ∀ k, k < 25 → parseFieldDescriptor (TX5 k).2.2.1 = some (tyX5 k) := by decide +kernel
abbrev cX5_init : ByteArray := prog_24_method_1_code
def yX5_init : MethodName := ⟨RX5, "<init>", "()V"⟩
abbrev cX5_clear : ByteArray := prog_24_method_5_code
def yX5_clear : MethodName := ⟨RX5, "clear", "(IIII)V"⟩
abbrev cX5_issue : ByteArray := prog_24_method_21_code
def yX5_issue : MethodName := ⟨RX5, "issue", "(I)V"⟩
abbrev cX5_versionAt : ByteArray := prog_24_method_6_code
def yX5_versionAt : MethodName := ⟨RX5, "versionAt", "(II)I"⟩
abbrev cX5_ofVersion : ByteArray := prog_24_method_9_code
def yX5_ofVersion : MethodName := ⟨RX5, "ofVersion", "(II)I"⟩
abbrev cX5_thrown : ByteArray := prog_24_method_2_code
def yX5_thrown : MethodName := ⟨RX5, "thrown", "()I"⟩
abbrev cX5_size : ByteArray := prog_24_method_46_code
def yX5_size : MethodName := ⟨RX5, "size", "(I)I"⟩
abbrev cX5_present : ByteArray := prog_24_method_43_code
def yX5_present : MethodName := ⟨RX5, "present", "()I"⟩
abbrev cX5_ofRecord : ByteArray := prog_24_method_10_code
def yX5_ofRecord : MethodName := ⟨RX5, "ofRecord", "(II)I"⟩
abbrev cX5_recordAt : ByteArray := prog_24_method_7_code
def yX5_recordAt : MethodName := ⟨RX5, "recordAt", "(II)I"⟩
abbrev cX5_writing : ByteArray := prog_24_method_20_code
def yX5_writing : MethodName := ⟨RX5, "writing", "()I"⟩
abbrev cX5_isForced : ByteArray := prog_24_method_19_code
def yX5_isForced : MethodName := ⟨RX5, "isForced", "(I)Z"⟩
abbrev cX5_isGone : ByteArray := prog_24_method_18_code
def yX5_isGone : MethodName := ⟨RX5, "isGone", "(I)Z"⟩
abbrev cX5_hour : ByteArray := prog_24_method_12_code
def yX5_hour : MethodName := ⟨RX5, "hour", "()I"⟩
abbrev cX5_inRange : ByteArray := prog_24_method_4_code
def yX5_inRange : MethodName := ⟨RX5, "inRange", "(III)Z"⟩
abbrev cX5_inForce : ByteArray := prog_24_method_44_code
def yX5_inForce : MethodName := ⟨RX5, "inForce", "()I"⟩
abbrev cX5_allWraps : ByteArray := prog_24_method_45_code
def yX5_allWraps : MethodName := ⟨RX5, "allWraps", "()I"⟩
abbrev cX5_isRecord : ByteArray := prog_24_method_16_code
def yX5_isRecord : MethodName := ⟨RX5, "isRecord", "(I)Z"⟩
abbrev cX5_isMade : ByteArray := prog_24_method_15_code
def yX5_isMade : MethodName := ⟨RX5, "isMade", "(I)Z"⟩
abbrev cX5_raise : ByteArray := prog_24_method_3_code
def yX5_raise : MethodName := ⟨RX5, "raise", "(I)I"⟩
abbrev cX5_version : ByteArray := prog_24_method_48_code
def yX5_version : MethodName := ⟨RX5, "version", "(II)I"⟩
abbrev cX5_isVersion : ByteArray := prog_24_method_14_code
def yX5_isVersion : MethodName := ⟨RX5, "isVersion", "(I)Z"⟩
abbrev cX5_stateOf : ByteArray := prog_24_method_22_code
def yX5_stateOf : MethodName := ⟨RX5, "stateOf", "(I)I"⟩
abbrev cX5_wrappedBy : ByteArray := prog_24_method_47_code
def yX5_wrappedBy : MethodName := ⟨RX5, "wrappedBy", "(I)I"⟩
abbrev cX5_has : ByteArray := prog_24_method_13_code
def yX5_has : MethodName := ⟨RX5, "has", "(II)Z"⟩
abbrev cX5_record : ByteArray := prog_24_method_49_code
def yX5_record : MethodName := ⟨RX5, "record", "(II)I"⟩
abbrev cX5_endOf : ByteArray := prog_24_method_26_code
def yX5_endOf : MethodName := ⟨RX5, "endOf", "(I)I"⟩
abbrev cX5_readers : ByteArray := prog_24_method_37_code
def yX5_readers : MethodName := ⟨RX5, "readers", "(I)I"⟩
abbrev cX5_usable : ByteArray := prog_24_method_35_code
def yX5_usable : MethodName := ⟨RX5, "usable", "(I)I"⟩
abbrev cX5_isUsable : ByteArray := prog_24_method_34_code
def yX5_isUsable : MethodName := ⟨RX5, "isUsable", "(II)Z"⟩
abbrev cX5_ofClient : ByteArray := prog_24_method_11_code
def yX5_ofClient : MethodName := ⟨RX5, "ofClient", "(II)I"⟩
abbrev cX5_clientAt : ByteArray := prog_24_method_8_code
def yX5_clientAt : MethodName := ⟨RX5, "clientAt", "(II)I"⟩
abbrev cX5_knownAt : ByteArray := prog_24_method_32_code
def yX5_knownAt : MethodName := ⟨RX5, "knownAt", "(II)I"⟩
abbrev cX5_client : ByteArray := prog_24_method_50_code
def yX5_client : MethodName := ⟨RX5, "client", "(II)I"⟩
abbrev cX5_isClient : ByteArray := prog_24_method_17_code
def yX5_isClient : MethodName := ⟨RX5, "isClient", "(I)Z"⟩
abbrev cX5_readableBy : ByteArray := prog_24_method_38_code
def yX5_readableBy : MethodName := ⟨RX5, "readableBy", "(I)I"⟩
abbrev cX5_greatestOf : ByteArray := prog_24_method_36_code
def yX5_greatestOf : MethodName := ⟨RX5, "greatestOf", "(I)I"⟩
abbrev cX5_canUse : ByteArray := prog_24_method_51_code
def yX5_canUse : MethodName := ⟨RX5, "canUse", "(II)Z"⟩
abbrev cX5_readsBy : ByteArray := prog_24_method_53_code
def yX5_readsBy : MethodName := ⟨RX5, "readsBy", "(II)I"⟩
abbrev cX5_readWith : ByteArray := prog_24_method_52_code
def yX5_readWith : MethodName := ⟨RX5, "readWith", "(II)I"⟩
abbrev cX5_couldRead : ByteArray := prog_24_method_54_code
def yX5_couldRead : MethodName := ⟨RX5, "couldRead", "(II)I"⟩
abbrev cX5_seenAt : ByteArray := prog_24_method_41_code
def yX5_seenAt : MethodName := ⟨RX5, "seenAt", "(II)I"⟩
abbrev cX5_sweepAt : ByteArray := prog_24_method_55_code
def yX5_sweepAt : MethodName := ⟨RX5, "sweepAt", "(I)I"⟩
abbrev cX5_nextSwept : ByteArray := prog_24_method_29_code
def yX5_nextSwept : MethodName := ⟨RX5, "nextSwept", "(I)I"⟩
abbrev cX5_nextIssue : ByteArray := prog_24_method_56_code
def yX5_nextIssue : MethodName := ⟨RX5, "nextIssue", "()I"⟩
abbrev cX5_nextAsk : ByteArray := prog_24_method_57_code
def yX5_nextAsk : MethodName := ⟨RX5, "nextAsk", "(I)I"⟩
abbrev cX5_readersBehind : ByteArray := prog_24_method_60_code
def yX5_readersBehind : MethodName := ⟨RX5, "readersBehind", "(II)I"⟩
abbrev cX5_begin : ByteArray := prog_24_method_58_code
def yX5_begin : MethodName := ⟨RX5, "begin", "()V"⟩
abbrev cX5_copy : ByteArray := prog_24_method_79_code
def yX5_copy : MethodName := ⟨RX5, "copy", "([II[II)V"⟩
abbrev cX5_passHour : ByteArray := prog_24_method_42_code
def yX5_passHour : MethodName := ⟨RX5, "passHour", "()I"⟩
abbrev cX5_mustIssue : ByteArray := prog_24_method_39_code
def yX5_mustIssue : MethodName := ⟨RX5, "mustIssue", "()Z"⟩
abbrev cX5_firstOfNext : ByteArray := prog_24_method_40_code
def yX5_firstOfNext : MethodName := ⟨RX5, "firstOfNext", "()I"⟩
abbrev cX5_clean : ByteArray := prog_24_method_28_code
def yX5_clean : MethodName := ⟨RX5, "clean", "()I"⟩
abbrev cX5_wrap : ByteArray := prog_24_method_27_code
def yX5_wrap : MethodName := ⟨RX5, "wrap", "(II)V"⟩
abbrev cX5_sweep : ByteArray := prog_24_method_30_code
def yX5_sweep : MethodName := ⟨RX5, "sweep", "()V"⟩
abbrev cX5_learn : ByteArray := prog_24_method_33_code
def yX5_learn : MethodName := ⟨RX5, "learn", "(I)I"⟩
abbrev cX5_end : ByteArray := prog_24_method_59_code
def yX5_end : MethodName := ⟨RX5, "end", "()V"⟩
abbrev cX5_dark : ByteArray := prog_24_method_61_code
def yX5_dark : MethodName := ⟨RX5, "dark", "(II)I"⟩
abbrev cX5_leastBatch : ByteArray := prog_24_method_62_code
def yX5_leastBatch : MethodName := ⟨RX5, "leastBatch", "(I)I"⟩
abbrev cX5_damage : ByteArray := prog_24_method_64_code
def yX5_damage : MethodName := ⟨RX5, "damage", "(I)I"⟩
abbrev cX5_withdrawNow : ByteArray := prog_24_method_63_code
def yX5_withdrawNow : MethodName := ⟨RX5, "withdrawNow", "(I)I"⟩
abbrev cX5_takeBack : ByteArray := prog_24_method_25_code
def yX5_takeBack : MethodName := ⟨RX5, "takeBack", "(I)Z"⟩
abbrev cX5_greatestLeft : ByteArray := prog_24_method_23_code
def yX5_greatestLeft : MethodName := ⟨RX5, "greatestLeft", "()I"⟩
abbrev cX5_greatestOpen : ByteArray := prog_24_method_24_code
def yX5_greatestOpen : MethodName := ⟨RX5, "greatestOpen", "()I"⟩
abbrev cX5_meanWraps : ByteArray := prog_24_method_65_code
def yX5_meanWraps : MethodName := ⟨RX5, "meanWraps", "()D"⟩
abbrev cX5_readable : ByteArray := prog_24_method_66_code
def yX5_readable : MethodName := ⟨RX5, "readable", "()F"⟩
abbrev cX5_pass : ByteArray := prog_24_method_67_code
def yX5_pass : MethodName := ⟨RX5, "pass", "(I)I"⟩
abbrev cX5_keep : ByteArray := prog_24_method_80_code
def yX5_keep : MethodName := ⟨RX5, "keep", "()V"⟩
abbrev cX5_rotate : ByteArray := prog_24_method_68_code
def yX5_rotate : MethodName := ⟨RX5, "rotate", "()I"⟩
abbrev cX5_withdraw : ByteArray := prog_24_method_69_code
def yX5_withdraw : MethodName := ⟨RX5, "withdraw", "(I)I"⟩
abbrev cX5_make : ByteArray := prog_24_method_70_code
def yX5_make : MethodName := ⟨RX5, "make", "()I"⟩
abbrev cX5_makeRecord : ByteArray := prog_24_method_31_code
def yX5_makeRecord : MethodName := ⟨RX5, "makeRecord", "()V"⟩
abbrev cX5_drop : ByteArray := prog_24_method_71_code
def yX5_drop : MethodName := ⟨RX5, "drop", "(I)I"⟩
abbrev cX5_ask : ByteArray := prog_24_method_72_code
def yX5_ask : MethodName := ⟨RX5, "ask", "(I)I"⟩
abbrev cX5_read : ByteArray := prog_24_method_73_code
def yX5_read : MethodName := ⟨RX5, "read", "(II)I"⟩
abbrev cX5_setBatch : ByteArray := prog_24_method_74_code
def yX5_setBatch : MethodName := ⟨RX5, "setBatch", "(I)I"⟩
abbrev cX5_format : ByteArray := prog_24_method_77_code
def yX5_format : MethodName := ⟨RX5, "format", "(I)I"⟩
abbrev cX5_putVersion : ByteArray := prog_24_method_76_code
def yX5_putVersion : MethodName := ⟨RX5, "putVersion", "(I)V"⟩
abbrev cX5_put : ByteArray := prog_24_method_75_code
def yX5_put : MethodName := ⟨RX5, "put", "(I)V"⟩
abbrev cX5_formattedByte : ByteArray := prog_24_method_78_code
def yX5_formattedByte : MethodName := ⟨RX5, "formattedByte", "(I)I"⟩
abbrev cX5_undoCount : ByteArray := prog_24_method_81_code
def yX5_undoCount : MethodName := ⟨RX5, "undoCount", "()I"⟩
abbrev cX5_undo : ByteArray := prog_24_method_82_code
def yX5_undo : MethodName := ⟨RX5, "undo", "()I"⟩
abbrev cX5_saveSnapshot : ByteArray := prog_24_method_83_code
def yX5_saveSnapshot : MethodName := ⟨RX5, "saveSnapshot", "()V"⟩
abbrev cX5_restoreSnapshot : ByteArray := prog_24_method_84_code
def yX5_restoreSnapshot : MethodName := ⟨RX5, "restoreSnapshot", "()Z"⟩
abbrev cX5_feed : ByteArray := prog_24_method_85_code
def yX5_feed : MethodName := ⟨RX5, "feed", "(IIIII)I"⟩
abbrev cX5_errorPosition : ByteArray := prog_24_method_86_code
def yX5_errorPosition : MethodName := ⟨RX5, "errorPosition", "()I"⟩
abbrev cX5_load : ByteArray := prog_24_method_106_code
def yX5_load : MethodName := ⟨RX5, "load", "(I)I"⟩
abbrev cX5_startText : ByteArray := prog_24_method_91_code
def yX5_startText : MethodName := ⟨RX5, "startText", "(I)V"⟩
abbrev cX5_scan : ByteArray := prog_24_method_90_code
def yX5_scan : MethodName := ⟨RX5, "scan", "()V"⟩
abbrev cX5_byteAt : ByteArray := prog_24_method_87_code
def yX5_byteAt : MethodName := ⟨RX5, "byteAt", "(I)I"⟩
abbrev cX5_isLetter : ByteArray := prog_24_method_88_code
def yX5_isLetter : MethodName := ⟨RX5, "isLetter", "(I)Z"⟩
abbrev cX5_isDigit : ByteArray := prog_24_method_89_code
def yX5_isDigit : MethodName := ⟨RX5, "isDigit", "(I)Z"⟩
abbrev cX5_readAll : ByteArray := prog_24_method_105_code
def yX5_readAll : MethodName := ⟨RX5, "readAll", "()V"⟩
abbrev cX5_expectWord : ByteArray := prog_24_method_99_code
def yX5_expectWord : MethodName := ⟨RX5, "expectWord", "(Ljava/lang/String;)V"⟩
abbrev cX5_isWord : ByteArray := prog_24_method_97_code
def yX5_isWord : MethodName := ⟨RX5, "isWord", "(Ljava/lang/String;)Z"⟩
abbrev cX5_check : ByteArray := prog_24_method_94_code
def yX5_check : MethodName := ⟨RX5, "check", "(ZI)V"⟩
abbrev cX5_flaw : ByteArray := prog_24_method_93_code
def yX5_flaw : MethodName := ⟨RX5, "flaw", "(I)V"⟩
abbrev cX5_advance : ByteArray := prog_24_method_95_code
def yX5_advance : MethodName := ⟨RX5, "advance", "()V"⟩
abbrev cX5_readNumber : ByteArray := prog_24_method_102_code
def yX5_readNumber : MethodName := ⟨RX5, "readNumber", "(II)I"⟩
abbrev cX5_value : ByteArray := prog_24_method_101_code
def yX5_value : MethodName := ⟨RX5, "value", "()I"⟩
abbrev cX5_expect : ByteArray := prog_24_method_100_code
def yX5_expect : MethodName := ⟨RX5, "expect", "(I)V"⟩
abbrev cX5_isSymbol : ByteArray := prog_24_method_96_code
def yX5_isSymbol : MethodName := ⟨RX5, "isSymbol", "(I)Z"⟩
abbrev cX5_readClient : ByteArray := prog_24_method_103_code
def yX5_readClient : MethodName := ⟨RX5, "readClient", "()V"⟩
abbrev cX5_readRecords : ByteArray := prog_24_method_104_code
def yX5_readRecords : MethodName := ⟨RX5, "readRecords", "()V"⟩
abbrev cX5_finish : ByteArray := prog_24_method_92_code
def yX5_finish : MethodName := ⟨RX5, "finish", "()I"⟩
abbrev cX5_query : ByteArray := prog_24_method_116_code
def yX5_query : MethodName := ⟨RX5, "query", "(I)I"⟩
abbrev cX5_compileTest : ByteArray := prog_24_method_112_code
def yX5_compileTest : MethodName := ⟨RX5, "compileTest", "()V"⟩
abbrev cX5_compileConjunction : ByteArray := prog_24_method_111_code
def yX5_compileConjunction : MethodName := ⟨RX5, "compileConjunction", "()V"⟩
abbrev cX5_compileFactor : ByteArray := prog_24_method_110_code
def yX5_compileFactor : MethodName := ⟨RX5, "compileFactor", "()V"⟩
abbrev cX5_enter : ByteArray := prog_24_method_108_code
def yX5_enter : MethodName := ⟨RX5, "enter", "()V"⟩
abbrev cX5_emit : ByteArray := prog_24_method_107_code
def yX5_emit : MethodName := ⟨RX5, "emit", "(I)V"⟩
abbrev cX5_compileValue : ByteArray := prog_24_method_109_code
def yX5_compileValue : MethodName := ⟨RX5, "compileValue", "()V"⟩
abbrev cX5_accept : ByteArray := prog_24_method_98_code
def yX5_accept : MethodName := ⟨RX5, "accept", "(Ljava/lang/String;)Z"⟩
abbrev cX5_holdsFor : ByteArray := prog_24_method_115_code
def yX5_holdsFor : MethodName := ⟨RX5, "holdsFor", "(I)Z"⟩
abbrev cX5_property : ByteArray := prog_24_method_114_code
def yX5_property : MethodName := ⟨RX5, "property", "(II)I"⟩
abbrev cX5_operate : ByteArray := prog_24_method_113_code
def yX5_operate : MethodName := ⟨RX5, "operate", "(IJJ)J"⟩
theorem q123 : (Jvm.Cond.initialized "KeyTurnsModel") ∈ lw_all := lw_g (lw_at lw_m1 15 rfl) rfl
theorem q396 : (Jvm.Cond.selects "KeyTurnsModel" ({ cls := "java/lang/Object", name := "getClass", desc := "()Ljava/lang/Class;" } : Jvm.MethodName) ({ cls := "java/lang/Object", name := "getClass", desc := "()Ljava/lang/Class;" } : Jvm.MethodName)) ∈ lw_all := lw_g (lw_at lw_m2 48 rfl) rfl
theorem q2339 : (Jvm.Cond.selects "KeyTurnsModel" ({ cls := "java/lang/Object", name := "equals", desc := "(Ljava/lang/Object;)Z" } : Jvm.MethodName) ({ cls := "java/lang/Object", name := "equals", desc := "(Ljava/lang/Object;)Z" } : Jvm.MethodName)) ∈ lw_all := lw_g (lw_at lw_m10 71 rfl) rfl
theorem q2444 : (Jvm.Cond.instantiable "KeyTurnsModel" (25 : Nat)) ∈ lw_all := lw_g (lw_at lw_m10 176 rfl) rfl
theorem q2446 : (Jvm.Cond.instanceMethod ({ cls := "KeyTurnsModel", name := "<init>", desc := "()V" } : Jvm.MethodName)) ∈ lw_all := lw_g (lw_at lw_m10 178 rfl) rfl
theorem q2447 : (Jvm.Cond.code ({ cls := "KeyTurnsModel", name := "<init>", desc := "()V" } : Jvm.MethodName) prog_24_method_1_code (1 : Nat) (Option.none : Option Jvm.ClassFile.FieldType)) ∈ lw_all := lw_g (lw_at lw_m10 179 rfl) rfl
theorem q2448 : (Jvm.Cond.methodLink "KeyTurnsModel" (1 : Nat) ({ cls := "java/lang/Object", name := "<init>", desc := "()V" } : Jvm.MethodName)) ∈ lw_all := lw_g (lw_at lw_m10 180 rfl) rfl
theorem q2449 : (Jvm.Cond.classLink "KeyTurnsModel" (38 : Nat) "java/lang/String") ∈ lw_all := lw_g (lw_at lw_m10 181 rfl) rfl
theorem q2451 : (Jvm.Cond.stringRef "KeyTurnsModel" (40 : Nat) "record") ∈ lw_tbl := lw_at lw_m10 183 rfl
theorem q2452 : (Jvm.Cond.stringRef "KeyTurnsModel" (42 : Nat) "made") ∈ lw_tbl := lw_at lw_m10 184 rfl
theorem q2453 : (Jvm.Cond.stringRef "KeyTurnsModel" (44 : Nat) "wraps") ∈ lw_tbl := lw_at lw_m10 185 rfl
theorem q2454 : (Jvm.Cond.stringRef "KeyTurnsModel" (46 : Nat) "newest") ∈ lw_tbl := lw_at lw_m10 186 rfl
theorem q2455 : (Jvm.Cond.stringRef "KeyTurnsModel" (48 : Nat) "end") ∈ lw_tbl := lw_at lw_m10 187 rfl
theorem q2456 : (Jvm.Cond.stringRef "KeyTurnsModel" (50 : Nat) "current") ∈ lw_tbl := lw_at lw_m10 188 rfl
theorem q2457 : (Jvm.Cond.stringRef "KeyTurnsModel" (52 : Nat) "readers") ∈ lw_tbl := lw_at lw_m10 189 rfl
theorem q2458 : (Jvm.Cond.stringRef "KeyTurnsModel" (54 : Nat) "forced") ∈ lw_tbl := lw_at lw_m10 190 rfl
theorem q2459 : (Jvm.Cond.methodLink "KeyTurnsModel" (67 : Nat) ({ cls := "KeyTurnsModel", name := "clear", desc := "(IIII)V" } : Jvm.MethodName)) ∈ lw_all := lw_g (lw_at lw_m10 191 rfl) rfl
theorem q2460 : (Jvm.Cond.privateMethod ({ cls := "KeyTurnsModel", name := "clear", desc := "(IIII)V" } : Jvm.MethodName)) ∈ lw_tbl := lw_at lw_m10 192 rfl
theorem q2461 : (Jvm.Cond.instanceMethod ({ cls := "KeyTurnsModel", name := "clear", desc := "(IIII)V" } : Jvm.MethodName)) ∈ lw_all := lw_g (lw_at lw_m10 193 rfl) rfl
theorem q2462 : (Jvm.Cond.code ({ cls := "KeyTurnsModel", name := "clear", desc := "(IIII)V" } : Jvm.MethodName) prog_24_method_5_code (6 : Nat) (Option.none : Option Jvm.ClassFile.FieldType)) ∈ lw_all := lw_g (lw_at lw_m10 194 rfl) rfl
theorem q2463 : (Jvm.Cond.methodLink "KeyTurnsModel" (74 : Nat) ({ cls := "KeyTurnsModel", name := "issue", desc := "(I)V" } : Jvm.MethodName)) ∈ lw_all := lw_g (lw_at lw_m10 195 rfl) rfl
theorem q2464 : (Jvm.Cond.privateMethod ({ cls := "KeyTurnsModel", name := "issue", desc := "(I)V" } : Jvm.MethodName)) ∈ lw_tbl := lw_at lw_m10 196 rfl
theorem q2465 : (Jvm.Cond.instanceMethod ({ cls := "KeyTurnsModel", name := "issue", desc := "(I)V" } : Jvm.MethodName)) ∈ lw_all := lw_g (lw_at lw_m10 197 rfl) rfl
theorem q2466 : (Jvm.Cond.code ({ cls := "KeyTurnsModel", name := "issue", desc := "(I)V" } : Jvm.MethodName) prog_24_method_21_code (5 : Nat) (Option.none : Option Jvm.ClassFile.FieldType)) ∈ lw_all := lw_g (lw_at lw_m10 198 rfl) rfl
theorem q2467 : (Jvm.Cond.methodLink "KeyTurnsModel" (78 : Nat) ({ cls := "KeyTurnsModel", name := "versionAt", desc := "(II)I" } : Jvm.MethodName)) ∈ lw_all := lw_g (lw_at lw_m10 199 rfl) rfl
theorem q2468 : (Jvm.Cond.static ({ cls := "KeyTurnsModel", name := "versionAt", desc := "(II)I" } : Jvm.MethodName)) ∈ lw_all := lw_g (lw_at lw_m10 200 rfl) rfl
theorem q2469 : (Jvm.Cond.code ({ cls := "KeyTurnsModel", name := "versionAt", desc := "(II)I" } : Jvm.MethodName) prog_24_method_6_code (2 : Nat) (Option.some Jvm.ClassFile.FieldType.int)) ∈ lw_all := lw_g (lw_at lw_m10 201 rfl) rfl
theorem q2470 : (Jvm.Cond.methodLink "KeyTurnsModel" (99 : Nat) ({ cls := "KeyTurnsModel", name := "ofVersion", desc := "(II)I" } : Jvm.MethodName)) ∈ lw_all := lw_g (lw_at lw_m10 202 rfl) rfl
theorem q2471 : (Jvm.Cond.privateMethod ({ cls := "KeyTurnsModel", name := "ofVersion", desc := "(II)I" } : Jvm.MethodName)) ∈ lw_tbl := lw_at lw_m10 203 rfl
theorem q2472 : (Jvm.Cond.instanceMethod ({ cls := "KeyTurnsModel", name := "ofVersion", desc := "(II)I" } : Jvm.MethodName)) ∈ lw_all := lw_g (lw_at lw_m10 204 rfl) rfl
theorem q2473 : (Jvm.Cond.code ({ cls := "KeyTurnsModel", name := "ofVersion", desc := "(II)I" } : Jvm.MethodName) prog_24_method_9_code (3 : Nat) (Option.some Jvm.ClassFile.FieldType.int)) ∈ lw_all := lw_g (lw_at lw_m10 205 rfl) rfl
theorem q2474 : (Jvm.Cond.methodLink "KeyTurnsModel" (112 : Nat) ({ cls := "java/lang/Math", name := "min", desc := "(II)I" } : Jvm.MethodName)) ∈ lw_all := lw_g (lw_at lw_m10 206 rfl) rfl
theorem q2475 : (Jvm.Cond.fieldLink "KeyTurnsModel" (9 : Nat) "KeyTurnsModel" "now" "[I") ∈ lw_all := lw_g (lw_at lw_m10 207 rfl) rfl
theorem q2476 : (Jvm.Cond.fieldLink "KeyTurnsModel" (13 : Nat) "KeyTurnsModel" "draft" "[I") ∈ lw_all := lw_g (lw_at lw_m10 208 rfl) rfl
theorem q2477 : (Jvm.Cond.fieldLink "KeyTurnsModel" (16 : Nat) "KeyTurnsModel" "aside" "[I") ∈ lw_all := lw_g (lw_at lw_m10 209 rfl) rfl
theorem q2478 : (Jvm.Cond.fieldLink "KeyTurnsModel" (19 : Nat) "KeyTurnsModel" "snapshot" "[I") ∈ lw_all := lw_g (lw_at lw_m10 210 rfl) rfl
theorem q2479 : (Jvm.Cond.fieldLink "KeyTurnsModel" (22 : Nat) "KeyTurnsModel" "history" "[I") ∈ lw_all := lw_g (lw_at lw_m10 211 rfl) rfl
theorem q2480 : (Jvm.Cond.fieldLink "KeyTurnsModel" (251 : Nat) "KeyTurnsModel" "undoCount" "I") ∈ lw_all := lw_g (lw_at lw_m10 212 rfl) rfl
theorem q2481 : (Jvm.Cond.fieldLink "KeyTurnsModel" (71 : Nat) "KeyTurnsModel" "thrown" "I") ∈ lw_all := lw_g (lw_at lw_m10 213 rfl) rfl
theorem q2482 : (Jvm.Cond.fieldLink "KeyTurnsModel" (254 : Nat) "KeyTurnsModel" "hasSnapshot" "Z") ∈ lw_all := lw_g (lw_at lw_m10 214 rfl) rfl
theorem q2483 : (Jvm.Cond.fieldLink "KeyTurnsModel" (25 : Nat) "KeyTurnsModel" "keys" "[I") ∈ lw_all := lw_g (lw_at lw_m10 215 rfl) rfl
theorem q2484 : (Jvm.Cond.fieldLink "KeyTurnsModel" (28 : Nat) "KeyTurnsModel" "formatted" "[I") ∈ lw_all := lw_g (lw_at lw_m10 216 rfl) rfl
theorem q2485 : (Jvm.Cond.fieldLink "KeyTurnsModel" (242 : Nat) "KeyTurnsModel" "formattedLength" "I") ∈ lw_all := lw_g (lw_at lw_m10 217 rfl) rfl
theorem q2486 : (Jvm.Cond.fieldLink "KeyTurnsModel" (31 : Nat) "KeyTurnsModel" "buffer" "[I") ∈ lw_all := lw_g (lw_at lw_m10 218 rfl) rfl
theorem q2487 : (Jvm.Cond.fieldLink "KeyTurnsModel" (258 : Nat) "KeyTurnsModel" "bufferLength" "I") ∈ lw_all := lw_g (lw_at lw_m10 219 rfl) rfl
theorem q2488 : (Jvm.Cond.fieldLink "KeyTurnsModel" (261 : Nat) "KeyTurnsModel" "limit" "I") ∈ lw_all := lw_g (lw_at lw_m10 220 rfl) rfl
theorem q2489 : (Jvm.Cond.fieldLink "KeyTurnsModel" (267 : Nat) "KeyTurnsModel" "next" "I") ∈ lw_all := lw_g (lw_at lw_m10 221 rfl) rfl
theorem q2490 : (Jvm.Cond.fieldLink "KeyTurnsModel" (270 : Nat) "KeyTurnsModel" "beginsAt" "I") ∈ lw_all := lw_g (lw_at lw_m10 222 rfl) rfl
theorem q2491 : (Jvm.Cond.fieldLink "KeyTurnsModel" (273 : Nat) "KeyTurnsModel" "token" "I") ∈ lw_all := lw_g (lw_at lw_m10 223 rfl) rfl
theorem q2492 : (Jvm.Cond.fieldLink "KeyTurnsModel" (282 : Nat) "KeyTurnsModel" "error" "I") ∈ lw_all := lw_g (lw_at lw_m10 224 rfl) rfl
theorem q2493 : (Jvm.Cond.fieldLink "KeyTurnsModel" (291 : Nat) "KeyTurnsModel" "errorAt" "I") ∈ lw_all := lw_g (lw_at lw_m10 225 rfl) rfl
theorem q2494 : (Jvm.Cond.fieldLink "KeyTurnsModel" (34 : Nat) "KeyTurnsModel" "errorPosition" "I") ∈ lw_all := lw_g (lw_at lw_m10 226 rfl) rfl
theorem q2495 : (Jvm.Cond.fieldLink "KeyTurnsModel" (285 : Nat) "KeyTurnsModel" "nested" "I") ∈ lw_all := lw_g (lw_at lw_m10 227 rfl) rfl
theorem q2496 : (Jvm.Cond.fieldLink "KeyTurnsModel" (56 : Nat) "KeyTurnsModel" "names" "[Ljava/lang/String;") ∈ lw_all := lw_g (lw_at lw_m10 228 rfl) rfl
theorem q2497 : (Jvm.Cond.fieldLink "KeyTurnsModel" (60 : Nat) "KeyTurnsModel" "codes" "[I") ∈ lw_all := lw_g (lw_at lw_m10 229 rfl) rfl
theorem q2498 : (Jvm.Cond.fieldLink "KeyTurnsModel" (63 : Nat) "KeyTurnsModel" "stack" "[J") ∈ lw_all := lw_g (lw_at lw_m10 230 rfl) rfl
theorem q2499 : (Jvm.Cond.fieldLink "KeyTurnsModel" (360 : Nat) "KeyTurnsModel" "codeCount" "I") ∈ lw_all := lw_g (lw_at lw_m10 231 rfl) rfl
theorem q2500 : (Jvm.Cond.laysFinal "KeyTurnsModel" "KeyTurnsModel" "now" "[I") ∈ lw_all := lw_g (lw_at lw_m10 232 rfl) rfl
theorem q2501 : (Jvm.Cond.soleField "KeyTurnsModel" "now") ∈ lw_all := lw_g (lw_at lw_m10 233 rfl) rfl
theorem q2502 : (Jvm.Cond.laysFinal "KeyTurnsModel" "KeyTurnsModel" "draft" "[I") ∈ lw_all := lw_g (lw_at lw_m10 234 rfl) rfl
theorem q2503 : (Jvm.Cond.soleField "KeyTurnsModel" "draft") ∈ lw_all := lw_g (lw_at lw_m10 235 rfl) rfl
theorem q2504 : (Jvm.Cond.laysFinal "KeyTurnsModel" "KeyTurnsModel" "aside" "[I") ∈ lw_all := lw_g (lw_at lw_m10 236 rfl) rfl
theorem q2505 : (Jvm.Cond.soleField "KeyTurnsModel" "aside") ∈ lw_all := lw_g (lw_at lw_m10 237 rfl) rfl
theorem q2506 : (Jvm.Cond.laysFinal "KeyTurnsModel" "KeyTurnsModel" "snapshot" "[I") ∈ lw_all := lw_g (lw_at lw_m10 238 rfl) rfl
theorem q2507 : (Jvm.Cond.soleField "KeyTurnsModel" "snapshot") ∈ lw_all := lw_g (lw_at lw_m10 239 rfl) rfl
theorem q2508 : (Jvm.Cond.laysFinal "KeyTurnsModel" "KeyTurnsModel" "history" "[I") ∈ lw_all := lw_g (lw_at lw_m11 0 rfl) rfl
theorem q2509 : (Jvm.Cond.soleField "KeyTurnsModel" "history") ∈ lw_all := lw_g (lw_at lw_m11 1 rfl) rfl
theorem q2510 : (Jvm.Cond.lays "KeyTurnsModel" "KeyTurnsModel" "undoCount" "I") ∈ lw_all := lw_g (lw_at lw_m11 2 rfl) rfl
theorem q2511 : (Jvm.Cond.soleField "KeyTurnsModel" "undoCount") ∈ lw_all := lw_g (lw_at lw_m11 3 rfl) rfl
theorem q2512 : (Jvm.Cond.lays "KeyTurnsModel" "KeyTurnsModel" "thrown" "I") ∈ lw_all := lw_g (lw_at lw_m11 4 rfl) rfl
theorem q2513 : (Jvm.Cond.soleField "KeyTurnsModel" "thrown") ∈ lw_all := lw_g (lw_at lw_m11 5 rfl) rfl
theorem q2514 : (Jvm.Cond.lays "KeyTurnsModel" "KeyTurnsModel" "hasSnapshot" "Z") ∈ lw_all := lw_g (lw_at lw_m11 6 rfl) rfl
theorem q2515 : (Jvm.Cond.soleField "KeyTurnsModel" "hasSnapshot") ∈ lw_all := lw_g (lw_at lw_m11 7 rfl) rfl
theorem q2516 : (Jvm.Cond.lays "KeyTurnsModel" "KeyTurnsModel" "keys" "[I") ∈ lw_all := lw_g (lw_at lw_m11 8 rfl) rfl
theorem q2517 : (Jvm.Cond.soleField "KeyTurnsModel" "keys") ∈ lw_all := lw_g (lw_at lw_m11 9 rfl) rfl
theorem q2518 : (Jvm.Cond.laysFinal "KeyTurnsModel" "KeyTurnsModel" "formatted" "[I") ∈ lw_all := lw_g (lw_at lw_m11 10 rfl) rfl
theorem q2519 : (Jvm.Cond.soleField "KeyTurnsModel" "formatted") ∈ lw_all := lw_g (lw_at lw_m11 11 rfl) rfl
theorem q2520 : (Jvm.Cond.lays "KeyTurnsModel" "KeyTurnsModel" "formattedLength" "I") ∈ lw_all := lw_g (lw_at lw_m11 12 rfl) rfl
theorem q2521 : (Jvm.Cond.soleField "KeyTurnsModel" "formattedLength") ∈ lw_all := lw_g (lw_at lw_m11 13 rfl) rfl
theorem q2522 : (Jvm.Cond.laysFinal "KeyTurnsModel" "KeyTurnsModel" "buffer" "[I") ∈ lw_all := lw_g (lw_at lw_m11 14 rfl) rfl
theorem q2523 : (Jvm.Cond.soleField "KeyTurnsModel" "buffer") ∈ lw_all := lw_g (lw_at lw_m11 15 rfl) rfl
theorem q2524 : (Jvm.Cond.lays "KeyTurnsModel" "KeyTurnsModel" "bufferLength" "I") ∈ lw_all := lw_g (lw_at lw_m11 16 rfl) rfl
theorem q2525 : (Jvm.Cond.soleField "KeyTurnsModel" "bufferLength") ∈ lw_all := lw_g (lw_at lw_m11 17 rfl) rfl
theorem q2526 : (Jvm.Cond.lays "KeyTurnsModel" "KeyTurnsModel" "limit" "I") ∈ lw_all := lw_g (lw_at lw_m11 18 rfl) rfl
theorem q2527 : (Jvm.Cond.soleField "KeyTurnsModel" "limit") ∈ lw_all := lw_g (lw_at lw_m11 19 rfl) rfl
theorem q2528 : (Jvm.Cond.lays "KeyTurnsModel" "KeyTurnsModel" "next" "I") ∈ lw_all := lw_g (lw_at lw_m11 20 rfl) rfl
theorem q2529 : (Jvm.Cond.soleField "KeyTurnsModel" "next") ∈ lw_all := lw_g (lw_at lw_m11 21 rfl) rfl
theorem q2530 : (Jvm.Cond.lays "KeyTurnsModel" "KeyTurnsModel" "beginsAt" "I") ∈ lw_all := lw_g (lw_at lw_m11 22 rfl) rfl
theorem q2531 : (Jvm.Cond.soleField "KeyTurnsModel" "beginsAt") ∈ lw_all := lw_g (lw_at lw_m11 23 rfl) rfl
theorem q2532 : (Jvm.Cond.lays "KeyTurnsModel" "KeyTurnsModel" "token" "I") ∈ lw_all := lw_g (lw_at lw_m11 24 rfl) rfl
theorem q2533 : (Jvm.Cond.soleField "KeyTurnsModel" "token") ∈ lw_all := lw_g (lw_at lw_m11 25 rfl) rfl
theorem q2534 : (Jvm.Cond.lays "KeyTurnsModel" "KeyTurnsModel" "error" "I") ∈ lw_all := lw_g (lw_at lw_m11 26 rfl) rfl
theorem q2535 : (Jvm.Cond.soleField "KeyTurnsModel" "error") ∈ lw_all := lw_g (lw_at lw_m11 27 rfl) rfl
theorem q2536 : (Jvm.Cond.lays "KeyTurnsModel" "KeyTurnsModel" "errorAt" "I") ∈ lw_all := lw_g (lw_at lw_m11 28 rfl) rfl
theorem q2537 : (Jvm.Cond.soleField "KeyTurnsModel" "errorAt") ∈ lw_all := lw_g (lw_at lw_m11 29 rfl) rfl
theorem q2538 : (Jvm.Cond.lays "KeyTurnsModel" "KeyTurnsModel" "errorPosition" "I") ∈ lw_all := lw_g (lw_at lw_m11 30 rfl) rfl
theorem q2539 : (Jvm.Cond.soleField "KeyTurnsModel" "errorPosition") ∈ lw_all := lw_g (lw_at lw_m11 31 rfl) rfl
theorem q2540 : (Jvm.Cond.lays "KeyTurnsModel" "KeyTurnsModel" "nested" "I") ∈ lw_all := lw_g (lw_at lw_m11 32 rfl) rfl
theorem q2541 : (Jvm.Cond.soleField "KeyTurnsModel" "nested") ∈ lw_all := lw_g (lw_at lw_m11 33 rfl) rfl
theorem q2542 : (Jvm.Cond.laysFinal "KeyTurnsModel" "KeyTurnsModel" "names" "[Ljava/lang/String;") ∈ lw_all := lw_g (lw_at lw_m11 34 rfl) rfl
theorem q2543 : (Jvm.Cond.soleField "KeyTurnsModel" "names") ∈ lw_all := lw_g (lw_at lw_m11 35 rfl) rfl
theorem q2544 : (Jvm.Cond.laysFinal "KeyTurnsModel" "KeyTurnsModel" "codes" "[I") ∈ lw_all := lw_g (lw_at lw_m11 36 rfl) rfl
theorem q2545 : (Jvm.Cond.soleField "KeyTurnsModel" "codes") ∈ lw_all := lw_g (lw_at lw_m11 37 rfl) rfl
theorem q2546 : (Jvm.Cond.laysFinal "KeyTurnsModel" "KeyTurnsModel" "stack" "[J") ∈ lw_all := lw_g (lw_at lw_m11 38 rfl) rfl
theorem q2547 : (Jvm.Cond.soleField "KeyTurnsModel" "stack") ∈ lw_all := lw_g (lw_at lw_m11 39 rfl) rfl
theorem q2548 : (Jvm.Cond.lays "KeyTurnsModel" "KeyTurnsModel" "codeCount" "I") ∈ lw_all := lw_g (lw_at lw_m11 40 rfl) rfl
theorem q2549 : (Jvm.Cond.soleField "KeyTurnsModel" "codeCount") ∈ lw_all := lw_g (lw_at lw_m11 41 rfl) rfl
theorem q2550 : (Jvm.Cond.superclass "KeyTurnsModel" "java/lang/Object") ∈ lw_all := lw_g (lw_at lw_m11 42 rfl) rfl
theorem q2552 : (Jvm.Cond.instanceMethod ({ cls := "KeyTurnsModel", name := "thrown", desc := "()I" } : Jvm.MethodName)) ∈ lw_all := lw_g (lw_at lw_m11 44 rfl) rfl
theorem q2553 : (Jvm.Cond.selects "KeyTurnsModel" ({ cls := "KeyTurnsModel", name := "thrown", desc := "()I" } : Jvm.MethodName) ({ cls := "KeyTurnsModel", name := "thrown", desc := "()I" } : Jvm.MethodName)) ∈ lw_all := lw_g (lw_at lw_m11 45 rfl) rfl
theorem q2554 : (Jvm.Cond.code ({ cls := "KeyTurnsModel", name := "thrown", desc := "()I" } : Jvm.MethodName) prog_24_method_2_code (1 : Nat) (Option.some Jvm.ClassFile.FieldType.int)) ∈ lw_all := lw_g (lw_at lw_m11 46 rfl) rfl
theorem q2556 : (Jvm.Cond.instanceMethod ({ cls := "KeyTurnsModel", name := "size", desc := "(I)I" } : Jvm.MethodName)) ∈ lw_all := lw_g (lw_at lw_m11 48 rfl) rfl
theorem q2557 : (Jvm.Cond.selects "KeyTurnsModel" ({ cls := "KeyTurnsModel", name := "size", desc := "(I)I" } : Jvm.MethodName) ({ cls := "KeyTurnsModel", name := "size", desc := "(I)I" } : Jvm.MethodName)) ∈ lw_all := lw_g (lw_at lw_m11 49 rfl) rfl
theorem q2558 : (Jvm.Cond.code ({ cls := "KeyTurnsModel", name := "size", desc := "(I)I" } : Jvm.MethodName) prog_24_method_46_code (2 : Nat) (Option.some Jvm.ClassFile.FieldType.int)) ∈ lw_all := lw_g (lw_at lw_m11 50 rfl) rfl
theorem q2559 : (Jvm.Cond.methodLink "KeyTurnsModel" (188 : Nat) ({ cls := "KeyTurnsModel", name := "present", desc := "()I" } : Jvm.MethodName)) ∈ lw_all := lw_g (lw_at lw_m11 51 rfl) rfl
theorem q2560 : (Jvm.Cond.privateMethod ({ cls := "KeyTurnsModel", name := "present", desc := "()I" } : Jvm.MethodName)) ∈ lw_tbl := lw_at lw_m11 52 rfl
theorem q2561 : (Jvm.Cond.instanceMethod ({ cls := "KeyTurnsModel", name := "present", desc := "()I" } : Jvm.MethodName)) ∈ lw_all := lw_g (lw_at lw_m11 53 rfl) rfl
theorem q2562 : (Jvm.Cond.code ({ cls := "KeyTurnsModel", name := "present", desc := "()I" } : Jvm.MethodName) prog_24_method_43_code (3 : Nat) (Option.some Jvm.ClassFile.FieldType.int)) ∈ lw_all := lw_g (lw_at lw_m11 54 rfl) rfl
theorem q2563 : (Jvm.Cond.methodLink "KeyTurnsModel" (96 : Nat) ({ cls := "KeyTurnsModel", name := "ofRecord", desc := "(II)I" } : Jvm.MethodName)) ∈ lw_all := lw_g (lw_at lw_m11 55 rfl) rfl
theorem q2564 : (Jvm.Cond.privateMethod ({ cls := "KeyTurnsModel", name := "ofRecord", desc := "(II)I" } : Jvm.MethodName)) ∈ lw_tbl := lw_at lw_m11 56 rfl
theorem q2565 : (Jvm.Cond.instanceMethod ({ cls := "KeyTurnsModel", name := "ofRecord", desc := "(II)I" } : Jvm.MethodName)) ∈ lw_all := lw_g (lw_at lw_m11 57 rfl) rfl
theorem q2566 : (Jvm.Cond.code ({ cls := "KeyTurnsModel", name := "ofRecord", desc := "(II)I" } : Jvm.MethodName) prog_24_method_10_code (3 : Nat) (Option.some Jvm.ClassFile.FieldType.int)) ∈ lw_all := lw_g (lw_at lw_m11 58 rfl) rfl
theorem q2567 : (Jvm.Cond.methodLink "KeyTurnsModel" (82 : Nat) ({ cls := "KeyTurnsModel", name := "recordAt", desc := "(II)I" } : Jvm.MethodName)) ∈ lw_all := lw_g (lw_at lw_m11 59 rfl) rfl
theorem q2568 : (Jvm.Cond.static ({ cls := "KeyTurnsModel", name := "recordAt", desc := "(II)I" } : Jvm.MethodName)) ∈ lw_all := lw_g (lw_at lw_m11 60 rfl) rfl
theorem q2569 : (Jvm.Cond.code ({ cls := "KeyTurnsModel", name := "recordAt", desc := "(II)I" } : Jvm.MethodName) prog_24_method_7_code (2 : Nat) (Option.some Jvm.ClassFile.FieldType.int)) ∈ lw_all := lw_g (lw_at lw_m11 61 rfl) rfl
theorem q2570 : (Jvm.Cond.methodLink "KeyTurnsModel" (127 : Nat) ({ cls := "KeyTurnsModel", name := "writing", desc := "()I" } : Jvm.MethodName)) ∈ lw_all := lw_g (lw_at lw_m11 62 rfl) rfl
theorem q2571 : (Jvm.Cond.privateMethod ({ cls := "KeyTurnsModel", name := "writing", desc := "()I" } : Jvm.MethodName)) ∈ lw_tbl := lw_at lw_m11 63 rfl
theorem q2572 : (Jvm.Cond.instanceMethod ({ cls := "KeyTurnsModel", name := "writing", desc := "()I" } : Jvm.MethodName)) ∈ lw_all := lw_g (lw_at lw_m11 64 rfl) rfl
theorem q2573 : (Jvm.Cond.code ({ cls := "KeyTurnsModel", name := "writing", desc := "()I" } : Jvm.MethodName) prog_24_method_20_code (3 : Nat) (Option.some Jvm.ClassFile.FieldType.int)) ∈ lw_all := lw_g (lw_at lw_m11 65 rfl) rfl
theorem q2574 : (Jvm.Cond.methodLink "KeyTurnsModel" (109 : Nat) ({ cls := "KeyTurnsModel", name := "isForced", desc := "(I)Z" } : Jvm.MethodName)) ∈ lw_all := lw_g (lw_at lw_m11 66 rfl) rfl
theorem q2575 : (Jvm.Cond.privateMethod ({ cls := "KeyTurnsModel", name := "isForced", desc := "(I)Z" } : Jvm.MethodName)) ∈ lw_tbl := lw_at lw_m11 67 rfl
theorem q2576 : (Jvm.Cond.instanceMethod ({ cls := "KeyTurnsModel", name := "isForced", desc := "(I)Z" } : Jvm.MethodName)) ∈ lw_all := lw_g (lw_at lw_m11 68 rfl) rfl
theorem q2577 : (Jvm.Cond.code ({ cls := "KeyTurnsModel", name := "isForced", desc := "(I)Z" } : Jvm.MethodName) prog_24_method_19_code (2 : Nat) (Option.some Jvm.ClassFile.FieldType.boolean)) ∈ lw_all := lw_g (lw_at lw_m11 69 rfl) rfl
theorem q2578 : (Jvm.Cond.methodLink "KeyTurnsModel" (102 : Nat) ({ cls := "KeyTurnsModel", name := "isGone", desc := "(I)Z" } : Jvm.MethodName)) ∈ lw_all := lw_g (lw_at lw_m11 70 rfl) rfl
theorem q2579 : (Jvm.Cond.privateMethod ({ cls := "KeyTurnsModel", name := "isGone", desc := "(I)Z" } : Jvm.MethodName)) ∈ lw_tbl := lw_at lw_m11 71 rfl
theorem q2580 : (Jvm.Cond.instanceMethod ({ cls := "KeyTurnsModel", name := "isGone", desc := "(I)Z" } : Jvm.MethodName)) ∈ lw_all := lw_g (lw_at lw_m11 72 rfl) rfl
theorem q2581 : (Jvm.Cond.code ({ cls := "KeyTurnsModel", name := "isGone", desc := "(I)Z" } : Jvm.MethodName) prog_24_method_18_code (2 : Nat) (Option.some Jvm.ClassFile.FieldType.boolean)) ∈ lw_all := lw_g (lw_at lw_m11 73 rfl) rfl
theorem q2582 : (Jvm.Cond.methodLink "KeyTurnsModel" (105 : Nat) ({ cls := "KeyTurnsModel", name := "hour", desc := "()I" } : Jvm.MethodName)) ∈ lw_all := lw_g (lw_at lw_m11 74 rfl) rfl
theorem q2583 : (Jvm.Cond.privateMethod ({ cls := "KeyTurnsModel", name := "hour", desc := "()I" } : Jvm.MethodName)) ∈ lw_tbl := lw_at lw_m11 75 rfl
theorem q2584 : (Jvm.Cond.instanceMethod ({ cls := "KeyTurnsModel", name := "hour", desc := "()I" } : Jvm.MethodName)) ∈ lw_all := lw_g (lw_at lw_m11 76 rfl) rfl
theorem q2585 : (Jvm.Cond.code ({ cls := "KeyTurnsModel", name := "hour", desc := "()I" } : Jvm.MethodName) prog_24_method_12_code (1 : Nat) (Option.some Jvm.ClassFile.FieldType.int)) ∈ lw_all := lw_g (lw_at lw_m11 77 rfl) rfl
theorem q2586 : (Jvm.Cond.methodLink "KeyTurnsModel" (88 : Nat) ({ cls := "KeyTurnsModel", name := "inRange", desc := "(III)Z" } : Jvm.MethodName)) ∈ lw_all := lw_g (lw_at lw_m11 78 rfl) rfl
theorem q2587 : (Jvm.Cond.static ({ cls := "KeyTurnsModel", name := "inRange", desc := "(III)Z" } : Jvm.MethodName)) ∈ lw_all := lw_g (lw_at lw_m11 79 rfl) rfl
theorem q2588 : (Jvm.Cond.code ({ cls := "KeyTurnsModel", name := "inRange", desc := "(III)Z" } : Jvm.MethodName) prog_24_method_4_code (3 : Nat) (Option.some Jvm.ClassFile.FieldType.boolean)) ∈ lw_all := lw_g (lw_at lw_m11 80 rfl) rfl
theorem q2589 : (Jvm.Cond.methodLink "KeyTurnsModel" (191 : Nat) ({ cls := "KeyTurnsModel", name := "inForce", desc := "()I" } : Jvm.MethodName)) ∈ lw_all := lw_g (lw_at lw_m11 81 rfl) rfl
theorem q2590 : (Jvm.Cond.privateMethod ({ cls := "KeyTurnsModel", name := "inForce", desc := "()I" } : Jvm.MethodName)) ∈ lw_tbl := lw_at lw_m11 82 rfl
theorem q2591 : (Jvm.Cond.instanceMethod ({ cls := "KeyTurnsModel", name := "inForce", desc := "()I" } : Jvm.MethodName)) ∈ lw_all := lw_g (lw_at lw_m11 83 rfl) rfl
theorem q2592 : (Jvm.Cond.code ({ cls := "KeyTurnsModel", name := "inForce", desc := "()I" } : Jvm.MethodName) prog_24_method_44_code (3 : Nat) (Option.some Jvm.ClassFile.FieldType.int)) ∈ lw_all := lw_g (lw_at lw_m11 84 rfl) rfl
theorem q2593 : (Jvm.Cond.methodLink "KeyTurnsModel" (194 : Nat) ({ cls := "KeyTurnsModel", name := "allWraps", desc := "()I" } : Jvm.MethodName)) ∈ lw_all := lw_g (lw_at lw_m11 85 rfl) rfl
theorem q2594 : (Jvm.Cond.privateMethod ({ cls := "KeyTurnsModel", name := "allWraps", desc := "()I" } : Jvm.MethodName)) ∈ lw_tbl := lw_at lw_m11 86 rfl
theorem q2595 : (Jvm.Cond.instanceMethod ({ cls := "KeyTurnsModel", name := "allWraps", desc := "()I" } : Jvm.MethodName)) ∈ lw_all := lw_g (lw_at lw_m11 87 rfl) rfl
theorem q2596 : (Jvm.Cond.code ({ cls := "KeyTurnsModel", name := "allWraps", desc := "()I" } : Jvm.MethodName) prog_24_method_45_code (3 : Nat) (Option.some Jvm.ClassFile.FieldType.int)) ∈ lw_all := lw_g (lw_at lw_m11 88 rfl) rfl
theorem q2597 : (Jvm.Cond.methodLink "KeyTurnsModel" (137 : Nat) ({ cls := "KeyTurnsModel", name := "isRecord", desc := "(I)Z" } : Jvm.MethodName)) ∈ lw_all := lw_g (lw_at lw_m11 89 rfl) rfl
theorem q2598 : (Jvm.Cond.privateMethod ({ cls := "KeyTurnsModel", name := "isRecord", desc := "(I)Z" } : Jvm.MethodName)) ∈ lw_tbl := lw_at lw_m11 90 rfl
theorem q2599 : (Jvm.Cond.instanceMethod ({ cls := "KeyTurnsModel", name := "isRecord", desc := "(I)Z" } : Jvm.MethodName)) ∈ lw_all := lw_g (lw_at lw_m11 91 rfl) rfl
theorem q2600 : (Jvm.Cond.code ({ cls := "KeyTurnsModel", name := "isRecord", desc := "(I)Z" } : Jvm.MethodName) prog_24_method_16_code (2 : Nat) (Option.some Jvm.ClassFile.FieldType.boolean)) ∈ lw_all := lw_g (lw_at lw_m11 92 rfl) rfl
theorem q2601 : (Jvm.Cond.methodLink "KeyTurnsModel" (92 : Nat) ({ cls := "KeyTurnsModel", name := "isMade", desc := "(I)Z" } : Jvm.MethodName)) ∈ lw_all := lw_g (lw_at lw_m11 93 rfl) rfl
theorem q2602 : (Jvm.Cond.privateMethod ({ cls := "KeyTurnsModel", name := "isMade", desc := "(I)Z" } : Jvm.MethodName)) ∈ lw_tbl := lw_at lw_m11 94 rfl
theorem q2603 : (Jvm.Cond.instanceMethod ({ cls := "KeyTurnsModel", name := "isMade", desc := "(I)Z" } : Jvm.MethodName)) ∈ lw_all := lw_g (lw_at lw_m11 95 rfl) rfl
theorem q2604 : (Jvm.Cond.code ({ cls := "KeyTurnsModel", name := "isMade", desc := "(I)Z" } : Jvm.MethodName) prog_24_method_15_code (2 : Nat) (Option.some Jvm.ClassFile.FieldType.boolean)) ∈ lw_all := lw_g (lw_at lw_m11 96 rfl) rfl
theorem q2605 : (Jvm.Cond.methodLink "KeyTurnsModel" (183 : Nat) ({ cls := "java/lang/Integer", name := "bitCount", desc := "(I)I" } : Jvm.MethodName)) ∈ lw_all := lw_g (lw_at lw_m11 97 rfl) rfl
theorem q2606 : (Jvm.Cond.methodLink "KeyTurnsModel" (197 : Nat) ({ cls := "KeyTurnsModel", name := "raise", desc := "(I)I" } : Jvm.MethodName)) ∈ lw_all := lw_g (lw_at lw_m11 98 rfl) rfl
theorem q2607 : (Jvm.Cond.privateMethod ({ cls := "KeyTurnsModel", name := "raise", desc := "(I)I" } : Jvm.MethodName)) ∈ lw_tbl := lw_at lw_m11 99 rfl
theorem q2608 : (Jvm.Cond.instanceMethod ({ cls := "KeyTurnsModel", name := "raise", desc := "(I)I" } : Jvm.MethodName)) ∈ lw_all := lw_g (lw_at lw_m11 100 rfl) rfl
theorem q2609 : (Jvm.Cond.code ({ cls := "KeyTurnsModel", name := "raise", desc := "(I)I" } : Jvm.MethodName) prog_24_method_3_code (2 : Nat) (Option.some Jvm.ClassFile.FieldType.int)) ∈ lw_all := lw_g (lw_at lw_m11 101 rfl) rfl
theorem q2611 : (Jvm.Cond.instanceMethod ({ cls := "KeyTurnsModel", name := "version", desc := "(II)I" } : Jvm.MethodName)) ∈ lw_all := lw_g (lw_at lw_m11 103 rfl) rfl
theorem q2612 : (Jvm.Cond.selects "KeyTurnsModel" ({ cls := "KeyTurnsModel", name := "version", desc := "(II)I" } : Jvm.MethodName) ({ cls := "KeyTurnsModel", name := "version", desc := "(II)I" } : Jvm.MethodName)) ∈ lw_all := lw_g (lw_at lw_m11 104 rfl) rfl
theorem q2613 : (Jvm.Cond.code ({ cls := "KeyTurnsModel", name := "version", desc := "(II)I" } : Jvm.MethodName) prog_24_method_48_code (3 : Nat) (Option.some Jvm.ClassFile.FieldType.int)) ∈ lw_all := lw_g (lw_at lw_m11 105 rfl) rfl
theorem q2614 : (Jvm.Cond.methodLink "KeyTurnsModel" (200 : Nat) ({ cls := "KeyTurnsModel", name := "isVersion", desc := "(I)Z" } : Jvm.MethodName)) ∈ lw_all := lw_g (lw_at lw_m11 106 rfl) rfl
theorem q2615 : (Jvm.Cond.privateMethod ({ cls := "KeyTurnsModel", name := "isVersion", desc := "(I)Z" } : Jvm.MethodName)) ∈ lw_tbl := lw_at lw_m11 107 rfl
theorem q2616 : (Jvm.Cond.instanceMethod ({ cls := "KeyTurnsModel", name := "isVersion", desc := "(I)Z" } : Jvm.MethodName)) ∈ lw_all := lw_g (lw_at lw_m11 108 rfl) rfl
theorem q2617 : (Jvm.Cond.code ({ cls := "KeyTurnsModel", name := "isVersion", desc := "(I)Z" } : Jvm.MethodName) prog_24_method_14_code (2 : Nat) (Option.some Jvm.ClassFile.FieldType.boolean)) ∈ lw_all := lw_g (lw_at lw_m11 109 rfl) rfl
theorem q2618 : (Jvm.Cond.methodLink "KeyTurnsModel" (117 : Nat) ({ cls := "KeyTurnsModel", name := "stateOf", desc := "(I)I" } : Jvm.MethodName)) ∈ lw_all := lw_g (lw_at lw_m11 110 rfl) rfl
theorem q2619 : (Jvm.Cond.privateMethod ({ cls := "KeyTurnsModel", name := "stateOf", desc := "(I)I" } : Jvm.MethodName)) ∈ lw_tbl := lw_at lw_m11 111 rfl
theorem q2620 : (Jvm.Cond.instanceMethod ({ cls := "KeyTurnsModel", name := "stateOf", desc := "(I)I" } : Jvm.MethodName)) ∈ lw_all := lw_g (lw_at lw_m11 112 rfl) rfl
theorem q2621 : (Jvm.Cond.code ({ cls := "KeyTurnsModel", name := "stateOf", desc := "(I)I" } : Jvm.MethodName) prog_24_method_22_code (2 : Nat) (Option.some Jvm.ClassFile.FieldType.int)) ∈ lw_all := lw_g (lw_at lw_m11 113 rfl) rfl
theorem q2622 : (Jvm.Cond.methodLink "KeyTurnsModel" (203 : Nat) ({ cls := "KeyTurnsModel", name := "wrappedBy", desc := "(I)I" } : Jvm.MethodName)) ∈ lw_all := lw_g (lw_at lw_m11 114 rfl) rfl
theorem q2623 : (Jvm.Cond.privateMethod ({ cls := "KeyTurnsModel", name := "wrappedBy", desc := "(I)I" } : Jvm.MethodName)) ∈ lw_tbl := lw_at lw_m11 115 rfl
theorem q2624 : (Jvm.Cond.instanceMethod ({ cls := "KeyTurnsModel", name := "wrappedBy", desc := "(I)I" } : Jvm.MethodName)) ∈ lw_all := lw_g (lw_at lw_m11 116 rfl) rfl
theorem q2625 : (Jvm.Cond.code ({ cls := "KeyTurnsModel", name := "wrappedBy", desc := "(I)I" } : Jvm.MethodName) prog_24_method_47_code (4 : Nat) (Option.some Jvm.ClassFile.FieldType.int)) ∈ lw_all := lw_g (lw_at lw_m11 117 rfl) rfl
theorem q2626 : (Jvm.Cond.methodLink "KeyTurnsModel" (130 : Nat) ({ cls := "KeyTurnsModel", name := "has", desc := "(II)Z" } : Jvm.MethodName)) ∈ lw_all := lw_g (lw_at lw_m11 118 rfl) rfl
theorem q2627 : (Jvm.Cond.static ({ cls := "KeyTurnsModel", name := "has", desc := "(II)Z" } : Jvm.MethodName)) ∈ lw_all := lw_g (lw_at lw_m11 119 rfl) rfl
theorem q2628 : (Jvm.Cond.code ({ cls := "KeyTurnsModel", name := "has", desc := "(II)Z" } : Jvm.MethodName) prog_24_method_13_code (2 : Nat) (Option.some Jvm.ClassFile.FieldType.boolean)) ∈ lw_all := lw_g (lw_at lw_m11 120 rfl) rfl
theorem q2630 : (Jvm.Cond.instanceMethod ({ cls := "KeyTurnsModel", name := "record", desc := "(II)I" } : Jvm.MethodName)) ∈ lw_all := lw_g (lw_at lw_m11 122 rfl) rfl
theorem q2631 : (Jvm.Cond.selects "KeyTurnsModel" ({ cls := "KeyTurnsModel", name := "record", desc := "(II)I" } : Jvm.MethodName) ({ cls := "KeyTurnsModel", name := "record", desc := "(II)I" } : Jvm.MethodName)) ∈ lw_all := lw_g (lw_at lw_m11 123 rfl) rfl
theorem q2632 : (Jvm.Cond.code ({ cls := "KeyTurnsModel", name := "record", desc := "(II)I" } : Jvm.MethodName) prog_24_method_49_code (3 : Nat) (Option.some Jvm.ClassFile.FieldType.int)) ∈ lw_all := lw_g (lw_at lw_m11 124 rfl) rfl
theorem q2633 : (Jvm.Cond.methodLink "KeyTurnsModel" (144 : Nat) ({ cls := "KeyTurnsModel", name := "endOf", desc := "(I)I" } : Jvm.MethodName)) ∈ lw_all := lw_g (lw_at lw_m11 125 rfl) rfl
theorem q2634 : (Jvm.Cond.privateMethod ({ cls := "KeyTurnsModel", name := "endOf", desc := "(I)I" } : Jvm.MethodName)) ∈ lw_tbl := lw_at lw_m11 126 rfl
theorem q2635 : (Jvm.Cond.instanceMethod ({ cls := "KeyTurnsModel", name := "endOf", desc := "(I)I" } : Jvm.MethodName)) ∈ lw_all := lw_g (lw_at lw_m11 127 rfl) rfl
theorem q2636 : (Jvm.Cond.code ({ cls := "KeyTurnsModel", name := "endOf", desc := "(I)I" } : Jvm.MethodName) prog_24_method_26_code (4 : Nat) (Option.some Jvm.ClassFile.FieldType.int)) ∈ lw_all := lw_g (lw_at lw_m11 128 rfl) rfl
theorem q2637 : (Jvm.Cond.methodLink "KeyTurnsModel" (134 : Nat) ({ cls := "java/lang/Math", name := "max", desc := "(II)I" } : Jvm.MethodName)) ∈ lw_all := lw_g (lw_at lw_m11 129 rfl) rfl
theorem q2638 : (Jvm.Cond.methodLink "KeyTurnsModel" (181 : Nat) ({ cls := "KeyTurnsModel", name := "readers", desc := "(I)I" } : Jvm.MethodName)) ∈ lw_all := lw_g (lw_at lw_m11 130 rfl) rfl
theorem q2639 : (Jvm.Cond.privateMethod ({ cls := "KeyTurnsModel", name := "readers", desc := "(I)I" } : Jvm.MethodName)) ∈ lw_tbl := lw_at lw_m11 131 rfl
theorem q2640 : (Jvm.Cond.instanceMethod ({ cls := "KeyTurnsModel", name := "readers", desc := "(I)I" } : Jvm.MethodName)) ∈ lw_all := lw_g (lw_at lw_m11 132 rfl) rfl
theorem q2641 : (Jvm.Cond.code ({ cls := "KeyTurnsModel", name := "readers", desc := "(I)I" } : Jvm.MethodName) prog_24_method_37_code (4 : Nat) (Option.some Jvm.ClassFile.FieldType.int)) ∈ lw_all := lw_g (lw_at lw_m11 133 rfl) rfl
theorem q2642 : (Jvm.Cond.methodLink "KeyTurnsModel" (159 : Nat) ({ cls := "KeyTurnsModel", name := "usable", desc := "(I)I" } : Jvm.MethodName)) ∈ lw_all := lw_g (lw_at lw_m11 134 rfl) rfl
theorem q2643 : (Jvm.Cond.privateMethod ({ cls := "KeyTurnsModel", name := "usable", desc := "(I)I" } : Jvm.MethodName)) ∈ lw_tbl := lw_at lw_m11 135 rfl
theorem q2644 : (Jvm.Cond.instanceMethod ({ cls := "KeyTurnsModel", name := "usable", desc := "(I)I" } : Jvm.MethodName)) ∈ lw_all := lw_g (lw_at lw_m11 136 rfl) rfl
theorem q2645 : (Jvm.Cond.code ({ cls := "KeyTurnsModel", name := "usable", desc := "(I)I" } : Jvm.MethodName) prog_24_method_35_code (4 : Nat) (Option.some Jvm.ClassFile.FieldType.int)) ∈ lw_all := lw_g (lw_at lw_m11 137 rfl) rfl
theorem q2646 : (Jvm.Cond.methodLink "KeyTurnsModel" (156 : Nat) ({ cls := "KeyTurnsModel", name := "isUsable", desc := "(II)Z" } : Jvm.MethodName)) ∈ lw_all := lw_g (lw_at lw_m11 138 rfl) rfl
theorem q2647 : (Jvm.Cond.privateMethod ({ cls := "KeyTurnsModel", name := "isUsable", desc := "(II)Z" } : Jvm.MethodName)) ∈ lw_tbl := lw_at lw_m11 139 rfl
theorem q2648 : (Jvm.Cond.instanceMethod ({ cls := "KeyTurnsModel", name := "isUsable", desc := "(II)Z" } : Jvm.MethodName)) ∈ lw_all := lw_g (lw_at lw_m11 140 rfl) rfl
theorem q2649 : (Jvm.Cond.code ({ cls := "KeyTurnsModel", name := "isUsable", desc := "(II)Z" } : Jvm.MethodName) prog_24_method_34_code (4 : Nat) (Option.some Jvm.ClassFile.FieldType.boolean)) ∈ lw_all := lw_g (lw_at lw_m11 141 rfl) rfl
theorem q2650 : (Jvm.Cond.methodLink "KeyTurnsModel" (150 : Nat) ({ cls := "KeyTurnsModel", name := "ofClient", desc := "(II)I" } : Jvm.MethodName)) ∈ lw_all := lw_g (lw_at lw_m11 142 rfl) rfl
theorem q2651 : (Jvm.Cond.privateMethod ({ cls := "KeyTurnsModel", name := "ofClient", desc := "(II)I" } : Jvm.MethodName)) ∈ lw_tbl := lw_at lw_m11 143 rfl
theorem q2652 : (Jvm.Cond.instanceMethod ({ cls := "KeyTurnsModel", name := "ofClient", desc := "(II)I" } : Jvm.MethodName)) ∈ lw_all := lw_g (lw_at lw_m11 144 rfl) rfl
theorem q2653 : (Jvm.Cond.code ({ cls := "KeyTurnsModel", name := "ofClient", desc := "(II)I" } : Jvm.MethodName) prog_24_method_11_code (3 : Nat) (Option.some Jvm.ClassFile.FieldType.int)) ∈ lw_all := lw_g (lw_at lw_m11 145 rfl) rfl
theorem q2654 : (Jvm.Cond.methodLink "KeyTurnsModel" (85 : Nat) ({ cls := "KeyTurnsModel", name := "clientAt", desc := "(II)I" } : Jvm.MethodName)) ∈ lw_all := lw_g (lw_at lw_m11 146 rfl) rfl
theorem q2655 : (Jvm.Cond.static ({ cls := "KeyTurnsModel", name := "clientAt", desc := "(II)I" } : Jvm.MethodName)) ∈ lw_all := lw_g (lw_at lw_m11 147 rfl) rfl
theorem q2656 : (Jvm.Cond.code ({ cls := "KeyTurnsModel", name := "clientAt", desc := "(II)I" } : Jvm.MethodName) prog_24_method_8_code (2 : Nat) (Option.some Jvm.ClassFile.FieldType.int)) ∈ lw_all := lw_g (lw_at lw_m11 148 rfl) rfl
theorem q2657 : (Jvm.Cond.methodLink "KeyTurnsModel" (153 : Nat) ({ cls := "KeyTurnsModel", name := "knownAt", desc := "(II)I" } : Jvm.MethodName)) ∈ lw_all := lw_g (lw_at lw_m11 149 rfl) rfl
theorem q2658 : (Jvm.Cond.privateMethod ({ cls := "KeyTurnsModel", name := "knownAt", desc := "(II)I" } : Jvm.MethodName)) ∈ lw_tbl := lw_at lw_m11 150 rfl
theorem q2659 : (Jvm.Cond.instanceMethod ({ cls := "KeyTurnsModel", name := "knownAt", desc := "(II)I" } : Jvm.MethodName)) ∈ lw_all := lw_g (lw_at lw_m11 151 rfl) rfl
theorem q2660 : (Jvm.Cond.code ({ cls := "KeyTurnsModel", name := "knownAt", desc := "(II)I" } : Jvm.MethodName) prog_24_method_32_code (3 : Nat) (Option.some Jvm.ClassFile.FieldType.int)) ∈ lw_all := lw_g (lw_at lw_m11 152 rfl) rfl
theorem q2662 : (Jvm.Cond.instanceMethod ({ cls := "KeyTurnsModel", name := "client", desc := "(II)I" } : Jvm.MethodName)) ∈ lw_all := lw_g (lw_at lw_m11 154 rfl) rfl
theorem q2663 : (Jvm.Cond.selects "KeyTurnsModel" ({ cls := "KeyTurnsModel", name := "client", desc := "(II)I" } : Jvm.MethodName) ({ cls := "KeyTurnsModel", name := "client", desc := "(II)I" } : Jvm.MethodName)) ∈ lw_all := lw_g (lw_at lw_m11 155 rfl) rfl
theorem q2664 : (Jvm.Cond.code ({ cls := "KeyTurnsModel", name := "client", desc := "(II)I" } : Jvm.MethodName) prog_24_method_50_code (3 : Nat) (Option.some Jvm.ClassFile.FieldType.int)) ∈ lw_all := lw_g (lw_at lw_m11 156 rfl) rfl
theorem q2665 : (Jvm.Cond.methodLink "KeyTurnsModel" (206 : Nat) ({ cls := "KeyTurnsModel", name := "isClient", desc := "(I)Z" } : Jvm.MethodName)) ∈ lw_all := lw_g (lw_at lw_m11 157 rfl) rfl
theorem q2666 : (Jvm.Cond.privateMethod ({ cls := "KeyTurnsModel", name := "isClient", desc := "(I)Z" } : Jvm.MethodName)) ∈ lw_tbl := lw_at lw_m11 158 rfl
theorem q2667 : (Jvm.Cond.instanceMethod ({ cls := "KeyTurnsModel", name := "isClient", desc := "(I)Z" } : Jvm.MethodName)) ∈ lw_all := lw_g (lw_at lw_m11 159 rfl) rfl
theorem q2668 : (Jvm.Cond.code ({ cls := "KeyTurnsModel", name := "isClient", desc := "(I)Z" } : Jvm.MethodName) prog_24_method_17_code (2 : Nat) (Option.some Jvm.ClassFile.FieldType.boolean)) ∈ lw_all := lw_g (lw_at lw_m11 160 rfl) rfl
theorem q2669 : (Jvm.Cond.methodLink "KeyTurnsModel" (209 : Nat) ({ cls := "KeyTurnsModel", name := "readableBy", desc := "(I)I" } : Jvm.MethodName)) ∈ lw_all := lw_g (lw_at lw_m11 161 rfl) rfl
theorem q2670 : (Jvm.Cond.privateMethod ({ cls := "KeyTurnsModel", name := "readableBy", desc := "(I)I" } : Jvm.MethodName)) ∈ lw_tbl := lw_at lw_m11 162 rfl
theorem q2671 : (Jvm.Cond.instanceMethod ({ cls := "KeyTurnsModel", name := "readableBy", desc := "(I)I" } : Jvm.MethodName)) ∈ lw_all := lw_g (lw_at lw_m11 163 rfl) rfl
theorem q2672 : (Jvm.Cond.code ({ cls := "KeyTurnsModel", name := "readableBy", desc := "(I)I" } : Jvm.MethodName) prog_24_method_38_code (5 : Nat) (Option.some Jvm.ClassFile.FieldType.int)) ∈ lw_all := lw_g (lw_at lw_m11 164 rfl) rfl
theorem q2673 : (Jvm.Cond.methodLink "KeyTurnsModel" (212 : Nat) ({ cls := "KeyTurnsModel", name := "greatestOf", desc := "(I)I" } : Jvm.MethodName)) ∈ lw_all := lw_g (lw_at lw_m11 165 rfl) rfl
theorem q2674 : (Jvm.Cond.static ({ cls := "KeyTurnsModel", name := "greatestOf", desc := "(I)I" } : Jvm.MethodName)) ∈ lw_all := lw_g (lw_at lw_m11 166 rfl) rfl
theorem q2675 : (Jvm.Cond.code ({ cls := "KeyTurnsModel", name := "greatestOf", desc := "(I)I" } : Jvm.MethodName) prog_24_method_36_code (3 : Nat) (Option.some Jvm.ClassFile.FieldType.int)) ∈ lw_all := lw_g (lw_at lw_m11 167 rfl) rfl
theorem q2677 : (Jvm.Cond.instanceMethod ({ cls := "KeyTurnsModel", name := "canUse", desc := "(II)Z" } : Jvm.MethodName)) ∈ lw_all := lw_g (lw_at lw_m11 169 rfl) rfl
theorem q2678 : (Jvm.Cond.selects "KeyTurnsModel" ({ cls := "KeyTurnsModel", name := "canUse", desc := "(II)Z" } : Jvm.MethodName) ({ cls := "KeyTurnsModel", name := "canUse", desc := "(II)Z" } : Jvm.MethodName)) ∈ lw_all := lw_g (lw_at lw_m11 170 rfl) rfl
theorem q2679 : (Jvm.Cond.code ({ cls := "KeyTurnsModel", name := "canUse", desc := "(II)Z" } : Jvm.MethodName) prog_24_method_51_code (3 : Nat) (Option.some Jvm.ClassFile.FieldType.boolean)) ∈ lw_all := lw_g (lw_at lw_m11 171 rfl) rfl
theorem q2681 : (Jvm.Cond.instanceMethod ({ cls := "KeyTurnsModel", name := "readsBy", desc := "(II)I" } : Jvm.MethodName)) ∈ lw_all := lw_g (lw_at lw_m11 173 rfl) rfl
theorem q2682 : (Jvm.Cond.selects "KeyTurnsModel" ({ cls := "KeyTurnsModel", name := "readsBy", desc := "(II)I" } : Jvm.MethodName) ({ cls := "KeyTurnsModel", name := "readsBy", desc := "(II)I" } : Jvm.MethodName)) ∈ lw_all := lw_g (lw_at lw_m11 174 rfl) rfl
theorem q2683 : (Jvm.Cond.code ({ cls := "KeyTurnsModel", name := "readsBy", desc := "(II)I" } : Jvm.MethodName) prog_24_method_53_code (3 : Nat) (Option.some Jvm.ClassFile.FieldType.int)) ∈ lw_all := lw_g (lw_at lw_m11 175 rfl) rfl
theorem q2684 : (Jvm.Cond.methodLink "KeyTurnsModel" (215 : Nat) ({ cls := "KeyTurnsModel", name := "readWith", desc := "(II)I" } : Jvm.MethodName)) ∈ lw_all := lw_g (lw_at lw_m11 176 rfl) rfl
theorem q2685 : (Jvm.Cond.privateMethod ({ cls := "KeyTurnsModel", name := "readWith", desc := "(II)I" } : Jvm.MethodName)) ∈ lw_tbl := lw_at lw_m11 177 rfl
theorem q2686 : (Jvm.Cond.instanceMethod ({ cls := "KeyTurnsModel", name := "readWith", desc := "(II)I" } : Jvm.MethodName)) ∈ lw_all := lw_g (lw_at lw_m11 178 rfl) rfl
theorem q2687 : (Jvm.Cond.code ({ cls := "KeyTurnsModel", name := "readWith", desc := "(II)I" } : Jvm.MethodName) prog_24_method_52_code (3 : Nat) (Option.some Jvm.ClassFile.FieldType.int)) ∈ lw_all := lw_g (lw_at lw_m11 179 rfl) rfl
theorem q2689 : (Jvm.Cond.instanceMethod ({ cls := "KeyTurnsModel", name := "couldRead", desc := "(II)I" } : Jvm.MethodName)) ∈ lw_all := lw_g (lw_at lw_m11 181 rfl) rfl
theorem q2690 : (Jvm.Cond.selects "KeyTurnsModel" ({ cls := "KeyTurnsModel", name := "couldRead", desc := "(II)I" } : Jvm.MethodName) ({ cls := "KeyTurnsModel", name := "couldRead", desc := "(II)I" } : Jvm.MethodName)) ∈ lw_all := lw_g (lw_at lw_m11 182 rfl) rfl
theorem q2691 : (Jvm.Cond.code ({ cls := "KeyTurnsModel", name := "couldRead", desc := "(II)I" } : Jvm.MethodName) prog_24_method_54_code (3 : Nat) (Option.some Jvm.ClassFile.FieldType.int)) ∈ lw_all := lw_g (lw_at lw_m11 183 rfl) rfl
theorem q2692 : (Jvm.Cond.methodLink "KeyTurnsModel" (178 : Nat) ({ cls := "KeyTurnsModel", name := "seenAt", desc := "(II)I" } : Jvm.MethodName)) ∈ lw_all := lw_g (lw_at lw_m11 184 rfl) rfl
theorem q2693 : (Jvm.Cond.static ({ cls := "KeyTurnsModel", name := "seenAt", desc := "(II)I" } : Jvm.MethodName)) ∈ lw_all := lw_g (lw_at lw_m11 185 rfl) rfl
theorem q2694 : (Jvm.Cond.code ({ cls := "KeyTurnsModel", name := "seenAt", desc := "(II)I" } : Jvm.MethodName) prog_24_method_41_code (2 : Nat) (Option.some Jvm.ClassFile.FieldType.int)) ∈ lw_all := lw_g (lw_at lw_m11 186 rfl) rfl
theorem q2696 : (Jvm.Cond.instanceMethod ({ cls := "KeyTurnsModel", name := "sweepAt", desc := "(I)I" } : Jvm.MethodName)) ∈ lw_all := lw_g (lw_at lw_m11 188 rfl) rfl
theorem q2697 : (Jvm.Cond.selects "KeyTurnsModel" ({ cls := "KeyTurnsModel", name := "sweepAt", desc := "(I)I" } : Jvm.MethodName) ({ cls := "KeyTurnsModel", name := "sweepAt", desc := "(I)I" } : Jvm.MethodName)) ∈ lw_all := lw_g (lw_at lw_m11 189 rfl) rfl
theorem q2698 : (Jvm.Cond.code ({ cls := "KeyTurnsModel", name := "sweepAt", desc := "(I)I" } : Jvm.MethodName) prog_24_method_55_code (5 : Nat) (Option.some Jvm.ClassFile.FieldType.int)) ∈ lw_all := lw_g (lw_at lw_m11 190 rfl) rfl
theorem q2699 : (Jvm.Cond.methodLink "KeyTurnsModel" (147 : Nat) ({ cls := "KeyTurnsModel", name := "nextSwept", desc := "(I)I" } : Jvm.MethodName)) ∈ lw_all := lw_g (lw_at lw_m11 191 rfl) rfl
theorem q2700 : (Jvm.Cond.privateMethod ({ cls := "KeyTurnsModel", name := "nextSwept", desc := "(I)I" } : Jvm.MethodName)) ∈ lw_tbl := lw_at lw_m11 192 rfl
theorem q2701 : (Jvm.Cond.instanceMethod ({ cls := "KeyTurnsModel", name := "nextSwept", desc := "(I)I" } : Jvm.MethodName)) ∈ lw_all := lw_g (lw_at lw_m11 193 rfl) rfl
theorem q2702 : (Jvm.Cond.code ({ cls := "KeyTurnsModel", name := "nextSwept", desc := "(I)I" } : Jvm.MethodName) prog_24_method_29_code (6 : Nat) (Option.some Jvm.ClassFile.FieldType.int)) ∈ lw_all := lw_g (lw_at lw_m11 194 rfl) rfl
theorem q2704 : (Jvm.Cond.instanceMethod ({ cls := "KeyTurnsModel", name := "nextIssue", desc := "()I" } : Jvm.MethodName)) ∈ lw_all := lw_g (lw_at lw_m11 196 rfl) rfl
theorem q2705 : (Jvm.Cond.selects "KeyTurnsModel" ({ cls := "KeyTurnsModel", name := "nextIssue", desc := "()I" } : Jvm.MethodName) ({ cls := "KeyTurnsModel", name := "nextIssue", desc := "()I" } : Jvm.MethodName)) ∈ lw_all := lw_g (lw_at lw_m11 197 rfl) rfl
theorem q2706 : (Jvm.Cond.code ({ cls := "KeyTurnsModel", name := "nextIssue", desc := "()I" } : Jvm.MethodName) prog_24_method_56_code (4 : Nat) (Option.some Jvm.ClassFile.FieldType.int)) ∈ lw_all := lw_g (lw_at lw_m11 198 rfl) rfl
theorem q2708 : (Jvm.Cond.instanceMethod ({ cls := "KeyTurnsModel", name := "nextAsk", desc := "(I)I" } : Jvm.MethodName)) ∈ lw_all := lw_g (lw_at lw_m11 200 rfl) rfl
theorem q2709 : (Jvm.Cond.selects "KeyTurnsModel" ({ cls := "KeyTurnsModel", name := "nextAsk", desc := "(I)I" } : Jvm.MethodName) ({ cls := "KeyTurnsModel", name := "nextAsk", desc := "(I)I" } : Jvm.MethodName)) ∈ lw_all := lw_g (lw_at lw_m11 201 rfl) rfl
theorem q2710 : (Jvm.Cond.code ({ cls := "KeyTurnsModel", name := "nextAsk", desc := "(I)I" } : Jvm.MethodName) prog_24_method_57_code (3 : Nat) (Option.some Jvm.ClassFile.FieldType.int)) ∈ lw_all := lw_g (lw_at lw_m11 202 rfl) rfl
theorem q2712 : (Jvm.Cond.instanceMethod ({ cls := "KeyTurnsModel", name := "readersBehind", desc := "(II)I" } : Jvm.MethodName)) ∈ lw_all := lw_g (lw_at lw_m11 204 rfl) rfl
theorem q2713 : (Jvm.Cond.selects "KeyTurnsModel" ({ cls := "KeyTurnsModel", name := "readersBehind", desc := "(II)I" } : Jvm.MethodName) ({ cls := "KeyTurnsModel", name := "readersBehind", desc := "(II)I" } : Jvm.MethodName)) ∈ lw_all := lw_g (lw_at lw_m11 205 rfl) rfl
theorem q2714 : (Jvm.Cond.code ({ cls := "KeyTurnsModel", name := "readersBehind", desc := "(II)I" } : Jvm.MethodName) prog_24_method_60_code (5 : Nat) (Option.some Jvm.ClassFile.FieldType.int)) ∈ lw_all := lw_g (lw_at lw_m11 206 rfl) rfl
theorem q2715 : (Jvm.Cond.methodLink "KeyTurnsModel" (222 : Nat) ({ cls := "KeyTurnsModel", name := "begin", desc := "()V" } : Jvm.MethodName)) ∈ lw_all := lw_g (lw_at lw_m11 207 rfl) rfl
theorem q2716 : (Jvm.Cond.privateMethod ({ cls := "KeyTurnsModel", name := "begin", desc := "()V" } : Jvm.MethodName)) ∈ lw_tbl := lw_at lw_m11 208 rfl
theorem q2717 : (Jvm.Cond.instanceMethod ({ cls := "KeyTurnsModel", name := "begin", desc := "()V" } : Jvm.MethodName)) ∈ lw_all := lw_g (lw_at lw_m11 209 rfl) rfl
theorem q2718 : (Jvm.Cond.code ({ cls := "KeyTurnsModel", name := "begin", desc := "()V" } : Jvm.MethodName) prog_24_method_58_code (1 : Nat) (Option.none : Option Jvm.ClassFile.FieldType)) ∈ lw_all := lw_g (lw_at lw_m11 210 rfl) rfl
theorem q2719 : (Jvm.Cond.methodLink "KeyTurnsModel" (218 : Nat) ({ cls := "KeyTurnsModel", name := "copy", desc := "([II[II)V" } : Jvm.MethodName)) ∈ lw_all := lw_g (lw_at lw_m11 211 rfl) rfl
theorem q2720 : (Jvm.Cond.static ({ cls := "KeyTurnsModel", name := "copy", desc := "([II[II)V" } : Jvm.MethodName)) ∈ lw_all := lw_g (lw_at lw_m11 212 rfl) rfl
theorem q2721 : (Jvm.Cond.code ({ cls := "KeyTurnsModel", name := "copy", desc := "([II[II)V" } : Jvm.MethodName) prog_24_method_79_code (5 : Nat) (Option.none : Option Jvm.ClassFile.FieldType)) ∈ lw_all := lw_g (lw_at lw_m11 213 rfl) rfl
theorem q2722 : (Jvm.Cond.methodLink "KeyTurnsModel" (225 : Nat) ({ cls := "KeyTurnsModel", name := "passHour", desc := "()I" } : Jvm.MethodName)) ∈ lw_all := lw_g (lw_at lw_m11 214 rfl) rfl
theorem q2723 : (Jvm.Cond.privateMethod ({ cls := "KeyTurnsModel", name := "passHour", desc := "()I" } : Jvm.MethodName)) ∈ lw_tbl := lw_at lw_m11 215 rfl
theorem q2724 : (Jvm.Cond.instanceMethod ({ cls := "KeyTurnsModel", name := "passHour", desc := "()I" } : Jvm.MethodName)) ∈ lw_all := lw_g (lw_at lw_m11 216 rfl) rfl
theorem q2725 : (Jvm.Cond.code ({ cls := "KeyTurnsModel", name := "passHour", desc := "()I" } : Jvm.MethodName) prog_24_method_42_code (3 : Nat) (Option.some Jvm.ClassFile.FieldType.int)) ∈ lw_all := lw_g (lw_at lw_m11 217 rfl) rfl
theorem q2726 : (Jvm.Cond.methodLink "KeyTurnsModel" (165 : Nat) ({ cls := "KeyTurnsModel", name := "mustIssue", desc := "()Z" } : Jvm.MethodName)) ∈ lw_all := lw_g (lw_at lw_m11 218 rfl) rfl
theorem q2727 : (Jvm.Cond.privateMethod ({ cls := "KeyTurnsModel", name := "mustIssue", desc := "()Z" } : Jvm.MethodName)) ∈ lw_tbl := lw_at lw_m11 219 rfl
theorem q2728 : (Jvm.Cond.instanceMethod ({ cls := "KeyTurnsModel", name := "mustIssue", desc := "()Z" } : Jvm.MethodName)) ∈ lw_all := lw_g (lw_at lw_m11 220 rfl) rfl
theorem q2729 : (Jvm.Cond.code ({ cls := "KeyTurnsModel", name := "mustIssue", desc := "()Z" } : Jvm.MethodName) prog_24_method_39_code (3 : Nat) (Option.some Jvm.ClassFile.FieldType.boolean)) ∈ lw_all := lw_g (lw_at lw_m11 221 rfl) rfl
theorem q2730 : (Jvm.Cond.methodLink "KeyTurnsModel" (162 : Nat) ({ cls := "KeyTurnsModel", name := "firstOfNext", desc := "()I" } : Jvm.MethodName)) ∈ lw_all := lw_g (lw_at lw_m11 222 rfl) rfl
theorem q2731 : (Jvm.Cond.privateMethod ({ cls := "KeyTurnsModel", name := "firstOfNext", desc := "()I" } : Jvm.MethodName)) ∈ lw_tbl := lw_at lw_m11 223 rfl
theorem q2732 : (Jvm.Cond.instanceMethod ({ cls := "KeyTurnsModel", name := "firstOfNext", desc := "()I" } : Jvm.MethodName)) ∈ lw_all := lw_g (lw_at lw_m11 224 rfl) rfl
theorem q2733 : (Jvm.Cond.code ({ cls := "KeyTurnsModel", name := "firstOfNext", desc := "()I" } : Jvm.MethodName) prog_24_method_40_code (1 : Nat) (Option.some Jvm.ClassFile.FieldType.int)) ∈ lw_all := lw_g (lw_at lw_m11 225 rfl) rfl
theorem q2734 : (Jvm.Cond.methodLink "KeyTurnsModel" (169 : Nat) ({ cls := "KeyTurnsModel", name := "clean", desc := "()I" } : Jvm.MethodName)) ∈ lw_all := lw_g (lw_at lw_m11 226 rfl) rfl
theorem q2735 : (Jvm.Cond.privateMethod ({ cls := "KeyTurnsModel", name := "clean", desc := "()I" } : Jvm.MethodName)) ∈ lw_tbl := lw_at lw_m11 227 rfl
theorem q2736 : (Jvm.Cond.instanceMethod ({ cls := "KeyTurnsModel", name := "clean", desc := "()I" } : Jvm.MethodName)) ∈ lw_all := lw_g (lw_at lw_m11 228 rfl) rfl
theorem q2737 : (Jvm.Cond.code ({ cls := "KeyTurnsModel", name := "clean", desc := "()I" } : Jvm.MethodName) prog_24_method_28_code (5 : Nat) (Option.some Jvm.ClassFile.FieldType.int)) ∈ lw_all := lw_g (lw_at lw_m11 229 rfl) rfl
theorem q2738 : (Jvm.Cond.methodLink "KeyTurnsModel" (140 : Nat) ({ cls := "KeyTurnsModel", name := "wrap", desc := "(II)V" } : Jvm.MethodName)) ∈ lw_all := lw_g (lw_at lw_m11 230 rfl) rfl
theorem q2739 : (Jvm.Cond.privateMethod ({ cls := "KeyTurnsModel", name := "wrap", desc := "(II)V" } : Jvm.MethodName)) ∈ lw_tbl := lw_at lw_m11 231 rfl
theorem q2740 : (Jvm.Cond.instanceMethod ({ cls := "KeyTurnsModel", name := "wrap", desc := "(II)V" } : Jvm.MethodName)) ∈ lw_all := lw_g (lw_at lw_m11 232 rfl) rfl
theorem q2741 : (Jvm.Cond.code ({ cls := "KeyTurnsModel", name := "wrap", desc := "(II)V" } : Jvm.MethodName) prog_24_method_27_code (3 : Nat) (Option.none : Option Jvm.ClassFile.FieldType)) ∈ lw_all := lw_g (lw_at lw_m11 233 rfl) rfl
theorem q2742 : (Jvm.Cond.methodLink "KeyTurnsModel" (172 : Nat) ({ cls := "KeyTurnsModel", name := "sweep", desc := "()V" } : Jvm.MethodName)) ∈ lw_all := lw_g (lw_at lw_m11 234 rfl) rfl
theorem q2743 : (Jvm.Cond.privateMethod ({ cls := "KeyTurnsModel", name := "sweep", desc := "()V" } : Jvm.MethodName)) ∈ lw_tbl := lw_at lw_m11 235 rfl
theorem q2744 : (Jvm.Cond.instanceMethod ({ cls := "KeyTurnsModel", name := "sweep", desc := "()V" } : Jvm.MethodName)) ∈ lw_all := lw_g (lw_at lw_m11 236 rfl) rfl
theorem q2745 : (Jvm.Cond.code ({ cls := "KeyTurnsModel", name := "sweep", desc := "()V" } : Jvm.MethodName) prog_24_method_30_code (4 : Nat) (Option.none : Option Jvm.ClassFile.FieldType)) ∈ lw_all := lw_g (lw_at lw_m11 237 rfl) rfl
theorem q2746 : (Jvm.Cond.methodLink "KeyTurnsModel" (175 : Nat) ({ cls := "KeyTurnsModel", name := "learn", desc := "(I)I" } : Jvm.MethodName)) ∈ lw_all := lw_g (lw_at lw_m11 238 rfl) rfl
theorem q2747 : (Jvm.Cond.privateMethod ({ cls := "KeyTurnsModel", name := "learn", desc := "(I)I" } : Jvm.MethodName)) ∈ lw_tbl := lw_at lw_m11 239 rfl
theorem q2748 : (Jvm.Cond.instanceMethod ({ cls := "KeyTurnsModel", name := "learn", desc := "(I)I" } : Jvm.MethodName)) ∈ lw_all := lw_g (lw_at lw_m12 0 rfl) rfl
theorem q2749 : (Jvm.Cond.code ({ cls := "KeyTurnsModel", name := "learn", desc := "(I)I" } : Jvm.MethodName) prog_24_method_33_code (5 : Nat) (Option.some Jvm.ClassFile.FieldType.int)) ∈ lw_all := lw_g (lw_at lw_m12 1 rfl) rfl
theorem q2750 : (Jvm.Cond.methodLink "KeyTurnsModel" (228 : Nat) ({ cls := "KeyTurnsModel", name := "end", desc := "()V" } : Jvm.MethodName)) ∈ lw_all := lw_g (lw_at lw_m12 2 rfl) rfl
theorem q2751 : (Jvm.Cond.privateMethod ({ cls := "KeyTurnsModel", name := "end", desc := "()V" } : Jvm.MethodName)) ∈ lw_tbl := lw_at lw_m12 3 rfl
theorem q2752 : (Jvm.Cond.instanceMethod ({ cls := "KeyTurnsModel", name := "end", desc := "()V" } : Jvm.MethodName)) ∈ lw_all := lw_g (lw_at lw_m12 4 rfl) rfl
theorem q2753 : (Jvm.Cond.code ({ cls := "KeyTurnsModel", name := "end", desc := "()V" } : Jvm.MethodName) prog_24_method_59_code (1 : Nat) (Option.none : Option Jvm.ClassFile.FieldType)) ∈ lw_all := lw_g (lw_at lw_m12 5 rfl) rfl
theorem q2755 : (Jvm.Cond.instanceMethod ({ cls := "KeyTurnsModel", name := "dark", desc := "(II)I" } : Jvm.MethodName)) ∈ lw_all := lw_g (lw_at lw_m12 7 rfl) rfl
theorem q2756 : (Jvm.Cond.selects "KeyTurnsModel" ({ cls := "KeyTurnsModel", name := "dark", desc := "(II)I" } : Jvm.MethodName) ({ cls := "KeyTurnsModel", name := "dark", desc := "(II)I" } : Jvm.MethodName)) ∈ lw_all := lw_g (lw_at lw_m12 8 rfl) rfl
theorem q2757 : (Jvm.Cond.code ({ cls := "KeyTurnsModel", name := "dark", desc := "(II)I" } : Jvm.MethodName) prog_24_method_61_code (6 : Nat) (Option.some Jvm.ClassFile.FieldType.int)) ∈ lw_all := lw_g (lw_at lw_m12 9 rfl) rfl
theorem q2759 : (Jvm.Cond.instanceMethod ({ cls := "KeyTurnsModel", name := "leastBatch", desc := "(I)I" } : Jvm.MethodName)) ∈ lw_all := lw_g (lw_at lw_m12 11 rfl) rfl
theorem q2760 : (Jvm.Cond.selects "KeyTurnsModel" ({ cls := "KeyTurnsModel", name := "leastBatch", desc := "(I)I" } : Jvm.MethodName) ({ cls := "KeyTurnsModel", name := "leastBatch", desc := "(I)I" } : Jvm.MethodName)) ∈ lw_all := lw_g (lw_at lw_m12 12 rfl) rfl
theorem q2761 : (Jvm.Cond.code ({ cls := "KeyTurnsModel", name := "leastBatch", desc := "(I)I" } : Jvm.MethodName) prog_24_method_62_code (6 : Nat) (Option.some Jvm.ClassFile.FieldType.int)) ∈ lw_all := lw_g (lw_at lw_m12 13 rfl) rfl
theorem q2763 : (Jvm.Cond.instanceMethod ({ cls := "KeyTurnsModel", name := "damage", desc := "(I)I" } : Jvm.MethodName)) ∈ lw_all := lw_g (lw_at lw_m12 15 rfl) rfl
theorem q2764 : (Jvm.Cond.selects "KeyTurnsModel" ({ cls := "KeyTurnsModel", name := "damage", desc := "(I)I" } : Jvm.MethodName) ({ cls := "KeyTurnsModel", name := "damage", desc := "(I)I" } : Jvm.MethodName)) ∈ lw_all := lw_g (lw_at lw_m12 16 rfl) rfl
theorem q2765 : (Jvm.Cond.code ({ cls := "KeyTurnsModel", name := "damage", desc := "(I)I" } : Jvm.MethodName) prog_24_method_64_code (3 : Nat) (Option.some Jvm.ClassFile.FieldType.int)) ∈ lw_all := lw_g (lw_at lw_m12 17 rfl) rfl
theorem q2766 : (Jvm.Cond.methodLink "KeyTurnsModel" (233 : Nat) ({ cls := "KeyTurnsModel", name := "withdrawNow", desc := "(I)I" } : Jvm.MethodName)) ∈ lw_all := lw_g (lw_at lw_m12 18 rfl) rfl
theorem q2767 : (Jvm.Cond.privateMethod ({ cls := "KeyTurnsModel", name := "withdrawNow", desc := "(I)I" } : Jvm.MethodName)) ∈ lw_tbl := lw_at lw_m12 19 rfl
theorem q2768 : (Jvm.Cond.instanceMethod ({ cls := "KeyTurnsModel", name := "withdrawNow", desc := "(I)I" } : Jvm.MethodName)) ∈ lw_all := lw_g (lw_at lw_m12 20 rfl) rfl
theorem q2769 : (Jvm.Cond.code ({ cls := "KeyTurnsModel", name := "withdrawNow", desc := "(I)I" } : Jvm.MethodName) prog_24_method_63_code (3 : Nat) (Option.some Jvm.ClassFile.FieldType.int)) ∈ lw_all := lw_g (lw_at lw_m12 21 rfl) rfl
theorem q2770 : (Jvm.Cond.methodLink "KeyTurnsModel" (230 : Nat) ({ cls := "KeyTurnsModel", name := "takeBack", desc := "(I)Z" } : Jvm.MethodName)) ∈ lw_all := lw_g (lw_at lw_m12 22 rfl) rfl
theorem q2771 : (Jvm.Cond.privateMethod ({ cls := "KeyTurnsModel", name := "takeBack", desc := "(I)Z" } : Jvm.MethodName)) ∈ lw_tbl := lw_at lw_m12 23 rfl
theorem q2772 : (Jvm.Cond.instanceMethod ({ cls := "KeyTurnsModel", name := "takeBack", desc := "(I)Z" } : Jvm.MethodName)) ∈ lw_all := lw_g (lw_at lw_m12 24 rfl) rfl
theorem q2773 : (Jvm.Cond.code ({ cls := "KeyTurnsModel", name := "takeBack", desc := "(I)Z" } : Jvm.MethodName) prog_24_method_25_code (4 : Nat) (Option.some Jvm.ClassFile.FieldType.boolean)) ∈ lw_all := lw_g (lw_at lw_m12 25 rfl) rfl
theorem q2774 : (Jvm.Cond.methodLink "KeyTurnsModel" (121 : Nat) ({ cls := "KeyTurnsModel", name := "greatestLeft", desc := "()I" } : Jvm.MethodName)) ∈ lw_all := lw_g (lw_at lw_m12 26 rfl) rfl
theorem q2775 : (Jvm.Cond.privateMethod ({ cls := "KeyTurnsModel", name := "greatestLeft", desc := "()I" } : Jvm.MethodName)) ∈ lw_tbl := lw_at lw_m12 27 rfl
theorem q2776 : (Jvm.Cond.instanceMethod ({ cls := "KeyTurnsModel", name := "greatestLeft", desc := "()I" } : Jvm.MethodName)) ∈ lw_all := lw_g (lw_at lw_m12 28 rfl) rfl
theorem q2777 : (Jvm.Cond.code ({ cls := "KeyTurnsModel", name := "greatestLeft", desc := "()I" } : Jvm.MethodName) prog_24_method_23_code (3 : Nat) (Option.some Jvm.ClassFile.FieldType.int)) ∈ lw_all := lw_g (lw_at lw_m12 29 rfl) rfl
theorem q2778 : (Jvm.Cond.methodLink "KeyTurnsModel" (124 : Nat) ({ cls := "KeyTurnsModel", name := "greatestOpen", desc := "()I" } : Jvm.MethodName)) ∈ lw_all := lw_g (lw_at lw_m12 30 rfl) rfl
theorem q2779 : (Jvm.Cond.privateMethod ({ cls := "KeyTurnsModel", name := "greatestOpen", desc := "()I" } : Jvm.MethodName)) ∈ lw_tbl := lw_at lw_m12 31 rfl
theorem q2780 : (Jvm.Cond.instanceMethod ({ cls := "KeyTurnsModel", name := "greatestOpen", desc := "()I" } : Jvm.MethodName)) ∈ lw_all := lw_g (lw_at lw_m12 32 rfl) rfl
theorem q2781 : (Jvm.Cond.code ({ cls := "KeyTurnsModel", name := "greatestOpen", desc := "()I" } : Jvm.MethodName) prog_24_method_24_code (3 : Nat) (Option.some Jvm.ClassFile.FieldType.int)) ∈ lw_all := lw_g (lw_at lw_m12 33 rfl) rfl
theorem q2783 : (Jvm.Cond.instanceMethod ({ cls := "KeyTurnsModel", name := "meanWraps", desc := "()D" } : Jvm.MethodName)) ∈ lw_all := lw_g (lw_at lw_m12 35 rfl) rfl
theorem q2784 : (Jvm.Cond.selects "KeyTurnsModel" ({ cls := "KeyTurnsModel", name := "meanWraps", desc := "()D" } : Jvm.MethodName) ({ cls := "KeyTurnsModel", name := "meanWraps", desc := "()D" } : Jvm.MethodName)) ∈ lw_all := lw_g (lw_at lw_m12 36 rfl) rfl
theorem q2785 : (Jvm.Cond.code ({ cls := "KeyTurnsModel", name := "meanWraps", desc := "()D" } : Jvm.MethodName) prog_24_method_65_code (1 : Nat) (Option.some Jvm.ClassFile.FieldType.double)) ∈ lw_all := lw_g (lw_at lw_m12 37 rfl) rfl
theorem q2787 : (Jvm.Cond.instanceMethod ({ cls := "KeyTurnsModel", name := "readable", desc := "()F" } : Jvm.MethodName)) ∈ lw_all := lw_g (lw_at lw_m12 39 rfl) rfl
theorem q2788 : (Jvm.Cond.selects "KeyTurnsModel" ({ cls := "KeyTurnsModel", name := "readable", desc := "()F" } : Jvm.MethodName) ({ cls := "KeyTurnsModel", name := "readable", desc := "()F" } : Jvm.MethodName)) ∈ lw_all := lw_g (lw_at lw_m12 40 rfl) rfl
theorem q2789 : (Jvm.Cond.code ({ cls := "KeyTurnsModel", name := "readable", desc := "()F" } : Jvm.MethodName) prog_24_method_66_code (3 : Nat) (Option.some Jvm.ClassFile.FieldType.float)) ∈ lw_all := lw_g (lw_at lw_m12 41 rfl) rfl
theorem q2791 : (Jvm.Cond.instanceMethod ({ cls := "KeyTurnsModel", name := "pass", desc := "(I)I" } : Jvm.MethodName)) ∈ lw_all := lw_g (lw_at lw_m12 43 rfl) rfl
theorem q2792 : (Jvm.Cond.selects "KeyTurnsModel" ({ cls := "KeyTurnsModel", name := "pass", desc := "(I)I" } : Jvm.MethodName) ({ cls := "KeyTurnsModel", name := "pass", desc := "(I)I" } : Jvm.MethodName)) ∈ lw_all := lw_g (lw_at lw_m12 44 rfl) rfl
theorem q2793 : (Jvm.Cond.code ({ cls := "KeyTurnsModel", name := "pass", desc := "(I)I" } : Jvm.MethodName) prog_24_method_67_code (4 : Nat) (Option.some Jvm.ClassFile.FieldType.int)) ∈ lw_all := lw_g (lw_at lw_m12 45 rfl) rfl
theorem q2794 : (Jvm.Cond.methodLink "KeyTurnsModel" (236 : Nat) ({ cls := "KeyTurnsModel", name := "keep", desc := "()V" } : Jvm.MethodName)) ∈ lw_all := lw_g (lw_at lw_m12 46 rfl) rfl
theorem q2795 : (Jvm.Cond.privateMethod ({ cls := "KeyTurnsModel", name := "keep", desc := "()V" } : Jvm.MethodName)) ∈ lw_tbl := lw_at lw_m12 47 rfl
theorem q2796 : (Jvm.Cond.instanceMethod ({ cls := "KeyTurnsModel", name := "keep", desc := "()V" } : Jvm.MethodName)) ∈ lw_all := lw_g (lw_at lw_m12 48 rfl) rfl
theorem q2797 : (Jvm.Cond.code ({ cls := "KeyTurnsModel", name := "keep", desc := "()V" } : Jvm.MethodName) prog_24_method_80_code (2 : Nat) (Option.none : Option Jvm.ClassFile.FieldType)) ∈ lw_all := lw_g (lw_at lw_m12 49 rfl) rfl
theorem q2799 : (Jvm.Cond.instanceMethod ({ cls := "KeyTurnsModel", name := "rotate", desc := "()I" } : Jvm.MethodName)) ∈ lw_all := lw_g (lw_at lw_m12 51 rfl) rfl
theorem q2800 : (Jvm.Cond.selects "KeyTurnsModel" ({ cls := "KeyTurnsModel", name := "rotate", desc := "()I" } : Jvm.MethodName) ({ cls := "KeyTurnsModel", name := "rotate", desc := "()I" } : Jvm.MethodName)) ∈ lw_all := lw_g (lw_at lw_m12 52 rfl) rfl
theorem q2801 : (Jvm.Cond.code ({ cls := "KeyTurnsModel", name := "rotate", desc := "()I" } : Jvm.MethodName) prog_24_method_68_code (2 : Nat) (Option.some Jvm.ClassFile.FieldType.int)) ∈ lw_all := lw_g (lw_at lw_m12 53 rfl) rfl
theorem q2803 : (Jvm.Cond.instanceMethod ({ cls := "KeyTurnsModel", name := "withdraw", desc := "(I)I" } : Jvm.MethodName)) ∈ lw_all := lw_g (lw_at lw_m12 55 rfl) rfl
theorem q2804 : (Jvm.Cond.selects "KeyTurnsModel" ({ cls := "KeyTurnsModel", name := "withdraw", desc := "(I)I" } : Jvm.MethodName) ({ cls := "KeyTurnsModel", name := "withdraw", desc := "(I)I" } : Jvm.MethodName)) ∈ lw_all := lw_g (lw_at lw_m12 56 rfl) rfl
theorem q2805 : (Jvm.Cond.code ({ cls := "KeyTurnsModel", name := "withdraw", desc := "(I)I" } : Jvm.MethodName) prog_24_method_69_code (3 : Nat) (Option.some Jvm.ClassFile.FieldType.int)) ∈ lw_all := lw_g (lw_at lw_m12 57 rfl) rfl
theorem q2807 : (Jvm.Cond.instanceMethod ({ cls := "KeyTurnsModel", name := "make", desc := "()I" } : Jvm.MethodName)) ∈ lw_all := lw_g (lw_at lw_m12 59 rfl) rfl
theorem q2808 : (Jvm.Cond.selects "KeyTurnsModel" ({ cls := "KeyTurnsModel", name := "make", desc := "()I" } : Jvm.MethodName) ({ cls := "KeyTurnsModel", name := "make", desc := "()I" } : Jvm.MethodName)) ∈ lw_all := lw_g (lw_at lw_m12 60 rfl) rfl
theorem q2809 : (Jvm.Cond.code ({ cls := "KeyTurnsModel", name := "make", desc := "()I" } : Jvm.MethodName) prog_24_method_70_code (1 : Nat) (Option.some Jvm.ClassFile.FieldType.int)) ∈ lw_all := lw_g (lw_at lw_m12 61 rfl) rfl
theorem q2810 : (Jvm.Cond.methodLink "KeyTurnsModel" (239 : Nat) ({ cls := "KeyTurnsModel", name := "makeRecord", desc := "()V" } : Jvm.MethodName)) ∈ lw_all := lw_g (lw_at lw_m12 62 rfl) rfl
theorem q2811 : (Jvm.Cond.privateMethod ({ cls := "KeyTurnsModel", name := "makeRecord", desc := "()V" } : Jvm.MethodName)) ∈ lw_tbl := lw_at lw_m12 63 rfl
theorem q2812 : (Jvm.Cond.instanceMethod ({ cls := "KeyTurnsModel", name := "makeRecord", desc := "()V" } : Jvm.MethodName)) ∈ lw_all := lw_g (lw_at lw_m12 64 rfl) rfl
theorem q2813 : (Jvm.Cond.code ({ cls := "KeyTurnsModel", name := "makeRecord", desc := "()V" } : Jvm.MethodName) prog_24_method_31_code (3 : Nat) (Option.none : Option Jvm.ClassFile.FieldType)) ∈ lw_all := lw_g (lw_at lw_m12 65 rfl) rfl
theorem q2815 : (Jvm.Cond.instanceMethod ({ cls := "KeyTurnsModel", name := "drop", desc := "(I)I" } : Jvm.MethodName)) ∈ lw_all := lw_g (lw_at lw_m12 67 rfl) rfl
theorem q2816 : (Jvm.Cond.selects "KeyTurnsModel" ({ cls := "KeyTurnsModel", name := "drop", desc := "(I)I" } : Jvm.MethodName) ({ cls := "KeyTurnsModel", name := "drop", desc := "(I)I" } : Jvm.MethodName)) ∈ lw_all := lw_g (lw_at lw_m12 68 rfl) rfl
theorem q2817 : (Jvm.Cond.code ({ cls := "KeyTurnsModel", name := "drop", desc := "(I)I" } : Jvm.MethodName) prog_24_method_71_code (2 : Nat) (Option.some Jvm.ClassFile.FieldType.int)) ∈ lw_all := lw_g (lw_at lw_m12 69 rfl) rfl
theorem q2819 : (Jvm.Cond.instanceMethod ({ cls := "KeyTurnsModel", name := "ask", desc := "(I)I" } : Jvm.MethodName)) ∈ lw_all := lw_g (lw_at lw_m12 71 rfl) rfl
theorem q2820 : (Jvm.Cond.selects "KeyTurnsModel" ({ cls := "KeyTurnsModel", name := "ask", desc := "(I)I" } : Jvm.MethodName) ({ cls := "KeyTurnsModel", name := "ask", desc := "(I)I" } : Jvm.MethodName)) ∈ lw_all := lw_g (lw_at lw_m12 72 rfl) rfl
theorem q2821 : (Jvm.Cond.code ({ cls := "KeyTurnsModel", name := "ask", desc := "(I)I" } : Jvm.MethodName) prog_24_method_72_code (2 : Nat) (Option.some Jvm.ClassFile.FieldType.int)) ∈ lw_all := lw_g (lw_at lw_m12 73 rfl) rfl
theorem q2823 : (Jvm.Cond.instanceMethod ({ cls := "KeyTurnsModel", name := "read", desc := "(II)I" } : Jvm.MethodName)) ∈ lw_all := lw_g (lw_at lw_m12 75 rfl) rfl
theorem q2824 : (Jvm.Cond.selects "KeyTurnsModel" ({ cls := "KeyTurnsModel", name := "read", desc := "(II)I" } : Jvm.MethodName) ({ cls := "KeyTurnsModel", name := "read", desc := "(II)I" } : Jvm.MethodName)) ∈ lw_all := lw_g (lw_at lw_m12 76 rfl) rfl
theorem q2825 : (Jvm.Cond.code ({ cls := "KeyTurnsModel", name := "read", desc := "(II)I" } : Jvm.MethodName) prog_24_method_73_code (4 : Nat) (Option.some Jvm.ClassFile.FieldType.int)) ∈ lw_all := lw_g (lw_at lw_m12 77 rfl) rfl
theorem q2827 : (Jvm.Cond.instanceMethod ({ cls := "KeyTurnsModel", name := "setBatch", desc := "(I)I" } : Jvm.MethodName)) ∈ lw_all := lw_g (lw_at lw_m12 79 rfl) rfl
theorem q2828 : (Jvm.Cond.selects "KeyTurnsModel" ({ cls := "KeyTurnsModel", name := "setBatch", desc := "(I)I" } : Jvm.MethodName) ({ cls := "KeyTurnsModel", name := "setBatch", desc := "(I)I" } : Jvm.MethodName)) ∈ lw_all := lw_g (lw_at lw_m12 80 rfl) rfl
theorem q2829 : (Jvm.Cond.code ({ cls := "KeyTurnsModel", name := "setBatch", desc := "(I)I" } : Jvm.MethodName) prog_24_method_74_code (3 : Nat) (Option.some Jvm.ClassFile.FieldType.int)) ∈ lw_all := lw_g (lw_at lw_m12 81 rfl) rfl
theorem q2831 : (Jvm.Cond.instanceMethod ({ cls := "KeyTurnsModel", name := "format", desc := "(I)I" } : Jvm.MethodName)) ∈ lw_all := lw_g (lw_at lw_m12 83 rfl) rfl
theorem q2832 : (Jvm.Cond.selects "KeyTurnsModel" ({ cls := "KeyTurnsModel", name := "format", desc := "(I)I" } : Jvm.MethodName) ({ cls := "KeyTurnsModel", name := "format", desc := "(I)I" } : Jvm.MethodName)) ∈ lw_all := lw_g (lw_at lw_m12 84 rfl) rfl
theorem q2833 : (Jvm.Cond.code ({ cls := "KeyTurnsModel", name := "format", desc := "(I)I" } : Jvm.MethodName) prog_24_method_77_code (4 : Nat) (Option.some Jvm.ClassFile.FieldType.int)) ∈ lw_all := lw_g (lw_at lw_m12 85 rfl) rfl
theorem q2834 : (Jvm.Cond.methodLink "KeyTurnsModel" (248 : Nat) ({ cls := "KeyTurnsModel", name := "putVersion", desc := "(I)V" } : Jvm.MethodName)) ∈ lw_all := lw_g (lw_at lw_m12 86 rfl) rfl
theorem q2835 : (Jvm.Cond.privateMethod ({ cls := "KeyTurnsModel", name := "putVersion", desc := "(I)V" } : Jvm.MethodName)) ∈ lw_tbl := lw_at lw_m12 87 rfl
theorem q2836 : (Jvm.Cond.instanceMethod ({ cls := "KeyTurnsModel", name := "putVersion", desc := "(I)V" } : Jvm.MethodName)) ∈ lw_all := lw_g (lw_at lw_m12 88 rfl) rfl
theorem q2837 : (Jvm.Cond.code ({ cls := "KeyTurnsModel", name := "putVersion", desc := "(I)V" } : Jvm.MethodName) prog_24_method_76_code (2 : Nat) (Option.none : Option Jvm.ClassFile.FieldType)) ∈ lw_all := lw_g (lw_at lw_m12 89 rfl) rfl
theorem q2838 : (Jvm.Cond.methodLink "KeyTurnsModel" (245 : Nat) ({ cls := "KeyTurnsModel", name := "put", desc := "(I)V" } : Jvm.MethodName)) ∈ lw_all := lw_g (lw_at lw_m12 90 rfl) rfl
theorem q2839 : (Jvm.Cond.privateMethod ({ cls := "KeyTurnsModel", name := "put", desc := "(I)V" } : Jvm.MethodName)) ∈ lw_tbl := lw_at lw_m12 91 rfl
theorem q2840 : (Jvm.Cond.instanceMethod ({ cls := "KeyTurnsModel", name := "put", desc := "(I)V" } : Jvm.MethodName)) ∈ lw_all := lw_g (lw_at lw_m12 92 rfl) rfl
theorem q2841 : (Jvm.Cond.code ({ cls := "KeyTurnsModel", name := "put", desc := "(I)V" } : Jvm.MethodName) prog_24_method_75_code (2 : Nat) (Option.none : Option Jvm.ClassFile.FieldType)) ∈ lw_all := lw_g (lw_at lw_m12 93 rfl) rfl
theorem q2843 : (Jvm.Cond.instanceMethod ({ cls := "KeyTurnsModel", name := "formattedByte", desc := "(I)I" } : Jvm.MethodName)) ∈ lw_all := lw_g (lw_at lw_m12 95 rfl) rfl
theorem q2844 : (Jvm.Cond.selects "KeyTurnsModel" ({ cls := "KeyTurnsModel", name := "formattedByte", desc := "(I)I" } : Jvm.MethodName) ({ cls := "KeyTurnsModel", name := "formattedByte", desc := "(I)I" } : Jvm.MethodName)) ∈ lw_all := lw_g (lw_at lw_m12 96 rfl) rfl
theorem q2845 : (Jvm.Cond.code ({ cls := "KeyTurnsModel", name := "formattedByte", desc := "(I)I" } : Jvm.MethodName) prog_24_method_78_code (2 : Nat) (Option.some Jvm.ClassFile.FieldType.int)) ∈ lw_all := lw_g (lw_at lw_m12 97 rfl) rfl
theorem q2847 : (Jvm.Cond.instanceMethod ({ cls := "KeyTurnsModel", name := "undoCount", desc := "()I" } : Jvm.MethodName)) ∈ lw_all := lw_g (lw_at lw_m12 99 rfl) rfl
theorem q2848 : (Jvm.Cond.selects "KeyTurnsModel" ({ cls := "KeyTurnsModel", name := "undoCount", desc := "()I" } : Jvm.MethodName) ({ cls := "KeyTurnsModel", name := "undoCount", desc := "()I" } : Jvm.MethodName)) ∈ lw_all := lw_g (lw_at lw_m12 100 rfl) rfl
theorem q2849 : (Jvm.Cond.code ({ cls := "KeyTurnsModel", name := "undoCount", desc := "()I" } : Jvm.MethodName) prog_24_method_81_code (1 : Nat) (Option.some Jvm.ClassFile.FieldType.int)) ∈ lw_all := lw_g (lw_at lw_m12 101 rfl) rfl
theorem q2851 : (Jvm.Cond.instanceMethod ({ cls := "KeyTurnsModel", name := "undo", desc := "()I" } : Jvm.MethodName)) ∈ lw_all := lw_g (lw_at lw_m12 103 rfl) rfl
theorem q2852 : (Jvm.Cond.selects "KeyTurnsModel" ({ cls := "KeyTurnsModel", name := "undo", desc := "()I" } : Jvm.MethodName) ({ cls := "KeyTurnsModel", name := "undo", desc := "()I" } : Jvm.MethodName)) ∈ lw_all := lw_g (lw_at lw_m12 104 rfl) rfl
theorem q2853 : (Jvm.Cond.code ({ cls := "KeyTurnsModel", name := "undo", desc := "()I" } : Jvm.MethodName) prog_24_method_82_code (1 : Nat) (Option.some Jvm.ClassFile.FieldType.int)) ∈ lw_all := lw_g (lw_at lw_m12 105 rfl) rfl
theorem q2855 : (Jvm.Cond.instanceMethod ({ cls := "KeyTurnsModel", name := "saveSnapshot", desc := "()V" } : Jvm.MethodName)) ∈ lw_all := lw_g (lw_at lw_m12 107 rfl) rfl
theorem q2856 : (Jvm.Cond.selects "KeyTurnsModel" ({ cls := "KeyTurnsModel", name := "saveSnapshot", desc := "()V" } : Jvm.MethodName) ({ cls := "KeyTurnsModel", name := "saveSnapshot", desc := "()V" } : Jvm.MethodName)) ∈ lw_all := lw_g (lw_at lw_m12 108 rfl) rfl
theorem q2857 : (Jvm.Cond.code ({ cls := "KeyTurnsModel", name := "saveSnapshot", desc := "()V" } : Jvm.MethodName) prog_24_method_83_code (1 : Nat) (Option.none : Option Jvm.ClassFile.FieldType)) ∈ lw_all := lw_g (lw_at lw_m12 109 rfl) rfl
theorem q2859 : (Jvm.Cond.instanceMethod ({ cls := "KeyTurnsModel", name := "restoreSnapshot", desc := "()Z" } : Jvm.MethodName)) ∈ lw_all := lw_g (lw_at lw_m12 111 rfl) rfl
theorem q2860 : (Jvm.Cond.selects "KeyTurnsModel" ({ cls := "KeyTurnsModel", name := "restoreSnapshot", desc := "()Z" } : Jvm.MethodName) ({ cls := "KeyTurnsModel", name := "restoreSnapshot", desc := "()Z" } : Jvm.MethodName)) ∈ lw_all := lw_g (lw_at lw_m12 112 rfl) rfl
theorem q2861 : (Jvm.Cond.code ({ cls := "KeyTurnsModel", name := "restoreSnapshot", desc := "()Z" } : Jvm.MethodName) prog_24_method_84_code (1 : Nat) (Option.some Jvm.ClassFile.FieldType.boolean)) ∈ lw_all := lw_g (lw_at lw_m12 113 rfl) rfl
theorem q2863 : (Jvm.Cond.instanceMethod ({ cls := "KeyTurnsModel", name := "feed", desc := "(IIIII)I" } : Jvm.MethodName)) ∈ lw_all := lw_g (lw_at lw_m12 115 rfl) rfl
theorem q2864 : (Jvm.Cond.selects "KeyTurnsModel" ({ cls := "KeyTurnsModel", name := "feed", desc := "(IIIII)I" } : Jvm.MethodName) ({ cls := "KeyTurnsModel", name := "feed", desc := "(IIIII)I" } : Jvm.MethodName)) ∈ lw_all := lw_g (lw_at lw_m12 116 rfl) rfl
theorem q2865 : (Jvm.Cond.code ({ cls := "KeyTurnsModel", name := "feed", desc := "(IIIII)I" } : Jvm.MethodName) prog_24_method_85_code (8 : Nat) (Option.some Jvm.ClassFile.FieldType.int)) ∈ lw_all := lw_g (lw_at lw_m12 117 rfl) rfl
theorem q2867 : (Jvm.Cond.instanceMethod ({ cls := "KeyTurnsModel", name := "errorPosition", desc := "()I" } : Jvm.MethodName)) ∈ lw_all := lw_g (lw_at lw_m12 119 rfl) rfl
theorem q2868 : (Jvm.Cond.selects "KeyTurnsModel" ({ cls := "KeyTurnsModel", name := "errorPosition", desc := "()I" } : Jvm.MethodName) ({ cls := "KeyTurnsModel", name := "errorPosition", desc := "()I" } : Jvm.MethodName)) ∈ lw_all := lw_g (lw_at lw_m12 120 rfl) rfl
theorem q2869 : (Jvm.Cond.code ({ cls := "KeyTurnsModel", name := "errorPosition", desc := "()I" } : Jvm.MethodName) prog_24_method_86_code (1 : Nat) (Option.some Jvm.ClassFile.FieldType.int)) ∈ lw_all := lw_g (lw_at lw_m12 121 rfl) rfl
theorem q2871 : (Jvm.Cond.instanceMethod ({ cls := "KeyTurnsModel", name := "load", desc := "(I)I" } : Jvm.MethodName)) ∈ lw_all := lw_g (lw_at lw_m12 123 rfl) rfl
theorem q2872 : (Jvm.Cond.selects "KeyTurnsModel" ({ cls := "KeyTurnsModel", name := "load", desc := "(I)I" } : Jvm.MethodName) ({ cls := "KeyTurnsModel", name := "load", desc := "(I)I" } : Jvm.MethodName)) ∈ lw_all := lw_g (lw_at lw_m12 124 rfl) rfl
theorem q2873 : (Jvm.Cond.code ({ cls := "KeyTurnsModel", name := "load", desc := "(I)I" } : Jvm.MethodName) prog_24_method_106_code (2 : Nat) (Option.some Jvm.ClassFile.FieldType.int)) ∈ lw_all := lw_g (lw_at lw_m12 125 rfl) rfl
theorem q2874 : (Jvm.Cond.methodLink "KeyTurnsModel" (351 : Nat) ({ cls := "KeyTurnsModel", name := "startText", desc := "(I)V" } : Jvm.MethodName)) ∈ lw_all := lw_g (lw_at lw_m12 126 rfl) rfl
theorem q2875 : (Jvm.Cond.privateMethod ({ cls := "KeyTurnsModel", name := "startText", desc := "(I)V" } : Jvm.MethodName)) ∈ lw_tbl := lw_at lw_m12 127 rfl
theorem q2876 : (Jvm.Cond.instanceMethod ({ cls := "KeyTurnsModel", name := "startText", desc := "(I)V" } : Jvm.MethodName)) ∈ lw_all := lw_g (lw_at lw_m12 128 rfl) rfl
theorem q2877 : (Jvm.Cond.code ({ cls := "KeyTurnsModel", name := "startText", desc := "(I)V" } : Jvm.MethodName) prog_24_method_91_code (2 : Nat) (Option.none : Option Jvm.ClassFile.FieldType)) ∈ lw_all := lw_g (lw_at lw_m12 129 rfl) rfl
theorem q2878 : (Jvm.Cond.methodLink "KeyTurnsModel" (288 : Nat) ({ cls := "KeyTurnsModel", name := "scan", desc := "()V" } : Jvm.MethodName)) ∈ lw_all := lw_g (lw_at lw_m12 130 rfl) rfl
theorem q2879 : (Jvm.Cond.privateMethod ({ cls := "KeyTurnsModel", name := "scan", desc := "()V" } : Jvm.MethodName)) ∈ lw_tbl := lw_at lw_m12 131 rfl
theorem q2880 : (Jvm.Cond.instanceMethod ({ cls := "KeyTurnsModel", name := "scan", desc := "()V" } : Jvm.MethodName)) ∈ lw_all := lw_g (lw_at lw_m12 132 rfl) rfl
theorem q2881 : (Jvm.Cond.code ({ cls := "KeyTurnsModel", name := "scan", desc := "()V" } : Jvm.MethodName) prog_24_method_90_code (1 : Nat) (Option.none : Option Jvm.ClassFile.FieldType)) ∈ lw_all := lw_g (lw_at lw_m12 133 rfl) rfl
theorem q2882 : (Jvm.Cond.methodLink "KeyTurnsModel" (264 : Nat) ({ cls := "KeyTurnsModel", name := "byteAt", desc := "(I)I" } : Jvm.MethodName)) ∈ lw_all := lw_g (lw_at lw_m12 134 rfl) rfl
theorem q2883 : (Jvm.Cond.privateMethod ({ cls := "KeyTurnsModel", name := "byteAt", desc := "(I)I" } : Jvm.MethodName)) ∈ lw_tbl := lw_at lw_m12 135 rfl
theorem q2884 : (Jvm.Cond.instanceMethod ({ cls := "KeyTurnsModel", name := "byteAt", desc := "(I)I" } : Jvm.MethodName)) ∈ lw_all := lw_g (lw_at lw_m12 136 rfl) rfl
theorem q2885 : (Jvm.Cond.code ({ cls := "KeyTurnsModel", name := "byteAt", desc := "(I)I" } : Jvm.MethodName) prog_24_method_87_code (2 : Nat) (Option.some Jvm.ClassFile.FieldType.int)) ∈ lw_all := lw_g (lw_at lw_m12 137 rfl) rfl
theorem q2886 : (Jvm.Cond.methodLink "KeyTurnsModel" (276 : Nat) ({ cls := "KeyTurnsModel", name := "isLetter", desc := "(I)Z" } : Jvm.MethodName)) ∈ lw_all := lw_g (lw_at lw_m12 138 rfl) rfl
theorem q2887 : (Jvm.Cond.privateMethod ({ cls := "KeyTurnsModel", name := "isLetter", desc := "(I)Z" } : Jvm.MethodName)) ∈ lw_tbl := lw_at lw_m12 139 rfl
theorem q2888 : (Jvm.Cond.instanceMethod ({ cls := "KeyTurnsModel", name := "isLetter", desc := "(I)Z" } : Jvm.MethodName)) ∈ lw_all := lw_g (lw_at lw_m12 140 rfl) rfl
theorem q2889 : (Jvm.Cond.code ({ cls := "KeyTurnsModel", name := "isLetter", desc := "(I)Z" } : Jvm.MethodName) prog_24_method_88_code (2 : Nat) (Option.some Jvm.ClassFile.FieldType.boolean)) ∈ lw_all := lw_g (lw_at lw_m12 141 rfl) rfl
theorem q2890 : (Jvm.Cond.methodLink "KeyTurnsModel" (279 : Nat) ({ cls := "KeyTurnsModel", name := "isDigit", desc := "(I)Z" } : Jvm.MethodName)) ∈ lw_all := lw_g (lw_at lw_m12 142 rfl) rfl
theorem q2891 : (Jvm.Cond.privateMethod ({ cls := "KeyTurnsModel", name := "isDigit", desc := "(I)Z" } : Jvm.MethodName)) ∈ lw_tbl := lw_at lw_m12 143 rfl
theorem q2892 : (Jvm.Cond.instanceMethod ({ cls := "KeyTurnsModel", name := "isDigit", desc := "(I)Z" } : Jvm.MethodName)) ∈ lw_all := lw_g (lw_at lw_m12 144 rfl) rfl
theorem q2893 : (Jvm.Cond.code ({ cls := "KeyTurnsModel", name := "isDigit", desc := "(I)Z" } : Jvm.MethodName) prog_24_method_89_code (2 : Nat) (Option.some Jvm.ClassFile.FieldType.boolean)) ∈ lw_all := lw_g (lw_at lw_m12 145 rfl) rfl
theorem q2894 : (Jvm.Cond.methodLink "KeyTurnsModel" (354 : Nat) ({ cls := "KeyTurnsModel", name := "readAll", desc := "()V" } : Jvm.MethodName)) ∈ lw_all := lw_g (lw_at lw_m12 146 rfl) rfl
theorem q2895 : (Jvm.Cond.privateMethod ({ cls := "KeyTurnsModel", name := "readAll", desc := "()V" } : Jvm.MethodName)) ∈ lw_tbl := lw_at lw_m12 147 rfl
theorem q2896 : (Jvm.Cond.instanceMethod ({ cls := "KeyTurnsModel", name := "readAll", desc := "()V" } : Jvm.MethodName)) ∈ lw_all := lw_g (lw_at lw_m12 148 rfl) rfl
theorem q2897 : (Jvm.Cond.code ({ cls := "KeyTurnsModel", name := "readAll", desc := "()V" } : Jvm.MethodName) prog_24_method_105_code (5 : Nat) (Option.none : Option Jvm.ClassFile.FieldType)) ∈ lw_all := lw_g (lw_at lw_m12 149 rfl) rfl
theorem q2898 : (Jvm.Cond.stringRef "KeyTurnsModel" (333 : Nat) "keys") ∈ lw_tbl := lw_at lw_m12 150 rfl
theorem q2899 : (Jvm.Cond.methodLink "KeyTurnsModel" (334 : Nat) ({ cls := "KeyTurnsModel", name := "expectWord", desc := "(Ljava/lang/String;)V" } : Jvm.MethodName)) ∈ lw_all := lw_g (lw_at lw_m12 151 rfl) rfl
theorem q2900 : (Jvm.Cond.privateMethod ({ cls := "KeyTurnsModel", name := "expectWord", desc := "(Ljava/lang/String;)V" } : Jvm.MethodName)) ∈ lw_tbl := lw_at lw_m12 152 rfl
theorem q2901 : (Jvm.Cond.instanceMethod ({ cls := "KeyTurnsModel", name := "expectWord", desc := "(Ljava/lang/String;)V" } : Jvm.MethodName)) ∈ lw_all := lw_g (lw_at lw_m12 153 rfl) rfl
theorem q2902 : (Jvm.Cond.code ({ cls := "KeyTurnsModel", name := "expectWord", desc := "(Ljava/lang/String;)V" } : Jvm.MethodName) prog_24_method_99_code (2 : Nat) (Option.none : Option Jvm.ClassFile.FieldType)) ∈ lw_all := lw_g (lw_at lw_m12 154 rfl) rfl
theorem q2903 : (Jvm.Cond.methodLink "KeyTurnsModel" (304 : Nat) ({ cls := "KeyTurnsModel", name := "isWord", desc := "(Ljava/lang/String;)Z" } : Jvm.MethodName)) ∈ lw_all := lw_g (lw_at lw_m12 155 rfl) rfl
theorem q2904 : (Jvm.Cond.privateMethod ({ cls := "KeyTurnsModel", name := "isWord", desc := "(Ljava/lang/String;)Z" } : Jvm.MethodName)) ∈ lw_tbl := lw_at lw_m12 156 rfl
theorem q2905 : (Jvm.Cond.instanceMethod ({ cls := "KeyTurnsModel", name := "isWord", desc := "(Ljava/lang/String;)Z" } : Jvm.MethodName)) ∈ lw_all := lw_g (lw_at lw_m12 157 rfl) rfl
theorem q2906 : (Jvm.Cond.code ({ cls := "KeyTurnsModel", name := "isWord", desc := "(Ljava/lang/String;)Z" } : Jvm.MethodName) prog_24_method_97_code (4 : Nat) (Option.some Jvm.ClassFile.FieldType.boolean)) ∈ lw_all := lw_g (lw_at lw_m12 158 rfl) rfl
theorem q2907 : (Jvm.Cond.methodLink "KeyTurnsModel" (297 : Nat) ({ cls := "java/lang/String", name := "length", desc := "()I" } : Jvm.MethodName)) ∈ lw_all := lw_g (lw_at lw_m12 159 rfl) rfl
theorem q2908 : (Jvm.Cond.methodLink "KeyTurnsModel" (300 : Nat) ({ cls := "java/lang/String", name := "charAt", desc := "(I)C" } : Jvm.MethodName)) ∈ lw_all := lw_g (lw_at lw_m12 160 rfl) rfl
theorem q2909 : (Jvm.Cond.methodLink "KeyTurnsModel" (308 : Nat) ({ cls := "KeyTurnsModel", name := "check", desc := "(ZI)V" } : Jvm.MethodName)) ∈ lw_all := lw_g (lw_at lw_m12 161 rfl) rfl
theorem q2910 : (Jvm.Cond.privateMethod ({ cls := "KeyTurnsModel", name := "check", desc := "(ZI)V" } : Jvm.MethodName)) ∈ lw_tbl := lw_at lw_m12 162 rfl
theorem q2911 : (Jvm.Cond.instanceMethod ({ cls := "KeyTurnsModel", name := "check", desc := "(ZI)V" } : Jvm.MethodName)) ∈ lw_all := lw_g (lw_at lw_m12 163 rfl) rfl
theorem q2912 : (Jvm.Cond.code ({ cls := "KeyTurnsModel", name := "check", desc := "(ZI)V" } : Jvm.MethodName) prog_24_method_94_code (3 : Nat) (Option.none : Option Jvm.ClassFile.FieldType)) ∈ lw_all := lw_g (lw_at lw_m12 164 rfl) rfl
theorem q2913 : (Jvm.Cond.methodLink "KeyTurnsModel" (294 : Nat) ({ cls := "KeyTurnsModel", name := "flaw", desc := "(I)V" } : Jvm.MethodName)) ∈ lw_all := lw_g (lw_at lw_m12 165 rfl) rfl
theorem q2914 : (Jvm.Cond.privateMethod ({ cls := "KeyTurnsModel", name := "flaw", desc := "(I)V" } : Jvm.MethodName)) ∈ lw_tbl := lw_at lw_m12 166 rfl
theorem q2915 : (Jvm.Cond.instanceMethod ({ cls := "KeyTurnsModel", name := "flaw", desc := "(I)V" } : Jvm.MethodName)) ∈ lw_all := lw_g (lw_at lw_m12 167 rfl) rfl
theorem q2916 : (Jvm.Cond.code ({ cls := "KeyTurnsModel", name := "flaw", desc := "(I)V" } : Jvm.MethodName) prog_24_method_93_code (2 : Nat) (Option.none : Option Jvm.ClassFile.FieldType)) ∈ lw_all := lw_g (lw_at lw_m12 168 rfl) rfl
theorem q2917 : (Jvm.Cond.methodLink "KeyTurnsModel" (312 : Nat) ({ cls := "KeyTurnsModel", name := "advance", desc := "()V" } : Jvm.MethodName)) ∈ lw_all := lw_g (lw_at lw_m12 169 rfl) rfl
theorem q2918 : (Jvm.Cond.privateMethod ({ cls := "KeyTurnsModel", name := "advance", desc := "()V" } : Jvm.MethodName)) ∈ lw_tbl := lw_at lw_m12 170 rfl
theorem q2919 : (Jvm.Cond.instanceMethod ({ cls := "KeyTurnsModel", name := "advance", desc := "()V" } : Jvm.MethodName)) ∈ lw_all := lw_g (lw_at lw_m12 171 rfl) rfl
theorem q2920 : (Jvm.Cond.code ({ cls := "KeyTurnsModel", name := "advance", desc := "()V" } : Jvm.MethodName) prog_24_method_95_code (1 : Nat) (Option.none : Option Jvm.ClassFile.FieldType)) ∈ lw_all := lw_g (lw_at lw_m12 172 rfl) rfl
theorem q2921 : (Jvm.Cond.methodLink "KeyTurnsModel" (330 : Nat) ({ cls := "KeyTurnsModel", name := "readNumber", desc := "(II)I" } : Jvm.MethodName)) ∈ lw_all := lw_g (lw_at lw_m12 173 rfl) rfl
theorem q2922 : (Jvm.Cond.privateMethod ({ cls := "KeyTurnsModel", name := "readNumber", desc := "(II)I" } : Jvm.MethodName)) ∈ lw_tbl := lw_at lw_m12 174 rfl
theorem q2923 : (Jvm.Cond.instanceMethod ({ cls := "KeyTurnsModel", name := "readNumber", desc := "(II)I" } : Jvm.MethodName)) ∈ lw_all := lw_g (lw_at lw_m12 175 rfl) rfl
theorem q2924 : (Jvm.Cond.code ({ cls := "KeyTurnsModel", name := "readNumber", desc := "(II)I" } : Jvm.MethodName) prog_24_method_102_code (4 : Nat) (Option.some Jvm.ClassFile.FieldType.int)) ∈ lw_all := lw_g (lw_at lw_m12 176 rfl) rfl
theorem q2925 : (Jvm.Cond.methodLink "KeyTurnsModel" (327 : Nat) ({ cls := "KeyTurnsModel", name := "value", desc := "()I" } : Jvm.MethodName)) ∈ lw_all := lw_g (lw_at lw_m12 177 rfl) rfl
theorem q2926 : (Jvm.Cond.privateMethod ({ cls := "KeyTurnsModel", name := "value", desc := "()I" } : Jvm.MethodName)) ∈ lw_tbl := lw_at lw_m12 178 rfl
theorem q2927 : (Jvm.Cond.instanceMethod ({ cls := "KeyTurnsModel", name := "value", desc := "()I" } : Jvm.MethodName)) ∈ lw_all := lw_g (lw_at lw_m12 179 rfl) rfl
theorem q2928 : (Jvm.Cond.code ({ cls := "KeyTurnsModel", name := "value", desc := "()I" } : Jvm.MethodName) prog_24_method_101_code (3 : Nat) (Option.some Jvm.ClassFile.FieldType.int)) ∈ lw_all := lw_g (lw_at lw_m12 180 rfl) rfl
theorem q2929 : (Jvm.Cond.constantLong "KeyTurnsModel" (318 : Nat) (2000000000 : Int64)) ∈ lw_all := lw_g (lw_at lw_m12 181 rfl) rfl
theorem q2930 : (Jvm.Cond.constantLong "KeyTurnsModel" (320 : Nat) (10 : Int64)) ∈ lw_all := lw_g (lw_at lw_m12 182 rfl) rfl
theorem q2931 : (Jvm.Cond.constantLong "KeyTurnsModel" (322 : Nat) (48 : Int64)) ∈ lw_all := lw_g (lw_at lw_m12 183 rfl) rfl
theorem q2932 : (Jvm.Cond.methodLink "KeyTurnsModel" (324 : Nat) ({ cls := "java/lang/Math", name := "min", desc := "(JJ)J" } : Jvm.MethodName)) ∈ lw_all := lw_g (lw_at lw_m12 184 rfl) rfl
theorem q2935 : (Jvm.Cond.methodLink "KeyTurnsModel" (338 : Nat) ({ cls := "KeyTurnsModel", name := "expect", desc := "(I)V" } : Jvm.MethodName)) ∈ lw_all := lw_g (lw_at lw_m12 187 rfl) rfl
theorem q2936 : (Jvm.Cond.privateMethod ({ cls := "KeyTurnsModel", name := "expect", desc := "(I)V" } : Jvm.MethodName)) ∈ lw_tbl := lw_at lw_m12 188 rfl
theorem q2937 : (Jvm.Cond.instanceMethod ({ cls := "KeyTurnsModel", name := "expect", desc := "(I)V" } : Jvm.MethodName)) ∈ lw_all := lw_g (lw_at lw_m12 189 rfl) rfl
theorem q2938 : (Jvm.Cond.code ({ cls := "KeyTurnsModel", name := "expect", desc := "(I)V" } : Jvm.MethodName) prog_24_method_100_code (2 : Nat) (Option.none : Option Jvm.ClassFile.FieldType)) ∈ lw_all := lw_g (lw_at lw_m12 190 rfl) rfl
theorem q2939 : (Jvm.Cond.methodLink "KeyTurnsModel" (315 : Nat) ({ cls := "KeyTurnsModel", name := "isSymbol", desc := "(I)Z" } : Jvm.MethodName)) ∈ lw_all := lw_g (lw_at lw_m12 191 rfl) rfl
theorem q2940 : (Jvm.Cond.privateMethod ({ cls := "KeyTurnsModel", name := "isSymbol", desc := "(I)Z" } : Jvm.MethodName)) ∈ lw_tbl := lw_at lw_m12 192 rfl
theorem q2941 : (Jvm.Cond.instanceMethod ({ cls := "KeyTurnsModel", name := "isSymbol", desc := "(I)Z" } : Jvm.MethodName)) ∈ lw_all := lw_g (lw_at lw_m12 193 rfl) rfl
theorem q2942 : (Jvm.Cond.code ({ cls := "KeyTurnsModel", name := "isSymbol", desc := "(I)Z" } : Jvm.MethodName) prog_24_method_96_code (2 : Nat) (Option.some Jvm.ClassFile.FieldType.boolean)) ∈ lw_all := lw_g (lw_at lw_m12 194 rfl) rfl
theorem q2943 : (Jvm.Cond.stringRef "KeyTurnsModel" (341 : Nat) "client") ∈ lw_tbl := lw_at lw_m12 195 rfl
theorem q2944 : (Jvm.Cond.methodLink "KeyTurnsModel" (343 : Nat) ({ cls := "KeyTurnsModel", name := "readClient", desc := "()V" } : Jvm.MethodName)) ∈ lw_all := lw_g (lw_at lw_m12 196 rfl) rfl
theorem q2945 : (Jvm.Cond.privateMethod ({ cls := "KeyTurnsModel", name := "readClient", desc := "()V" } : Jvm.MethodName)) ∈ lw_tbl := lw_at lw_m12 197 rfl
theorem q2946 : (Jvm.Cond.instanceMethod ({ cls := "KeyTurnsModel", name := "readClient", desc := "()V" } : Jvm.MethodName)) ∈ lw_all := lw_g (lw_at lw_m12 198 rfl) rfl
theorem q2947 : (Jvm.Cond.code ({ cls := "KeyTurnsModel", name := "readClient", desc := "()V" } : Jvm.MethodName) prog_24_method_103_code (5 : Nat) (Option.none : Option Jvm.ClassFile.FieldType)) ∈ lw_all := lw_g (lw_at lw_m12 199 rfl) rfl
theorem q2948 : (Jvm.Cond.stringRef "KeyTurnsModel" (346 : Nat) "records") ∈ lw_tbl := lw_at lw_m12 200 rfl
theorem q2949 : (Jvm.Cond.methodLink "KeyTurnsModel" (348 : Nat) ({ cls := "KeyTurnsModel", name := "readRecords", desc := "()V" } : Jvm.MethodName)) ∈ lw_all := lw_g (lw_at lw_m12 201 rfl) rfl
theorem q2950 : (Jvm.Cond.privateMethod ({ cls := "KeyTurnsModel", name := "readRecords", desc := "()V" } : Jvm.MethodName)) ∈ lw_tbl := lw_at lw_m12 202 rfl
theorem q2951 : (Jvm.Cond.instanceMethod ({ cls := "KeyTurnsModel", name := "readRecords", desc := "()V" } : Jvm.MethodName)) ∈ lw_all := lw_g (lw_at lw_m12 203 rfl) rfl
theorem q2952 : (Jvm.Cond.code ({ cls := "KeyTurnsModel", name := "readRecords", desc := "()V" } : Jvm.MethodName) prog_24_method_104_code (3 : Nat) (Option.none : Option Jvm.ClassFile.FieldType)) ∈ lw_all := lw_g (lw_at lw_m12 204 rfl) rfl
theorem q2953 : (Jvm.Cond.methodLink "KeyTurnsModel" (357 : Nat) ({ cls := "KeyTurnsModel", name := "finish", desc := "()I" } : Jvm.MethodName)) ∈ lw_all := lw_g (lw_at lw_m12 205 rfl) rfl
theorem q2954 : (Jvm.Cond.privateMethod ({ cls := "KeyTurnsModel", name := "finish", desc := "()I" } : Jvm.MethodName)) ∈ lw_tbl := lw_at lw_m12 206 rfl
theorem q2955 : (Jvm.Cond.instanceMethod ({ cls := "KeyTurnsModel", name := "finish", desc := "()I" } : Jvm.MethodName)) ∈ lw_all := lw_g (lw_at lw_m12 207 rfl) rfl
theorem q2956 : (Jvm.Cond.code ({ cls := "KeyTurnsModel", name := "finish", desc := "()I" } : Jvm.MethodName) prog_24_method_92_code (1 : Nat) (Option.some Jvm.ClassFile.FieldType.int)) ∈ lw_all := lw_g (lw_at lw_m12 208 rfl) rfl
theorem q2958 : (Jvm.Cond.instanceMethod ({ cls := "KeyTurnsModel", name := "query", desc := "(I)I" } : Jvm.MethodName)) ∈ lw_all := lw_g (lw_at lw_m12 210 rfl) rfl
theorem q2959 : (Jvm.Cond.selects "KeyTurnsModel" ({ cls := "KeyTurnsModel", name := "query", desc := "(I)I" } : Jvm.MethodName) ({ cls := "KeyTurnsModel", name := "query", desc := "(I)I" } : Jvm.MethodName)) ∈ lw_all := lw_g (lw_at lw_m12 211 rfl) rfl
theorem q2960 : (Jvm.Cond.code ({ cls := "KeyTurnsModel", name := "query", desc := "(I)I" } : Jvm.MethodName) prog_24_method_116_code (5 : Nat) (Option.some Jvm.ClassFile.FieldType.int)) ∈ lw_all := lw_g (lw_at lw_m12 212 rfl) rfl
theorem q2961 : (Jvm.Cond.stringRef "KeyTurnsModel" (397 : Nat) "first") ∈ lw_tbl := lw_at lw_m12 213 rfl
theorem q2962 : (Jvm.Cond.stringRef "KeyTurnsModel" (399 : Nat) "many") ∈ lw_tbl := lw_at lw_m12 214 rfl
theorem q2963 : (Jvm.Cond.methodLink "KeyTurnsModel" (374 : Nat) ({ cls := "KeyTurnsModel", name := "compileTest", desc := "()V" } : Jvm.MethodName)) ∈ lw_all := lw_g (lw_at lw_m12 215 rfl) rfl
theorem q2964 : (Jvm.Cond.privateMethod ({ cls := "KeyTurnsModel", name := "compileTest", desc := "()V" } : Jvm.MethodName)) ∈ lw_tbl := lw_at lw_m12 216 rfl
theorem q2965 : (Jvm.Cond.instanceMethod ({ cls := "KeyTurnsModel", name := "compileTest", desc := "()V" } : Jvm.MethodName)) ∈ lw_all := lw_g (lw_at lw_m12 217 rfl) rfl
theorem q2966 : (Jvm.Cond.code ({ cls := "KeyTurnsModel", name := "compileTest", desc := "()V" } : Jvm.MethodName) prog_24_method_112_code (1 : Nat) (Option.none : Option Jvm.ClassFile.FieldType)) ∈ lw_all := lw_g (lw_at lw_m12 218 rfl) rfl
theorem q2967 : (Jvm.Cond.methodLink "KeyTurnsModel" (385 : Nat) ({ cls := "KeyTurnsModel", name := "compileConjunction", desc := "()V" } : Jvm.MethodName)) ∈ lw_all := lw_g (lw_at lw_m12 219 rfl) rfl
theorem q2968 : (Jvm.Cond.privateMethod ({ cls := "KeyTurnsModel", name := "compileConjunction", desc := "()V" } : Jvm.MethodName)) ∈ lw_tbl := lw_at lw_m12 220 rfl
theorem q2969 : (Jvm.Cond.instanceMethod ({ cls := "KeyTurnsModel", name := "compileConjunction", desc := "()V" } : Jvm.MethodName)) ∈ lw_all := lw_g (lw_at lw_m12 221 rfl) rfl
theorem q2970 : (Jvm.Cond.code ({ cls := "KeyTurnsModel", name := "compileConjunction", desc := "()V" } : Jvm.MethodName) prog_24_method_111_code (1 : Nat) (Option.none : Option Jvm.ClassFile.FieldType)) ∈ lw_all := lw_g (lw_at lw_m12 222 rfl) rfl
theorem q2971 : (Jvm.Cond.methodLink "KeyTurnsModel" (371 : Nat) ({ cls := "KeyTurnsModel", name := "compileFactor", desc := "()V" } : Jvm.MethodName)) ∈ lw_all := lw_g (lw_at lw_m12 223 rfl) rfl
theorem q2972 : (Jvm.Cond.privateMethod ({ cls := "KeyTurnsModel", name := "compileFactor", desc := "()V" } : Jvm.MethodName)) ∈ lw_tbl := lw_at lw_m12 224 rfl
theorem q2973 : (Jvm.Cond.instanceMethod ({ cls := "KeyTurnsModel", name := "compileFactor", desc := "()V" } : Jvm.MethodName)) ∈ lw_all := lw_g (lw_at lw_m12 225 rfl) rfl
theorem q2974 : (Jvm.Cond.code ({ cls := "KeyTurnsModel", name := "compileFactor", desc := "()V" } : Jvm.MethodName) prog_24_method_110_code (2 : Nat) (Option.none : Option Jvm.ClassFile.FieldType)) ∈ lw_all := lw_g (lw_at lw_m12 226 rfl) rfl
theorem q2975 : (Jvm.Cond.stringRef "KeyTurnsModel" (366 : Nat) "not") ∈ lw_tbl := lw_at lw_m12 227 rfl
theorem q2976 : (Jvm.Cond.methodLink "KeyTurnsModel" (368 : Nat) ({ cls := "KeyTurnsModel", name := "enter", desc := "()V" } : Jvm.MethodName)) ∈ lw_all := lw_g (lw_at lw_m12 228 rfl) rfl
theorem q2977 : (Jvm.Cond.privateMethod ({ cls := "KeyTurnsModel", name := "enter", desc := "()V" } : Jvm.MethodName)) ∈ lw_tbl := lw_at lw_m12 229 rfl
theorem q2978 : (Jvm.Cond.instanceMethod ({ cls := "KeyTurnsModel", name := "enter", desc := "()V" } : Jvm.MethodName)) ∈ lw_all := lw_g (lw_at lw_m12 230 rfl) rfl
theorem q2979 : (Jvm.Cond.code ({ cls := "KeyTurnsModel", name := "enter", desc := "()V" } : Jvm.MethodName) prog_24_method_108_code (1 : Nat) (Option.none : Option Jvm.ClassFile.FieldType)) ∈ lw_all := lw_g (lw_at lw_m12 231 rfl) rfl
theorem q2980 : (Jvm.Cond.methodLink "KeyTurnsModel" (363 : Nat) ({ cls := "KeyTurnsModel", name := "emit", desc := "(I)V" } : Jvm.MethodName)) ∈ lw_all := lw_g (lw_at lw_m12 232 rfl) rfl
theorem q2981 : (Jvm.Cond.privateMethod ({ cls := "KeyTurnsModel", name := "emit", desc := "(I)V" } : Jvm.MethodName)) ∈ lw_tbl := lw_at lw_m12 233 rfl
theorem q2982 : (Jvm.Cond.instanceMethod ({ cls := "KeyTurnsModel", name := "emit", desc := "(I)V" } : Jvm.MethodName)) ∈ lw_all := lw_g (lw_at lw_m12 234 rfl) rfl
theorem q2983 : (Jvm.Cond.code ({ cls := "KeyTurnsModel", name := "emit", desc := "(I)V" } : Jvm.MethodName) prog_24_method_107_code (2 : Nat) (Option.none : Option Jvm.ClassFile.FieldType)) ∈ lw_all := lw_g (lw_at lw_m12 235 rfl) rfl
theorem q2984 : (Jvm.Cond.methodLink "KeyTurnsModel" (377 : Nat) ({ cls := "KeyTurnsModel", name := "compileValue", desc := "()V" } : Jvm.MethodName)) ∈ lw_all := lw_g (lw_at lw_m12 236 rfl) rfl
theorem q2985 : (Jvm.Cond.privateMethod ({ cls := "KeyTurnsModel", name := "compileValue", desc := "()V" } : Jvm.MethodName)) ∈ lw_tbl := lw_at lw_m12 237 rfl
theorem q2986 : (Jvm.Cond.instanceMethod ({ cls := "KeyTurnsModel", name := "compileValue", desc := "()V" } : Jvm.MethodName)) ∈ lw_all := lw_g (lw_at lw_m12 238 rfl) rfl
theorem q2987 : (Jvm.Cond.code ({ cls := "KeyTurnsModel", name := "compileValue", desc := "()V" } : Jvm.MethodName) prog_24_method_109_code (2 : Nat) (Option.none : Option Jvm.ClassFile.FieldType)) ∈ lw_all := lw_g (lw_at lw_m12 239 rfl) rfl
theorem q2988 : (Jvm.Cond.stringRef "KeyTurnsModel" (380 : Nat) "and") ∈ lw_tbl := lw_at lw_m13 0 rfl
theorem q2989 : (Jvm.Cond.methodLink "KeyTurnsModel" (382 : Nat) ({ cls := "KeyTurnsModel", name := "accept", desc := "(Ljava/lang/String;)Z" } : Jvm.MethodName)) ∈ lw_all := lw_g (lw_at lw_m13 1 rfl) rfl
theorem q2990 : (Jvm.Cond.privateMethod ({ cls := "KeyTurnsModel", name := "accept", desc := "(Ljava/lang/String;)Z" } : Jvm.MethodName)) ∈ lw_tbl := lw_at lw_m13 2 rfl
theorem q2991 : (Jvm.Cond.instanceMethod ({ cls := "KeyTurnsModel", name := "accept", desc := "(Ljava/lang/String;)Z" } : Jvm.MethodName)) ∈ lw_all := lw_g (lw_at lw_m13 3 rfl) rfl
theorem q2992 : (Jvm.Cond.code ({ cls := "KeyTurnsModel", name := "accept", desc := "(Ljava/lang/String;)Z" } : Jvm.MethodName) prog_24_method_98_code (3 : Nat) (Option.some Jvm.ClassFile.FieldType.boolean)) ∈ lw_all := lw_g (lw_at lw_m13 4 rfl) rfl
theorem q2993 : (Jvm.Cond.stringRef "KeyTurnsModel" (388 : Nat) "or") ∈ lw_tbl := lw_at lw_m13 5 rfl
theorem q2994 : (Jvm.Cond.constant "KeyTurnsModel" (401 : Nat) (-1000000000 : Int32)) ∈ lw_all := lw_g (lw_at lw_m13 6 rfl) rfl
theorem q2995 : (Jvm.Cond.methodLink "KeyTurnsModel" (402 : Nat) ({ cls := "KeyTurnsModel", name := "holdsFor", desc := "(I)Z" } : Jvm.MethodName)) ∈ lw_all := lw_g (lw_at lw_m13 7 rfl) rfl
theorem q2996 : (Jvm.Cond.privateMethod ({ cls := "KeyTurnsModel", name := "holdsFor", desc := "(I)Z" } : Jvm.MethodName)) ∈ lw_tbl := lw_at lw_m13 8 rfl
theorem q2997 : (Jvm.Cond.instanceMethod ({ cls := "KeyTurnsModel", name := "holdsFor", desc := "(I)Z" } : Jvm.MethodName)) ∈ lw_all := lw_g (lw_at lw_m13 9 rfl) rfl
theorem q2998 : (Jvm.Cond.code ({ cls := "KeyTurnsModel", name := "holdsFor", desc := "(I)Z" } : Jvm.MethodName) prog_24_method_115_code (5 : Nat) (Option.some Jvm.ClassFile.FieldType.boolean)) ∈ lw_all := lw_g (lw_at lw_m13 10 rfl) rfl
theorem q2999 : (Jvm.Cond.methodLink "KeyTurnsModel" (390 : Nat) ({ cls := "KeyTurnsModel", name := "property", desc := "(II)I" } : Jvm.MethodName)) ∈ lw_all := lw_g (lw_at lw_m13 11 rfl) rfl
theorem q3000 : (Jvm.Cond.privateMethod ({ cls := "KeyTurnsModel", name := "property", desc := "(II)I" } : Jvm.MethodName)) ∈ lw_tbl := lw_at lw_m13 12 rfl
theorem q3001 : (Jvm.Cond.instanceMethod ({ cls := "KeyTurnsModel", name := "property", desc := "(II)I" } : Jvm.MethodName)) ∈ lw_all := lw_g (lw_at lw_m13 13 rfl) rfl
theorem q3002 : (Jvm.Cond.code ({ cls := "KeyTurnsModel", name := "property", desc := "(II)I" } : Jvm.MethodName) prog_24_method_114_code (3 : Nat) (Option.some Jvm.ClassFile.FieldType.int)) ∈ lw_all := lw_g (lw_at lw_m13 14 rfl) rfl
theorem q3003 : (Jvm.Cond.methodLink "KeyTurnsModel" (393 : Nat) ({ cls := "KeyTurnsModel", name := "operate", desc := "(IJJ)J" } : Jvm.MethodName)) ∈ lw_all := lw_g (lw_at lw_m13 15 rfl) rfl
theorem q3004 : (Jvm.Cond.static ({ cls := "KeyTurnsModel", name := "operate", desc := "(IJJ)J" } : Jvm.MethodName)) ∈ lw_all := lw_g (lw_at lw_m13 16 rfl) rfl
theorem q3005 : (Jvm.Cond.code ({ cls := "KeyTurnsModel", name := "operate", desc := "(IJJ)J" } : Jvm.MethodName) prog_24_method_113_code (5 : Nat) (Option.some Jvm.ClassFile.FieldType.long)) ∈ lw_all := lw_g (lw_at lw_m13 17 rfl) rfl
theorem q3040 : (Jvm.Cond.castable "KeyTurnsModel" "java/lang/Object") ∈ lw_tbl := lw_at lw_m13 52 rfl
theorem in_X5 : ∀ w ∈ wsX50, w ∈ lw_all := lw_in wsX50 [2500, 2502, 2504, 2506, 2508, 2510, 2512, 2514, 2516, 2518, 2520, 2522, 2524, 2526, 2528, 2530, 2532, 2534, 2536, 2538, 2540, 2542, 2544, 2546, 2548] (by decide +kernel) (by decide +kernel)
def RJ9 : String := "java/lang/Throwable"
def TJ9 : u_T := fun k => match k with
  | 0 => ("java/lang/Throwable", "cause", "Ljava/lang/Throwable;", false)
  | 1 => ("java/lang/Throwable", "stackTrace", "[Ljava/lang/StackTraceElement;", false)
  | 2 => ("java/lang/Throwable", "suppressedExceptions", "Ljava/util/List;", false)
  | 3 => ("java/lang/Throwable", "detailMessage", "Ljava/lang/String;", false)
  | _ => ("java/lang/Throwable", "backtrace", "Ljava/lang/Object;", false)
def tyJ9 : Nat → FieldType := fun k => match k with
  | 0 => .object "java/lang/Throwable"
  | 1 => .array (.object "java/lang/StackTraceElement")
  | 2 => .object "java/util/List"
  | 3 => .object "java/lang/String"
  | _ => .object "java/lang/Object"
abbrev wsJ90 : List Cond := u_ws RJ9 TJ9 5
theorem nmJ9 : ∀ a, a < 5 → ∀ b, b < 5 → a ≠ b → (TJ9 a).2.1 ≠ (TJ9 b).2.1 := by decide +kernel
theorem tyJ9_ok : ∀ k, k < 5 → parseFieldDescriptor (TJ9 k).2.2.1 = some (tyJ9 k) := by decide +kernel
abbrev cJ9_init : ByteArray := prog_47_method_1_code
def yJ9_init : MethodName := ⟨RJ9, "<init>", "()V"⟩
abbrev cJ9_init_2 : ByteArray := prog_47_method_4_code
def yJ9_init_2 : MethodName := ⟨RJ9, "<init>", "(Ljava/lang/Throwable;)V"⟩
abbrev cJ9_toString : ByteArray := prog_47_method_11_code
def yJ9_toString : MethodName := ⟨RJ9, "toString", "()Ljava/lang/String;"⟩
abbrev cJ9_getLocalizedMessage : ByteArray := prog_47_method_7_code
def yJ9_getLocalizedMessage : MethodName := ⟨RJ9, "getLocalizedMessage", "()Ljava/lang/String;"⟩
abbrev cJ9_getMessage : ByteArray := prog_47_method_6_code
def yJ9_getMessage : MethodName := ⟨RJ9, "getMessage", "()Ljava/lang/String;"⟩
abbrev cJ9_init_3 : ByteArray := prog_47_method_2_code
def yJ9_init_3 : MethodName := ⟨RJ9, "<init>", "(Ljava/lang/String;)V"⟩
abbrev cJ9_init_4 : ByteArray := prog_47_method_5_code
def yJ9_init_4 : MethodName := ⟨RJ9, "<init>", "(Ljava/lang/String;Ljava/lang/Throwable;ZZ)V"⟩
theorem q124 : (Jvm.Cond.initialized "java/lang/Throwable") ∈ lw_all := lw_g (lw_at lw_m1 16 rfl) rfl
theorem q658 : (Jvm.Cond.declares ({ cls := "java/lang/Throwable", name := "<init>", desc := "()V" } : Jvm.MethodName)) ∈ lw_tbl := lw_at lw_m3 70 rfl
theorem q659 : (Jvm.Cond.declares ({ cls := "java/lang/Throwable", name := "<init>", desc := "(Ljava/lang/String;)V" } : Jvm.MethodName)) ∈ lw_tbl := lw_at lw_m3 71 rfl
theorem q663 : (Jvm.Cond.lays "java/lang/Throwable" "java/lang/Throwable" "cause" "Ljava/lang/Throwable;") ∈ lw_all := lw_g (lw_at lw_m3 75 rfl) rfl
theorem q665 : (Jvm.Cond.lays "java/lang/Throwable" "java/lang/Throwable" "stackTrace" "[Ljava/lang/StackTraceElement;") ∈ lw_all := lw_g (lw_at lw_m3 77 rfl) rfl
theorem q667 : (Jvm.Cond.lays "java/lang/Throwable" "java/lang/Throwable" "suppressedExceptions" "Ljava/util/List;") ∈ lw_all := lw_g (lw_at lw_m3 79 rfl) rfl
theorem q669 : (Jvm.Cond.lays "java/lang/Throwable" "java/lang/Throwable" "detailMessage" "Ljava/lang/String;") ∈ lw_all := lw_g (lw_at lw_m3 81 rfl) rfl
theorem q671 : (Jvm.Cond.lays "java/lang/Throwable" "java/lang/Throwable" "backtrace" "Ljava/lang/Object;") ∈ lw_all := lw_g (lw_at lw_m3 83 rfl) rfl
theorem q672 : (Jvm.Cond.fieldLink "java/lang/Throwable" (198 : Nat) "java/lang/Throwable" "backtrace" "Ljava/lang/Object;") ∈ lw_all := lw_g (lw_at lw_m3 84 rfl) rfl
theorem q673 : (Jvm.Cond.superclass "java/lang/Throwable" "java/lang/Object") ∈ lw_all := lw_g (lw_at lw_m3 85 rfl) rfl
theorem q674 : (Jvm.Cond.instanceMethod ({ cls := "java/lang/Throwable", name := "<init>", desc := "()V" } : Jvm.MethodName)) ∈ lw_all := lw_g (lw_at lw_m3 86 rfl) rfl
theorem q675 : (Jvm.Cond.code ({ cls := "java/lang/Throwable", name := "<init>", desc := "()V" } : Jvm.MethodName) prog_47_method_1_code (1 : Nat) (Option.none : Option Jvm.ClassFile.FieldType)) ∈ lw_all := lw_g (lw_at lw_m3 87 rfl) rfl
theorem q676 : (Jvm.Cond.methodLink "java/lang/Throwable" (1 : Nat) ({ cls := "java/lang/Object", name := "<init>", desc := "()V" } : Jvm.MethodName)) ∈ lw_all := lw_g (lw_at lw_m3 88 rfl) rfl
theorem q677 : (Jvm.Cond.fieldLink "java/lang/Throwable" (13 : Nat) "java/lang/Throwable" "UNASSIGNED_STACK" "[Ljava/lang/StackTraceElement;") ∈ lw_all := lw_g (lw_at lw_m3 89 rfl) rfl
theorem q678 : (Jvm.Cond.laysStatic "java/lang/Throwable" "UNASSIGNED_STACK" "[Ljava/lang/StackTraceElement;") ∈ lw_tbl := lw_at lw_m3 90 rfl
theorem q679 : (Jvm.Cond.fieldLink "java/lang/Throwable" (20 : Nat) "java/lang/Throwable" "SUPPRESSED_SENTINEL" "Ljava/util/List;") ∈ lw_all := lw_g (lw_at lw_m3 91 rfl) rfl
theorem q680 : (Jvm.Cond.laysStatic "java/lang/Throwable" "SUPPRESSED_SENTINEL" "Ljava/util/List;") ∈ lw_tbl := lw_at lw_m3 92 rfl
theorem q681 : (Jvm.Cond.methodLink "java/lang/Throwable" (27 : Nat) ({ cls := "java/lang/Throwable", name := "fillInStackTrace", desc := "()Ljava/lang/Throwable;" } : Jvm.MethodName)) ∈ lw_all := lw_g (lw_at lw_m3 93 rfl) rfl
theorem q682 : (Jvm.Cond.instanceMethod ({ cls := "java/lang/Throwable", name := "fillInStackTrace", desc := "()Ljava/lang/Throwable;" } : Jvm.MethodName)) ∈ lw_all := lw_g (lw_at lw_m3 94 rfl) rfl
theorem q683 : (Jvm.Cond.sameMethod "java/lang/Throwable" "java/lang/Throwable" "fillInStackTrace" "()Ljava/lang/Throwable;") ∈ lw_all := lw_g (lw_at lw_m3 95 rfl) rfl
theorem q686 : (Jvm.Cond.codeSync ({ cls := "java/lang/Throwable", name := "fillInStackTrace", desc := "()Ljava/lang/Throwable;" } : Jvm.MethodName) prog_47_method_18_code (1 : Nat) (Option.some (Jvm.ClassFile.FieldType.object "java/lang/Throwable"))) ∈ lw_all := lw_g (lw_at lw_m3 98 rfl) rfl
theorem q687 : (Jvm.Cond.methodLink "java/lang/Throwable" (202 : Nat) ({ cls := "java/lang/Throwable", name := "fillInStackTrace", desc := "(I)Ljava/lang/Throwable;" } : Jvm.MethodName)) ∈ lw_all := lw_g (lw_at lw_m3 99 rfl) rfl
theorem q688 : (Jvm.Cond.privateMethod ({ cls := "java/lang/Throwable", name := "fillInStackTrace", desc := "(I)Ljava/lang/Throwable;" } : Jvm.MethodName)) ∈ lw_tbl := lw_at lw_m3 100 rfl
theorem q689 : (Jvm.Cond.instanceMethod ({ cls := "java/lang/Throwable", name := "fillInStackTrace", desc := "(I)Ljava/lang/Throwable;" } : Jvm.MethodName)) ∈ lw_all := lw_g (lw_at lw_m3 101 rfl) rfl
theorem q690 : (Jvm.Cond.instantiable "java/lang/Throwable" (6 : Nat)) ∈ lw_all := lw_g (lw_at lw_m3 102 rfl) rfl
theorem q691 : (Jvm.Cond.native ({ cls := "java/lang/Throwable", name := "fillInStackTrace", desc := "(I)Ljava/lang/Throwable;" } : Jvm.MethodName)) ∈ lw_all := lw_g (lw_at lw_m3 103 rfl) rfl
theorem q702 : (Jvm.Cond.fieldLink "java/lang/Throwable" (198 : Nat) "java/lang/Throwable" "backtrace" "Ljava/lang/Object;") ∈ lw_all := lw_g (lw_at lw_m3 114 rfl) rfl
theorem q703 : (Jvm.Cond.fieldLink "java/lang/Throwable" (31 : Nat) "java/lang/Throwable" "detailMessage" "Ljava/lang/String;") ∈ lw_all := lw_g (lw_at lw_m3 115 rfl) rfl
theorem q704 : (Jvm.Cond.fieldLink "java/lang/Throwable" (7 : Nat) "java/lang/Throwable" "cause" "Ljava/lang/Throwable;") ∈ lw_all := lw_g (lw_at lw_m3 116 rfl) rfl
theorem q705 : (Jvm.Cond.fieldLink "java/lang/Throwable" (17 : Nat) "java/lang/Throwable" "stackTrace" "[Ljava/lang/StackTraceElement;") ∈ lw_all := lw_g (lw_at lw_m3 117 rfl) rfl
theorem q706 : (Jvm.Cond.fieldLink "java/lang/Throwable" (24 : Nat) "java/lang/Throwable" "suppressedExceptions" "Ljava/util/List;") ∈ lw_all := lw_g (lw_at lw_m3 118 rfl) rfl
theorem q707 : (Jvm.Cond.soleField "java/lang/Throwable" "backtrace") ∈ lw_all := lw_g (lw_at lw_m3 119 rfl) rfl
theorem q708 : (Jvm.Cond.soleField "java/lang/Throwable" "detailMessage") ∈ lw_all := lw_g (lw_at lw_m3 120 rfl) rfl
theorem q709 : (Jvm.Cond.soleField "java/lang/Throwable" "cause") ∈ lw_all := lw_g (lw_at lw_m3 121 rfl) rfl
theorem q710 : (Jvm.Cond.soleField "java/lang/Throwable" "stackTrace") ∈ lw_all := lw_g (lw_at lw_m3 122 rfl) rfl
theorem q712 : (Jvm.Cond.soleField "java/lang/Throwable" "depth") ∈ lw_all := lw_g (lw_at lw_m3 124 rfl) rfl
theorem q713 : (Jvm.Cond.soleField "java/lang/Throwable" "suppressedExceptions") ∈ lw_all := lw_g (lw_at lw_m3 125 rfl) rfl
theorem q1017 : (Jvm.Cond.instanceMethod ({ cls := "java/lang/Throwable", name := "<init>", desc := "(Ljava/lang/Throwable;)V" } : Jvm.MethodName)) ∈ lw_all := lw_g (lw_at lw_m4 189 rfl) rfl
theorem q1018 : (Jvm.Cond.code ({ cls := "java/lang/Throwable", name := "<init>", desc := "(Ljava/lang/Throwable;)V" } : Jvm.MethodName) prog_47_method_4_code (2 : Nat) (Option.none : Option Jvm.ClassFile.FieldType)) ∈ lw_all := lw_g (lw_at lw_m4 190 rfl) rfl
theorem q1019 : (Jvm.Cond.methodLink "java/lang/Throwable" (35 : Nat) ({ cls := "java/lang/Throwable", name := "toString", desc := "()Ljava/lang/String;" } : Jvm.MethodName)) ∈ lw_all := lw_g (lw_at lw_m4 191 rfl) rfl
theorem q1020 : (Jvm.Cond.instanceMethod ({ cls := "java/lang/Throwable", name := "toString", desc := "()Ljava/lang/String;" } : Jvm.MethodName)) ∈ lw_all := lw_g (lw_at lw_m4 192 rfl) rfl
theorem q1021 : (Jvm.Cond.sameMethod "java/lang/Throwable" "java/lang/Throwable" "toString" "()Ljava/lang/String;") ∈ lw_all := lw_g (lw_at lw_m4 193 rfl) rfl
theorem q1025 : (Jvm.Cond.code ({ cls := "java/lang/Throwable", name := "toString", desc := "()Ljava/lang/String;" } : Jvm.MethodName) prog_47_method_11_code (3 : Nat) (Option.some (Jvm.ClassFile.FieldType.object "java/lang/String"))) ∈ lw_all := lw_g (lw_at lw_m4 197 rfl) rfl
theorem q1026 : (Jvm.Cond.methodLink "java/lang/Throwable" (69 : Nat) ({ cls := "java/lang/Object", name := "getClass", desc := "()Ljava/lang/Class;" } : Jvm.MethodName)) ∈ lw_all := lw_g (lw_at lw_m4 198 rfl) rfl
theorem q1027 : (Jvm.Cond.methodLink "java/lang/Throwable" (78 : Nat) ({ cls := "java/lang/Throwable", name := "getLocalizedMessage", desc := "()Ljava/lang/String;" } : Jvm.MethodName)) ∈ lw_all := lw_g (lw_at lw_m4 199 rfl) rfl
theorem q1028 : (Jvm.Cond.instanceMethod ({ cls := "java/lang/Throwable", name := "getLocalizedMessage", desc := "()Ljava/lang/String;" } : Jvm.MethodName)) ∈ lw_all := lw_g (lw_at lw_m4 200 rfl) rfl
theorem q1029 : (Jvm.Cond.sameMethod "java/lang/Throwable" "java/lang/Throwable" "getLocalizedMessage" "()Ljava/lang/String;") ∈ lw_all := lw_g (lw_at lw_m4 201 rfl) rfl
theorem q1033 : (Jvm.Cond.code ({ cls := "java/lang/Throwable", name := "getLocalizedMessage", desc := "()Ljava/lang/String;" } : Jvm.MethodName) prog_47_method_7_code (1 : Nat) (Option.some (Jvm.ClassFile.FieldType.object "java/lang/String"))) ∈ lw_all := lw_g (lw_at lw_m4 205 rfl) rfl
theorem q1034 : (Jvm.Cond.methodLink "java/lang/Throwable" (39 : Nat) ({ cls := "java/lang/Throwable", name := "getMessage", desc := "()Ljava/lang/String;" } : Jvm.MethodName)) ∈ lw_all := lw_g (lw_at lw_m4 206 rfl) rfl
theorem q1035 : (Jvm.Cond.instanceMethod ({ cls := "java/lang/Throwable", name := "getMessage", desc := "()Ljava/lang/String;" } : Jvm.MethodName)) ∈ lw_all := lw_g (lw_at lw_m4 207 rfl) rfl
theorem q1036 : (Jvm.Cond.sameMethod "java/lang/Throwable" "java/lang/Throwable" "getMessage" "()Ljava/lang/String;") ∈ lw_all := lw_g (lw_at lw_m4 208 rfl) rfl
theorem q1040 : (Jvm.Cond.code ({ cls := "java/lang/Throwable", name := "getMessage", desc := "()Ljava/lang/String;" } : Jvm.MethodName) prog_47_method_6_code (1 : Nat) (Option.some (Jvm.ClassFile.FieldType.object "java/lang/String"))) ∈ lw_all := lw_g (lw_at lw_m4 212 rfl) rfl
theorem q1041 : (Jvm.Cond.classLink "java/lang/Throwable" (44 : Nat) "java/lang/StringBuilder") ∈ lw_all := lw_g (lw_at lw_m4 213 rfl) rfl
theorem q1043 : (Jvm.Cond.methodLink "java/lang/Throwable" (46 : Nat) ({ cls := "java/lang/StringBuilder", name := "<init>", desc := "()V" } : Jvm.MethodName)) ∈ lw_all := lw_g (lw_at lw_m4 215 rfl) rfl
theorem q1073 : (Jvm.Cond.methodLink "java/lang/Throwable" (49 : Nat) ({ cls := "java/lang/StringBuilder", name := "append", desc := "(Ljava/lang/String;)Ljava/lang/StringBuilder;" } : Jvm.MethodName)) ∈ lw_all := lw_g (lw_at lw_m5 5 rfl) rfl
theorem q1176 : (Jvm.Cond.stringRef "java/lang/Throwable" (81 : Nat) ": ") ∈ lw_tbl := lw_at lw_m5 108 rfl
theorem q1177 : (Jvm.Cond.methodLink "java/lang/Throwable" (60 : Nat) ({ cls := "java/lang/StringBuilder", name := "toString", desc := "()Ljava/lang/String;" } : Jvm.MethodName)) ∈ lw_all := lw_g (lw_at lw_m5 109 rfl) rfl
theorem q1262 : (Jvm.Cond.instanceMethod ({ cls := "java/lang/Throwable", name := "<init>", desc := "(Ljava/lang/String;)V" } : Jvm.MethodName)) ∈ lw_all := lw_g (lw_at lw_m5 194 rfl) rfl
theorem q1263 : (Jvm.Cond.code ({ cls := "java/lang/Throwable", name := "<init>", desc := "(Ljava/lang/String;)V" } : Jvm.MethodName) prog_47_method_2_code (2 : Nat) (Option.none : Option Jvm.ClassFile.FieldType)) ∈ lw_all := lw_g (lw_at lw_m5 195 rfl) rfl
theorem q1664 : (Jvm.Cond.instanceMethod ({ cls := "java/lang/Throwable", name := "<init>", desc := "(Ljava/lang/String;Ljava/lang/Throwable;ZZ)V" } : Jvm.MethodName)) ∈ lw_all := lw_g (lw_at lw_m7 116 rfl) rfl
theorem q1665 : (Jvm.Cond.code ({ cls := "java/lang/Throwable", name := "<init>", desc := "(Ljava/lang/String;Ljava/lang/Throwable;ZZ)V" } : Jvm.MethodName) prog_47_method_5_code (5 : Nat) (Option.none : Option Jvm.ClassFile.FieldType)) ∈ lw_all := lw_g (lw_at lw_m7 117 rfl) rfl
theorem q3006 : (Jvm.Cond.sameMethod "java/lang/Throwable" "java/lang/Throwable" "fillInStackTrace" "(I)Ljava/lang/Throwable;") ∈ lw_all := lw_g (lw_at lw_m13 18 rfl) rfl
theorem q3066 : (Jvm.Cond.castable "java/lang/Throwable" "java/lang/Object") ∈ lw_tbl := lw_at lw_m13 78 rfl
theorem in_J9 : ∀ w ∈ wsJ90, w ∈ lw_all := lw_in wsJ90 [663, 665, 667, 669, 671] (by decide +kernel) (by decide +kernel)
def RJ10 : String := "java/lang/Exception"
abbrev cJ10_init : ByteArray := prog_32_method_1_code
def yJ10_init : MethodName := ⟨RJ10, "<init>", "()V"⟩
abbrev cJ10_init_2 : ByteArray := prog_32_method_4_code
def yJ10_init_2 : MethodName := ⟨RJ10, "<init>", "(Ljava/lang/Throwable;)V"⟩
abbrev cJ10_init_3 : ByteArray := prog_32_method_2_code
def yJ10_init_3 : MethodName := ⟨RJ10, "<init>", "(Ljava/lang/String;)V"⟩
abbrev cJ10_init_4 : ByteArray := prog_32_method_5_code
def yJ10_init_4 : MethodName := ⟨RJ10, "<init>", "(Ljava/lang/String;Ljava/lang/Throwable;ZZ)V"⟩
theorem q125 : (Jvm.Cond.initialized "java/lang/Exception") ∈ lw_all := lw_g (lw_at lw_m1 17 rfl) rfl
theorem q656 : (Jvm.Cond.declares ({ cls := "java/lang/Exception", name := "<init>", desc := "()V" } : Jvm.MethodName)) ∈ lw_tbl := lw_at lw_m3 68 rfl
theorem q657 : (Jvm.Cond.declares ({ cls := "java/lang/Exception", name := "<init>", desc := "(Ljava/lang/String;)V" } : Jvm.MethodName)) ∈ lw_tbl := lw_at lw_m3 69 rfl
theorem q699 : (Jvm.Cond.instanceMethod ({ cls := "java/lang/Exception", name := "<init>", desc := "()V" } : Jvm.MethodName)) ∈ lw_all := lw_g (lw_at lw_m3 111 rfl) rfl
theorem q700 : (Jvm.Cond.code ({ cls := "java/lang/Exception", name := "<init>", desc := "()V" } : Jvm.MethodName) prog_32_method_1_code (1 : Nat) (Option.none : Option Jvm.ClassFile.FieldType)) ∈ lw_all := lw_g (lw_at lw_m3 112 rfl) rfl
theorem q701 : (Jvm.Cond.methodLink "java/lang/Exception" (1 : Nat) ({ cls := "java/lang/Throwable", name := "<init>", desc := "()V" } : Jvm.MethodName)) ∈ lw_all := lw_g (lw_at lw_m3 113 rfl) rfl
theorem q1014 : (Jvm.Cond.instanceMethod ({ cls := "java/lang/Exception", name := "<init>", desc := "(Ljava/lang/Throwable;)V" } : Jvm.MethodName)) ∈ lw_all := lw_g (lw_at lw_m4 186 rfl) rfl
theorem q1015 : (Jvm.Cond.code ({ cls := "java/lang/Exception", name := "<init>", desc := "(Ljava/lang/Throwable;)V" } : Jvm.MethodName) prog_32_method_4_code (2 : Nat) (Option.none : Option Jvm.ClassFile.FieldType)) ∈ lw_all := lw_g (lw_at lw_m4 187 rfl) rfl
theorem q1016 : (Jvm.Cond.methodLink "java/lang/Exception" (13 : Nat) ({ cls := "java/lang/Throwable", name := "<init>", desc := "(Ljava/lang/Throwable;)V" } : Jvm.MethodName)) ∈ lw_all := lw_g (lw_at lw_m4 188 rfl) rfl
theorem q1259 : (Jvm.Cond.instanceMethod ({ cls := "java/lang/Exception", name := "<init>", desc := "(Ljava/lang/String;)V" } : Jvm.MethodName)) ∈ lw_all := lw_g (lw_at lw_m5 191 rfl) rfl
theorem q1260 : (Jvm.Cond.code ({ cls := "java/lang/Exception", name := "<init>", desc := "(Ljava/lang/String;)V" } : Jvm.MethodName) prog_32_method_2_code (2 : Nat) (Option.none : Option Jvm.ClassFile.FieldType)) ∈ lw_all := lw_g (lw_at lw_m5 192 rfl) rfl
theorem q1261 : (Jvm.Cond.methodLink "java/lang/Exception" (7 : Nat) ({ cls := "java/lang/Throwable", name := "<init>", desc := "(Ljava/lang/String;)V" } : Jvm.MethodName)) ∈ lw_all := lw_g (lw_at lw_m5 193 rfl) rfl
theorem q1661 : (Jvm.Cond.instanceMethod ({ cls := "java/lang/Exception", name := "<init>", desc := "(Ljava/lang/String;Ljava/lang/Throwable;ZZ)V" } : Jvm.MethodName)) ∈ lw_all := lw_g (lw_at lw_m7 113 rfl) rfl
theorem q1662 : (Jvm.Cond.code ({ cls := "java/lang/Exception", name := "<init>", desc := "(Ljava/lang/String;Ljava/lang/Throwable;ZZ)V" } : Jvm.MethodName) prog_32_method_5_code (5 : Nat) (Option.none : Option Jvm.ClassFile.FieldType)) ∈ lw_all := lw_g (lw_at lw_m7 114 rfl) rfl
theorem q1663 : (Jvm.Cond.methodLink "java/lang/Exception" (16 : Nat) ({ cls := "java/lang/Throwable", name := "<init>", desc := "(Ljava/lang/String;Ljava/lang/Throwable;ZZ)V" } : Jvm.MethodName)) ∈ lw_all := lw_g (lw_at lw_m7 115 rfl) rfl
def RJ11 : String := "java/lang/RuntimeException"
abbrev cJ11_init : ByteArray := prog_40_method_1_code
def yJ11_init : MethodName := ⟨RJ11, "<init>", "()V"⟩
abbrev cJ11_init_2 : ByteArray := prog_40_method_4_code
def yJ11_init_2 : MethodName := ⟨RJ11, "<init>", "(Ljava/lang/Throwable;)V"⟩
abbrev cJ11_init_3 : ByteArray := prog_40_method_2_code
def yJ11_init_3 : MethodName := ⟨RJ11, "<init>", "(Ljava/lang/String;)V"⟩
theorem q126 : (Jvm.Cond.initialized "java/lang/RuntimeException") ∈ lw_all := lw_g (lw_at lw_m1 18 rfl) rfl
theorem q654 : (Jvm.Cond.declares ({ cls := "java/lang/RuntimeException", name := "<init>", desc := "()V" } : Jvm.MethodName)) ∈ lw_tbl := lw_at lw_m3 66 rfl
theorem q655 : (Jvm.Cond.declares ({ cls := "java/lang/RuntimeException", name := "<init>", desc := "(Ljava/lang/String;)V" } : Jvm.MethodName)) ∈ lw_tbl := lw_at lw_m3 67 rfl
theorem q696 : (Jvm.Cond.instanceMethod ({ cls := "java/lang/RuntimeException", name := "<init>", desc := "()V" } : Jvm.MethodName)) ∈ lw_all := lw_g (lw_at lw_m3 108 rfl) rfl
theorem q697 : (Jvm.Cond.code ({ cls := "java/lang/RuntimeException", name := "<init>", desc := "()V" } : Jvm.MethodName) prog_40_method_1_code (1 : Nat) (Option.none : Option Jvm.ClassFile.FieldType)) ∈ lw_all := lw_g (lw_at lw_m3 109 rfl) rfl
theorem q698 : (Jvm.Cond.methodLink "java/lang/RuntimeException" (1 : Nat) ({ cls := "java/lang/Exception", name := "<init>", desc := "()V" } : Jvm.MethodName)) ∈ lw_all := lw_g (lw_at lw_m3 110 rfl) rfl
theorem q1011 : (Jvm.Cond.instanceMethod ({ cls := "java/lang/RuntimeException", name := "<init>", desc := "(Ljava/lang/Throwable;)V" } : Jvm.MethodName)) ∈ lw_all := lw_g (lw_at lw_m4 183 rfl) rfl
theorem q1012 : (Jvm.Cond.code ({ cls := "java/lang/RuntimeException", name := "<init>", desc := "(Ljava/lang/Throwable;)V" } : Jvm.MethodName) prog_40_method_4_code (2 : Nat) (Option.none : Option Jvm.ClassFile.FieldType)) ∈ lw_all := lw_g (lw_at lw_m4 184 rfl) rfl
theorem q1013 : (Jvm.Cond.methodLink "java/lang/RuntimeException" (13 : Nat) ({ cls := "java/lang/Exception", name := "<init>", desc := "(Ljava/lang/Throwable;)V" } : Jvm.MethodName)) ∈ lw_all := lw_g (lw_at lw_m4 185 rfl) rfl
theorem q1256 : (Jvm.Cond.instanceMethod ({ cls := "java/lang/RuntimeException", name := "<init>", desc := "(Ljava/lang/String;)V" } : Jvm.MethodName)) ∈ lw_all := lw_g (lw_at lw_m5 188 rfl) rfl
theorem q1257 : (Jvm.Cond.code ({ cls := "java/lang/RuntimeException", name := "<init>", desc := "(Ljava/lang/String;)V" } : Jvm.MethodName) prog_40_method_2_code (2 : Nat) (Option.none : Option Jvm.ClassFile.FieldType)) ∈ lw_all := lw_g (lw_at lw_m5 189 rfl) rfl
theorem q1258 : (Jvm.Cond.methodLink "java/lang/RuntimeException" (7 : Nat) ({ cls := "java/lang/Exception", name := "<init>", desc := "(Ljava/lang/String;)V" } : Jvm.MethodName)) ∈ lw_all := lw_g (lw_at lw_m5 190 rfl) rfl
def RJ12 : String := "java/lang/IllegalArgumentException"
def TJ12 : u_T := fun k => match k with
  | 0 => ("java/lang/Throwable", "cause", "Ljava/lang/Throwable;", false)
  | 1 => ("java/lang/Throwable", "stackTrace", "[Ljava/lang/StackTraceElement;", false)
  | 2 => ("java/lang/Throwable", "suppressedExceptions", "Ljava/util/List;", false)
  | 3 => ("java/lang/Throwable", "detailMessage", "Ljava/lang/String;", false)
  | 4 => ("java/lang/Throwable", "backtrace", "Ljava/lang/Object;", false)
  | _ => ("java/lang/Throwable", "depth", "I", false)
def tyJ12 : Nat → FieldType := fun k => match k with
  | 0 => .object "java/lang/Throwable"
  | 1 => .array (.object "java/lang/StackTraceElement")
  | 2 => .object "java/util/List"
  | 3 => .object "java/lang/String"
  | 4 => .object "java/lang/Object"
  | _ => .int
abbrev wsJ120 : List Cond := u_ws RJ12 TJ12 6
theorem nmJ12 : ∀ a, a < 6 → ∀ b, b < 6 → a ≠ b → (TJ12 a).2.1 ≠ (TJ12 b).2.1 := by decide +kernel
theorem tyJ12_ok : ∀ k, k < 6 → parseFieldDescriptor (TJ12 k).2.2.1 = some (tyJ12 k) := by decide +kernel
abbrev cJ12_init : ByteArray := prog_34_method_2_code
def yJ12_init : MethodName := ⟨RJ12, "<init>", "(Ljava/lang/String;)V"⟩
abbrev cJ12_init_2 : ByteArray := prog_34_method_1_code
def yJ12_init_2 : MethodName := ⟨RJ12, "<init>", "()V"⟩
theorem q127 : (Jvm.Cond.initialized "java/lang/IllegalArgumentException") ∈ lw_all := lw_g (lw_at lw_m1 19 rfl) rfl
theorem q397 : (Jvm.Cond.selects "java/lang/IllegalArgumentException" ({ cls := "java/lang/Object", name := "getClass", desc := "()Ljava/lang/Class;" } : Jvm.MethodName) ({ cls := "java/lang/Object", name := "getClass", desc := "()Ljava/lang/Class;" } : Jvm.MethodName)) ∈ lw_all := lw_g (lw_at lw_m2 49 rfl) rfl
theorem q685 : (Jvm.Cond.selects "java/lang/IllegalArgumentException" ({ cls := "java/lang/Throwable", name := "fillInStackTrace", desc := "()Ljava/lang/Throwable;" } : Jvm.MethodName) ({ cls := "java/lang/Throwable", name := "fillInStackTrace", desc := "()Ljava/lang/Throwable;" } : Jvm.MethodName)) ∈ lw_all := lw_g (lw_at lw_m3 97 rfl) rfl
theorem q1023 : (Jvm.Cond.selects "java/lang/IllegalArgumentException" ({ cls := "java/lang/Throwable", name := "toString", desc := "()Ljava/lang/String;" } : Jvm.MethodName) ({ cls := "java/lang/Throwable", name := "toString", desc := "()Ljava/lang/String;" } : Jvm.MethodName)) ∈ lw_all := lw_g (lw_at lw_m4 195 rfl) rfl
theorem q1031 : (Jvm.Cond.selects "java/lang/IllegalArgumentException" ({ cls := "java/lang/Throwable", name := "getLocalizedMessage", desc := "()Ljava/lang/String;" } : Jvm.MethodName) ({ cls := "java/lang/Throwable", name := "getLocalizedMessage", desc := "()Ljava/lang/String;" } : Jvm.MethodName)) ∈ lw_all := lw_g (lw_at lw_m4 203 rfl) rfl
theorem q1038 : (Jvm.Cond.selects "java/lang/IllegalArgumentException" ({ cls := "java/lang/Throwable", name := "getMessage", desc := "()Ljava/lang/String;" } : Jvm.MethodName) ({ cls := "java/lang/Throwable", name := "getMessage", desc := "()Ljava/lang/String;" } : Jvm.MethodName)) ∈ lw_all := lw_g (lw_at lw_m4 210 rfl) rfl
theorem q1214 : (Jvm.Cond.instantiable "java/lang/IllegalArgumentException" (6 : Nat)) ∈ lw_all := lw_g (lw_at lw_m5 146 rfl) rfl
theorem q1215 : (Jvm.Cond.castable "java/lang/IllegalArgumentException" "java/lang/IllegalArgumentException") ∈ lw_tbl := lw_at lw_m5 147 rfl
theorem q1216 : (Jvm.Cond.selects "java/lang/IllegalArgumentException" ({ cls := "java/lang/Throwable", name := "fillInStackTrace", desc := "(I)Ljava/lang/Throwable;" } : Jvm.MethodName) ({ cls := "java/lang/Throwable", name := "fillInStackTrace", desc := "(I)Ljava/lang/Throwable;" } : Jvm.MethodName)) ∈ lw_all := lw_g (lw_at lw_m5 148 rfl) rfl
theorem q1217 : (Jvm.Cond.lays "java/lang/IllegalArgumentException" "java/lang/Throwable" "cause" "Ljava/lang/Throwable;") ∈ lw_all := lw_g (lw_at lw_m5 149 rfl) rfl
theorem q1218 : (Jvm.Cond.lays "java/lang/IllegalArgumentException" "java/lang/Throwable" "stackTrace" "[Ljava/lang/StackTraceElement;") ∈ lw_all := lw_g (lw_at lw_m5 150 rfl) rfl
theorem q1219 : (Jvm.Cond.lays "java/lang/IllegalArgumentException" "java/lang/Throwable" "suppressedExceptions" "Ljava/util/List;") ∈ lw_all := lw_g (lw_at lw_m5 151 rfl) rfl
theorem q1220 : (Jvm.Cond.lays "java/lang/IllegalArgumentException" "java/lang/Throwable" "detailMessage" "Ljava/lang/String;") ∈ lw_all := lw_g (lw_at lw_m5 152 rfl) rfl
theorem q1221 : (Jvm.Cond.lays "java/lang/IllegalArgumentException" "java/lang/Throwable" "backtrace" "Ljava/lang/Object;") ∈ lw_all := lw_g (lw_at lw_m5 153 rfl) rfl
theorem q1253 : (Jvm.Cond.instanceMethod ({ cls := "java/lang/IllegalArgumentException", name := "<init>", desc := "(Ljava/lang/String;)V" } : Jvm.MethodName)) ∈ lw_all := lw_g (lw_at lw_m5 185 rfl) rfl
theorem q1254 : (Jvm.Cond.code ({ cls := "java/lang/IllegalArgumentException", name := "<init>", desc := "(Ljava/lang/String;)V" } : Jvm.MethodName) prog_34_method_2_code (2 : Nat) (Option.none : Option Jvm.ClassFile.FieldType)) ∈ lw_all := lw_g (lw_at lw_m5 186 rfl) rfl
theorem q1255 : (Jvm.Cond.methodLink "java/lang/IllegalArgumentException" (7 : Nat) ({ cls := "java/lang/RuntimeException", name := "<init>", desc := "(Ljava/lang/String;)V" } : Jvm.MethodName)) ∈ lw_all := lw_g (lw_at lw_m5 187 rfl) rfl
theorem q1264 : (Jvm.Cond.lays "java/lang/IllegalArgumentException" "java/lang/Throwable" "depth" "I") ∈ lw_all := lw_g (lw_at lw_m5 196 rfl) rfl
theorem q1265 : (Jvm.Cond.superclass "java/lang/IllegalArgumentException" "java/lang/RuntimeException") ∈ lw_all := lw_g (lw_at lw_m5 197 rfl) rfl
theorem q1501 : (Jvm.Cond.instanceMethod ({ cls := "java/lang/IllegalArgumentException", name := "<init>", desc := "()V" } : Jvm.MethodName)) ∈ lw_all := lw_g (lw_at lw_m6 193 rfl) rfl
theorem q1502 : (Jvm.Cond.code ({ cls := "java/lang/IllegalArgumentException", name := "<init>", desc := "()V" } : Jvm.MethodName) prog_34_method_1_code (1 : Nat) (Option.none : Option Jvm.ClassFile.FieldType)) ∈ lw_all := lw_g (lw_at lw_m6 194 rfl) rfl
theorem q1503 : (Jvm.Cond.methodLink "java/lang/IllegalArgumentException" (1 : Nat) ({ cls := "java/lang/RuntimeException", name := "<init>", desc := "()V" } : Jvm.MethodName)) ∈ lw_all := lw_g (lw_at lw_m6 195 rfl) rfl
theorem q2340 : (Jvm.Cond.selects "java/lang/IllegalArgumentException" ({ cls := "java/lang/Object", name := "equals", desc := "(Ljava/lang/Object;)Z" } : Jvm.MethodName) ({ cls := "java/lang/Object", name := "equals", desc := "(Ljava/lang/Object;)Z" } : Jvm.MethodName)) ∈ lw_all := lw_g (lw_at lw_m10 72 rfl) rfl
theorem q3041 : (Jvm.Cond.castable "java/lang/IllegalArgumentException" "java/lang/Object") ∈ lw_tbl := lw_at lw_m13 53 rfl
theorem in_J12 : ∀ w ∈ wsJ120, w ∈ lw_all := lw_in wsJ120 [1217, 1218, 1219, 1220, 1221, 1264] (by decide +kernel) (by decide +kernel)
def RX6 : String := "KeyTurns$Scanner"
abbrev cX6_init : ByteArray := prog_9_method_1_code
def yX6_init : MethodName := ⟨RX6, "<init>", "(LKeyTurns;I)V"⟩
abbrev cX6_next : ByteArray := prog_9_method_5_code
def yX6_next : MethodName := ⟨RX6, "next", "()V"⟩
abbrev cX6_byteAt : ByteArray := prog_9_method_2_code
def yX6_byteAt : MethodName := ⟨RX6, "byteAt", "(I)I"⟩
abbrev cX6_isLetter : ByteArray := prog_9_method_3_code
def yX6_isLetter : MethodName := ⟨RX6, "isLetter", "(I)Z"⟩
abbrev cX6_isDigit : ByteArray := prog_9_method_4_code
def yX6_isDigit : MethodName := ⟨RX6, "isDigit", "(I)Z"⟩
abbrev cX6_accept : ByteArray := prog_9_method_10_code
def yX6_accept : MethodName := ⟨RX6, "accept", "(Ljava/lang/String;)Z"⟩
abbrev cX6_keyword : ByteArray := prog_9_method_9_code
def yX6_keyword : MethodName := ⟨RX6, "keyword", "()Ljava/lang/String;"⟩
abbrev cX6_check : ByteArray := prog_9_method_6_code
def yX6_check : MethodName := ⟨RX6, "check", "(ZI)V"⟩
abbrev cX6_number : ByteArray := prog_9_method_14_code
def yX6_number : MethodName := ⟨RX6, "number", "(II)I"⟩
abbrev cX6_peek : ByteArray := prog_9_method_13_code
def yX6_peek : MethodName := ⟨RX6, "peek", "(II)I"⟩
abbrev cX6_expectSign : ByteArray := prog_9_method_11_code
def yX6_expectSign : MethodName := ⟨RX6, "expectSign", "(I)V"⟩
abbrev cX6_isSign : ByteArray := prog_9_method_8_code
def yX6_isSign : MethodName := ⟨RX6, "isSign", "(I)Z"⟩
abbrev cX6_relationSign : ByteArray := prog_9_method_12_code
def yX6_relationSign : MethodName := ⟨RX6, "relationSign", "()I"⟩
theorem q128 : (Jvm.Cond.initialized "KeyTurns$Scanner") ∈ lw_all := lw_g (lw_at lw_m1 20 rfl) rfl
theorem q429 : (Jvm.Cond.fieldLinkNest "KeyTurns$Scanner" (29 : Nat) "KeyTurns" "buffer" "[B" "KeyTurns") ∈ lw_tbl := lw_at lw_m2 81 rfl
theorem q1510 : (Jvm.Cond.instanceMethod ({ cls := "KeyTurns$Scanner", name := "<init>", desc := "(LKeyTurns;I)V" } : Jvm.MethodName)) ∈ lw_all := lw_g (lw_at lw_m6 202 rfl) rfl
theorem q1511 : (Jvm.Cond.code ({ cls := "KeyTurns$Scanner", name := "<init>", desc := "(LKeyTurns;I)V" } : Jvm.MethodName) prog_9_method_1_code (3 : Nat) (Option.none : Option Jvm.ClassFile.FieldType)) ∈ lw_all := lw_g (lw_at lw_m6 203 rfl) rfl
theorem q1512 : (Jvm.Cond.methodLink "KeyTurns$Scanner" (9 : Nat) ({ cls := "java/lang/Object", name := "<init>", desc := "()V" } : Jvm.MethodName)) ∈ lw_all := lw_g (lw_at lw_m6 204 rfl) rfl
theorem q1513 : (Jvm.Cond.classLink "KeyTurns$Scanner" (15 : Nat) "java/lang/StringBuilder") ∈ lw_all := lw_g (lw_at lw_m6 205 rfl) rfl
theorem q1514 : (Jvm.Cond.methodLink "KeyTurns$Scanner" (17 : Nat) ({ cls := "java/lang/StringBuilder", name := "<init>", desc := "()V" } : Jvm.MethodName)) ∈ lw_all := lw_g (lw_at lw_m6 206 rfl) rfl
theorem q1515 : (Jvm.Cond.methodLink "KeyTurns$Scanner" (26 : Nat) ({ cls := "KeyTurns$Scanner", name := "next", desc := "()V" } : Jvm.MethodName)) ∈ lw_all := lw_g (lw_at lw_m6 207 rfl) rfl
theorem q1516 : (Jvm.Cond.instanceMethod ({ cls := "KeyTurns$Scanner", name := "next", desc := "()V" } : Jvm.MethodName)) ∈ lw_all := lw_g (lw_at lw_m6 208 rfl) rfl
theorem q1517 : (Jvm.Cond.sameMethod "KeyTurns$Scanner" "KeyTurns$Scanner" "next" "()V") ∈ lw_all := lw_g (lw_at lw_m6 209 rfl) rfl
theorem q1520 : (Jvm.Cond.code ({ cls := "KeyTurns$Scanner", name := "next", desc := "()V" } : Jvm.MethodName) prog_9_method_5_code (2 : Nat) (Option.none : Option Jvm.ClassFile.FieldType)) ∈ lw_all := lw_g (lw_at lw_m6 212 rfl) rfl
theorem q1521 : (Jvm.Cond.methodLink "KeyTurns$Scanner" (36 : Nat) ({ cls := "KeyTurns$Scanner", name := "byteAt", desc := "(I)I" } : Jvm.MethodName)) ∈ lw_all := lw_g (lw_at lw_m6 213 rfl) rfl
theorem q1522 : (Jvm.Cond.privateMethod ({ cls := "KeyTurns$Scanner", name := "byteAt", desc := "(I)I" } : Jvm.MethodName)) ∈ lw_tbl := lw_at lw_m6 214 rfl
theorem q1523 : (Jvm.Cond.instanceMethod ({ cls := "KeyTurns$Scanner", name := "byteAt", desc := "(I)I" } : Jvm.MethodName)) ∈ lw_all := lw_g (lw_at lw_m6 215 rfl) rfl
theorem q1524 : (Jvm.Cond.code ({ cls := "KeyTurns$Scanner", name := "byteAt", desc := "(I)I" } : Jvm.MethodName) prog_9_method_2_code (2 : Nat) (Option.some Jvm.ClassFile.FieldType.int)) ∈ lw_all := lw_g (lw_at lw_m6 216 rfl) rfl
theorem q1525 : (Jvm.Cond.methodLink "KeyTurns$Scanner" (43 : Nat) ({ cls := "java/lang/StringBuilder", name := "setLength", desc := "(I)V" } : Jvm.MethodName)) ∈ lw_all := lw_g (lw_at lw_m6 217 rfl) rfl
theorem q1548 : (Jvm.Cond.fieldLink "KeyTurns$Scanner" (47 : Nat) "KeyTurns$Token" "END" "LKeyTurns$Token;") ∈ lw_all := lw_g (lw_at lw_m7 0 rfl) rfl
theorem q1550 : (Jvm.Cond.methodLink "KeyTurns$Scanner" (56 : Nat) ({ cls := "KeyTurns$Scanner", name := "isLetter", desc := "(I)Z" } : Jvm.MethodName)) ∈ lw_all := lw_g (lw_at lw_m7 2 rfl) rfl
theorem q1551 : (Jvm.Cond.static ({ cls := "KeyTurns$Scanner", name := "isLetter", desc := "(I)Z" } : Jvm.MethodName)) ∈ lw_all := lw_g (lw_at lw_m7 3 rfl) rfl
theorem q1552 : (Jvm.Cond.code ({ cls := "KeyTurns$Scanner", name := "isLetter", desc := "(I)Z" } : Jvm.MethodName) prog_9_method_3_code (1 : Nat) (Option.some Jvm.ClassFile.FieldType.boolean)) ∈ lw_all := lw_g (lw_at lw_m7 4 rfl) rfl
theorem q1553 : (Jvm.Cond.methodLink "KeyTurns$Scanner" (60 : Nat) ({ cls := "java/lang/StringBuilder", name := "append", desc := "(C)Ljava/lang/StringBuilder;" } : Jvm.MethodName)) ∈ lw_all := lw_g (lw_at lw_m7 5 rfl) rfl
theorem q1566 : (Jvm.Cond.fieldLink "KeyTurns$Scanner" (64 : Nat) "KeyTurns$Token" "WORD" "LKeyTurns$Token;") ∈ lw_all := lw_g (lw_at lw_m7 18 rfl) rfl
theorem q1568 : (Jvm.Cond.methodLink "KeyTurns$Scanner" (67 : Nat) ({ cls := "KeyTurns$Scanner", name := "isDigit", desc := "(I)Z" } : Jvm.MethodName)) ∈ lw_all := lw_g (lw_at lw_m7 20 rfl) rfl
theorem q1569 : (Jvm.Cond.static ({ cls := "KeyTurns$Scanner", name := "isDigit", desc := "(I)Z" } : Jvm.MethodName)) ∈ lw_all := lw_g (lw_at lw_m7 21 rfl) rfl
theorem q1570 : (Jvm.Cond.code ({ cls := "KeyTurns$Scanner", name := "isDigit", desc := "(I)Z" } : Jvm.MethodName) prog_9_method_4_code (1 : Nat) (Option.some Jvm.ClassFile.FieldType.boolean)) ∈ lw_all := lw_g (lw_at lw_m7 22 rfl) rfl
theorem q1571 : (Jvm.Cond.constant "KeyTurns$Scanner" (73 : Nat) (100000000 : Int32)) ∈ lw_all := lw_g (lw_at lw_m7 23 rfl) rfl
theorem q1572 : (Jvm.Cond.methodLink "KeyTurns$Scanner" (74 : Nat) ({ cls := "java/lang/Math", name := "min", desc := "(II)I" } : Jvm.MethodName)) ∈ lw_all := lw_g (lw_at lw_m7 24 rfl) rfl
theorem q1573 : (Jvm.Cond.fieldLink "KeyTurns$Scanner" (80 : Nat) "KeyTurns$Token" "NUMBER" "LKeyTurns$Token;") ∈ lw_all := lw_g (lw_at lw_m7 25 rfl) rfl
theorem q1575 : (Jvm.Cond.fieldLink "KeyTurns$Scanner" (86 : Nat) "KeyTurns$Token" "SIGN" "LKeyTurns$Token;") ∈ lw_all := lw_g (lw_at lw_m7 27 rfl) rfl
theorem q1580 : (Jvm.Cond.fieldLink "KeyTurns$Scanner" (18 : Nat) "KeyTurns$Scanner" "word" "Ljava/lang/StringBuilder;") ∈ lw_all := lw_g (lw_at lw_m7 32 rfl) rfl
theorem q1581 : (Jvm.Cond.fieldLink "KeyTurns$Scanner" (22 : Nat) "KeyTurns$Scanner" "end" "I") ∈ lw_all := lw_g (lw_at lw_m7 33 rfl) rfl
theorem q1582 : (Jvm.Cond.fieldLink "KeyTurns$Scanner" (33 : Nat) "KeyTurns$Scanner" "at" "I") ∈ lw_all := lw_g (lw_at lw_m7 34 rfl) rfl
theorem q1583 : (Jvm.Cond.fieldLink "KeyTurns$Scanner" (40 : Nat) "KeyTurns$Scanner" "begin" "I") ∈ lw_all := lw_g (lw_at lw_m7 35 rfl) rfl
theorem q1584 : (Jvm.Cond.fieldLink "KeyTurns$Scanner" (70 : Nat) "KeyTurns$Scanner" "value" "I") ∈ lw_all := lw_g (lw_at lw_m7 36 rfl) rfl
theorem q1585 : (Jvm.Cond.fieldLink "KeyTurns$Scanner" (83 : Nat) "KeyTurns$Scanner" "sign" "I") ∈ lw_all := lw_g (lw_at lw_m7 37 rfl) rfl
theorem q1590 : (Jvm.Cond.fieldLink "KeyTurns$Scanner" (53 : Nat) "KeyTurns$Scanner" "token" "LKeyTurns$Token;") ∈ lw_all := lw_g (lw_at lw_m7 42 rfl) rfl
theorem q1591 : (Jvm.Cond.fieldLink "KeyTurns$Scanner" (3 : Nat) "KeyTurns$Scanner" "this$0" "LKeyTurns;") ∈ lw_all := lw_g (lw_at lw_m7 43 rfl) rfl
theorem q1599 : (Jvm.Cond.soleField "KeyTurns$Scanner" "word") ∈ lw_all := lw_g (lw_at lw_m7 51 rfl) rfl
theorem q1601 : (Jvm.Cond.soleField "KeyTurns$Scanner" "end") ∈ lw_all := lw_g (lw_at lw_m7 53 rfl) rfl
theorem q1603 : (Jvm.Cond.soleField "KeyTurns$Scanner" "at") ∈ lw_all := lw_g (lw_at lw_m7 55 rfl) rfl
theorem q1605 : (Jvm.Cond.soleField "KeyTurns$Scanner" "begin") ∈ lw_all := lw_g (lw_at lw_m7 57 rfl) rfl
theorem q1607 : (Jvm.Cond.soleField "KeyTurns$Scanner" "value") ∈ lw_all := lw_g (lw_at lw_m7 59 rfl) rfl
theorem q1609 : (Jvm.Cond.soleField "KeyTurns$Scanner" "sign") ∈ lw_all := lw_g (lw_at lw_m7 61 rfl) rfl
theorem q1611 : (Jvm.Cond.soleField "KeyTurns$Scanner" "token") ∈ lw_all := lw_g (lw_at lw_m7 63 rfl) rfl
theorem q1613 : (Jvm.Cond.soleField "KeyTurns$Scanner" "this$0") ∈ lw_all := lw_g (lw_at lw_m7 65 rfl) rfl
theorem q1622 : (Jvm.Cond.declares ({ cls := "KeyTurns$Scanner", name := "accept", desc := "(Ljava/lang/String;)Z" } : Jvm.MethodName)) ∈ lw_tbl := lw_at lw_m7 74 rfl
theorem q1624 : (Jvm.Cond.instanceMethod ({ cls := "KeyTurns$Scanner", name := "accept", desc := "(Ljava/lang/String;)Z" } : Jvm.MethodName)) ∈ lw_all := lw_g (lw_at lw_m7 76 rfl) rfl
theorem q1625 : (Jvm.Cond.code ({ cls := "KeyTurns$Scanner", name := "accept", desc := "(Ljava/lang/String;)Z" } : Jvm.MethodName) prog_9_method_10_code (3 : Nat) (Option.some Jvm.ClassFile.FieldType.boolean)) ∈ lw_all := lw_g (lw_at lw_m7 77 rfl) rfl
theorem q1626 : (Jvm.Cond.methodLink "KeyTurns$Scanner" (100 : Nat) ({ cls := "KeyTurns$Scanner", name := "keyword", desc := "()Ljava/lang/String;" } : Jvm.MethodName)) ∈ lw_all := lw_g (lw_at lw_m7 78 rfl) rfl
theorem q1627 : (Jvm.Cond.instanceMethod ({ cls := "KeyTurns$Scanner", name := "keyword", desc := "()Ljava/lang/String;" } : Jvm.MethodName)) ∈ lw_all := lw_g (lw_at lw_m7 79 rfl) rfl
theorem q1628 : (Jvm.Cond.sameMethod "KeyTurns$Scanner" "KeyTurns$Scanner" "keyword" "()Ljava/lang/String;") ∈ lw_all := lw_g (lw_at lw_m7 80 rfl) rfl
theorem q1631 : (Jvm.Cond.code ({ cls := "KeyTurns$Scanner", name := "keyword", desc := "()Ljava/lang/String;" } : Jvm.MethodName) prog_9_method_9_code (1 : Nat) (Option.some (Jvm.ClassFile.FieldType.object "java/lang/String"))) ∈ lw_all := lw_g (lw_at lw_m7 83 rfl) rfl
theorem q1632 : (Jvm.Cond.methodLink "KeyTurns$Scanner" (94 : Nat) ({ cls := "java/lang/StringBuilder", name := "toString", desc := "()Ljava/lang/String;" } : Jvm.MethodName)) ∈ lw_all := lw_g (lw_at lw_m7 84 rfl) rfl
theorem q1633 : (Jvm.Cond.stringRef "KeyTurns$Scanner" (98 : Nat) "") ∈ lw_tbl := lw_at lw_m7 85 rfl
theorem q1634 : (Jvm.Cond.methodLink "KeyTurns$Scanner" (103 : Nat) ({ cls := "java/lang/String", name := "equals", desc := "(Ljava/lang/Object;)Z" } : Jvm.MethodName)) ∈ lw_all := lw_g (lw_at lw_m7 86 rfl) rfl
theorem q1644 : (Jvm.Cond.declares ({ cls := "KeyTurns$Scanner", name := "check", desc := "(ZI)V" } : Jvm.MethodName)) ∈ lw_tbl := lw_at lw_m7 96 rfl
theorem q1646 : (Jvm.Cond.instanceMethod ({ cls := "KeyTurns$Scanner", name := "check", desc := "(ZI)V" } : Jvm.MethodName)) ∈ lw_all := lw_g (lw_at lw_m7 98 rfl) rfl
theorem q1647 : (Jvm.Cond.code ({ cls := "KeyTurns$Scanner", name := "check", desc := "(ZI)V" } : Jvm.MethodName) prog_9_method_6_code (3 : Nat) (Option.none : Option Jvm.ClassFile.FieldType)) ∈ lw_all := lw_g (lw_at lw_m7 99 rfl) rfl
theorem q1648 : (Jvm.Cond.classLink "KeyTurns$Scanner" (89 : Nat) "KeyTurns$TextError") ∈ lw_all := lw_g (lw_at lw_m7 100 rfl) rfl
theorem q1657 : (Jvm.Cond.methodLink "KeyTurns$Scanner" (91 : Nat) ({ cls := "KeyTurns$TextError", name := "<init>", desc := "(IILjava/lang/Exception;)V" } : Jvm.MethodName)) ∈ lw_all := lw_g (lw_at lw_m7 109 rfl) rfl
theorem q1678 : (Jvm.Cond.declares ({ cls := "KeyTurns$Scanner", name := "number", desc := "(II)I" } : Jvm.MethodName)) ∈ lw_tbl := lw_at lw_m7 130 rfl
theorem q1680 : (Jvm.Cond.instanceMethod ({ cls := "KeyTurns$Scanner", name := "number", desc := "(II)I" } : Jvm.MethodName)) ∈ lw_all := lw_g (lw_at lw_m7 132 rfl) rfl
theorem q1681 : (Jvm.Cond.code ({ cls := "KeyTurns$Scanner", name := "number", desc := "(II)I" } : Jvm.MethodName) prog_9_method_14_code (4 : Nat) (Option.some Jvm.ClassFile.FieldType.int)) ∈ lw_all := lw_g (lw_at lw_m7 133 rfl) rfl
theorem q1682 : (Jvm.Cond.methodLink "KeyTurns$Scanner" (116 : Nat) ({ cls := "KeyTurns$Scanner", name := "peek", desc := "(II)I" } : Jvm.MethodName)) ∈ lw_all := lw_g (lw_at lw_m7 134 rfl) rfl
theorem q1683 : (Jvm.Cond.instanceMethod ({ cls := "KeyTurns$Scanner", name := "peek", desc := "(II)I" } : Jvm.MethodName)) ∈ lw_all := lw_g (lw_at lw_m7 135 rfl) rfl
theorem q1684 : (Jvm.Cond.sameMethod "KeyTurns$Scanner" "KeyTurns$Scanner" "peek" "(II)I") ∈ lw_all := lw_g (lw_at lw_m7 136 rfl) rfl
theorem q1687 : (Jvm.Cond.code ({ cls := "KeyTurns$Scanner", name := "peek", desc := "(II)I" } : Jvm.MethodName) prog_9_method_13_code (3 : Nat) (Option.some Jvm.ClassFile.FieldType.int)) ∈ lw_all := lw_g (lw_at lw_m7 139 rfl) rfl
theorem q1688 : (Jvm.Cond.methodLink "KeyTurns$Scanner" (112 : Nat) ({ cls := "KeyTurns$Scanner", name := "check", desc := "(ZI)V" } : Jvm.MethodName)) ∈ lw_all := lw_g (lw_at lw_m7 140 rfl) rfl
theorem q1692 : (Jvm.Cond.declares ({ cls := "KeyTurns$Scanner", name := "expectSign", desc := "(I)V" } : Jvm.MethodName)) ∈ lw_tbl := lw_at lw_m7 144 rfl
theorem q1694 : (Jvm.Cond.instanceMethod ({ cls := "KeyTurns$Scanner", name := "expectSign", desc := "(I)V" } : Jvm.MethodName)) ∈ lw_all := lw_g (lw_at lw_m7 146 rfl) rfl
theorem q1695 : (Jvm.Cond.code ({ cls := "KeyTurns$Scanner", name := "expectSign", desc := "(I)V" } : Jvm.MethodName) prog_9_method_11_code (2 : Nat) (Option.none : Option Jvm.ClassFile.FieldType)) ∈ lw_all := lw_g (lw_at lw_m7 147 rfl) rfl
theorem q1696 : (Jvm.Cond.methodLink "KeyTurns$Scanner" (109 : Nat) ({ cls := "KeyTurns$Scanner", name := "isSign", desc := "(I)Z" } : Jvm.MethodName)) ∈ lw_all := lw_g (lw_at lw_m7 148 rfl) rfl
theorem q1697 : (Jvm.Cond.instanceMethod ({ cls := "KeyTurns$Scanner", name := "isSign", desc := "(I)Z" } : Jvm.MethodName)) ∈ lw_all := lw_g (lw_at lw_m7 149 rfl) rfl
theorem q1698 : (Jvm.Cond.sameMethod "KeyTurns$Scanner" "KeyTurns$Scanner" "isSign" "(I)Z") ∈ lw_all := lw_g (lw_at lw_m7 150 rfl) rfl
theorem q1701 : (Jvm.Cond.code ({ cls := "KeyTurns$Scanner", name := "isSign", desc := "(I)Z" } : Jvm.MethodName) prog_9_method_8_code (2 : Nat) (Option.some Jvm.ClassFile.FieldType.boolean)) ∈ lw_all := lw_g (lw_at lw_m7 153 rfl) rfl
theorem q1705 : (Jvm.Cond.declares ({ cls := "KeyTurns$Scanner", name := "keyword", desc := "()Ljava/lang/String;" } : Jvm.MethodName)) ∈ lw_tbl := lw_at lw_m7 157 rfl
theorem q1774 : (Jvm.Cond.declares ({ cls := "KeyTurns$Scanner", name := "next", desc := "()V" } : Jvm.MethodName)) ∈ lw_tbl := lw_at lw_m7 226 rfl
theorem q1781 : (Jvm.Cond.declares ({ cls := "KeyTurns$Scanner", name := "peek", desc := "(II)I" } : Jvm.MethodName)) ∈ lw_tbl := lw_at lw_m7 233 rfl
theorem q2224 : (Jvm.Cond.declares ({ cls := "KeyTurns$Scanner", name := "isSign", desc := "(I)Z" } : Jvm.MethodName)) ∈ lw_tbl := lw_at lw_m9 196 rfl
theorem q2371 : (Jvm.Cond.declares ({ cls := "KeyTurns$Scanner", name := "relationSign", desc := "()I" } : Jvm.MethodName)) ∈ lw_tbl := lw_at lw_m10 103 rfl
theorem q2373 : (Jvm.Cond.instanceMethod ({ cls := "KeyTurns$Scanner", name := "relationSign", desc := "()I" } : Jvm.MethodName)) ∈ lw_all := lw_g (lw_at lw_m10 105 rfl) rfl
theorem q2374 : (Jvm.Cond.code ({ cls := "KeyTurns$Scanner", name := "relationSign", desc := "()I" } : Jvm.MethodName) prog_9_method_12_code (2 : Nat) (Option.some Jvm.ClassFile.FieldType.int)) ∈ lw_all := lw_g (lw_at lw_m10 106 rfl) rfl
theorem q3016 : (Jvm.Cond.sameMethod "KeyTurns$Scanner" "KeyTurns$Scanner" "byteAt" "(I)I") ∈ lw_all := lw_g (lw_at lw_m13 28 rfl) rfl
theorem q3019 : (Jvm.Cond.sameMethod "KeyTurns$Scanner" "KeyTurns$Scanner" "check" "(ZI)V") ∈ lw_all := lw_g (lw_at lw_m13 31 rfl) rfl
def RX7 : String := "KeyTurns$KeysParser"
def TX7 : u_T := fun k => match k with
  | 0 => ("KeyTurns$Scanner", "word", "Ljava/lang/StringBuilder;", true)
  | 1 => ("KeyTurns$Scanner", "end", "I", true)
  | 2 => ("KeyTurns$Scanner", "at", "I", false)
  | 3 => ("KeyTurns$Scanner", "begin", "I", false)
  | 4 => ("KeyTurns$Scanner", "value", "I", false)
  | 5 => ("KeyTurns$Scanner", "sign", "I", false)
  | 6 => ("KeyTurns$Scanner", "token", "LKeyTurns$Token;", false)
  | 7 => ("KeyTurns$Scanner", "this$0", "LKeyTurns;", true)
  | 8 => ("KeyTurns$KeysParser", "made", "LKeyTurns$State;", false)
  | 9 => ("KeyTurns$KeysParser", "records", "I", false)
  | _ => ("KeyTurns$KeysParser", "this$0", "LKeyTurns;", true)
def tyX7 : Nat → FieldType := fun k => match k with
  | 0 => .object "java/lang/StringBuilder"
  | 1 => .int
  | 2 => .int
  | 3 => .int
  | 4 => .int
  | 5 => .int
  | 6 => .object "KeyTurns$Token"
  | 7 => .object "KeyTurns"
  | 8 => .object "KeyTurns$State"
  | 9 => .int
  | _ => .object "KeyTurns"
abbrev wsX70 : List Cond := u_ws RX7 TX7 11
-- two fields of one name: no nmX7
theorem tyX7_ok : ∀ k, k < 11 → parseFieldDescriptor (TX7 k).2.2.1 = some (tyX7 k) := by decide +kernel
abbrev cX7_init : ByteArray := prog_6_method_1_code
def yX7_init : MethodName := ⟨RX7, "<init>", "(LKeyTurns;I)V"⟩
abbrev cX7_parse : ByteArray := prog_6_method_2_code
def yX7_parse : MethodName := ⟨RX7, "parse", "()LKeyTurns$State;"⟩
abbrev cX7_clause : ByteArray := prog_6_method_3_code
def yX7_clause : MethodName := ⟨RX7, "clause", "(Ljava/lang/String;)V"⟩
theorem q129 : (Jvm.Cond.initialized "KeyTurns$KeysParser") ∈ lw_all := lw_g (lw_at lw_m1 21 rfl) rfl
theorem q269 : (Jvm.Cond.fieldLinkNest "KeyTurns$KeysParser" (68 : Nat) "KeyTurns$State" "clients" "Ljava/util/ArrayList;" "KeyTurns") ∈ lw_tbl := lw_at lw_m1 161 rfl
theorem q384 : (Jvm.Cond.selects "KeyTurns$KeysParser" ({ cls := "java/lang/Object", name := "getClass", desc := "()Ljava/lang/Class;" } : Jvm.MethodName) ({ cls := "java/lang/Object", name := "getClass", desc := "()Ljava/lang/Class;" } : Jvm.MethodName)) ∈ lw_all := lw_g (lw_at lw_m2 36 rfl) rfl
theorem q1505 : (Jvm.Cond.instantiable "KeyTurns$KeysParser" (11 : Nat)) ∈ lw_all := lw_g (lw_at lw_m6 197 rfl) rfl
theorem q1507 : (Jvm.Cond.instanceMethod ({ cls := "KeyTurns$KeysParser", name := "<init>", desc := "(LKeyTurns;I)V" } : Jvm.MethodName)) ∈ lw_all := lw_g (lw_at lw_m6 199 rfl) rfl
theorem q1508 : (Jvm.Cond.code ({ cls := "KeyTurns$KeysParser", name := "<init>", desc := "(LKeyTurns;I)V" } : Jvm.MethodName) prog_6_method_1_code (3 : Nat) (Option.none : Option Jvm.ClassFile.FieldType)) ∈ lw_all := lw_g (lw_at lw_m6 200 rfl) rfl
theorem q1509 : (Jvm.Cond.methodLink "KeyTurns$KeysParser" (9 : Nat) ({ cls := "KeyTurns$Scanner", name := "<init>", desc := "(LKeyTurns;I)V" } : Jvm.MethodName)) ∈ lw_all := lw_g (lw_at lw_m6 201 rfl) rfl
theorem q1518 : (Jvm.Cond.selects "KeyTurns$KeysParser" ({ cls := "KeyTurns$Scanner", name := "next", desc := "()V" } : Jvm.MethodName) ({ cls := "KeyTurns$Scanner", name := "next", desc := "()V" } : Jvm.MethodName)) ∈ lw_all := lw_g (lw_at lw_m6 210 rfl) rfl
theorem q1577 : (Jvm.Cond.fieldLink "KeyTurns$KeysParser" (33 : Nat) "KeyTurns$KeysParser" "made" "LKeyTurns$State;") ∈ lw_all := lw_g (lw_at lw_m7 29 rfl) rfl
theorem q1578 : (Jvm.Cond.fieldLink "KeyTurns$KeysParser" (58 : Nat) "KeyTurns$KeysParser" "records" "I") ∈ lw_all := lw_g (lw_at lw_m7 30 rfl) rfl
theorem q1579 : (Jvm.Cond.fieldLink "KeyTurns$KeysParser" (3 : Nat) "KeyTurns$KeysParser" "this$0" "LKeyTurns;") ∈ lw_all := lw_g (lw_at lw_m7 31 rfl) rfl
theorem q1588 : (Jvm.Cond.fieldLink "KeyTurns$KeysParser" (41 : Nat) "KeyTurns$KeysParser" "token" "LKeyTurns$Token;") ∈ lw_all := lw_g (lw_at lw_m7 40 rfl) rfl
theorem q1589 : (Jvm.Cond.sameField "KeyTurns$KeysParser" "KeyTurns$Scanner" "token" "LKeyTurns$Token;") ∈ lw_all := lw_g (lw_at lw_m7 41 rfl) rfl
theorem q1592 : (Jvm.Cond.lays "KeyTurns$KeysParser" "KeyTurns$KeysParser" "made" "LKeyTurns$State;") ∈ lw_all := lw_g (lw_at lw_m7 44 rfl) rfl
theorem q1593 : (Jvm.Cond.soleField "KeyTurns$KeysParser" "made") ∈ lw_all := lw_g (lw_at lw_m7 45 rfl) rfl
theorem q1594 : (Jvm.Cond.lays "KeyTurns$KeysParser" "KeyTurns$KeysParser" "records" "I") ∈ lw_all := lw_g (lw_at lw_m7 46 rfl) rfl
theorem q1595 : (Jvm.Cond.soleField "KeyTurns$KeysParser" "records") ∈ lw_all := lw_g (lw_at lw_m7 47 rfl) rfl
theorem q1596 : (Jvm.Cond.laysFinal "KeyTurns$KeysParser" "KeyTurns$KeysParser" "this$0" "LKeyTurns;") ∈ lw_all := lw_g (lw_at lw_m7 48 rfl) rfl
theorem q1597 : (Jvm.Cond.soleField "KeyTurns$KeysParser" "this$0") ∈ lw_all := lw_g (lw_at lw_m7 49 rfl) rfl
theorem q1598 : (Jvm.Cond.laysFinal "KeyTurns$KeysParser" "KeyTurns$Scanner" "word" "Ljava/lang/StringBuilder;") ∈ lw_all := lw_g (lw_at lw_m7 50 rfl) rfl
theorem q1600 : (Jvm.Cond.laysFinal "KeyTurns$KeysParser" "KeyTurns$Scanner" "end" "I") ∈ lw_all := lw_g (lw_at lw_m7 52 rfl) rfl
theorem q1602 : (Jvm.Cond.lays "KeyTurns$KeysParser" "KeyTurns$Scanner" "at" "I") ∈ lw_all := lw_g (lw_at lw_m7 54 rfl) rfl
theorem q1604 : (Jvm.Cond.lays "KeyTurns$KeysParser" "KeyTurns$Scanner" "begin" "I") ∈ lw_all := lw_g (lw_at lw_m7 56 rfl) rfl
theorem q1606 : (Jvm.Cond.lays "KeyTurns$KeysParser" "KeyTurns$Scanner" "value" "I") ∈ lw_all := lw_g (lw_at lw_m7 58 rfl) rfl
theorem q1608 : (Jvm.Cond.lays "KeyTurns$KeysParser" "KeyTurns$Scanner" "sign" "I") ∈ lw_all := lw_g (lw_at lw_m7 60 rfl) rfl
theorem q1610 : (Jvm.Cond.lays "KeyTurns$KeysParser" "KeyTurns$Scanner" "token" "LKeyTurns$Token;") ∈ lw_all := lw_g (lw_at lw_m7 62 rfl) rfl
theorem q1612 : (Jvm.Cond.laysFinal "KeyTurns$KeysParser" "KeyTurns$Scanner" "this$0" "LKeyTurns;") ∈ lw_all := lw_g (lw_at lw_m7 64 rfl) rfl
theorem q1614 : (Jvm.Cond.superclass "KeyTurns$KeysParser" "KeyTurns$Scanner") ∈ lw_all := lw_g (lw_at lw_m7 66 rfl) rfl
theorem q1616 : (Jvm.Cond.instanceMethod ({ cls := "KeyTurns$KeysParser", name := "parse", desc := "()LKeyTurns$State;" } : Jvm.MethodName)) ∈ lw_all := lw_g (lw_at lw_m7 68 rfl) rfl
theorem q1617 : (Jvm.Cond.selects "KeyTurns$KeysParser" ({ cls := "KeyTurns$KeysParser", name := "parse", desc := "()LKeyTurns$State;" } : Jvm.MethodName) ({ cls := "KeyTurns$KeysParser", name := "parse", desc := "()LKeyTurns$State;" } : Jvm.MethodName)) ∈ lw_all := lw_g (lw_at lw_m7 69 rfl) rfl
theorem q1618 : (Jvm.Cond.code ({ cls := "KeyTurns$KeysParser", name := "parse", desc := "()LKeyTurns$State;" } : Jvm.MethodName) prog_6_method_2_code (5 : Nat) (Option.some (Jvm.ClassFile.FieldType.object "KeyTurns$State"))) ∈ lw_all := lw_g (lw_at lw_m7 70 rfl) rfl
theorem q1619 : (Jvm.Cond.stringRef "KeyTurns$KeysParser" (15 : Nat) "keys") ∈ lw_tbl := lw_at lw_m7 71 rfl
theorem q1620 : (Jvm.Cond.methodLink "KeyTurns$KeysParser" (17 : Nat) ({ cls := "KeyTurns$KeysParser", name := "accept", desc := "(Ljava/lang/String;)Z" } : Jvm.MethodName)) ∈ lw_all := lw_g (lw_at lw_m7 72 rfl) rfl
theorem q1621 : (Jvm.Cond.sameMethod "KeyTurns$KeysParser" "KeyTurns$Scanner" "accept" "(Ljava/lang/String;)Z") ∈ lw_all := lw_g (lw_at lw_m7 73 rfl) rfl
theorem q1623 : (Jvm.Cond.selects "KeyTurns$KeysParser" ({ cls := "KeyTurns$KeysParser", name := "accept", desc := "(Ljava/lang/String;)Z" } : Jvm.MethodName) ({ cls := "KeyTurns$Scanner", name := "accept", desc := "(Ljava/lang/String;)Z" } : Jvm.MethodName)) ∈ lw_all := lw_g (lw_at lw_m7 75 rfl) rfl
theorem q1629 : (Jvm.Cond.selects "KeyTurns$KeysParser" ({ cls := "KeyTurns$Scanner", name := "keyword", desc := "()Ljava/lang/String;" } : Jvm.MethodName) ({ cls := "KeyTurns$Scanner", name := "keyword", desc := "()Ljava/lang/String;" } : Jvm.MethodName)) ∈ lw_all := lw_g (lw_at lw_m7 81 rfl) rfl
theorem q1642 : (Jvm.Cond.methodLink "KeyTurns$KeysParser" (21 : Nat) ({ cls := "KeyTurns$KeysParser", name := "check", desc := "(ZI)V" } : Jvm.MethodName)) ∈ lw_all := lw_g (lw_at lw_m7 94 rfl) rfl
theorem q1643 : (Jvm.Cond.sameMethod "KeyTurns$KeysParser" "KeyTurns$Scanner" "check" "(ZI)V") ∈ lw_all := lw_g (lw_at lw_m7 95 rfl) rfl
theorem q1645 : (Jvm.Cond.selects "KeyTurns$KeysParser" ({ cls := "KeyTurns$KeysParser", name := "check", desc := "(ZI)V" } : Jvm.MethodName) ({ cls := "KeyTurns$Scanner", name := "check", desc := "(ZI)V" } : Jvm.MethodName)) ∈ lw_all := lw_g (lw_at lw_m7 97 rfl) rfl
theorem q1676 : (Jvm.Cond.methodLink "KeyTurns$KeysParser" (25 : Nat) ({ cls := "KeyTurns$KeysParser", name := "number", desc := "(II)I" } : Jvm.MethodName)) ∈ lw_all := lw_g (lw_at lw_m7 128 rfl) rfl
theorem q1677 : (Jvm.Cond.sameMethod "KeyTurns$KeysParser" "KeyTurns$Scanner" "number" "(II)I") ∈ lw_all := lw_g (lw_at lw_m7 129 rfl) rfl
theorem q1679 : (Jvm.Cond.selects "KeyTurns$KeysParser" ({ cls := "KeyTurns$KeysParser", name := "number", desc := "(II)I" } : Jvm.MethodName) ({ cls := "KeyTurns$Scanner", name := "number", desc := "(II)I" } : Jvm.MethodName)) ∈ lw_all := lw_g (lw_at lw_m7 131 rfl) rfl
theorem q1685 : (Jvm.Cond.selects "KeyTurns$KeysParser" ({ cls := "KeyTurns$Scanner", name := "peek", desc := "(II)I" } : Jvm.MethodName) ({ cls := "KeyTurns$Scanner", name := "peek", desc := "(II)I" } : Jvm.MethodName)) ∈ lw_all := lw_g (lw_at lw_m7 137 rfl) rfl
theorem q1689 : (Jvm.Cond.methodLinkNest "KeyTurns$KeysParser" (29 : Nat) ({ cls := "KeyTurns", name := "begun", desc := "(IIII)LKeyTurns$State;" } : Jvm.MethodName) "KeyTurns") ∈ lw_tbl := lw_at lw_m7 141 rfl
theorem q1690 : (Jvm.Cond.methodLink "KeyTurns$KeysParser" (37 : Nat) ({ cls := "KeyTurns$KeysParser", name := "expectSign", desc := "(I)V" } : Jvm.MethodName)) ∈ lw_all := lw_g (lw_at lw_m7 142 rfl) rfl
theorem q1691 : (Jvm.Cond.sameMethod "KeyTurns$KeysParser" "KeyTurns$Scanner" "expectSign" "(I)V") ∈ lw_all := lw_g (lw_at lw_m7 143 rfl) rfl
theorem q1693 : (Jvm.Cond.selects "KeyTurns$KeysParser" ({ cls := "KeyTurns$KeysParser", name := "expectSign", desc := "(I)V" } : Jvm.MethodName) ({ cls := "KeyTurns$Scanner", name := "expectSign", desc := "(I)V" } : Jvm.MethodName)) ∈ lw_all := lw_g (lw_at lw_m7 145 rfl) rfl
theorem q1699 : (Jvm.Cond.selects "KeyTurns$KeysParser" ({ cls := "KeyTurns$Scanner", name := "isSign", desc := "(I)Z" } : Jvm.MethodName) ({ cls := "KeyTurns$Scanner", name := "isSign", desc := "(I)Z" } : Jvm.MethodName)) ∈ lw_all := lw_g (lw_at lw_m7 151 rfl) rfl
theorem q1702 : (Jvm.Cond.fieldLink "KeyTurns$KeysParser" (45 : Nat) "KeyTurns$Token" "END" "LKeyTurns$Token;") ∈ lw_all := lw_g (lw_at lw_m7 154 rfl) rfl
theorem q1703 : (Jvm.Cond.methodLink "KeyTurns$KeysParser" (50 : Nat) ({ cls := "KeyTurns$KeysParser", name := "keyword", desc := "()Ljava/lang/String;" } : Jvm.MethodName)) ∈ lw_all := lw_g (lw_at lw_m7 155 rfl) rfl
theorem q1704 : (Jvm.Cond.sameMethod "KeyTurns$KeysParser" "KeyTurns$Scanner" "keyword" "()Ljava/lang/String;") ∈ lw_all := lw_g (lw_at lw_m7 156 rfl) rfl
theorem q1706 : (Jvm.Cond.selects "KeyTurns$KeysParser" ({ cls := "KeyTurns$KeysParser", name := "keyword", desc := "()Ljava/lang/String;" } : Jvm.MethodName) ({ cls := "KeyTurns$Scanner", name := "keyword", desc := "()Ljava/lang/String;" } : Jvm.MethodName)) ∈ lw_all := lw_g (lw_at lw_m7 158 rfl) rfl
theorem q1707 : (Jvm.Cond.methodLink "KeyTurns$KeysParser" (54 : Nat) ({ cls := "KeyTurns$KeysParser", name := "clause", desc := "(Ljava/lang/String;)V" } : Jvm.MethodName)) ∈ lw_all := lw_g (lw_at lw_m7 159 rfl) rfl
theorem q1708 : (Jvm.Cond.privateMethod ({ cls := "KeyTurns$KeysParser", name := "clause", desc := "(Ljava/lang/String;)V" } : Jvm.MethodName)) ∈ lw_tbl := lw_at lw_m7 160 rfl
theorem q1709 : (Jvm.Cond.instanceMethod ({ cls := "KeyTurns$KeysParser", name := "clause", desc := "(Ljava/lang/String;)V" } : Jvm.MethodName)) ∈ lw_all := lw_g (lw_at lw_m7 161 rfl) rfl
theorem q1710 : (Jvm.Cond.code ({ cls := "KeyTurns$KeysParser", name := "clause", desc := "(Ljava/lang/String;)V" } : Jvm.MethodName) prog_6_method_3_code (6 : Nat) (Option.none : Option Jvm.ClassFile.FieldType)) ∈ lw_all := lw_g (lw_at lw_m7 162 rfl) rfl
theorem q1711 : (Jvm.Cond.methodLink "KeyTurns$KeysParser" (88 : Nat) ({ cls := "java/lang/String", name := "hashCode", desc := "()I" } : Jvm.MethodName)) ∈ lw_all := lw_g (lw_at lw_m7 163 rfl) rfl
theorem q1768 : (Jvm.Cond.stringRef "KeyTurns$KeysParser" (93 : Nat) "client") ∈ lw_tbl := lw_at lw_m7 220 rfl
theorem q1769 : (Jvm.Cond.methodLink "KeyTurns$KeysParser" (95 : Nat) ({ cls := "java/lang/String", name := "equals", desc := "(Ljava/lang/Object;)Z" } : Jvm.MethodName)) ∈ lw_all := lw_g (lw_at lw_m7 221 rfl) rfl
theorem q1770 : (Jvm.Cond.stringRef "KeyTurns$KeysParser" (99 : Nat) "records") ∈ lw_tbl := lw_at lw_m7 222 rfl
theorem q1771 : (Jvm.Cond.methodLink "KeyTurns$KeysParser" (72 : Nat) ({ cls := "java/util/ArrayList", name := "size", desc := "()I" } : Jvm.MethodName)) ∈ lw_all := lw_g (lw_at lw_m7 223 rfl) rfl
theorem q1772 : (Jvm.Cond.methodLink "KeyTurns$KeysParser" (100 : Nat) ({ cls := "KeyTurns$KeysParser", name := "next", desc := "()V" } : Jvm.MethodName)) ∈ lw_all := lw_g (lw_at lw_m7 224 rfl) rfl
theorem q1773 : (Jvm.Cond.sameMethod "KeyTurns$KeysParser" "KeyTurns$Scanner" "next" "()V") ∈ lw_all := lw_g (lw_at lw_m7 225 rfl) rfl
theorem q1775 : (Jvm.Cond.selects "KeyTurns$KeysParser" ({ cls := "KeyTurns$KeysParser", name := "next", desc := "()V" } : Jvm.MethodName) ({ cls := "KeyTurns$Scanner", name := "next", desc := "()V" } : Jvm.MethodName)) ∈ lw_all := lw_g (lw_at lw_m7 227 rfl) rfl
theorem q1776 : (Jvm.Cond.classLink "KeyTurns$KeysParser" (82 : Nat) "KeyTurns$Client") ∈ lw_all := lw_g (lw_at lw_m7 228 rfl) rfl
theorem q1777 : (Jvm.Cond.methodLink "KeyTurns$KeysParser" (104 : Nat) ({ cls := "KeyTurns$Client", name := "<init>", desc := "(II[I[I)V" } : Jvm.MethodName)) ∈ lw_all := lw_g (lw_at lw_m7 229 rfl) rfl
theorem q1778 : (Jvm.Cond.methodLink "KeyTurns$KeysParser" (107 : Nat) ({ cls := "java/util/ArrayList", name := "add", desc := "(Ljava/lang/Object;)Z" } : Jvm.MethodName)) ∈ lw_all := lw_g (lw_at lw_m7 230 rfl) rfl
theorem q1779 : (Jvm.Cond.methodLink "KeyTurns$KeysParser" (110 : Nat) ({ cls := "KeyTurns$KeysParser", name := "peek", desc := "(II)I" } : Jvm.MethodName)) ∈ lw_all := lw_g (lw_at lw_m7 231 rfl) rfl
theorem q1780 : (Jvm.Cond.sameMethod "KeyTurns$KeysParser" "KeyTurns$Scanner" "peek" "(II)I") ∈ lw_all := lw_g (lw_at lw_m7 232 rfl) rfl
theorem q1782 : (Jvm.Cond.selects "KeyTurns$KeysParser" ({ cls := "KeyTurns$KeysParser", name := "peek", desc := "(II)I" } : Jvm.MethodName) ({ cls := "KeyTurns$Scanner", name := "peek", desc := "(II)I" } : Jvm.MethodName)) ∈ lw_all := lw_g (lw_at lw_m7 234 rfl) rfl
theorem q1783 : (Jvm.Cond.methodLink "KeyTurns$KeysParser" (62 : Nat) ({ cls := "KeyTurns$State", name := "make", desc := "()LKeyTurns$Sealed;" } : Jvm.MethodName)) ∈ lw_all := lw_g (lw_at lw_m7 235 rfl) rfl
theorem q1784 : (Jvm.Cond.methodLink "KeyTurns$KeysParser" (78 : Nat) ({ cls := "java/util/ArrayList", name := "get", desc := "(I)Ljava/lang/Object;" } : Jvm.MethodName)) ∈ lw_all := lw_g (lw_at lw_m7 236 rfl) rfl
theorem q1785 : (Jvm.Cond.methodLink "KeyTurns$KeysParser" (84 : Nat) ({ cls := "KeyTurns$State", name := "ask", desc := "(LKeyTurns$Client;)I" } : Jvm.MethodName)) ∈ lw_all := lw_g (lw_at lw_m7 237 rfl) rfl
theorem q2325 : (Jvm.Cond.selects "KeyTurns$KeysParser" ({ cls := "java/lang/Object", name := "equals", desc := "(Ljava/lang/Object;)Z" } : Jvm.MethodName) ({ cls := "java/lang/Object", name := "equals", desc := "(Ljava/lang/Object;)Z" } : Jvm.MethodName)) ∈ lw_all := lw_g (lw_at lw_m10 57 rfl) rfl
theorem q3020 : (Jvm.Cond.selects "KeyTurns$KeysParser" ({ cls := "KeyTurns$Scanner", name := "check", desc := "(ZI)V" } : Jvm.MethodName) ({ cls := "KeyTurns$Scanner", name := "check", desc := "(ZI)V" } : Jvm.MethodName)) ∈ lw_all := lw_g (lw_at lw_m13 32 rfl) rfl
theorem q3042 : (Jvm.Cond.castable "KeyTurns$KeysParser" "java/lang/Object") ∈ lw_tbl := lw_at lw_m13 54 rfl
theorem in_X7 : ∀ w ∈ wsX70, w ∈ lw_all := lw_in wsX70 [1598, 1600, 1602, 1604, 1606, 1608, 1610, 1612, 1592, 1594, 1596] (by decide +kernel) (by decide +kernel)
def RJ13 : String := "java/lang/AbstractStringBuilder"
abbrev cJ13_init : ByteArray := prog_26_method_2_code
def yJ13_init : MethodName := ⟨RJ13, "<init>", "(I)V"⟩
abbrev cJ13_append : ByteArray := prog_26_method_22_code
def yJ13_append : MethodName := ⟨RJ13, "append", "(Ljava/lang/String;)Ljava/lang/AbstractStringBuilder;"⟩
abbrev cJ13_appendNull : ByteArray := prog_26_method_26_code
def yJ13_appendNull : MethodName := ⟨RJ13, "appendNull", "()Ljava/lang/AbstractStringBuilder;"⟩
abbrev cJ13_ensureCapacityInternal : ByteArray := prog_26_method_9_code
def yJ13_ensureCapacityInternal : MethodName := ⟨RJ13, "ensureCapacityInternal", "(I)V"⟩
abbrev cJ13_newCapacity : ByteArray := prog_26_method_10_code
def yJ13_newCapacity : MethodName := ⟨RJ13, "newCapacity", "(I)I"⟩
abbrev cJ13_isLatin1 : ByteArray := prog_26_method_68_code
def yJ13_isLatin1 : MethodName := ⟨RJ13, "isLatin1", "()Z"⟩
abbrev cJ13_putStringAt : ByteArray := prog_26_method_73_code
def yJ13_putStringAt : MethodName := ⟨RJ13, "putStringAt", "(ILjava/lang/String;)V"⟩
abbrev cJ13_inflateIfNeededFor : ByteArray := prog_26_method_71_code
def yJ13_inflateIfNeededFor : MethodName := ⟨RJ13, "inflateIfNeededFor", "(Ljava/lang/String;)V"⟩
abbrev cJ13_inflate : ByteArray := prog_26_method_11_code
def yJ13_inflate : MethodName := ⟨RJ13, "inflate", "()V"⟩
abbrev cJ13_getValue : ByteArray := prog_26_method_64_code
def yJ13_getValue : MethodName := ⟨RJ13, "getValue", "()[B"⟩
abbrev cJ13_length : ByteArray := prog_26_method_6_code
def yJ13_length : MethodName := ⟨RJ13, "length", "()I"⟩
abbrev cJ13_append_2 : ByteArray := prog_26_method_32_code
def yJ13_append_2 : MethodName := ⟨RJ13, "append", "(I)Ljava/lang/AbstractStringBuilder;"⟩
abbrev cJ13_setLength : ByteArray := prog_26_method_13_code
def yJ13_setLength : MethodName := ⟨RJ13, "setLength", "(I)V"⟩
abbrev cJ13_append_3 : ByteArray := prog_26_method_31_code
def yJ13_append_3 : MethodName := ⟨RJ13, "append", "(C)Ljava/lang/AbstractStringBuilder;"⟩
theorem q130 : (Jvm.Cond.initialized "java/lang/AbstractStringBuilder") ∈ lw_all := lw_g (lw_at lw_m1 22 rfl) rfl
theorem q1047 : (Jvm.Cond.instanceMethod ({ cls := "java/lang/AbstractStringBuilder", name := "<init>", desc := "(I)V" } : Jvm.MethodName)) ∈ lw_all := lw_g (lw_at lw_m4 219 rfl) rfl
theorem q1048 : (Jvm.Cond.code ({ cls := "java/lang/AbstractStringBuilder", name := "<init>", desc := "(I)V" } : Jvm.MethodName) prog_26_method_2_code (2 : Nat) (Option.none : Option Jvm.ClassFile.FieldType)) ∈ lw_all := lw_g (lw_at lw_m4 220 rfl) rfl
theorem q1049 : (Jvm.Cond.methodLink "java/lang/AbstractStringBuilder" (3 : Nat) ({ cls := "java/lang/Object", name := "<init>", desc := "()V" } : Jvm.MethodName)) ∈ lw_all := lw_g (lw_at lw_m4 221 rfl) rfl
theorem q1050 : (Jvm.Cond.fieldLink "java/lang/AbstractStringBuilder" (18 : Nat) "java/lang/String" "COMPACT_STRINGS" "Z") ∈ lw_all := lw_g (lw_at lw_m4 222 rfl) rfl
theorem q1052 : (Jvm.Cond.methodLink "java/lang/AbstractStringBuilder" (26 : Nat) ({ cls := "java/lang/StringUTF16", name := "newBytesFor", desc := "(I)[B" } : Jvm.MethodName)) ∈ lw_all := lw_g (lw_at lw_m4 224 rfl) rfl
theorem q1059 : (Jvm.Cond.fieldLink "java/lang/AbstractStringBuilder" (15 : Nat) "java/lang/AbstractStringBuilder" "value" "[B") ∈ lw_all := lw_g (lw_at lw_m4 231 rfl) rfl
theorem q1060 : (Jvm.Cond.fieldLink "java/lang/AbstractStringBuilder" (22 : Nat) "java/lang/AbstractStringBuilder" "coder" "B") ∈ lw_all := lw_g (lw_at lw_m4 232 rfl) rfl
theorem q1061 : (Jvm.Cond.fieldLink "java/lang/AbstractStringBuilder" (73 : Nat) "java/lang/AbstractStringBuilder" "maybeLatin1" "Z") ∈ lw_all := lw_g (lw_at lw_m4 233 rfl) rfl
theorem q1063 : (Jvm.Cond.fieldLink "java/lang/AbstractStringBuilder" (79 : Nat) "java/lang/AbstractStringBuilder" "count" "I") ∈ lw_all := lw_g (lw_at lw_m4 235 rfl) rfl
theorem q1065 : (Jvm.Cond.soleField "java/lang/AbstractStringBuilder" "value") ∈ lw_all := lw_g (lw_at lw_m4 237 rfl) rfl
theorem q1067 : (Jvm.Cond.soleField "java/lang/AbstractStringBuilder" "coder") ∈ lw_all := lw_g (lw_at lw_m4 239 rfl) rfl
theorem q1069 : (Jvm.Cond.soleField "java/lang/AbstractStringBuilder" "maybeLatin1") ∈ lw_all := lw_g (lw_at lw_m5 1 rfl) rfl
theorem q1071 : (Jvm.Cond.soleField "java/lang/AbstractStringBuilder" "count") ∈ lw_all := lw_g (lw_at lw_m5 3 rfl) rfl
theorem q1078 : (Jvm.Cond.instanceMethod ({ cls := "java/lang/AbstractStringBuilder", name := "append", desc := "(Ljava/lang/String;)Ljava/lang/AbstractStringBuilder;" } : Jvm.MethodName)) ∈ lw_all := lw_g (lw_at lw_m5 10 rfl) rfl
theorem q1079 : (Jvm.Cond.code ({ cls := "java/lang/AbstractStringBuilder", name := "append", desc := "(Ljava/lang/String;)Ljava/lang/AbstractStringBuilder;" } : Jvm.MethodName) prog_26_method_22_code (3 : Nat) (Option.some (Jvm.ClassFile.FieldType.object "java/lang/AbstractStringBuilder"))) ∈ lw_all := lw_g (lw_at lw_m5 11 rfl) rfl
theorem q1080 : (Jvm.Cond.methodLink "java/lang/AbstractStringBuilder" (204 : Nat) ({ cls := "java/lang/AbstractStringBuilder", name := "appendNull", desc := "()Ljava/lang/AbstractStringBuilder;" } : Jvm.MethodName)) ∈ lw_all := lw_g (lw_at lw_m5 12 rfl) rfl
theorem q1081 : (Jvm.Cond.privateMethod ({ cls := "java/lang/AbstractStringBuilder", name := "appendNull", desc := "()Ljava/lang/AbstractStringBuilder;" } : Jvm.MethodName)) ∈ lw_tbl := lw_at lw_m5 13 rfl
theorem q1082 : (Jvm.Cond.instanceMethod ({ cls := "java/lang/AbstractStringBuilder", name := "appendNull", desc := "()Ljava/lang/AbstractStringBuilder;" } : Jvm.MethodName)) ∈ lw_all := lw_g (lw_at lw_m5 14 rfl) rfl
theorem q1083 : (Jvm.Cond.code ({ cls := "java/lang/AbstractStringBuilder", name := "appendNull", desc := "()Ljava/lang/AbstractStringBuilder;" } : Jvm.MethodName) prog_26_method_26_code (3 : Nat) (Option.some (Jvm.ClassFile.FieldType.object "java/lang/AbstractStringBuilder"))) ∈ lw_all := lw_g (lw_at lw_m5 15 rfl) rfl
theorem q1084 : (Jvm.Cond.methodLink "java/lang/AbstractStringBuilder" (100 : Nat) ({ cls := "java/lang/AbstractStringBuilder", name := "ensureCapacityInternal", desc := "(I)V" } : Jvm.MethodName)) ∈ lw_all := lw_g (lw_at lw_m5 16 rfl) rfl
theorem q1085 : (Jvm.Cond.privateMethod ({ cls := "java/lang/AbstractStringBuilder", name := "ensureCapacityInternal", desc := "(I)V" } : Jvm.MethodName)) ∈ lw_tbl := lw_at lw_m5 17 rfl
theorem q1086 : (Jvm.Cond.instanceMethod ({ cls := "java/lang/AbstractStringBuilder", name := "ensureCapacityInternal", desc := "(I)V" } : Jvm.MethodName)) ∈ lw_all := lw_g (lw_at lw_m5 18 rfl) rfl
theorem q1087 : (Jvm.Cond.code ({ cls := "java/lang/AbstractStringBuilder", name := "ensureCapacityInternal", desc := "(I)V" } : Jvm.MethodName) prog_26_method_9_code (3 : Nat) (Option.none : Option Jvm.ClassFile.FieldType)) ∈ lw_all := lw_g (lw_at lw_m5 19 rfl) rfl
theorem q1088 : (Jvm.Cond.methodLink "java/lang/AbstractStringBuilder" (104 : Nat) ({ cls := "java/lang/AbstractStringBuilder", name := "newCapacity", desc := "(I)I" } : Jvm.MethodName)) ∈ lw_all := lw_g (lw_at lw_m5 20 rfl) rfl
theorem q1089 : (Jvm.Cond.privateMethod ({ cls := "java/lang/AbstractStringBuilder", name := "newCapacity", desc := "(I)I" } : Jvm.MethodName)) ∈ lw_tbl := lw_at lw_m5 21 rfl
theorem q1090 : (Jvm.Cond.instanceMethod ({ cls := "java/lang/AbstractStringBuilder", name := "newCapacity", desc := "(I)I" } : Jvm.MethodName)) ∈ lw_all := lw_g (lw_at lw_m5 22 rfl) rfl
theorem q1091 : (Jvm.Cond.code ({ cls := "java/lang/AbstractStringBuilder", name := "newCapacity", desc := "(I)I" } : Jvm.MethodName) prog_26_method_10_code (6 : Nat) (Option.some Jvm.ClassFile.FieldType.int)) ∈ lw_all := lw_g (lw_at lw_m5 23 rfl) rfl
theorem q1092 : (Jvm.Cond.methodLink "java/lang/AbstractStringBuilder" (114 : Nat) ({ cls := "jdk/internal/util/ArraysSupport", name := "newLength", desc := "(III)I" } : Jvm.MethodName)) ∈ lw_all := lw_g (lw_at lw_m5 24 rfl) rfl
theorem q1093 : (Jvm.Cond.constant "java/lang/AbstractStringBuilder" (39 : Nat) (2147483647 : Int32)) ∈ lw_all := lw_g (lw_at lw_m5 25 rfl) rfl
theorem q1094 : (Jvm.Cond.methodLink "java/lang/AbstractStringBuilder" (108 : Nat) ({ cls := "java/util/Arrays", name := "copyOf", desc := "([BI)[B" } : Jvm.MethodName)) ∈ lw_all := lw_g (lw_at lw_m5 26 rfl) rfl
theorem q1102 : (Jvm.Cond.methodLink "java/lang/AbstractStringBuilder" (83 : Nat) ({ cls := "java/lang/AbstractStringBuilder", name := "isLatin1", desc := "()Z" } : Jvm.MethodName)) ∈ lw_all := lw_g (lw_at lw_m5 34 rfl) rfl
theorem q1103 : (Jvm.Cond.instanceMethod ({ cls := "java/lang/AbstractStringBuilder", name := "isLatin1", desc := "()Z" } : Jvm.MethodName)) ∈ lw_all := lw_g (lw_at lw_m5 35 rfl) rfl
theorem q1104 : (Jvm.Cond.sameMethod "java/lang/AbstractStringBuilder" "java/lang/AbstractStringBuilder" "isLatin1" "()Z") ∈ lw_all := lw_g (lw_at lw_m5 36 rfl) rfl
theorem q1106 : (Jvm.Cond.code ({ cls := "java/lang/AbstractStringBuilder", name := "isLatin1", desc := "()Z" } : Jvm.MethodName) prog_26_method_68_code (1 : Nat) (Option.some Jvm.ClassFile.FieldType.boolean)) ∈ lw_all := lw_g (lw_at lw_m5 38 rfl) rfl
theorem q1107 : (Jvm.Cond.methodLink "java/lang/AbstractStringBuilder" (226 : Nat) ({ cls := "java/lang/StringUTF16", name := "putCharsAt", desc := "([BICCCC)I" } : Jvm.MethodName)) ∈ lw_all := lw_g (lw_at lw_m5 39 rfl) rfl
theorem q1133 : (Jvm.Cond.methodLink "java/lang/AbstractStringBuilder" (32 : Nat) ({ cls := "java/lang/String", name := "length", desc := "()I" } : Jvm.MethodName)) ∈ lw_all := lw_g (lw_at lw_m5 65 rfl) rfl
theorem q1142 : (Jvm.Cond.methodLink "java/lang/AbstractStringBuilder" (208 : Nat) ({ cls := "java/lang/AbstractStringBuilder", name := "putStringAt", desc := "(ILjava/lang/String;)V" } : Jvm.MethodName)) ∈ lw_all := lw_g (lw_at lw_m5 74 rfl) rfl
theorem q1143 : (Jvm.Cond.privateMethod ({ cls := "java/lang/AbstractStringBuilder", name := "putStringAt", desc := "(ILjava/lang/String;)V" } : Jvm.MethodName)) ∈ lw_tbl := lw_at lw_m5 75 rfl
theorem q1144 : (Jvm.Cond.instanceMethod ({ cls := "java/lang/AbstractStringBuilder", name := "putStringAt", desc := "(ILjava/lang/String;)V" } : Jvm.MethodName)) ∈ lw_all := lw_g (lw_at lw_m5 76 rfl) rfl
theorem q1145 : (Jvm.Cond.code ({ cls := "java/lang/AbstractStringBuilder", name := "putStringAt", desc := "(ILjava/lang/String;)V" } : Jvm.MethodName) prog_26_method_73_code (3 : Nat) (Option.none : Option Jvm.ClassFile.FieldType)) ∈ lw_all := lw_g (lw_at lw_m5 77 rfl) rfl
theorem q1146 : (Jvm.Cond.methodLink "java/lang/AbstractStringBuilder" (397 : Nat) ({ cls := "java/lang/AbstractStringBuilder", name := "inflateIfNeededFor", desc := "(Ljava/lang/String;)V" } : Jvm.MethodName)) ∈ lw_all := lw_g (lw_at lw_m5 78 rfl) rfl
theorem q1147 : (Jvm.Cond.privateMethod ({ cls := "java/lang/AbstractStringBuilder", name := "inflateIfNeededFor", desc := "(Ljava/lang/String;)V" } : Jvm.MethodName)) ∈ lw_tbl := lw_at lw_m5 79 rfl
theorem q1148 : (Jvm.Cond.instanceMethod ({ cls := "java/lang/AbstractStringBuilder", name := "inflateIfNeededFor", desc := "(Ljava/lang/String;)V" } : Jvm.MethodName)) ∈ lw_all := lw_g (lw_at lw_m5 80 rfl) rfl
theorem q1149 : (Jvm.Cond.code ({ cls := "java/lang/AbstractStringBuilder", name := "inflateIfNeededFor", desc := "(Ljava/lang/String;)V" } : Jvm.MethodName) prog_26_method_71_code (2 : Nat) (Option.none : Option Jvm.ClassFile.FieldType)) ∈ lw_all := lw_g (lw_at lw_m5 81 rfl) rfl
theorem q1150 : (Jvm.Cond.methodLink "java/lang/AbstractStringBuilder" (40 : Nat) ({ cls := "java/lang/String", name := "coder", desc := "()B" } : Jvm.MethodName)) ∈ lw_all := lw_g (lw_at lw_m5 82 rfl) rfl
theorem q1151 : (Jvm.Cond.methodLink "java/lang/AbstractStringBuilder" (195 : Nat) ({ cls := "java/lang/AbstractStringBuilder", name := "inflate", desc := "()V" } : Jvm.MethodName)) ∈ lw_all := lw_g (lw_at lw_m5 83 rfl) rfl
theorem q1152 : (Jvm.Cond.privateMethod ({ cls := "java/lang/AbstractStringBuilder", name := "inflate", desc := "()V" } : Jvm.MethodName)) ∈ lw_tbl := lw_at lw_m5 84 rfl
theorem q1153 : (Jvm.Cond.instanceMethod ({ cls := "java/lang/AbstractStringBuilder", name := "inflate", desc := "()V" } : Jvm.MethodName)) ∈ lw_all := lw_g (lw_at lw_m5 85 rfl) rfl
theorem q1154 : (Jvm.Cond.code ({ cls := "java/lang/AbstractStringBuilder", name := "inflate", desc := "()V" } : Jvm.MethodName) prog_26_method_11_code (2 : Nat) (Option.none : Option Jvm.ClassFile.FieldType)) ∈ lw_all := lw_g (lw_at lw_m5 86 rfl) rfl
theorem q1155 : (Jvm.Cond.methodLink "java/lang/AbstractStringBuilder" (125 : Nat) ({ cls := "java/lang/StringLatin1", name := "inflate", desc := "([BI[BII)V" } : Jvm.MethodName)) ∈ lw_all := lw_g (lw_at lw_m5 87 rfl) rfl
theorem q1170 : (Jvm.Cond.methodLink "java/lang/AbstractStringBuilder" (399 : Nat) ({ cls := "java/lang/String", name := "getBytes", desc := "([BIB)V" } : Jvm.MethodName)) ∈ lw_all := lw_g (lw_at lw_m5 102 rfl) rfl
theorem q1191 : (Jvm.Cond.instanceMethod ({ cls := "java/lang/AbstractStringBuilder", name := "getValue", desc := "()[B" } : Jvm.MethodName)) ∈ lw_all := lw_g (lw_at lw_m5 123 rfl) rfl
theorem q1192 : (Jvm.Cond.sameMethod "java/lang/AbstractStringBuilder" "java/lang/AbstractStringBuilder" "getValue" "()[B") ∈ lw_all := lw_g (lw_at lw_m5 124 rfl) rfl
theorem q1194 : (Jvm.Cond.code ({ cls := "java/lang/AbstractStringBuilder", name := "getValue", desc := "()[B" } : Jvm.MethodName) prog_26_method_64_code (1 : Nat) (Option.some (Jvm.ClassFile.FieldType.array Jvm.ClassFile.FieldType.byte))) ∈ lw_all := lw_g (lw_at lw_m5 126 rfl) rfl
theorem q1196 : (Jvm.Cond.instanceMethod ({ cls := "java/lang/AbstractStringBuilder", name := "length", desc := "()I" } : Jvm.MethodName)) ∈ lw_all := lw_g (lw_at lw_m5 128 rfl) rfl
theorem q1197 : (Jvm.Cond.sameMethod "java/lang/AbstractStringBuilder" "java/lang/AbstractStringBuilder" "length" "()I") ∈ lw_all := lw_g (lw_at lw_m5 129 rfl) rfl
theorem q1202 : (Jvm.Cond.code ({ cls := "java/lang/AbstractStringBuilder", name := "length", desc := "()I" } : Jvm.MethodName) prog_26_method_6_code (1 : Nat) (Option.some Jvm.ClassFile.FieldType.int)) ∈ lw_all := lw_g (lw_at lw_m5 134 rfl) rfl
theorem q1229 : (Jvm.Cond.instanceMethod ({ cls := "java/lang/AbstractStringBuilder", name := "append", desc := "(I)Ljava/lang/AbstractStringBuilder;" } : Jvm.MethodName)) ∈ lw_all := lw_g (lw_at lw_m5 161 rfl) rfl
theorem q1230 : (Jvm.Cond.code ({ cls := "java/lang/AbstractStringBuilder", name := "append", desc := "(I)Ljava/lang/AbstractStringBuilder;" } : Jvm.MethodName) prog_26_method_32_code (4 : Nat) (Option.some (Jvm.ClassFile.FieldType.object "java/lang/AbstractStringBuilder"))) ∈ lw_all := lw_g (lw_at lw_m5 162 rfl) rfl
theorem q1231 : (Jvm.Cond.methodLink "java/lang/AbstractStringBuilder" (245 : Nat) ({ cls := "java/lang/Integer", name := "stringSize", desc := "(I)I" } : Jvm.MethodName)) ∈ lw_all := lw_g (lw_at lw_m5 163 rfl) rfl
theorem q1234 : (Jvm.Cond.methodLink "java/lang/AbstractStringBuilder" (248 : Nat) ({ cls := "java/lang/Integer", name := "getChars", desc := "(II[B)I" } : Jvm.MethodName)) ∈ lw_all := lw_g (lw_at lw_m5 166 rfl) rfl
theorem q1241 : (Jvm.Cond.methodLink "java/lang/AbstractStringBuilder" (251 : Nat) ({ cls := "java/lang/StringUTF16", name := "getChars", desc := "(III[B)I" } : Jvm.MethodName)) ∈ lw_all := lw_g (lw_at lw_m5 173 rfl) rfl
theorem q1530 : (Jvm.Cond.instanceMethod ({ cls := "java/lang/AbstractStringBuilder", name := "setLength", desc := "(I)V" } : Jvm.MethodName)) ∈ lw_all := lw_g (lw_at lw_m6 222 rfl) rfl
theorem q1531 : (Jvm.Cond.code ({ cls := "java/lang/AbstractStringBuilder", name := "setLength", desc := "(I)V" } : Jvm.MethodName) prog_26_method_13_code (2 : Nat) (Option.none : Option Jvm.ClassFile.FieldType)) ∈ lw_all := lw_g (lw_at lw_m6 223 rfl) rfl
theorem q1532 : (Jvm.Cond.methodLink "java/lang/AbstractStringBuilder" (133 : Nat) ({ cls := "java/lang/StringLatin1", name := "fillNull", desc := "([BII)V" } : Jvm.MethodName)) ∈ lw_all := lw_g (lw_at lw_m6 224 rfl) rfl
theorem q1544 : (Jvm.Cond.methodLink "java/lang/AbstractStringBuilder" (137 : Nat) ({ cls := "java/lang/StringUTF16", name := "fillNull", desc := "([BII)V" } : Jvm.MethodName)) ∈ lw_all := lw_g (lw_at lw_m6 236 rfl) rfl
theorem q1558 : (Jvm.Cond.instanceMethod ({ cls := "java/lang/AbstractStringBuilder", name := "append", desc := "(C)Ljava/lang/AbstractStringBuilder;" } : Jvm.MethodName)) ∈ lw_all := lw_g (lw_at lw_m7 10 rfl) rfl
theorem q1559 : (Jvm.Cond.code ({ cls := "java/lang/AbstractStringBuilder", name := "append", desc := "(C)Ljava/lang/AbstractStringBuilder;" } : Jvm.MethodName) prog_26_method_31_code (2 : Nat) (Option.some (Jvm.ClassFile.FieldType.object "java/lang/AbstractStringBuilder"))) ∈ lw_all := lw_g (lw_at lw_m7 11 rfl) rfl
theorem q1560 : (Jvm.Cond.methodLink "java/lang/AbstractStringBuilder" (191 : Nat) ({ cls := "java/lang/StringLatin1", name := "canEncode", desc := "(C)Z" } : Jvm.MethodName)) ∈ lw_all := lw_g (lw_at lw_m7 12 rfl) rfl
theorem q1563 : (Jvm.Cond.methodLink "java/lang/AbstractStringBuilder" (197 : Nat) ({ cls := "java/lang/StringUTF16", name := "putCharSB", desc := "([BII)V" } : Jvm.MethodName)) ∈ lw_all := lw_g (lw_at lw_m7 15 rfl) rfl
theorem q3007 : (Jvm.Cond.sameMethod "java/lang/AbstractStringBuilder" "java/lang/AbstractStringBuilder" "append" "(Ljava/lang/String;)Ljava/lang/AbstractStringBuilder;") ∈ lw_all := lw_g (lw_at lw_m13 19 rfl) rfl
theorem q3008 : (Jvm.Cond.sameMethod "java/lang/AbstractStringBuilder" "java/lang/AbstractStringBuilder" "appendNull" "()Ljava/lang/AbstractStringBuilder;") ∈ lw_all := lw_g (lw_at lw_m13 20 rfl) rfl
theorem q3009 : (Jvm.Cond.sameMethod "java/lang/AbstractStringBuilder" "java/lang/AbstractStringBuilder" "ensureCapacityInternal" "(I)V") ∈ lw_all := lw_g (lw_at lw_m13 21 rfl) rfl
theorem q3010 : (Jvm.Cond.sameMethod "java/lang/AbstractStringBuilder" "java/lang/AbstractStringBuilder" "newCapacity" "(I)I") ∈ lw_all := lw_g (lw_at lw_m13 22 rfl) rfl
theorem q3011 : (Jvm.Cond.sameMethod "java/lang/AbstractStringBuilder" "java/lang/AbstractStringBuilder" "putStringAt" "(ILjava/lang/String;)V") ∈ lw_all := lw_g (lw_at lw_m13 23 rfl) rfl
theorem q3012 : (Jvm.Cond.sameMethod "java/lang/AbstractStringBuilder" "java/lang/AbstractStringBuilder" "inflateIfNeededFor" "(Ljava/lang/String;)V") ∈ lw_all := lw_g (lw_at lw_m13 24 rfl) rfl
theorem q3013 : (Jvm.Cond.sameMethod "java/lang/AbstractStringBuilder" "java/lang/AbstractStringBuilder" "inflate" "()V") ∈ lw_all := lw_g (lw_at lw_m13 25 rfl) rfl
theorem q3014 : (Jvm.Cond.sameMethod "java/lang/AbstractStringBuilder" "java/lang/AbstractStringBuilder" "append" "(I)Ljava/lang/AbstractStringBuilder;") ∈ lw_all := lw_g (lw_at lw_m13 26 rfl) rfl
theorem q3017 : (Jvm.Cond.sameMethod "java/lang/AbstractStringBuilder" "java/lang/AbstractStringBuilder" "setLength" "(I)V") ∈ lw_all := lw_g (lw_at lw_m13 29 rfl) rfl
theorem q3018 : (Jvm.Cond.sameMethod "java/lang/AbstractStringBuilder" "java/lang/AbstractStringBuilder" "append" "(C)Ljava/lang/AbstractStringBuilder;") ∈ lw_all := lw_g (lw_at lw_m13 30 rfl) rfl
def RJ14 : String := "java/lang/StringBuilder"
def TJ14 : u_T := fun k => match k with
  | 0 => ("java/lang/AbstractStringBuilder", "value", "[B", false)
  | 1 => ("java/lang/AbstractStringBuilder", "coder", "B", false)
  | 2 => ("java/lang/AbstractStringBuilder", "maybeLatin1", "Z", false)
  | _ => ("java/lang/AbstractStringBuilder", "count", "I", false)
def tyJ14 : Nat → FieldType := fun k => match k with
  | 0 => .array .byte
  | 1 => .byte
  | 2 => .boolean
  | _ => .int
abbrev wsJ140 : List Cond := u_ws RJ14 TJ14 4
theorem nmJ14 : ∀ a, a < 4 → ∀ b, b < 4 → a ≠ b → (TJ14 a).2.1 ≠ (TJ14 b).2.1 := by decide +kernel
theorem tyJ14_ok : ∀ k, k < 4 → parseFieldDescriptor (TJ14 k).2.2.1 = some (tyJ14 k) := by decide +kernel
abbrev cJ14_init : ByteArray := prog_42_method_1_code
def yJ14_init : MethodName := ⟨RJ14, "<init>", "()V"⟩
abbrev cJ14_append : ByteArray := prog_42_method_7_code
def yJ14_append : MethodName := ⟨RJ14, "append", "(Ljava/lang/String;)Ljava/lang/StringBuilder;"⟩
abbrev cJ14_toString : ByteArray := prog_42_method_42_code
def yJ14_toString : MethodName := ⟨RJ14, "toString", "()Ljava/lang/String;"⟩
abbrev cJ14_length : ByteArray := prog_42_method_93_code
def yJ14_length : MethodName := ⟨RJ14, "length", "()I"⟩
abbrev cJ14_append_2 : ByteArray := prog_42_method_15_code
def yJ14_append_2 : MethodName := ⟨RJ14, "append", "(I)Ljava/lang/StringBuilder;"⟩
abbrev cJ14_setLength : ByteArray := prog_42_method_89_code
def yJ14_setLength : MethodName := ⟨RJ14, "setLength", "(I)V"⟩
abbrev cJ14_append_3 : ByteArray := prog_42_method_14_code
def yJ14_append_3 : MethodName := ⟨RJ14, "append", "(C)Ljava/lang/StringBuilder;"⟩
theorem q131 : (Jvm.Cond.initialized "java/lang/StringBuilder") ∈ lw_all := lw_g (lw_at lw_m1 23 rfl) rfl
theorem q399 : (Jvm.Cond.selects "java/lang/StringBuilder" ({ cls := "java/lang/Object", name := "getClass", desc := "()Ljava/lang/Class;" } : Jvm.MethodName) ({ cls := "java/lang/Object", name := "getClass", desc := "()Ljava/lang/Class;" } : Jvm.MethodName)) ∈ lw_all := lw_g (lw_at lw_m2 51 rfl) rfl
theorem q1042 : (Jvm.Cond.instantiable "java/lang/StringBuilder" (4 : Nat)) ∈ lw_all := lw_g (lw_at lw_m4 214 rfl) rfl
theorem q1044 : (Jvm.Cond.instanceMethod ({ cls := "java/lang/StringBuilder", name := "<init>", desc := "()V" } : Jvm.MethodName)) ∈ lw_all := lw_g (lw_at lw_m4 216 rfl) rfl
theorem q1045 : (Jvm.Cond.code ({ cls := "java/lang/StringBuilder", name := "<init>", desc := "()V" } : Jvm.MethodName) prog_42_method_1_code (1 : Nat) (Option.none : Option Jvm.ClassFile.FieldType)) ∈ lw_all := lw_g (lw_at lw_m4 217 rfl) rfl
theorem q1046 : (Jvm.Cond.methodLink "java/lang/StringBuilder" (1 : Nat) ({ cls := "java/lang/AbstractStringBuilder", name := "<init>", desc := "(I)V" } : Jvm.MethodName)) ∈ lw_all := lw_g (lw_at lw_m4 218 rfl) rfl
theorem q1064 : (Jvm.Cond.lays "java/lang/StringBuilder" "java/lang/AbstractStringBuilder" "value" "[B") ∈ lw_all := lw_g (lw_at lw_m4 236 rfl) rfl
theorem q1066 : (Jvm.Cond.lays "java/lang/StringBuilder" "java/lang/AbstractStringBuilder" "coder" "B") ∈ lw_all := lw_g (lw_at lw_m4 238 rfl) rfl
theorem q1068 : (Jvm.Cond.lays "java/lang/StringBuilder" "java/lang/AbstractStringBuilder" "maybeLatin1" "Z") ∈ lw_all := lw_g (lw_at lw_m5 0 rfl) rfl
theorem q1070 : (Jvm.Cond.lays "java/lang/StringBuilder" "java/lang/AbstractStringBuilder" "count" "I") ∈ lw_all := lw_g (lw_at lw_m5 2 rfl) rfl
theorem q1072 : (Jvm.Cond.superclass "java/lang/StringBuilder" "java/lang/AbstractStringBuilder") ∈ lw_all := lw_g (lw_at lw_m5 4 rfl) rfl
theorem q1074 : (Jvm.Cond.instanceMethod ({ cls := "java/lang/StringBuilder", name := "append", desc := "(Ljava/lang/String;)Ljava/lang/StringBuilder;" } : Jvm.MethodName)) ∈ lw_all := lw_g (lw_at lw_m5 6 rfl) rfl
theorem q1075 : (Jvm.Cond.selects "java/lang/StringBuilder" ({ cls := "java/lang/StringBuilder", name := "append", desc := "(Ljava/lang/String;)Ljava/lang/StringBuilder;" } : Jvm.MethodName) ({ cls := "java/lang/StringBuilder", name := "append", desc := "(Ljava/lang/String;)Ljava/lang/StringBuilder;" } : Jvm.MethodName)) ∈ lw_all := lw_g (lw_at lw_m5 7 rfl) rfl
theorem q1076 : (Jvm.Cond.code ({ cls := "java/lang/StringBuilder", name := "append", desc := "(Ljava/lang/String;)Ljava/lang/StringBuilder;" } : Jvm.MethodName) prog_42_method_7_code (2 : Nat) (Option.some (Jvm.ClassFile.FieldType.object "java/lang/StringBuilder"))) ∈ lw_all := lw_g (lw_at lw_m5 8 rfl) rfl
theorem q1077 : (Jvm.Cond.methodLink "java/lang/StringBuilder" (29 : Nat) ({ cls := "java/lang/AbstractStringBuilder", name := "append", desc := "(Ljava/lang/String;)Ljava/lang/AbstractStringBuilder;" } : Jvm.MethodName)) ∈ lw_all := lw_g (lw_at lw_m5 9 rfl) rfl
theorem q1105 : (Jvm.Cond.selects "java/lang/StringBuilder" ({ cls := "java/lang/AbstractStringBuilder", name := "isLatin1", desc := "()Z" } : Jvm.MethodName) ({ cls := "java/lang/AbstractStringBuilder", name := "isLatin1", desc := "()Z" } : Jvm.MethodName)) ∈ lw_all := lw_g (lw_at lw_m5 37 rfl) rfl
theorem q1178 : (Jvm.Cond.instanceMethod ({ cls := "java/lang/StringBuilder", name := "toString", desc := "()Ljava/lang/String;" } : Jvm.MethodName)) ∈ lw_all := lw_g (lw_at lw_m5 110 rfl) rfl
theorem q1179 : (Jvm.Cond.selects "java/lang/StringBuilder" ({ cls := "java/lang/StringBuilder", name := "toString", desc := "()Ljava/lang/String;" } : Jvm.MethodName) ({ cls := "java/lang/StringBuilder", name := "toString", desc := "()Ljava/lang/String;" } : Jvm.MethodName)) ∈ lw_all := lw_g (lw_at lw_m5 111 rfl) rfl
theorem q1180 : (Jvm.Cond.code ({ cls := "java/lang/StringBuilder", name := "toString", desc := "()Ljava/lang/String;" } : Jvm.MethodName) prog_42_method_42_code (1 : Nat) (Option.some (Jvm.ClassFile.FieldType.object "java/lang/String"))) ∈ lw_all := lw_g (lw_at lw_m5 112 rfl) rfl
theorem q1181 : (Jvm.Cond.classLink "java/lang/StringBuilder" (18 : Nat) "java/lang/String") ∈ lw_all := lw_g (lw_at lw_m5 113 rfl) rfl
theorem q1183 : (Jvm.Cond.methodLink "java/lang/StringBuilder" (137 : Nat) ({ cls := "java/lang/String", name := "<init>", desc := "(Ljava/lang/StringBuilder;)V" } : Jvm.MethodName)) ∈ lw_all := lw_g (lw_at lw_m5 115 rfl) rfl
theorem q1193 : (Jvm.Cond.selects "java/lang/StringBuilder" ({ cls := "java/lang/AbstractStringBuilder", name := "getValue", desc := "()[B" } : Jvm.MethodName) ({ cls := "java/lang/AbstractStringBuilder", name := "getValue", desc := "()[B" } : Jvm.MethodName)) ∈ lw_all := lw_g (lw_at lw_m5 125 rfl) rfl
theorem q1198 : (Jvm.Cond.selects "java/lang/StringBuilder" ({ cls := "java/lang/AbstractStringBuilder", name := "length", desc := "()I" } : Jvm.MethodName) ({ cls := "java/lang/StringBuilder", name := "length", desc := "()I" } : Jvm.MethodName)) ∈ lw_all := lw_g (lw_at lw_m5 130 rfl) rfl
theorem q1199 : (Jvm.Cond.instanceMethod ({ cls := "java/lang/StringBuilder", name := "length", desc := "()I" } : Jvm.MethodName)) ∈ lw_all := lw_g (lw_at lw_m5 131 rfl) rfl
theorem q1200 : (Jvm.Cond.code ({ cls := "java/lang/StringBuilder", name := "length", desc := "()I" } : Jvm.MethodName) prog_42_method_93_code (1 : Nat) (Option.some Jvm.ClassFile.FieldType.int)) ∈ lw_all := lw_g (lw_at lw_m5 132 rfl) rfl
theorem q1201 : (Jvm.Cond.methodLink "java/lang/StringBuilder" (343 : Nat) ({ cls := "java/lang/AbstractStringBuilder", name := "length", desc := "()I" } : Jvm.MethodName)) ∈ lw_all := lw_g (lw_at lw_m5 133 rfl) rfl
theorem q1225 : (Jvm.Cond.instanceMethod ({ cls := "java/lang/StringBuilder", name := "append", desc := "(I)Ljava/lang/StringBuilder;" } : Jvm.MethodName)) ∈ lw_all := lw_g (lw_at lw_m5 157 rfl) rfl
theorem q1226 : (Jvm.Cond.selects "java/lang/StringBuilder" ({ cls := "java/lang/StringBuilder", name := "append", desc := "(I)Ljava/lang/StringBuilder;" } : Jvm.MethodName) ({ cls := "java/lang/StringBuilder", name := "append", desc := "(I)Ljava/lang/StringBuilder;" } : Jvm.MethodName)) ∈ lw_all := lw_g (lw_at lw_m5 158 rfl) rfl
theorem q1227 : (Jvm.Cond.code ({ cls := "java/lang/StringBuilder", name := "append", desc := "(I)Ljava/lang/StringBuilder;" } : Jvm.MethodName) prog_42_method_15_code (2 : Nat) (Option.some (Jvm.ClassFile.FieldType.object "java/lang/StringBuilder"))) ∈ lw_all := lw_g (lw_at lw_m5 159 rfl) rfl
theorem q1228 : (Jvm.Cond.methodLink "java/lang/StringBuilder" (53 : Nat) ({ cls := "java/lang/AbstractStringBuilder", name := "append", desc := "(I)Ljava/lang/AbstractStringBuilder;" } : Jvm.MethodName)) ∈ lw_all := lw_g (lw_at lw_m5 160 rfl) rfl
theorem q1526 : (Jvm.Cond.instanceMethod ({ cls := "java/lang/StringBuilder", name := "setLength", desc := "(I)V" } : Jvm.MethodName)) ∈ lw_all := lw_g (lw_at lw_m6 218 rfl) rfl
theorem q1527 : (Jvm.Cond.selects "java/lang/StringBuilder" ({ cls := "java/lang/StringBuilder", name := "setLength", desc := "(I)V" } : Jvm.MethodName) ({ cls := "java/lang/StringBuilder", name := "setLength", desc := "(I)V" } : Jvm.MethodName)) ∈ lw_all := lw_g (lw_at lw_m6 219 rfl) rfl
theorem q1528 : (Jvm.Cond.code ({ cls := "java/lang/StringBuilder", name := "setLength", desc := "(I)V" } : Jvm.MethodName) prog_42_method_89_code (2 : Nat) (Option.none : Option Jvm.ClassFile.FieldType)) ∈ lw_all := lw_g (lw_at lw_m6 220 rfl) rfl
theorem q1529 : (Jvm.Cond.methodLink "java/lang/StringBuilder" (333 : Nat) ({ cls := "java/lang/AbstractStringBuilder", name := "setLength", desc := "(I)V" } : Jvm.MethodName)) ∈ lw_all := lw_g (lw_at lw_m6 221 rfl) rfl
theorem q1554 : (Jvm.Cond.instanceMethod ({ cls := "java/lang/StringBuilder", name := "append", desc := "(C)Ljava/lang/StringBuilder;" } : Jvm.MethodName)) ∈ lw_all := lw_g (lw_at lw_m7 6 rfl) rfl
theorem q1555 : (Jvm.Cond.selects "java/lang/StringBuilder" ({ cls := "java/lang/StringBuilder", name := "append", desc := "(C)Ljava/lang/StringBuilder;" } : Jvm.MethodName) ({ cls := "java/lang/StringBuilder", name := "append", desc := "(C)Ljava/lang/StringBuilder;" } : Jvm.MethodName)) ∈ lw_all := lw_g (lw_at lw_m7 7 rfl) rfl
theorem q1556 : (Jvm.Cond.code ({ cls := "java/lang/StringBuilder", name := "append", desc := "(C)Ljava/lang/StringBuilder;" } : Jvm.MethodName) prog_42_method_14_code (2 : Nat) (Option.some (Jvm.ClassFile.FieldType.object "java/lang/StringBuilder"))) ∈ lw_all := lw_g (lw_at lw_m7 8 rfl) rfl
theorem q1557 : (Jvm.Cond.methodLink "java/lang/StringBuilder" (50 : Nat) ({ cls := "java/lang/AbstractStringBuilder", name := "append", desc := "(C)Ljava/lang/AbstractStringBuilder;" } : Jvm.MethodName)) ∈ lw_all := lw_g (lw_at lw_m7 9 rfl) rfl
theorem q2342 : (Jvm.Cond.selects "java/lang/StringBuilder" ({ cls := "java/lang/Object", name := "equals", desc := "(Ljava/lang/Object;)Z" } : Jvm.MethodName) ({ cls := "java/lang/Object", name := "equals", desc := "(Ljava/lang/Object;)Z" } : Jvm.MethodName)) ∈ lw_all := lw_g (lw_at lw_m10 74 rfl) rfl
theorem q3024 : (Jvm.Cond.selects "java/lang/StringBuilder" ({ cls := "java/lang/StringBuilder", name := "length", desc := "()I" } : Jvm.MethodName) ({ cls := "java/lang/StringBuilder", name := "length", desc := "()I" } : Jvm.MethodName)) ∈ lw_all := lw_g (lw_at lw_m13 36 rfl) rfl
theorem q3043 : (Jvm.Cond.castable "java/lang/StringBuilder" "java/lang/Object") ∈ lw_tbl := lw_at lw_m13 55 rfl
theorem in_J14 : ∀ w ∈ wsJ140, w ∈ lw_all := lw_in wsJ140 [1064, 1066, 1068, 1070] (by decide +kernel) (by decide +kernel)
def RJ15 : String := "java/lang/String"
def TJ15 : u_T := fun k => match k with
  | 0 => ("java/lang/String", "value", "[B", true)
  | 1 => ("java/lang/String", "coder", "B", true)
  | 2 => ("java/lang/String", "hash", "I", false)
  | _ => ("java/lang/String", "hashIsZero", "Z", false)
def tyJ15 : Nat → FieldType := fun k => match k with
  | 0 => .array .byte
  | 1 => .byte
  | 2 => .int
  | _ => .boolean
abbrev wsJ150 : List Cond := u_ws RJ15 TJ15 4
theorem nmJ15 : ∀ a, a < 4 → ∀ b, b < 4 → a ≠ b → (TJ15 a).2.1 ≠ (TJ15 b).2.1 := by decide +kernel
theorem tyJ15_ok : ∀ k, k < 4 → parseFieldDescriptor (TJ15 k).2.2.1 = some (tyJ15 k) := by decide +kernel
abbrev cJ15_checkBoundsBeginEnd : ByteArray := prog_41_method_158_code
def yJ15_checkBoundsBeginEnd : MethodName := ⟨RJ15, "checkBoundsBeginEnd", "(III)V"⟩
abbrev cJ15_length : ByteArray := prog_41_method_54_code
def yJ15_length : MethodName := ⟨RJ15, "length", "()I"⟩
abbrev cJ15_coder : ByteArray := prog_41_method_152_code
def yJ15_coder : MethodName := ⟨RJ15, "coder", "()B"⟩
abbrev cJ15_checkBoundsOffCount : ByteArray := prog_41_method_157_code
def yJ15_checkBoundsOffCount : MethodName := ⟨RJ15, "checkBoundsOffCount", "(III)I"⟩
abbrev cJ15_getBytes : ByteArray := prog_41_method_147_code
def yJ15_getBytes : MethodName := ⟨RJ15, "getBytes", "([BIB)V"⟩
abbrev cJ15_init : ByteArray := prog_41_method_53_code
def yJ15_init : MethodName := ⟨RJ15, "<init>", "(Ljava/lang/StringBuilder;)V"⟩
abbrev cJ15_init_2 : ByteArray := prog_41_method_150_code
def yJ15_init_2 : MethodName := ⟨RJ15, "<init>", "(Ljava/lang/AbstractStringBuilder;Ljava/lang/Void;)V"⟩
abbrev cJ15_charAt : ByteArray := prog_41_method_56_code
def yJ15_charAt : MethodName := ⟨RJ15, "charAt", "(I)C"⟩
abbrev cJ15_isLatin1 : ByteArray := prog_41_method_154_code
def yJ15_isLatin1 : MethodName := ⟨RJ15, "isLatin1", "()Z"⟩
abbrev cJ15_checkIndex : ByteArray := prog_41_method_155_code
def yJ15_checkIndex : MethodName := ⟨RJ15, "checkIndex", "(II)V"⟩
abbrev cJ15_equals : ByteArray := prog_41_method_66_code
def yJ15_equals : MethodName := ⟨RJ15, "equals", "(Ljava/lang/Object;)Z"⟩
abbrev cJ15_hashCode : ByteArray := prog_41_method_78_code
def yJ15_hashCode : MethodName := ⟨RJ15, "hashCode", "()I"⟩
theorem q132 : (Jvm.Cond.initialized "java/lang/String") ∈ lw_all := lw_g (lw_at lw_m1 24 rfl) rfl
theorem q398 : (Jvm.Cond.selects "java/lang/String" ({ cls := "java/lang/Object", name := "getClass", desc := "()Ljava/lang/Class;" } : Jvm.MethodName) ({ cls := "java/lang/Object", name := "getClass", desc := "()Ljava/lang/Class;" } : Jvm.MethodName)) ∈ lw_all := lw_g (lw_at lw_m2 50 rfl) rfl
theorem q1051 : (Jvm.Cond.laysStatic "java/lang/String" "COMPACT_STRINGS" "Z") ∈ lw_tbl := lw_at lw_m4 223 rfl
theorem q1062 : (Jvm.Cond.fieldLink "java/lang/String" (1048 : Nat) "java/lang/AbstractStringBuilder" "maybeLatin1" "Z") ∈ lw_all := lw_g (lw_at lw_m4 234 rfl) rfl
theorem q1117 : (Jvm.Cond.static ({ cls := "java/lang/String", name := "checkBoundsBeginEnd", desc := "(III)V" } : Jvm.MethodName)) ∈ lw_all := lw_g (lw_at lw_m5 49 rfl) rfl
theorem q1118 : (Jvm.Cond.code ({ cls := "java/lang/String", name := "checkBoundsBeginEnd", desc := "(III)V" } : Jvm.MethodName) prog_41_method_158_code (3 : Nat) (Option.none : Option Jvm.ClassFile.FieldType)) ∈ lw_all := lw_g (lw_at lw_m5 50 rfl) rfl
theorem q1119 : (Jvm.Cond.fieldLink "java/lang/String" (1053 : Nat) "jdk/internal/util/Preconditions" "SIOOBE_FORMATTER" "Ljava/util/function/BiFunction;") ∈ lw_all := lw_g (lw_at lw_m5 51 rfl) rfl
theorem q1121 : (Jvm.Cond.methodLink "java/lang/String" (1062 : Nat) ({ cls := "jdk/internal/util/Preconditions", name := "checkFromToIndex", desc := "(IIILjava/util/function/BiFunction;)I" } : Jvm.MethodName)) ∈ lw_all := lw_g (lw_at lw_m5 53 rfl) rfl
theorem q1134 : (Jvm.Cond.instanceMethod ({ cls := "java/lang/String", name := "length", desc := "()I" } : Jvm.MethodName)) ∈ lw_all := lw_g (lw_at lw_m5 66 rfl) rfl
theorem q1135 : (Jvm.Cond.selects "java/lang/String" ({ cls := "java/lang/String", name := "length", desc := "()I" } : Jvm.MethodName) ({ cls := "java/lang/String", name := "length", desc := "()I" } : Jvm.MethodName)) ∈ lw_all := lw_g (lw_at lw_m5 67 rfl) rfl
theorem q1136 : (Jvm.Cond.code ({ cls := "java/lang/String", name := "length", desc := "()I" } : Jvm.MethodName) prog_41_method_54_code (1 : Nat) (Option.some Jvm.ClassFile.FieldType.int)) ∈ lw_all := lw_g (lw_at lw_m5 68 rfl) rfl
theorem q1137 : (Jvm.Cond.methodLink "java/lang/String" (335 : Nat) ({ cls := "java/lang/String", name := "coder", desc := "()B" } : Jvm.MethodName)) ∈ lw_all := lw_g (lw_at lw_m5 69 rfl) rfl
theorem q1138 : (Jvm.Cond.instanceMethod ({ cls := "java/lang/String", name := "coder", desc := "()B" } : Jvm.MethodName)) ∈ lw_all := lw_g (lw_at lw_m5 70 rfl) rfl
theorem q1139 : (Jvm.Cond.selects "java/lang/String" ({ cls := "java/lang/String", name := "coder", desc := "()B" } : Jvm.MethodName) ({ cls := "java/lang/String", name := "coder", desc := "()B" } : Jvm.MethodName)) ∈ lw_all := lw_g (lw_at lw_m5 71 rfl) rfl
theorem q1140 : (Jvm.Cond.code ({ cls := "java/lang/String", name := "coder", desc := "()B" } : Jvm.MethodName) prog_41_method_152_code (1 : Nat) (Option.some Jvm.ClassFile.FieldType.byte)) ∈ lw_all := lw_g (lw_at lw_m5 72 rfl) rfl
theorem q1141 : (Jvm.Cond.fieldLink "java/lang/String" (38 : Nat) "java/lang/String" "COMPACT_STRINGS" "Z") ∈ lw_all := lw_g (lw_at lw_m5 73 rfl) rfl
theorem q1165 : (Jvm.Cond.static ({ cls := "java/lang/String", name := "checkBoundsOffCount", desc := "(III)I" } : Jvm.MethodName)) ∈ lw_all := lw_g (lw_at lw_m5 97 rfl) rfl
theorem q1166 : (Jvm.Cond.code ({ cls := "java/lang/String", name := "checkBoundsOffCount", desc := "(III)I" } : Jvm.MethodName) prog_41_method_157_code (3 : Nat) (Option.some Jvm.ClassFile.FieldType.int)) ∈ lw_all := lw_g (lw_at lw_m5 98 rfl) rfl
theorem q1167 : (Jvm.Cond.methodLink "java/lang/String" (1065 : Nat) ({ cls := "jdk/internal/util/Preconditions", name := "checkFromIndexSize", desc := "(IIILjava/util/function/BiFunction;)I" } : Jvm.MethodName)) ∈ lw_all := lw_g (lw_at lw_m5 99 rfl) rfl
theorem q1171 : (Jvm.Cond.instanceMethod ({ cls := "java/lang/String", name := "getBytes", desc := "([BIB)V" } : Jvm.MethodName)) ∈ lw_all := lw_g (lw_at lw_m5 103 rfl) rfl
theorem q1172 : (Jvm.Cond.selects "java/lang/String" ({ cls := "java/lang/String", name := "getBytes", desc := "([BIB)V" } : Jvm.MethodName) ({ cls := "java/lang/String", name := "getBytes", desc := "([BIB)V" } : Jvm.MethodName)) ∈ lw_all := lw_g (lw_at lw_m5 104 rfl) rfl
theorem q1173 : (Jvm.Cond.code ({ cls := "java/lang/String", name := "getBytes", desc := "([BIB)V" } : Jvm.MethodName) prog_41_method_147_code (4 : Nat) (Option.none : Option Jvm.ClassFile.FieldType)) ∈ lw_all := lw_g (lw_at lw_m5 105 rfl) rfl
theorem q1174 : (Jvm.Cond.methodLink "java/lang/String" (212 : Nat) ({ cls := "java/lang/System", name := "arraycopy", desc := "(Ljava/lang/Object;ILjava/lang/Object;II)V" } : Jvm.MethodName)) ∈ lw_all := lw_g (lw_at lw_m5 106 rfl) rfl
theorem q1175 : (Jvm.Cond.methodLink "java/lang/String" (106 : Nat) ({ cls := "java/lang/StringLatin1", name := "inflate", desc := "([BI[BII)V" } : Jvm.MethodName)) ∈ lw_all := lw_g (lw_at lw_m5 107 rfl) rfl
theorem q1182 : (Jvm.Cond.instantiable "java/lang/String" (4 : Nat)) ∈ lw_all := lw_g (lw_at lw_m5 114 rfl) rfl
theorem q1184 : (Jvm.Cond.instanceMethod ({ cls := "java/lang/String", name := "<init>", desc := "(Ljava/lang/StringBuilder;)V" } : Jvm.MethodName)) ∈ lw_all := lw_g (lw_at lw_m5 116 rfl) rfl
theorem q1185 : (Jvm.Cond.code ({ cls := "java/lang/String", name := "<init>", desc := "(Ljava/lang/StringBuilder;)V" } : Jvm.MethodName) prog_41_method_53_code (2 : Nat) (Option.none : Option Jvm.ClassFile.FieldType)) ∈ lw_all := lw_g (lw_at lw_m5 117 rfl) rfl
theorem q1186 : (Jvm.Cond.methodLink "java/lang/String" (489 : Nat) ({ cls := "java/lang/String", name := "<init>", desc := "(Ljava/lang/AbstractStringBuilder;Ljava/lang/Void;)V" } : Jvm.MethodName)) ∈ lw_all := lw_g (lw_at lw_m5 118 rfl) rfl
theorem q1187 : (Jvm.Cond.instanceMethod ({ cls := "java/lang/String", name := "<init>", desc := "(Ljava/lang/AbstractStringBuilder;Ljava/lang/Void;)V" } : Jvm.MethodName)) ∈ lw_all := lw_g (lw_at lw_m5 119 rfl) rfl
theorem q1188 : (Jvm.Cond.code ({ cls := "java/lang/String", name := "<init>", desc := "(Ljava/lang/AbstractStringBuilder;Ljava/lang/Void;)V" } : Jvm.MethodName) prog_41_method_150_code (5 : Nat) (Option.none : Option Jvm.ClassFile.FieldType)) ∈ lw_all := lw_g (lw_at lw_m5 120 rfl) rfl
theorem q1189 : (Jvm.Cond.methodLink "java/lang/String" (1 : Nat) ({ cls := "java/lang/Object", name := "<init>", desc := "()V" } : Jvm.MethodName)) ∈ lw_all := lw_g (lw_at lw_m5 121 rfl) rfl
theorem q1190 : (Jvm.Cond.methodLink "java/lang/String" (552 : Nat) ({ cls := "java/lang/AbstractStringBuilder", name := "getValue", desc := "()[B" } : Jvm.MethodName)) ∈ lw_all := lw_g (lw_at lw_m5 122 rfl) rfl
theorem q1195 : (Jvm.Cond.methodLink "java/lang/String" (549 : Nat) ({ cls := "java/lang/AbstractStringBuilder", name := "length", desc := "()I" } : Jvm.MethodName)) ∈ lw_all := lw_g (lw_at lw_m5 127 rfl) rfl
theorem q1203 : (Jvm.Cond.methodLink "java/lang/String" (1047 : Nat) ({ cls := "java/lang/AbstractStringBuilder", name := "isLatin1", desc := "()Z" } : Jvm.MethodName)) ∈ lw_all := lw_g (lw_at lw_m5 135 rfl) rfl
theorem q1204 : (Jvm.Cond.methodLink "java/lang/String" (54 : Nat) ({ cls := "java/util/Arrays", name := "copyOfRange", desc := "([BII)[B" } : Jvm.MethodName)) ∈ lw_all := lw_g (lw_at lw_m5 136 rfl) rfl
theorem q1266 : (Jvm.Cond.methodLink "java/lang/String" (1051 : Nat) ({ cls := "java/lang/StringUTF16", name := "compress", desc := "([BII)[B" } : Jvm.MethodName)) ∈ lw_all := lw_g (lw_at lw_m5 198 rfl) rfl
theorem q1276 : (Jvm.Cond.methodLink "java/lang/String" (47 : Nat) ({ cls := "java/lang/StringUTF16", name := "coderFromArrayLen", desc := "([BI)B" } : Jvm.MethodName)) ∈ lw_all := lw_g (lw_at lw_m5 208 rfl) rfl
theorem q1279 : (Jvm.Cond.fieldLink "java/lang/String" (9 : Nat) "java/lang/String" "value" "[B") ∈ lw_all := lw_g (lw_at lw_m5 211 rfl) rfl
theorem q1280 : (Jvm.Cond.fieldLink "java/lang/String" (15 : Nat) "java/lang/String" "coder" "B") ∈ lw_all := lw_g (lw_at lw_m5 212 rfl) rfl
theorem q1281 : (Jvm.Cond.fieldLink "java/lang/String" (19 : Nat) "java/lang/String" "hash" "I") ∈ lw_all := lw_g (lw_at lw_m5 213 rfl) rfl
theorem q1282 : (Jvm.Cond.fieldLink "java/lang/String" (23 : Nat) "java/lang/String" "hashIsZero" "Z") ∈ lw_all := lw_g (lw_at lw_m5 214 rfl) rfl
theorem q1283 : (Jvm.Cond.laysFinal "java/lang/String" "java/lang/String" "value" "[B") ∈ lw_all := lw_g (lw_at lw_m5 215 rfl) rfl
theorem q1284 : (Jvm.Cond.soleField "java/lang/String" "value") ∈ lw_all := lw_g (lw_at lw_m5 216 rfl) rfl
theorem q1285 : (Jvm.Cond.laysFinal "java/lang/String" "java/lang/String" "coder" "B") ∈ lw_all := lw_g (lw_at lw_m5 217 rfl) rfl
theorem q1286 : (Jvm.Cond.soleField "java/lang/String" "coder") ∈ lw_all := lw_g (lw_at lw_m5 218 rfl) rfl
theorem q1287 : (Jvm.Cond.lays "java/lang/String" "java/lang/String" "hash" "I") ∈ lw_all := lw_g (lw_at lw_m5 219 rfl) rfl
theorem q1288 : (Jvm.Cond.soleField "java/lang/String" "hash") ∈ lw_all := lw_g (lw_at lw_m5 220 rfl) rfl
theorem q1289 : (Jvm.Cond.lays "java/lang/String" "java/lang/String" "hashIsZero" "Z") ∈ lw_all := lw_g (lw_at lw_m5 221 rfl) rfl
theorem q1290 : (Jvm.Cond.soleField "java/lang/String" "hashIsZero") ∈ lw_all := lw_g (lw_at lw_m5 222 rfl) rfl
theorem q1291 : (Jvm.Cond.superclass "java/lang/String" "java/lang/Object") ∈ lw_all := lw_g (lw_at lw_m5 223 rfl) rfl
theorem q1461 : (Jvm.Cond.instanceMethod ({ cls := "java/lang/String", name := "charAt", desc := "(I)C" } : Jvm.MethodName)) ∈ lw_all := lw_g (lw_at lw_m6 153 rfl) rfl
theorem q1462 : (Jvm.Cond.selects "java/lang/String" ({ cls := "java/lang/String", name := "charAt", desc := "(I)C" } : Jvm.MethodName) ({ cls := "java/lang/String", name := "charAt", desc := "(I)C" } : Jvm.MethodName)) ∈ lw_all := lw_g (lw_at lw_m6 154 rfl) rfl
theorem q1463 : (Jvm.Cond.code ({ cls := "java/lang/String", name := "charAt", desc := "(I)C" } : Jvm.MethodName) prog_41_method_56_code (2 : Nat) (Option.some Jvm.ClassFile.FieldType.char)) ∈ lw_all := lw_g (lw_at lw_m6 155 rfl) rfl
theorem q1464 : (Jvm.Cond.methodLink "java/lang/String" (492 : Nat) ({ cls := "java/lang/String", name := "isLatin1", desc := "()Z" } : Jvm.MethodName)) ∈ lw_all := lw_g (lw_at lw_m6 156 rfl) rfl
theorem q1465 : (Jvm.Cond.instanceMethod ({ cls := "java/lang/String", name := "isLatin1", desc := "()Z" } : Jvm.MethodName)) ∈ lw_all := lw_g (lw_at lw_m6 157 rfl) rfl
theorem q1466 : (Jvm.Cond.selects "java/lang/String" ({ cls := "java/lang/String", name := "isLatin1", desc := "()Z" } : Jvm.MethodName) ({ cls := "java/lang/String", name := "isLatin1", desc := "()Z" } : Jvm.MethodName)) ∈ lw_all := lw_g (lw_at lw_m6 158 rfl) rfl
theorem q1467 : (Jvm.Cond.code ({ cls := "java/lang/String", name := "isLatin1", desc := "()Z" } : Jvm.MethodName) prog_41_method_154_code (1 : Nat) (Option.some Jvm.ClassFile.FieldType.boolean)) ∈ lw_all := lw_g (lw_at lw_m6 159 rfl) rfl
theorem q1468 : (Jvm.Cond.methodLink "java/lang/String" (495 : Nat) ({ cls := "java/lang/StringLatin1", name := "charAt", desc := "([BI)C" } : Jvm.MethodName)) ∈ lw_all := lw_g (lw_at lw_m6 160 rfl) rfl
theorem q1472 : (Jvm.Cond.static ({ cls := "java/lang/String", name := "checkIndex", desc := "(II)V" } : Jvm.MethodName)) ∈ lw_all := lw_g (lw_at lw_m6 164 rfl) rfl
theorem q1473 : (Jvm.Cond.code ({ cls := "java/lang/String", name := "checkIndex", desc := "(II)V" } : Jvm.MethodName) prog_41_method_155_code (2 : Nat) (Option.none : Option Jvm.ClassFile.FieldType)) ∈ lw_all := lw_g (lw_at lw_m6 165 rfl) rfl
theorem q1474 : (Jvm.Cond.methodLink "java/lang/String" (1059 : Nat) ({ cls := "jdk/internal/util/Preconditions", name := "checkIndex", desc := "(IILjava/util/function/BiFunction;)I" } : Jvm.MethodName)) ∈ lw_all := lw_g (lw_at lw_m6 166 rfl) rfl
theorem q1475 : (Jvm.Cond.methodLink "java/lang/String" (498 : Nat) ({ cls := "java/lang/StringUTF16", name := "charAt", desc := "([BI)C" } : Jvm.MethodName)) ∈ lw_all := lw_g (lw_at lw_m6 167 rfl) rfl
theorem q1635 : (Jvm.Cond.instanceMethod ({ cls := "java/lang/String", name := "equals", desc := "(Ljava/lang/Object;)Z" } : Jvm.MethodName)) ∈ lw_all := lw_g (lw_at lw_m7 87 rfl) rfl
theorem q1636 : (Jvm.Cond.selects "java/lang/String" ({ cls := "java/lang/String", name := "equals", desc := "(Ljava/lang/Object;)Z" } : Jvm.MethodName) ({ cls := "java/lang/String", name := "equals", desc := "(Ljava/lang/Object;)Z" } : Jvm.MethodName)) ∈ lw_all := lw_g (lw_at lw_m7 88 rfl) rfl
theorem q1637 : (Jvm.Cond.code ({ cls := "java/lang/String", name := "equals", desc := "(Ljava/lang/Object;)Z" } : Jvm.MethodName) prog_41_method_66_code (3 : Nat) (Option.some Jvm.ClassFile.FieldType.boolean)) ∈ lw_all := lw_g (lw_at lw_m7 89 rfl) rfl
theorem q1638 : (Jvm.Cond.classLink "java/lang/String" (10 : Nat) "java/lang/String") ∈ lw_all := lw_g (lw_at lw_m7 90 rfl) rfl
theorem q1639 : (Jvm.Cond.methodLink "java/lang/String" (541 : Nat) ({ cls := "java/lang/StringLatin1", name := "equals", desc := "([B[B)Z" } : Jvm.MethodName)) ∈ lw_all := lw_g (lw_at lw_m7 91 rfl) rfl
theorem q1712 : (Jvm.Cond.instanceMethod ({ cls := "java/lang/String", name := "hashCode", desc := "()I" } : Jvm.MethodName)) ∈ lw_all := lw_g (lw_at lw_m7 164 rfl) rfl
theorem q1713 : (Jvm.Cond.selects "java/lang/String" ({ cls := "java/lang/String", name := "hashCode", desc := "()I" } : Jvm.MethodName) ({ cls := "java/lang/String", name := "hashCode", desc := "()I" } : Jvm.MethodName)) ∈ lw_all := lw_g (lw_at lw_m7 165 rfl) rfl
theorem q1714 : (Jvm.Cond.code ({ cls := "java/lang/String", name := "hashCode", desc := "()I" } : Jvm.MethodName) prog_41_method_78_code (2 : Nat) (Option.some Jvm.ClassFile.FieldType.int)) ∈ lw_all := lw_g (lw_at lw_m7 166 rfl) rfl
theorem q1715 : (Jvm.Cond.methodLink "java/lang/String" (628 : Nat) ({ cls := "java/lang/StringLatin1", name := "hashCode", desc := "([B)I" } : Jvm.MethodName)) ∈ lw_all := lw_g (lw_at lw_m7 167 rfl) rfl
theorem q1764 : (Jvm.Cond.methodLink "java/lang/String" (632 : Nat) ({ cls := "java/lang/StringUTF16", name := "hashCode", desc := "([B)I" } : Jvm.MethodName)) ∈ lw_all := lw_g (lw_at lw_m7 216 rfl) rfl
theorem q2341 : (Jvm.Cond.selects "java/lang/String" ({ cls := "java/lang/Object", name := "equals", desc := "(Ljava/lang/Object;)Z" } : Jvm.MethodName) ({ cls := "java/lang/String", name := "equals", desc := "(Ljava/lang/Object;)Z" } : Jvm.MethodName)) ∈ lw_all := lw_g (lw_at lw_m10 73 rfl) rfl
theorem q3033 : (Jvm.Cond.castable "java/lang/String" "java/lang/Object") ∈ lw_tbl := lw_at lw_m13 45 rfl
theorem in_J15 : ∀ w ∈ wsJ150, w ∈ lw_all := lw_in wsJ150 [1283, 1285, 1287, 1289] (by decide +kernel) (by decide +kernel)
def RJ16 : String := "java/lang/StringUTF16"
abbrev cJ16_newBytesFor : ByteArray := prog_44_method_2_code
def yJ16_newBytesFor : MethodName := ⟨RJ16, "newBytesFor", "(I)[B"⟩
abbrev cJ16_newBytesLength : ByteArray := prog_44_method_3_code
def yJ16_newBytesLength : MethodName := ⟨RJ16, "newBytesLength", "(I)I"⟩
abbrev cJ16_putCharsAt : ByteArray := prog_44_method_81_code
def yJ16_putCharsAt : MethodName := ⟨RJ16, "putCharsAt", "([BICCCC)I"⟩
abbrev cJ16_checkBoundsBeginEnd : ByteArray := prog_44_method_93_code
def yJ16_checkBoundsBeginEnd : MethodName := ⟨RJ16, "checkBoundsBeginEnd", "(II[B)V"⟩
abbrev cJ16_length : ByteArray := prog_44_method_6_code
def yJ16_length : MethodName := ⟨RJ16, "length", "([B)I"⟩
abbrev cJ16_putChar : ByteArray := prog_44_method_4_code
def yJ16_putChar : MethodName := ⟨RJ16, "putChar", "([BII)V"⟩
abbrev cJ16_inflate : ByteArray := prog_44_method_86_code
def yJ16_inflate : MethodName := ⟨RJ16, "inflate", "([BI[BII)V"⟩
abbrev cJ16_checkBoundsOffCount : ByteArray := prog_44_method_94_code
def yJ16_checkBoundsOffCount : MethodName := ⟨RJ16, "checkBoundsOffCount", "(II[B)V"⟩
abbrev cJ16_getChars : ByteArray := prog_44_method_77_code
def yJ16_getChars : MethodName := ⟨RJ16, "getChars", "(III[B)I"⟩
abbrev cJ16_getChars_2 : ByteArray := prog_44_method_89_code
def yJ16_getChars_2 : MethodName := ⟨RJ16, "getChars", "(II[B)I"⟩
abbrev cJ16_compress : ByteArray := prog_44_method_17_code
def yJ16_compress : MethodName := ⟨RJ16, "compress", "([BII)[B"⟩
abbrev cJ16_compress_2 : ByteArray := prog_44_method_22_code
def yJ16_compress_2 : MethodName := ⟨RJ16, "compress", "([BI[BII)I"⟩
abbrev cJ16_getChar : ByteArray := prog_44_method_5_code
def yJ16_getChar : MethodName := ⟨RJ16, "getChar", "([BI)C"⟩
abbrev cJ16_coderFromArrayLen : ByteArray := prog_44_method_15_code
def yJ16_coderFromArrayLen : MethodName := ⟨RJ16, "coderFromArrayLen", "([BI)B"⟩
abbrev cJ16_charAt : ByteArray := prog_44_method_83_code
def yJ16_charAt : MethodName := ⟨RJ16, "charAt", "([BI)C"⟩
abbrev cJ16_checkIndex : ByteArray := prog_44_method_91_code
def yJ16_checkIndex : MethodName := ⟨RJ16, "checkIndex", "(I[B)V"⟩
abbrev cJ16_fillNull : ByteArray := prog_44_method_70_code
def yJ16_fillNull : MethodName := ⟨RJ16, "fillNull", "([BII)V"⟩
abbrev cJ16_putCharSB : ByteArray := prog_44_method_71_code
def yJ16_putCharSB : MethodName := ⟨RJ16, "putCharSB", "([BII)V"⟩
abbrev cJ16_hashCode : ByteArray := prog_44_method_39_code
def yJ16_hashCode : MethodName := ⟨RJ16, "hashCode", "([B)I"⟩
theorem q133 : (Jvm.Cond.initialized "java/lang/StringUTF16") ∈ lw_all := lw_g (lw_at lw_m1 25 rfl) rfl
theorem q1053 : (Jvm.Cond.static ({ cls := "java/lang/StringUTF16", name := "newBytesFor", desc := "(I)[B" } : Jvm.MethodName)) ∈ lw_all := lw_g (lw_at lw_m4 225 rfl) rfl
theorem q1054 : (Jvm.Cond.code ({ cls := "java/lang/StringUTF16", name := "newBytesFor", desc := "(I)[B" } : Jvm.MethodName) prog_44_method_2_code (1 : Nat) (Option.some (Jvm.ClassFile.FieldType.array Jvm.ClassFile.FieldType.byte))) ∈ lw_all := lw_g (lw_at lw_m4 226 rfl) rfl
theorem q1055 : (Jvm.Cond.methodLink "java/lang/StringUTF16" (11 : Nat) ({ cls := "java/lang/StringUTF16", name := "newBytesLength", desc := "(I)I" } : Jvm.MethodName)) ∈ lw_all := lw_g (lw_at lw_m4 227 rfl) rfl
theorem q1056 : (Jvm.Cond.static ({ cls := "java/lang/StringUTF16", name := "newBytesLength", desc := "(I)I" } : Jvm.MethodName)) ∈ lw_all := lw_g (lw_at lw_m4 228 rfl) rfl
theorem q1057 : (Jvm.Cond.code ({ cls := "java/lang/StringUTF16", name := "newBytesLength", desc := "(I)I" } : Jvm.MethodName) prog_44_method_3_code (1 : Nat) (Option.some Jvm.ClassFile.FieldType.int)) ∈ lw_all := lw_g (lw_at lw_m4 229 rfl) rfl
theorem q1058 : (Jvm.Cond.constant "java/lang/StringUTF16" (20 : Nat) (1073741823 : Int32)) ∈ lw_all := lw_g (lw_at lw_m4 230 rfl) rfl
theorem q1108 : (Jvm.Cond.static ({ cls := "java/lang/StringUTF16", name := "putCharsAt", desc := "([BICCCC)I" } : Jvm.MethodName)) ∈ lw_all := lw_g (lw_at lw_m5 40 rfl) rfl
theorem q1109 : (Jvm.Cond.code ({ cls := "java/lang/StringUTF16", name := "putCharsAt", desc := "([BICCCC)I" } : Jvm.MethodName) prog_44_method_81_code (7 : Nat) (Option.some Jvm.ClassFile.FieldType.int)) ∈ lw_all := lw_g (lw_at lw_m5 41 rfl) rfl
theorem q1110 : (Jvm.Cond.methodLink "java/lang/StringUTF16" (96 : Nat) ({ cls := "java/lang/StringUTF16", name := "checkBoundsBeginEnd", desc := "(II[B)V" } : Jvm.MethodName)) ∈ lw_all := lw_g (lw_at lw_m5 42 rfl) rfl
theorem q1111 : (Jvm.Cond.static ({ cls := "java/lang/StringUTF16", name := "checkBoundsBeginEnd", desc := "(II[B)V" } : Jvm.MethodName)) ∈ lw_all := lw_g (lw_at lw_m5 43 rfl) rfl
theorem q1112 : (Jvm.Cond.code ({ cls := "java/lang/StringUTF16", name := "checkBoundsBeginEnd", desc := "(II[B)V" } : Jvm.MethodName) prog_44_method_93_code (3 : Nat) (Option.none : Option Jvm.ClassFile.FieldType)) ∈ lw_all := lw_g (lw_at lw_m5 44 rfl) rfl
theorem q1113 : (Jvm.Cond.methodLink "java/lang/StringUTF16" (48 : Nat) ({ cls := "java/lang/StringUTF16", name := "length", desc := "([B)I" } : Jvm.MethodName)) ∈ lw_all := lw_g (lw_at lw_m5 45 rfl) rfl
theorem q1114 : (Jvm.Cond.static ({ cls := "java/lang/StringUTF16", name := "length", desc := "([B)I" } : Jvm.MethodName)) ∈ lw_all := lw_g (lw_at lw_m5 46 rfl) rfl
theorem q1115 : (Jvm.Cond.code ({ cls := "java/lang/StringUTF16", name := "length", desc := "([B)I" } : Jvm.MethodName) prog_44_method_6_code (1 : Nat) (Option.some Jvm.ClassFile.FieldType.int)) ∈ lw_all := lw_g (lw_at lw_m5 47 rfl) rfl
theorem q1116 : (Jvm.Cond.methodLink "java/lang/StringUTF16" (241 : Nat) ({ cls := "java/lang/String", name := "checkBoundsBeginEnd", desc := "(III)V" } : Jvm.MethodName)) ∈ lw_all := lw_g (lw_at lw_m5 48 rfl) rfl
theorem q1124 : (Jvm.Cond.methodLink "java/lang/StringUTF16" (111 : Nat) ({ cls := "java/lang/StringUTF16", name := "putChar", desc := "([BII)V" } : Jvm.MethodName)) ∈ lw_all := lw_g (lw_at lw_m5 56 rfl) rfl
theorem q1125 : (Jvm.Cond.static ({ cls := "java/lang/StringUTF16", name := "putChar", desc := "([BII)V" } : Jvm.MethodName)) ∈ lw_all := lw_g (lw_at lw_m5 57 rfl) rfl
theorem q1126 : (Jvm.Cond.code ({ cls := "java/lang/StringUTF16", name := "putChar", desc := "([BII)V" } : Jvm.MethodName) prog_44_method_4_code (3 : Nat) (Option.none : Option Jvm.ClassFile.FieldType)) ∈ lw_all := lw_g (lw_at lw_m5 58 rfl) rfl
theorem q1127 : (Jvm.Cond.fieldLink "java/lang/StringUTF16" (44 : Nat) "java/lang/StringUTF16" "$assertionsDisabled" "Z") ∈ lw_all := lw_g (lw_at lw_m5 59 rfl) rfl
theorem q1128 : (Jvm.Cond.laysStatic "java/lang/StringUTF16" "$assertionsDisabled" "Z") ∈ lw_tbl := lw_at lw_m5 60 rfl
theorem q1129 : (Jvm.Cond.fieldLink "java/lang/StringUTF16" (59 : Nat) "java/lang/StringUTF16" "HI_BYTE_SHIFT" "I") ∈ lw_all := lw_g (lw_at lw_m5 61 rfl) rfl
theorem q1130 : (Jvm.Cond.laysStatic "java/lang/StringUTF16" "HI_BYTE_SHIFT" "I") ∈ lw_tbl := lw_at lw_m5 62 rfl
theorem q1131 : (Jvm.Cond.fieldLink "java/lang/StringUTF16" (63 : Nat) "java/lang/StringUTF16" "LO_BYTE_SHIFT" "I") ∈ lw_all := lw_g (lw_at lw_m5 63 rfl) rfl
theorem q1132 : (Jvm.Cond.laysStatic "java/lang/StringUTF16" "LO_BYTE_SHIFT" "I") ∈ lw_tbl := lw_at lw_m5 64 rfl
theorem q1159 : (Jvm.Cond.static ({ cls := "java/lang/StringUTF16", name := "inflate", desc := "([BI[BII)V" } : Jvm.MethodName)) ∈ lw_all := lw_g (lw_at lw_m5 91 rfl) rfl
theorem q1160 : (Jvm.Cond.code ({ cls := "java/lang/StringUTF16", name := "inflate", desc := "([BI[BII)V" } : Jvm.MethodName) prog_44_method_86_code (6 : Nat) (Option.none : Option Jvm.ClassFile.FieldType)) ∈ lw_all := lw_g (lw_at lw_m5 92 rfl) rfl
theorem q1161 : (Jvm.Cond.methodLink "java/lang/StringUTF16" (173 : Nat) ({ cls := "java/lang/StringUTF16", name := "checkBoundsOffCount", desc := "(II[B)V" } : Jvm.MethodName)) ∈ lw_all := lw_g (lw_at lw_m5 93 rfl) rfl
theorem q1162 : (Jvm.Cond.static ({ cls := "java/lang/StringUTF16", name := "checkBoundsOffCount", desc := "(II[B)V" } : Jvm.MethodName)) ∈ lw_all := lw_g (lw_at lw_m5 94 rfl) rfl
theorem q1163 : (Jvm.Cond.code ({ cls := "java/lang/StringUTF16", name := "checkBoundsOffCount", desc := "(II[B)V" } : Jvm.MethodName) prog_44_method_94_code (3 : Nat) (Option.none : Option Jvm.ClassFile.FieldType)) ∈ lw_all := lw_g (lw_at lw_m5 95 rfl) rfl
theorem q1164 : (Jvm.Cond.methodLink "java/lang/StringUTF16" (419 : Nat) ({ cls := "java/lang/String", name := "checkBoundsOffCount", desc := "(III)I" } : Jvm.MethodName)) ∈ lw_all := lw_g (lw_at lw_m5 96 rfl) rfl
theorem q1242 : (Jvm.Cond.static ({ cls := "java/lang/StringUTF16", name := "getChars", desc := "(III[B)I" } : Jvm.MethodName)) ∈ lw_all := lw_g (lw_at lw_m5 174 rfl) rfl
theorem q1243 : (Jvm.Cond.code ({ cls := "java/lang/StringUTF16", name := "getChars", desc := "(III[B)I" } : Jvm.MethodName) prog_44_method_77_code (5 : Nat) (Option.some Jvm.ClassFile.FieldType.int)) ∈ lw_all := lw_g (lw_at lw_m5 175 rfl) rfl
theorem q1244 : (Jvm.Cond.methodLink "java/lang/StringUTF16" (393 : Nat) ({ cls := "java/lang/StringUTF16", name := "getChars", desc := "(II[B)I" } : Jvm.MethodName)) ∈ lw_all := lw_g (lw_at lw_m5 176 rfl) rfl
theorem q1245 : (Jvm.Cond.static ({ cls := "java/lang/StringUTF16", name := "getChars", desc := "(II[B)I" } : Jvm.MethodName)) ∈ lw_all := lw_g (lw_at lw_m5 177 rfl) rfl
theorem q1246 : (Jvm.Cond.code ({ cls := "java/lang/StringUTF16", name := "getChars", desc := "(II[B)I" } : Jvm.MethodName) prog_44_method_89_code (7 : Nat) (Option.some Jvm.ClassFile.FieldType.int)) ∈ lw_all := lw_g (lw_at lw_m5 178 rfl) rfl
theorem q1247 : (Jvm.Cond.fieldLink "java/lang/StringUTF16" (403 : Nat) "java/lang/Integer" "DigitOnes" "[B") ∈ lw_all := lw_g (lw_at lw_m5 179 rfl) rfl
theorem q1248 : (Jvm.Cond.fieldLink "java/lang/StringUTF16" (407 : Nat) "java/lang/Integer" "DigitTens" "[B") ∈ lw_all := lw_g (lw_at lw_m5 180 rfl) rfl
theorem q1267 : (Jvm.Cond.static ({ cls := "java/lang/StringUTF16", name := "compress", desc := "([BII)[B" } : Jvm.MethodName)) ∈ lw_all := lw_g (lw_at lw_m5 199 rfl) rfl
theorem q1268 : (Jvm.Cond.code ({ cls := "java/lang/StringUTF16", name := "compress", desc := "([BII)[B" } : Jvm.MethodName) prog_44_method_17_code (6 : Nat) (Option.some (Jvm.ClassFile.FieldType.array Jvm.ClassFile.FieldType.byte))) ∈ lw_all := lw_g (lw_at lw_m5 200 rfl) rfl
theorem q1269 : (Jvm.Cond.methodLink "java/lang/StringUTF16" (123 : Nat) ({ cls := "java/lang/StringUTF16", name := "compress", desc := "([BI[BII)I" } : Jvm.MethodName)) ∈ lw_all := lw_g (lw_at lw_m5 201 rfl) rfl
theorem q1270 : (Jvm.Cond.static ({ cls := "java/lang/StringUTF16", name := "compress", desc := "([BI[BII)I" } : Jvm.MethodName)) ∈ lw_all := lw_g (lw_at lw_m5 202 rfl) rfl
theorem q1271 : (Jvm.Cond.code ({ cls := "java/lang/StringUTF16", name := "compress", desc := "([BI[BII)I" } : Jvm.MethodName) prog_44_method_22_code (7 : Nat) (Option.some Jvm.ClassFile.FieldType.int)) ∈ lw_all := lw_g (lw_at lw_m5 203 rfl) rfl
theorem q1272 : (Jvm.Cond.methodLink "java/lang/StringUTF16" (71 : Nat) ({ cls := "java/lang/StringUTF16", name := "getChar", desc := "([BI)C" } : Jvm.MethodName)) ∈ lw_all := lw_g (lw_at lw_m5 204 rfl) rfl
theorem q1273 : (Jvm.Cond.static ({ cls := "java/lang/StringUTF16", name := "getChar", desc := "([BI)C" } : Jvm.MethodName)) ∈ lw_all := lw_g (lw_at lw_m5 205 rfl) rfl
theorem q1274 : (Jvm.Cond.code ({ cls := "java/lang/StringUTF16", name := "getChar", desc := "([BI)C" } : Jvm.MethodName) prog_44_method_5_code (2 : Nat) (Option.some Jvm.ClassFile.FieldType.char)) ∈ lw_all := lw_g (lw_at lw_m5 206 rfl) rfl
theorem q1275 : (Jvm.Cond.methodLink "java/lang/StringUTF16" (126 : Nat) ({ cls := "java/util/Arrays", name := "copyOfRange", desc := "([BII)[B" } : Jvm.MethodName)) ∈ lw_all := lw_g (lw_at lw_m5 207 rfl) rfl
theorem q1277 : (Jvm.Cond.static ({ cls := "java/lang/StringUTF16", name := "coderFromArrayLen", desc := "([BI)B" } : Jvm.MethodName)) ∈ lw_all := lw_g (lw_at lw_m5 209 rfl) rfl
theorem q1278 : (Jvm.Cond.code ({ cls := "java/lang/StringUTF16", name := "coderFromArrayLen", desc := "([BI)B" } : Jvm.MethodName) prog_44_method_15_code (2 : Nat) (Option.some Jvm.ClassFile.FieldType.byte)) ∈ lw_all := lw_g (lw_at lw_m5 210 rfl) rfl
theorem q1476 : (Jvm.Cond.static ({ cls := "java/lang/StringUTF16", name := "charAt", desc := "([BI)C" } : Jvm.MethodName)) ∈ lw_all := lw_g (lw_at lw_m6 168 rfl) rfl
theorem q1477 : (Jvm.Cond.code ({ cls := "java/lang/StringUTF16", name := "charAt", desc := "([BI)C" } : Jvm.MethodName) prog_44_method_83_code (2 : Nat) (Option.some Jvm.ClassFile.FieldType.char)) ∈ lw_all := lw_g (lw_at lw_m6 169 rfl) rfl
theorem q1478 : (Jvm.Cond.methodLink "java/lang/StringUTF16" (67 : Nat) ({ cls := "java/lang/StringUTF16", name := "checkIndex", desc := "(I[B)V" } : Jvm.MethodName)) ∈ lw_all := lw_g (lw_at lw_m6 170 rfl) rfl
theorem q1479 : (Jvm.Cond.static ({ cls := "java/lang/StringUTF16", name := "checkIndex", desc := "(I[B)V" } : Jvm.MethodName)) ∈ lw_all := lw_g (lw_at lw_m6 171 rfl) rfl
theorem q1480 : (Jvm.Cond.code ({ cls := "java/lang/StringUTF16", name := "checkIndex", desc := "(I[B)V" } : Jvm.MethodName) prog_44_method_91_code (2 : Nat) (Option.none : Option Jvm.ClassFile.FieldType)) ∈ lw_all := lw_g (lw_at lw_m6 172 rfl) rfl
theorem q1481 : (Jvm.Cond.methodLink "java/lang/StringUTF16" (414 : Nat) ({ cls := "java/lang/String", name := "checkIndex", desc := "(II)V" } : Jvm.MethodName)) ∈ lw_all := lw_g (lw_at lw_m6 173 rfl) rfl
theorem q1545 : (Jvm.Cond.static ({ cls := "java/lang/StringUTF16", name := "fillNull", desc := "([BII)V" } : Jvm.MethodName)) ∈ lw_all := lw_g (lw_at lw_m6 237 rfl) rfl
theorem q1546 : (Jvm.Cond.code ({ cls := "java/lang/StringUTF16", name := "fillNull", desc := "([BII)V" } : Jvm.MethodName) prog_44_method_70_code (3 : Nat) (Option.none : Option Jvm.ClassFile.FieldType)) ∈ lw_all := lw_g (lw_at lw_m6 238 rfl) rfl
theorem q1547 : (Jvm.Cond.methodLink "java/lang/StringUTF16" (380 : Nat) ({ cls := "java/util/Arrays", name := "fill", desc := "([BIIB)V" } : Jvm.MethodName)) ∈ lw_all := lw_g (lw_at lw_m6 239 rfl) rfl
theorem q1564 : (Jvm.Cond.static ({ cls := "java/lang/StringUTF16", name := "putCharSB", desc := "([BII)V" } : Jvm.MethodName)) ∈ lw_all := lw_g (lw_at lw_m7 16 rfl) rfl
theorem q1565 : (Jvm.Cond.code ({ cls := "java/lang/StringUTF16", name := "putCharSB", desc := "([BII)V" } : Jvm.MethodName) prog_44_method_71_code (3 : Nat) (Option.none : Option Jvm.ClassFile.FieldType)) ∈ lw_all := lw_g (lw_at lw_m7 17 rfl) rfl
theorem q1765 : (Jvm.Cond.static ({ cls := "java/lang/StringUTF16", name := "hashCode", desc := "([B)I" } : Jvm.MethodName)) ∈ lw_all := lw_g (lw_at lw_m7 217 rfl) rfl
theorem q1766 : (Jvm.Cond.code ({ cls := "java/lang/StringUTF16", name := "hashCode", desc := "([B)I" } : Jvm.MethodName) prog_44_method_39_code (1 : Nat) (Option.some Jvm.ClassFile.FieldType.int)) ∈ lw_all := lw_g (lw_at lw_m7 218 rfl) rfl
theorem q1767 : (Jvm.Cond.methodLink "java/lang/StringUTF16" (220 : Nat) ({ cls := "jdk/internal/util/ArraysSupport", name := "vectorizedHashCode", desc := "(Ljava/lang/Object;IIII)I" } : Jvm.MethodName)) ∈ lw_all := lw_g (lw_at lw_m7 219 rfl) rfl
def RJ17 : String := "java/lang/StringLatin1"
abbrev cJ17_inflate : ByteArray := prog_43_method_50_code
def yJ17_inflate : MethodName := ⟨RJ17, "inflate", "([BI[BII)V"⟩
abbrev cJ17_charAt : ByteArray := prog_43_method_2_code
def yJ17_charAt : MethodName := ⟨RJ17, "charAt", "([BI)C"⟩
abbrev cJ17_fillNull : ByteArray := prog_43_method_48_code
def yJ17_fillNull : MethodName := ⟨RJ17, "fillNull", "([BII)V"⟩
abbrev cJ17_canEncode : ByteArray := prog_43_method_3_code
def yJ17_canEncode : MethodName := ⟨RJ17, "canEncode", "(C)Z"⟩
abbrev cJ17_equals : ByteArray := prog_43_method_13_code
def yJ17_equals : MethodName := ⟨RJ17, "equals", "([B[B)Z"⟩
abbrev cJ17_hashCode : ByteArray := prog_43_method_21_code
def yJ17_hashCode : MethodName := ⟨RJ17, "hashCode", "([B)I"⟩
theorem q134 : (Jvm.Cond.initialized "java/lang/StringLatin1") ∈ lw_all := lw_g (lw_at lw_m1 26 rfl) rfl
theorem q1156 : (Jvm.Cond.static ({ cls := "java/lang/StringLatin1", name := "inflate", desc := "([BI[BII)V" } : Jvm.MethodName)) ∈ lw_all := lw_g (lw_at lw_m5 88 rfl) rfl
theorem q1157 : (Jvm.Cond.code ({ cls := "java/lang/StringLatin1", name := "inflate", desc := "([BI[BII)V" } : Jvm.MethodName) prog_43_method_50_code (5 : Nat) (Option.none : Option Jvm.ClassFile.FieldType)) ∈ lw_all := lw_g (lw_at lw_m5 89 rfl) rfl
theorem q1158 : (Jvm.Cond.methodLink "java/lang/StringLatin1" (240 : Nat) ({ cls := "java/lang/StringUTF16", name := "inflate", desc := "([BI[BII)V" } : Jvm.MethodName)) ∈ lw_all := lw_g (lw_at lw_m5 90 rfl) rfl
theorem q1469 : (Jvm.Cond.static ({ cls := "java/lang/StringLatin1", name := "charAt", desc := "([BI)C" } : Jvm.MethodName)) ∈ lw_all := lw_g (lw_at lw_m6 161 rfl) rfl
theorem q1470 : (Jvm.Cond.code ({ cls := "java/lang/StringLatin1", name := "charAt", desc := "([BI)C" } : Jvm.MethodName) prog_43_method_2_code (2 : Nat) (Option.some Jvm.ClassFile.FieldType.char)) ∈ lw_all := lw_g (lw_at lw_m6 162 rfl) rfl
theorem q1471 : (Jvm.Cond.methodLink "java/lang/StringLatin1" (9 : Nat) ({ cls := "java/lang/String", name := "checkIndex", desc := "(II)V" } : Jvm.MethodName)) ∈ lw_all := lw_g (lw_at lw_m6 163 rfl) rfl
theorem q1533 : (Jvm.Cond.static ({ cls := "java/lang/StringLatin1", name := "fillNull", desc := "([BII)V" } : Jvm.MethodName)) ∈ lw_all := lw_g (lw_at lw_m6 225 rfl) rfl
theorem q1534 : (Jvm.Cond.code ({ cls := "java/lang/StringLatin1", name := "fillNull", desc := "([BII)V" } : Jvm.MethodName) prog_43_method_48_code (3 : Nat) (Option.none : Option Jvm.ClassFile.FieldType)) ∈ lw_all := lw_g (lw_at lw_m6 226 rfl) rfl
theorem q1535 : (Jvm.Cond.methodLink "java/lang/StringLatin1" (236 : Nat) ({ cls := "java/util/Arrays", name := "fill", desc := "([BIIB)V" } : Jvm.MethodName)) ∈ lw_all := lw_g (lw_at lw_m6 227 rfl) rfl
theorem q1561 : (Jvm.Cond.static ({ cls := "java/lang/StringLatin1", name := "canEncode", desc := "(C)Z" } : Jvm.MethodName)) ∈ lw_all := lw_g (lw_at lw_m7 13 rfl) rfl
theorem q1562 : (Jvm.Cond.code ({ cls := "java/lang/StringLatin1", name := "canEncode", desc := "(C)Z" } : Jvm.MethodName) prog_43_method_3_code (1 : Nat) (Option.some Jvm.ClassFile.FieldType.boolean)) ∈ lw_all := lw_g (lw_at lw_m7 14 rfl) rfl
theorem q1640 : (Jvm.Cond.static ({ cls := "java/lang/StringLatin1", name := "equals", desc := "([B[B)Z" } : Jvm.MethodName)) ∈ lw_all := lw_g (lw_at lw_m7 92 rfl) rfl
theorem q1641 : (Jvm.Cond.code ({ cls := "java/lang/StringLatin1", name := "equals", desc := "([B[B)Z" } : Jvm.MethodName) prog_43_method_13_code (3 : Nat) (Option.some Jvm.ClassFile.FieldType.boolean)) ∈ lw_all := lw_g (lw_at lw_m7 93 rfl) rfl
theorem q1716 : (Jvm.Cond.static ({ cls := "java/lang/StringLatin1", name := "hashCode", desc := "([B)I" } : Jvm.MethodName)) ∈ lw_all := lw_g (lw_at lw_m7 168 rfl) rfl
theorem q1717 : (Jvm.Cond.code ({ cls := "java/lang/StringLatin1", name := "hashCode", desc := "([B)I" } : Jvm.MethodName) prog_43_method_21_code (1 : Nat) (Option.some Jvm.ClassFile.FieldType.int)) ∈ lw_all := lw_g (lw_at lw_m7 169 rfl) rfl
theorem q1718 : (Jvm.Cond.methodLink "java/lang/StringLatin1" (84 : Nat) ({ cls := "jdk/internal/util/ArraysSupport", name := "vectorizedHashCode", desc := "(Ljava/lang/Object;IIII)I" } : Jvm.MethodName)) ∈ lw_all := lw_g (lw_at lw_m7 170 rfl) rfl
def RJ18 : String := "jdk/internal/util/Preconditions"
abbrev cJ18_checkIndex : ByteArray := prog_81_method_11_code
def yJ18_checkIndex : MethodName := ⟨RJ18, "checkIndex", "(IILjava/util/function/BiFunction;)I"⟩
abbrev cJ18_checkFromToIndex : ByteArray := prog_81_method_12_code
def yJ18_checkFromToIndex : MethodName := ⟨RJ18, "checkFromToIndex", "(IIILjava/util/function/BiFunction;)I"⟩
abbrev cJ18_checkFromIndexSize : ByteArray := prog_81_method_13_code
def yJ18_checkFromIndexSize : MethodName := ⟨RJ18, "checkFromIndexSize", "(IIILjava/util/function/BiFunction;)I"⟩
theorem q135 : (Jvm.Cond.initialized "jdk/internal/util/Preconditions") ∈ lw_all := lw_g (lw_at lw_m1 27 rfl) rfl
theorem q489 : (Jvm.Cond.static ({ cls := "jdk/internal/util/Preconditions", name := "checkIndex", desc := "(IILjava/util/function/BiFunction;)I" } : Jvm.MethodName)) ∈ lw_all := lw_g (lw_at lw_m2 141 rfl) rfl
theorem q490 : (Jvm.Cond.code ({ cls := "jdk/internal/util/Preconditions", name := "checkIndex", desc := "(IILjava/util/function/BiFunction;)I" } : Jvm.MethodName) prog_81_method_11_code (3 : Nat) (Option.some Jvm.ClassFile.FieldType.int)) ∈ lw_all := lw_g (lw_at lw_m2 142 rfl) rfl
theorem q1120 : (Jvm.Cond.laysStatic "jdk/internal/util/Preconditions" "SIOOBE_FORMATTER" "Ljava/util/function/BiFunction;") ∈ lw_tbl := lw_at lw_m5 52 rfl
theorem q1122 : (Jvm.Cond.static ({ cls := "jdk/internal/util/Preconditions", name := "checkFromToIndex", desc := "(IIILjava/util/function/BiFunction;)I" } : Jvm.MethodName)) ∈ lw_all := lw_g (lw_at lw_m5 54 rfl) rfl
theorem q1123 : (Jvm.Cond.code ({ cls := "jdk/internal/util/Preconditions", name := "checkFromToIndex", desc := "(IIILjava/util/function/BiFunction;)I" } : Jvm.MethodName) prog_81_method_12_code (4 : Nat) (Option.some Jvm.ClassFile.FieldType.int)) ∈ lw_all := lw_g (lw_at lw_m5 55 rfl) rfl
theorem q1168 : (Jvm.Cond.static ({ cls := "jdk/internal/util/Preconditions", name := "checkFromIndexSize", desc := "(IIILjava/util/function/BiFunction;)I" } : Jvm.MethodName)) ∈ lw_all := lw_g (lw_at lw_m5 100 rfl) rfl
theorem q1169 : (Jvm.Cond.code ({ cls := "jdk/internal/util/Preconditions", name := "checkFromIndexSize", desc := "(IIILjava/util/function/BiFunction;)I" } : Jvm.MethodName) prog_81_method_13_code (4 : Nat) (Option.some Jvm.ClassFile.FieldType.int)) ∈ lw_all := lw_g (lw_at lw_m5 101 rfl) rfl
def RJ19 : String := "java/lang/Integer"
abbrev cJ19_numberOfTrailingZeros : ByteArray := prog_35_method_48_code
def yJ19_numberOfTrailingZeros : MethodName := ⟨RJ19, "numberOfTrailingZeros", "(I)I"⟩
abbrev cJ19_stringSize : ByteArray := prog_35_method_13_code
def yJ19_stringSize : MethodName := ⟨RJ19, "stringSize", "(I)I"⟩
abbrev cJ19_getChars : ByteArray := prog_35_method_12_code
def yJ19_getChars : MethodName := ⟨RJ19, "getChars", "(II[B)I"⟩
abbrev cJ19_bitCount : ByteArray := prog_35_method_49_code
def yJ19_bitCount : MethodName := ⟨RJ19, "bitCount", "(I)I"⟩
abbrev cJ19_numberOfLeadingZeros : ByteArray := prog_35_method_47_code
def yJ19_numberOfLeadingZeros : MethodName := ⟨RJ19, "numberOfLeadingZeros", "(I)I"⟩
theorem q137 : (Jvm.Cond.initialized "java/lang/Integer") ∈ lw_all := lw_g (lw_at lw_m1 29 rfl) rfl
theorem q545 : (Jvm.Cond.static ({ cls := "java/lang/Integer", name := "numberOfTrailingZeros", desc := "(I)I" } : Jvm.MethodName)) ∈ lw_all := lw_g (lw_at lw_m2 197 rfl) rfl
theorem q546 : (Jvm.Cond.code ({ cls := "java/lang/Integer", name := "numberOfTrailingZeros", desc := "(I)I" } : Jvm.MethodName) prog_35_method_48_code (2 : Nat) (Option.some Jvm.ClassFile.FieldType.int)) ∈ lw_all := lw_g (lw_at lw_m2 198 rfl) rfl
theorem q547 : (Jvm.Cond.constant "java/lang/Integer" (264 : Nat) (65536 : Int32)) ∈ lw_all := lw_g (lw_at lw_m2 199 rfl) rfl
theorem q1232 : (Jvm.Cond.static ({ cls := "java/lang/Integer", name := "stringSize", desc := "(I)I" } : Jvm.MethodName)) ∈ lw_all := lw_g (lw_at lw_m5 164 rfl) rfl
theorem q1233 : (Jvm.Cond.code ({ cls := "java/lang/Integer", name := "stringSize", desc := "(I)I" } : Jvm.MethodName) prog_35_method_13_code (4 : Nat) (Option.some Jvm.ClassFile.FieldType.int)) ∈ lw_all := lw_g (lw_at lw_m5 165 rfl) rfl
theorem q1235 : (Jvm.Cond.static ({ cls := "java/lang/Integer", name := "getChars", desc := "(II[B)I" } : Jvm.MethodName)) ∈ lw_all := lw_g (lw_at lw_m5 167 rfl) rfl
theorem q1236 : (Jvm.Cond.code ({ cls := "java/lang/Integer", name := "getChars", desc := "(II[B)I" } : Jvm.MethodName) prog_35_method_12_code (7 : Nat) (Option.some Jvm.ClassFile.FieldType.int)) ∈ lw_all := lw_g (lw_at lw_m5 168 rfl) rfl
theorem q1237 : (Jvm.Cond.fieldLink "java/lang/Integer" (83 : Nat) "java/lang/Integer" "DigitOnes" "[B") ∈ lw_all := lw_g (lw_at lw_m5 169 rfl) rfl
theorem q1238 : (Jvm.Cond.laysStatic "java/lang/Integer" "DigitOnes" "[B") ∈ lw_tbl := lw_at lw_m5 170 rfl
theorem q1239 : (Jvm.Cond.fieldLink "java/lang/Integer" (87 : Nat) "java/lang/Integer" "DigitTens" "[B") ∈ lw_all := lw_g (lw_at lw_m5 171 rfl) rfl
theorem q1240 : (Jvm.Cond.laysStatic "java/lang/Integer" "DigitTens" "[B") ∈ lw_tbl := lw_at lw_m5 172 rfl
theorem q1921 : (Jvm.Cond.static ({ cls := "java/lang/Integer", name := "bitCount", desc := "(I)I" } : Jvm.MethodName)) ∈ lw_all := lw_g (lw_at lw_m8 133 rfl) rfl
theorem q1922 : (Jvm.Cond.code ({ cls := "java/lang/Integer", name := "bitCount", desc := "(I)I" } : Jvm.MethodName) prog_35_method_49_code (1 : Nat) (Option.some Jvm.ClassFile.FieldType.int)) ∈ lw_all := lw_g (lw_at lw_m8 134 rfl) rfl
theorem q1923 : (Jvm.Cond.constant "java/lang/Integer" (265 : Nat) (1431655765 : Int32)) ∈ lw_all := lw_g (lw_at lw_m8 135 rfl) rfl
theorem q1924 : (Jvm.Cond.constant "java/lang/Integer" (266 : Nat) (858993459 : Int32)) ∈ lw_all := lw_g (lw_at lw_m8 136 rfl) rfl
theorem q1925 : (Jvm.Cond.constant "java/lang/Integer" (267 : Nat) (252645135 : Int32)) ∈ lw_all := lw_g (lw_at lw_m8 137 rfl) rfl
theorem q2429 : (Jvm.Cond.static ({ cls := "java/lang/Integer", name := "numberOfLeadingZeros", desc := "(I)I" } : Jvm.MethodName)) ∈ lw_all := lw_g (lw_at lw_m10 161 rfl) rfl
theorem q2430 : (Jvm.Cond.code ({ cls := "java/lang/Integer", name := "numberOfLeadingZeros", desc := "(I)I" } : Jvm.MethodName) prog_35_method_47_code (2 : Nat) (Option.some Jvm.ClassFile.FieldType.int)) ∈ lw_all := lw_g (lw_at lw_m10 162 rfl) rfl
def RJ20 : String := "java/lang/Enum"
abbrev cJ20_ordinal : ByteArray := prog_31_method_2_code
def yJ20_ordinal : MethodName := ⟨RJ20, "ordinal", "()I"⟩
abbrev cJ20_equals : ByteArray := prog_31_method_5_code
def yJ20_equals : MethodName := ⟨RJ20, "equals", "(Ljava/lang/Object;)Z"⟩
theorem q138 : (Jvm.Cond.initialized "java/lang/Enum") ∈ lw_all := lw_g (lw_at lw_m1 30 rfl) rfl
theorem q1875 : (Jvm.Cond.declares ({ cls := "java/lang/Enum", name := "ordinal", desc := "()I" } : Jvm.MethodName)) ∈ lw_tbl := lw_at lw_m8 87 rfl
theorem q1880 : (Jvm.Cond.instanceMethod ({ cls := "java/lang/Enum", name := "ordinal", desc := "()I" } : Jvm.MethodName)) ∈ lw_all := lw_g (lw_at lw_m8 92 rfl) rfl
theorem q1881 : (Jvm.Cond.code ({ cls := "java/lang/Enum", name := "ordinal", desc := "()I" } : Jvm.MethodName) prog_31_method_2_code (1 : Nat) (Option.some Jvm.ClassFile.FieldType.int)) ∈ lw_all := lw_g (lw_at lw_m8 93 rfl) rfl
theorem q2330 : (Jvm.Cond.instanceMethod ({ cls := "java/lang/Enum", name := "equals", desc := "(Ljava/lang/Object;)Z" } : Jvm.MethodName)) ∈ lw_all := lw_g (lw_at lw_m10 62 rfl) rfl
theorem q2331 : (Jvm.Cond.code ({ cls := "java/lang/Enum", name := "equals", desc := "(Ljava/lang/Object;)Z" } : Jvm.MethodName) prog_31_method_5_code (2 : Nat) (Option.some Jvm.ClassFile.FieldType.boolean)) ∈ lw_all := lw_g (lw_at lw_m10 63 rfl) rfl
theorem q3082 : (Jvm.Cond.fieldLink "java/lang/Enum" (7 : Nat) "java/lang/Enum" "ordinal" "I") ∈ lw_all := lw_g (lw_at lw_m13 94 rfl) rfl
def RX8 : String := "KeyTurns$TextError"
def TX8 : u_T := fun k => match k with
  | 0 => ("java/lang/Throwable", "cause", "Ljava/lang/Throwable;", false)
  | 1 => ("java/lang/Throwable", "stackTrace", "[Ljava/lang/StackTraceElement;", false)
  | 2 => ("java/lang/Throwable", "suppressedExceptions", "Ljava/util/List;", false)
  | 3 => ("java/lang/Throwable", "detailMessage", "Ljava/lang/String;", false)
  | 4 => ("java/lang/Throwable", "backtrace", "Ljava/lang/Object;", false)
  | 5 => ("java/lang/Throwable", "depth", "I", false)
  | 6 => ("KeyTurns$TextError", "code", "I", true)
  | _ => ("KeyTurns$TextError", "position", "I", true)
def tyX8 : Nat → FieldType := fun k => match k with
  | 0 => .object "java/lang/Throwable"
  | 1 => .array (.object "java/lang/StackTraceElement")
  | 2 => .object "java/util/List"
  | 3 => .object "java/lang/String"
  | 4 => .object "java/lang/Object"
  | 5 => .int
  | 6 => .int
  | _ => .int
abbrev wsX80 : List Cond := u_ws RX8 TX8 8
theorem nmX8 : ∀ a, a < 8 → ∀ b, b < 8 → a ≠ b → (TX8 a).2.1 ≠ (TX8 b).2.1 := by decide +kernel
theorem tyX8_ok : ∀ k, k < 8 → parseFieldDescriptor (TX8 k).2.2.1 = some (tyX8 k) := by decide +kernel
abbrev cX8_init : ByteArray := prog_18_method_1_code
def yX8_init : MethodName := ⟨RX8, "<init>", "(IILjava/lang/Exception;)V"⟩
theorem q140 : (Jvm.Cond.initialized "KeyTurns$TextError") ∈ lw_all := lw_g (lw_at lw_m1 32 rfl) rfl
theorem q393 : (Jvm.Cond.selects "KeyTurns$TextError" ({ cls := "java/lang/Object", name := "getClass", desc := "()Ljava/lang/Class;" } : Jvm.MethodName) ({ cls := "java/lang/Object", name := "getClass", desc := "()Ljava/lang/Class;" } : Jvm.MethodName)) ∈ lw_all := lw_g (lw_at lw_m2 45 rfl) rfl
theorem q684 : (Jvm.Cond.selects "KeyTurns$TextError" ({ cls := "java/lang/Throwable", name := "fillInStackTrace", desc := "()Ljava/lang/Throwable;" } : Jvm.MethodName) ({ cls := "java/lang/Throwable", name := "fillInStackTrace", desc := "()Ljava/lang/Throwable;" } : Jvm.MethodName)) ∈ lw_all := lw_g (lw_at lw_m3 96 rfl) rfl
theorem q1022 : (Jvm.Cond.selects "KeyTurns$TextError" ({ cls := "java/lang/Throwable", name := "toString", desc := "()Ljava/lang/String;" } : Jvm.MethodName) ({ cls := "java/lang/Throwable", name := "toString", desc := "()Ljava/lang/String;" } : Jvm.MethodName)) ∈ lw_all := lw_g (lw_at lw_m4 194 rfl) rfl
theorem q1030 : (Jvm.Cond.selects "KeyTurns$TextError" ({ cls := "java/lang/Throwable", name := "getLocalizedMessage", desc := "()Ljava/lang/String;" } : Jvm.MethodName) ({ cls := "java/lang/Throwable", name := "getLocalizedMessage", desc := "()Ljava/lang/String;" } : Jvm.MethodName)) ∈ lw_all := lw_g (lw_at lw_m4 202 rfl) rfl
theorem q1037 : (Jvm.Cond.selects "KeyTurns$TextError" ({ cls := "java/lang/Throwable", name := "getMessage", desc := "()Ljava/lang/String;" } : Jvm.MethodName) ({ cls := "java/lang/Throwable", name := "getMessage", desc := "()Ljava/lang/String;" } : Jvm.MethodName)) ∈ lw_all := lw_g (lw_at lw_m4 209 rfl) rfl
theorem q1649 : (Jvm.Cond.instantiable "KeyTurns$TextError" (8 : Nat)) ∈ lw_all := lw_g (lw_at lw_m7 101 rfl) rfl
theorem q1650 : (Jvm.Cond.castable "KeyTurns$TextError" "KeyTurns$TextError") ∈ lw_tbl := lw_at lw_m7 102 rfl
theorem q1651 : (Jvm.Cond.selects "KeyTurns$TextError" ({ cls := "java/lang/Throwable", name := "fillInStackTrace", desc := "(I)Ljava/lang/Throwable;" } : Jvm.MethodName) ({ cls := "java/lang/Throwable", name := "fillInStackTrace", desc := "(I)Ljava/lang/Throwable;" } : Jvm.MethodName)) ∈ lw_all := lw_g (lw_at lw_m7 103 rfl) rfl
theorem q1652 : (Jvm.Cond.lays "KeyTurns$TextError" "java/lang/Throwable" "cause" "Ljava/lang/Throwable;") ∈ lw_all := lw_g (lw_at lw_m7 104 rfl) rfl
theorem q1653 : (Jvm.Cond.lays "KeyTurns$TextError" "java/lang/Throwable" "stackTrace" "[Ljava/lang/StackTraceElement;") ∈ lw_all := lw_g (lw_at lw_m7 105 rfl) rfl
theorem q1654 : (Jvm.Cond.lays "KeyTurns$TextError" "java/lang/Throwable" "suppressedExceptions" "Ljava/util/List;") ∈ lw_all := lw_g (lw_at lw_m7 106 rfl) rfl
theorem q1655 : (Jvm.Cond.lays "KeyTurns$TextError" "java/lang/Throwable" "detailMessage" "Ljava/lang/String;") ∈ lw_all := lw_g (lw_at lw_m7 107 rfl) rfl
theorem q1656 : (Jvm.Cond.lays "KeyTurns$TextError" "java/lang/Throwable" "backtrace" "Ljava/lang/Object;") ∈ lw_all := lw_g (lw_at lw_m7 108 rfl) rfl
theorem q1658 : (Jvm.Cond.instanceMethod ({ cls := "KeyTurns$TextError", name := "<init>", desc := "(IILjava/lang/Exception;)V" } : Jvm.MethodName)) ∈ lw_all := lw_g (lw_at lw_m7 110 rfl) rfl
theorem q1659 : (Jvm.Cond.code ({ cls := "KeyTurns$TextError", name := "<init>", desc := "(IILjava/lang/Exception;)V" } : Jvm.MethodName) prog_18_method_1_code (4 : Nat) (Option.none : Option Jvm.ClassFile.FieldType)) ∈ lw_all := lw_g (lw_at lw_m7 111 rfl) rfl
theorem q1660 : (Jvm.Cond.methodLink "KeyTurns$TextError" (1 : Nat) ({ cls := "java/lang/Exception", name := "<init>", desc := "(Ljava/lang/String;Ljava/lang/Throwable;ZZ)V" } : Jvm.MethodName)) ∈ lw_all := lw_g (lw_at lw_m7 112 rfl) rfl
theorem q1666 : (Jvm.Cond.fieldLink "KeyTurns$TextError" (7 : Nat) "KeyTurns$TextError" "code" "I") ∈ lw_all := lw_g (lw_at lw_m7 118 rfl) rfl
theorem q1668 : (Jvm.Cond.fieldLink "KeyTurns$TextError" (13 : Nat) "KeyTurns$TextError" "position" "I") ∈ lw_all := lw_g (lw_at lw_m7 120 rfl) rfl
theorem q1670 : (Jvm.Cond.laysFinal "KeyTurns$TextError" "KeyTurns$TextError" "code" "I") ∈ lw_all := lw_g (lw_at lw_m7 122 rfl) rfl
theorem q1671 : (Jvm.Cond.soleField "KeyTurns$TextError" "code") ∈ lw_all := lw_g (lw_at lw_m7 123 rfl) rfl
theorem q1672 : (Jvm.Cond.laysFinal "KeyTurns$TextError" "KeyTurns$TextError" "position" "I") ∈ lw_all := lw_g (lw_at lw_m7 124 rfl) rfl
theorem q1673 : (Jvm.Cond.soleField "KeyTurns$TextError" "position") ∈ lw_all := lw_g (lw_at lw_m7 125 rfl) rfl
theorem q1674 : (Jvm.Cond.lays "KeyTurns$TextError" "java/lang/Throwable" "depth" "I") ∈ lw_all := lw_g (lw_at lw_m7 126 rfl) rfl
theorem q1675 : (Jvm.Cond.superclass "KeyTurns$TextError" "java/lang/Exception") ∈ lw_all := lw_g (lw_at lw_m7 127 rfl) rfl
theorem q2336 : (Jvm.Cond.selects "KeyTurns$TextError" ({ cls := "java/lang/Object", name := "equals", desc := "(Ljava/lang/Object;)Z" } : Jvm.MethodName) ({ cls := "java/lang/Object", name := "equals", desc := "(Ljava/lang/Object;)Z" } : Jvm.MethodName)) ∈ lw_all := lw_g (lw_at lw_m10 68 rfl) rfl
theorem q3045 : (Jvm.Cond.castable "KeyTurns$TextError" "java/lang/Object") ∈ lw_tbl := lw_at lw_m13 57 rfl
theorem in_X8 : ∀ w ∈ wsX80, w ∈ lw_all := lw_in wsX80 [1652, 1653, 1654, 1655, 1656, 1674, 1670, 1672] (by decide +kernel) (by decide +kernel)
def RX9 : String := "KeyTurns$Client"
def TX9 : u_T := fun k => match k with
  | 0 => ("KeyTurns$Client", "period", "I", true)
  | 1 => ("KeyTurns$Client", "offset", "I", true)
  | 2 => ("KeyTurns$Client", "asked", "I", false)
  | 3 => ("KeyTurns$Client", "reads", "I", false)
  | 4 => ("KeyTurns$Client", "learned", "I", false)
  | 5 => ("KeyTurns$Client", "gone", "I", false)
  | 6 => ("KeyTurns$Client", "firsts", "[I", true)
  | _ => ("KeyTurns$Client", "lasts", "[I", true)
def tyX9 : Nat → FieldType := fun k => match k with
  | 0 => .int
  | 1 => .int
  | 2 => .int
  | 3 => .int
  | 4 => .int
  | 5 => .int
  | 6 => .array .int
  | _ => .array .int
abbrev wsX90 : List Cond := u_ws RX9 TX9 8
theorem nmX9 : ∀ a, a < 8 → ∀ b, b < 8 → a ≠ b → (TX9 a).2.1 ≠ (TX9 b).2.1 := by decide +kernel
theorem tyX9_ok : ∀ k, k < 8 → parseFieldDescriptor (TX9 k).2.2.1 = some (tyX9 k) := by decide +kernel
abbrev cX9_greatest : ByteArray := prog_2_method_4_code
def yX9_greatest : MethodName := ⟨RX9, "greatest", "(II)I"⟩
abbrev cX9_canUse : ByteArray := prog_2_method_3_code
def yX9_canUse : MethodName := ⟨RX9, "canUse", "(II)Z"⟩
abbrev cX9_copy : ByteArray := prog_2_method_2_code
def yX9_copy : MethodName := ⟨RX9, "copy", "()LKeyTurns$Client;"⟩
abbrev cX9_init : ByteArray := prog_2_method_1_code
def yX9_init : MethodName := ⟨RX9, "<init>", "(II[I[I)V"⟩
abbrev cX9_isHour : ByteArray := prog_2_method_5_code
def yX9_isHour : MethodName := ⟨RX9, "isHour", "(I)Z"⟩
theorem q141 : (Jvm.Cond.initialized "KeyTurns$Client") ∈ lw_all := lw_g (lw_at lw_m1 33 rfl) rfl
theorem q380 : (Jvm.Cond.selects "KeyTurns$Client" ({ cls := "java/lang/Object", name := "getClass", desc := "()Ljava/lang/Class;" } : Jvm.MethodName) ({ cls := "java/lang/Object", name := "getClass", desc := "()Ljava/lang/Class;" } : Jvm.MethodName)) ∈ lw_all := lw_g (lw_at lw_m2 32 rfl) rfl
theorem q610 : (Jvm.Cond.instanceMethod ({ cls := "KeyTurns$Client", name := "greatest", desc := "(II)I" } : Jvm.MethodName)) ∈ lw_all := lw_g (lw_at lw_m3 22 rfl) rfl
theorem q611 : (Jvm.Cond.selects "KeyTurns$Client" ({ cls := "KeyTurns$Client", name := "greatest", desc := "(II)I" } : Jvm.MethodName) ({ cls := "KeyTurns$Client", name := "greatest", desc := "(II)I" } : Jvm.MethodName)) ∈ lw_all := lw_g (lw_at lw_m3 23 rfl) rfl
theorem q612 : (Jvm.Cond.code ({ cls := "KeyTurns$Client", name := "greatest", desc := "(II)I" } : Jvm.MethodName) prog_2_method_4_code (4 : Nat) (Option.some Jvm.ClassFile.FieldType.int)) ∈ lw_all := lw_g (lw_at lw_m3 24 rfl) rfl
theorem q613 : (Jvm.Cond.methodLinkNest "KeyTurns$Client" (45 : Nat) ({ cls := "KeyTurns", name := "has", desc := "(II)Z" } : Jvm.MethodName) "KeyTurns") ∈ lw_tbl := lw_at lw_m3 25 rfl
theorem q616 : (Jvm.Cond.methodLink "KeyTurns$Client" (53 : Nat) ({ cls := "KeyTurns$Client", name := "canUse", desc := "(II)Z" } : Jvm.MethodName)) ∈ lw_all := lw_g (lw_at lw_m3 28 rfl) rfl
theorem q617 : (Jvm.Cond.instanceMethod ({ cls := "KeyTurns$Client", name := "canUse", desc := "(II)Z" } : Jvm.MethodName)) ∈ lw_all := lw_g (lw_at lw_m3 29 rfl) rfl
theorem q618 : (Jvm.Cond.selects "KeyTurns$Client" ({ cls := "KeyTurns$Client", name := "canUse", desc := "(II)Z" } : Jvm.MethodName) ({ cls := "KeyTurns$Client", name := "canUse", desc := "(II)Z" } : Jvm.MethodName)) ∈ lw_all := lw_g (lw_at lw_m3 30 rfl) rfl
theorem q619 : (Jvm.Cond.code ({ cls := "KeyTurns$Client", name := "canUse", desc := "(II)Z" } : Jvm.MethodName) prog_2_method_3_code (3 : Nat) (Option.some Jvm.ClassFile.FieldType.boolean)) ∈ lw_all := lw_g (lw_at lw_m3 31 rfl) rfl
theorem q620 : (Jvm.Cond.methodLinkNest "KeyTurns$Client" (49 : Nat) ({ cls := "KeyTurns", name := "isIn", desc := "(JJJ)Z" } : Jvm.MethodName) "KeyTurns") ∈ lw_tbl := lw_at lw_m3 32 rfl
theorem q810 : (Jvm.Cond.instanceMethod ({ cls := "KeyTurns$Client", name := "copy", desc := "()LKeyTurns$Client;" } : Jvm.MethodName)) ∈ lw_all := lw_g (lw_at lw_m3 222 rfl) rfl
theorem q811 : (Jvm.Cond.selects "KeyTurns$Client" ({ cls := "KeyTurns$Client", name := "copy", desc := "()LKeyTurns$Client;" } : Jvm.MethodName) ({ cls := "KeyTurns$Client", name := "copy", desc := "()LKeyTurns$Client;" } : Jvm.MethodName)) ∈ lw_all := lw_g (lw_at lw_m3 223 rfl) rfl
theorem q812 : (Jvm.Cond.code ({ cls := "KeyTurns$Client", name := "copy", desc := "()LKeyTurns$Client;" } : Jvm.MethodName) prog_2_method_2_code (2 : Nat) (Option.some (Jvm.ClassFile.FieldType.object "KeyTurns$Client"))) ∈ lw_all := lw_g (lw_at lw_m3 224 rfl) rfl
theorem q813 : (Jvm.Cond.classLink "KeyTurns$Client" (10 : Nat) "KeyTurns$Client") ∈ lw_all := lw_g (lw_at lw_m3 225 rfl) rfl
theorem q814 : (Jvm.Cond.instantiable "KeyTurns$Client" (8 : Nat)) ∈ lw_all := lw_g (lw_at lw_m3 226 rfl) rfl
theorem q815 : (Jvm.Cond.methodLink "KeyTurns$Client" (25 : Nat) ({ cls := "[I", name := "clone", desc := "()Ljava/lang/Object;" } : Jvm.MethodName)) ∈ lw_all := lw_g (lw_at lw_m3 227 rfl) rfl
theorem q819 : (Jvm.Cond.classLink "KeyTurns$Client" (26 : Nat) "[I") ∈ lw_all := lw_g (lw_at lw_m3 231 rfl) rfl
theorem q820 : (Jvm.Cond.methodLink "KeyTurns$Client" (30 : Nat) ({ cls := "KeyTurns$Client", name := "<init>", desc := "(II[I[I)V" } : Jvm.MethodName)) ∈ lw_all := lw_g (lw_at lw_m3 232 rfl) rfl
theorem q821 : (Jvm.Cond.instanceMethod ({ cls := "KeyTurns$Client", name := "<init>", desc := "(II[I[I)V" } : Jvm.MethodName)) ∈ lw_all := lw_g (lw_at lw_m3 233 rfl) rfl
theorem q822 : (Jvm.Cond.code ({ cls := "KeyTurns$Client", name := "<init>", desc := "(II[I[I)V" } : Jvm.MethodName) prog_2_method_1_code (5 : Nat) (Option.none : Option Jvm.ClassFile.FieldType)) ∈ lw_all := lw_g (lw_at lw_m3 234 rfl) rfl
theorem q823 : (Jvm.Cond.methodLink "KeyTurns$Client" (3 : Nat) ({ cls := "java/lang/Object", name := "<init>", desc := "()V" } : Jvm.MethodName)) ∈ lw_all := lw_g (lw_at lw_m3 235 rfl) rfl
theorem q824 : (Jvm.Cond.fieldLink "KeyTurns$Client" (9 : Nat) "KeyTurns$Client" "period" "I") ∈ lw_all := lw_g (lw_at lw_m3 236 rfl) rfl
theorem q826 : (Jvm.Cond.fieldLink "KeyTurns$Client" (15 : Nat) "KeyTurns$Client" "offset" "I") ∈ lw_all := lw_g (lw_at lw_m3 238 rfl) rfl
theorem q828 : (Jvm.Cond.fieldLink "KeyTurns$Client" (33 : Nat) "KeyTurns$Client" "asked" "I") ∈ lw_all := lw_g (lw_at lw_m4 0 rfl) rfl
theorem q831 : (Jvm.Cond.fieldLink "KeyTurns$Client" (36 : Nat) "KeyTurns$Client" "reads" "I") ∈ lw_all := lw_g (lw_at lw_m4 3 rfl) rfl
theorem q833 : (Jvm.Cond.fieldLink "KeyTurns$Client" (39 : Nat) "KeyTurns$Client" "learned" "I") ∈ lw_all := lw_g (lw_at lw_m4 5 rfl) rfl
theorem q836 : (Jvm.Cond.fieldLink "KeyTurns$Client" (42 : Nat) "KeyTurns$Client" "gone" "I") ∈ lw_all := lw_g (lw_at lw_m4 8 rfl) rfl
theorem q839 : (Jvm.Cond.fieldLink "KeyTurns$Client" (18 : Nat) "KeyTurns$Client" "firsts" "[I") ∈ lw_all := lw_g (lw_at lw_m4 11 rfl) rfl
theorem q841 : (Jvm.Cond.fieldLink "KeyTurns$Client" (22 : Nat) "KeyTurns$Client" "lasts" "[I") ∈ lw_all := lw_g (lw_at lw_m4 13 rfl) rfl
theorem q843 : (Jvm.Cond.laysFinal "KeyTurns$Client" "KeyTurns$Client" "period" "I") ∈ lw_all := lw_g (lw_at lw_m4 15 rfl) rfl
theorem q844 : (Jvm.Cond.soleField "KeyTurns$Client" "period") ∈ lw_all := lw_g (lw_at lw_m4 16 rfl) rfl
theorem q845 : (Jvm.Cond.laysFinal "KeyTurns$Client" "KeyTurns$Client" "offset" "I") ∈ lw_all := lw_g (lw_at lw_m4 17 rfl) rfl
theorem q846 : (Jvm.Cond.soleField "KeyTurns$Client" "offset") ∈ lw_all := lw_g (lw_at lw_m4 18 rfl) rfl
theorem q847 : (Jvm.Cond.lays "KeyTurns$Client" "KeyTurns$Client" "asked" "I") ∈ lw_all := lw_g (lw_at lw_m4 19 rfl) rfl
theorem q848 : (Jvm.Cond.soleField "KeyTurns$Client" "asked") ∈ lw_all := lw_g (lw_at lw_m4 20 rfl) rfl
theorem q849 : (Jvm.Cond.lays "KeyTurns$Client" "KeyTurns$Client" "reads" "I") ∈ lw_all := lw_g (lw_at lw_m4 21 rfl) rfl
theorem q850 : (Jvm.Cond.soleField "KeyTurns$Client" "reads") ∈ lw_all := lw_g (lw_at lw_m4 22 rfl) rfl
theorem q851 : (Jvm.Cond.lays "KeyTurns$Client" "KeyTurns$Client" "learned" "I") ∈ lw_all := lw_g (lw_at lw_m4 23 rfl) rfl
theorem q852 : (Jvm.Cond.soleField "KeyTurns$Client" "learned") ∈ lw_all := lw_g (lw_at lw_m4 24 rfl) rfl
theorem q853 : (Jvm.Cond.lays "KeyTurns$Client" "KeyTurns$Client" "gone" "I") ∈ lw_all := lw_g (lw_at lw_m4 25 rfl) rfl
theorem q854 : (Jvm.Cond.soleField "KeyTurns$Client" "gone") ∈ lw_all := lw_g (lw_at lw_m4 26 rfl) rfl
theorem q855 : (Jvm.Cond.laysFinal "KeyTurns$Client" "KeyTurns$Client" "firsts" "[I") ∈ lw_all := lw_g (lw_at lw_m4 27 rfl) rfl
theorem q856 : (Jvm.Cond.soleField "KeyTurns$Client" "firsts") ∈ lw_all := lw_g (lw_at lw_m4 28 rfl) rfl
theorem q857 : (Jvm.Cond.laysFinal "KeyTurns$Client" "KeyTurns$Client" "lasts" "[I") ∈ lw_all := lw_g (lw_at lw_m4 29 rfl) rfl
theorem q858 : (Jvm.Cond.soleField "KeyTurns$Client" "lasts") ∈ lw_all := lw_g (lw_at lw_m4 30 rfl) rfl
theorem q859 : (Jvm.Cond.superclass "KeyTurns$Client" "java/lang/Object") ∈ lw_all := lw_g (lw_at lw_m4 31 rfl) rfl
theorem q1964 : (Jvm.Cond.instanceMethod ({ cls := "KeyTurns$Client", name := "isHour", desc := "(I)Z" } : Jvm.MethodName)) ∈ lw_all := lw_g (lw_at lw_m8 176 rfl) rfl
theorem q1965 : (Jvm.Cond.selects "KeyTurns$Client" ({ cls := "KeyTurns$Client", name := "isHour", desc := "(I)Z" } : Jvm.MethodName) ({ cls := "KeyTurns$Client", name := "isHour", desc := "(I)Z" } : Jvm.MethodName)) ∈ lw_all := lw_g (lw_at lw_m8 177 rfl) rfl
theorem q1966 : (Jvm.Cond.code ({ cls := "KeyTurns$Client", name := "isHour", desc := "(I)Z" } : Jvm.MethodName) prog_2_method_5_code (2 : Nat) (Option.some Jvm.ClassFile.FieldType.boolean)) ∈ lw_all := lw_g (lw_at lw_m8 178 rfl) rfl
theorem q2321 : (Jvm.Cond.selects "KeyTurns$Client" ({ cls := "java/lang/Object", name := "equals", desc := "(Ljava/lang/Object;)Z" } : Jvm.MethodName) ({ cls := "java/lang/Object", name := "equals", desc := "(Ljava/lang/Object;)Z" } : Jvm.MethodName)) ∈ lw_all := lw_g (lw_at lw_m10 53 rfl) rfl
theorem q3047 : (Jvm.Cond.castable "KeyTurns$Client" "java/lang/Object") ∈ lw_tbl := lw_at lw_m13 59 rfl
theorem in_X9 : ∀ w ∈ wsX90, w ∈ lw_all := lw_in wsX90 [843, 845, 847, 849, 851, 853, 855, 857] (by decide +kernel) (by decide +kernel)
def RX10 : String := "KeyTurns$Sealed"
def TX10 : u_T := fun k => match k with
  | 0 => ("KeyTurns$Sealed", "made", "I", true)
  | 1 => ("KeyTurns$Sealed", "wraps", "Ljava/util/BitSet;", false)
  | 2 => ("KeyTurns$Sealed", "forced", "I", false)
  | _ => ("KeyTurns$Sealed", "dropped", "Z", false)
def tyX10 : Nat → FieldType := fun k => match k with
  | 0 => .int
  | 1 => .object "java/util/BitSet"
  | 2 => .int
  | _ => .boolean
abbrev wsX100 : List Cond := u_ws RX10 TX10 4
theorem nmX10 : ∀ a, a < 4 → ∀ b, b < 4 → a ≠ b → (TX10 a).2.1 ≠ (TX10 b).2.1 := by decide +kernel
theorem tyX10_ok : ∀ k, k < 4 → parseFieldDescriptor (TX10 k).2.2.1 = some (tyX10 k) := by decide +kernel
abbrev cX10_set : ByteArray := prog_10_method_3_code
def yX10_set : MethodName := ⟨RX10, "set", "()I"⟩
abbrev cX10_copy : ByteArray := prog_10_method_2_code
def yX10_copy : MethodName := ⟨RX10, "copy", "()LKeyTurns$Sealed;"⟩
abbrev cX10_init : ByteArray := prog_10_method_1_code
def yX10_init : MethodName := ⟨RX10, "<init>", "(I)V"⟩
theorem q142 : (Jvm.Cond.initialized "KeyTurns$Sealed") ∈ lw_all := lw_g (lw_at lw_m1 34 rfl) rfl
theorem q387 : (Jvm.Cond.selects "KeyTurns$Sealed" ({ cls := "java/lang/Object", name := "getClass", desc := "()Ljava/lang/Class;" } : Jvm.MethodName) ({ cls := "java/lang/Object", name := "getClass", desc := "()Ljava/lang/Class;" } : Jvm.MethodName)) ∈ lw_all := lw_g (lw_at lw_m2 39 rfl) rfl
theorem q605 : (Jvm.Cond.instanceMethod ({ cls := "KeyTurns$Sealed", name := "set", desc := "()I" } : Jvm.MethodName)) ∈ lw_all := lw_g (lw_at lw_m3 17 rfl) rfl
theorem q606 : (Jvm.Cond.selects "KeyTurns$Sealed" ({ cls := "KeyTurns$Sealed", name := "set", desc := "()I" } : Jvm.MethodName) ({ cls := "KeyTurns$Sealed", name := "set", desc := "()I" } : Jvm.MethodName)) ∈ lw_all := lw_g (lw_at lw_m3 18 rfl) rfl
theorem q607 : (Jvm.Cond.code ({ cls := "KeyTurns$Sealed", name := "set", desc := "()I" } : Jvm.MethodName) prog_10_method_3_code (3 : Nat) (Option.some Jvm.ClassFile.FieldType.int)) ∈ lw_all := lw_g (lw_at lw_m3 19 rfl) rfl
theorem q608 : (Jvm.Cond.methodLink "KeyTurns$Sealed" (36 : Nat) ({ cls := "java/util/BitSet", name := "nextSetBit", desc := "(I)I" } : Jvm.MethodName)) ∈ lw_all := lw_g (lw_at lw_m3 20 rfl) rfl
theorem q739 : (Jvm.Cond.instanceMethod ({ cls := "KeyTurns$Sealed", name := "copy", desc := "()LKeyTurns$Sealed;" } : Jvm.MethodName)) ∈ lw_all := lw_g (lw_at lw_m3 151 rfl) rfl
theorem q740 : (Jvm.Cond.selects "KeyTurns$Sealed" ({ cls := "KeyTurns$Sealed", name := "copy", desc := "()LKeyTurns$Sealed;" } : Jvm.MethodName) ({ cls := "KeyTurns$Sealed", name := "copy", desc := "()LKeyTurns$Sealed;" } : Jvm.MethodName)) ∈ lw_all := lw_g (lw_at lw_m3 152 rfl) rfl
theorem q741 : (Jvm.Cond.code ({ cls := "KeyTurns$Sealed", name := "copy", desc := "()LKeyTurns$Sealed;" } : Jvm.MethodName) prog_10_method_2_code (2 : Nat) (Option.some (Jvm.ClassFile.FieldType.object "KeyTurns$Sealed"))) ∈ lw_all := lw_g (lw_at lw_m3 153 rfl) rfl
theorem q742 : (Jvm.Cond.classLink "KeyTurns$Sealed" (15 : Nat) "KeyTurns$Sealed") ∈ lw_all := lw_g (lw_at lw_m3 154 rfl) rfl
theorem q743 : (Jvm.Cond.instantiable "KeyTurns$Sealed" (4 : Nat)) ∈ lw_all := lw_g (lw_at lw_m3 155 rfl) rfl
theorem q744 : (Jvm.Cond.methodLink "KeyTurns$Sealed" (24 : Nat) ({ cls := "KeyTurns$Sealed", name := "<init>", desc := "(I)V" } : Jvm.MethodName)) ∈ lw_all := lw_g (lw_at lw_m3 156 rfl) rfl
theorem q745 : (Jvm.Cond.instanceMethod ({ cls := "KeyTurns$Sealed", name := "<init>", desc := "(I)V" } : Jvm.MethodName)) ∈ lw_all := lw_g (lw_at lw_m3 157 rfl) rfl
theorem q746 : (Jvm.Cond.code ({ cls := "KeyTurns$Sealed", name := "<init>", desc := "(I)V" } : Jvm.MethodName) prog_10_method_1_code (2 : Nat) (Option.none : Option Jvm.ClassFile.FieldType)) ∈ lw_all := lw_g (lw_at lw_m3 158 rfl) rfl
theorem q747 : (Jvm.Cond.methodLink "KeyTurns$Sealed" (3 : Nat) ({ cls := "java/lang/Object", name := "<init>", desc := "()V" } : Jvm.MethodName)) ∈ lw_all := lw_g (lw_at lw_m3 159 rfl) rfl
theorem q748 : (Jvm.Cond.classLink "KeyTurns$Sealed" (9 : Nat) "java/util/BitSet") ∈ lw_all := lw_g (lw_at lw_m3 160 rfl) rfl
theorem q749 : (Jvm.Cond.methodLink "KeyTurns$Sealed" (11 : Nat) ({ cls := "java/util/BitSet", name := "<init>", desc := "(I)V" } : Jvm.MethodName)) ∈ lw_all := lw_g (lw_at lw_m3 161 rfl) rfl
theorem q768 : (Jvm.Cond.fieldLink "KeyTurns$Sealed" (20 : Nat) "KeyTurns$Sealed" "made" "I") ∈ lw_all := lw_g (lw_at lw_m3 180 rfl) rfl
theorem q770 : (Jvm.Cond.fieldLink "KeyTurns$Sealed" (14 : Nat) "KeyTurns$Sealed" "wraps" "Ljava/util/BitSet;") ∈ lw_all := lw_g (lw_at lw_m3 182 rfl) rfl
theorem q773 : (Jvm.Cond.fieldLink "KeyTurns$Sealed" (29 : Nat) "KeyTurns$Sealed" "forced" "I") ∈ lw_all := lw_g (lw_at lw_m3 185 rfl) rfl
theorem q776 : (Jvm.Cond.fieldLink "KeyTurns$Sealed" (32 : Nat) "KeyTurns$Sealed" "dropped" "Z") ∈ lw_all := lw_g (lw_at lw_m3 188 rfl) rfl
theorem q779 : (Jvm.Cond.laysFinal "KeyTurns$Sealed" "KeyTurns$Sealed" "made" "I") ∈ lw_all := lw_g (lw_at lw_m3 191 rfl) rfl
theorem q780 : (Jvm.Cond.soleField "KeyTurns$Sealed" "made") ∈ lw_all := lw_g (lw_at lw_m3 192 rfl) rfl
theorem q781 : (Jvm.Cond.lays "KeyTurns$Sealed" "KeyTurns$Sealed" "wraps" "Ljava/util/BitSet;") ∈ lw_all := lw_g (lw_at lw_m3 193 rfl) rfl
theorem q782 : (Jvm.Cond.soleField "KeyTurns$Sealed" "wraps") ∈ lw_all := lw_g (lw_at lw_m3 194 rfl) rfl
theorem q783 : (Jvm.Cond.lays "KeyTurns$Sealed" "KeyTurns$Sealed" "forced" "I") ∈ lw_all := lw_g (lw_at lw_m3 195 rfl) rfl
theorem q784 : (Jvm.Cond.soleField "KeyTurns$Sealed" "forced") ∈ lw_all := lw_g (lw_at lw_m3 196 rfl) rfl
theorem q785 : (Jvm.Cond.lays "KeyTurns$Sealed" "KeyTurns$Sealed" "dropped" "Z") ∈ lw_all := lw_g (lw_at lw_m3 197 rfl) rfl
theorem q786 : (Jvm.Cond.soleField "KeyTurns$Sealed" "dropped") ∈ lw_all := lw_g (lw_at lw_m3 198 rfl) rfl
theorem q787 : (Jvm.Cond.superclass "KeyTurns$Sealed" "java/lang/Object") ∈ lw_all := lw_g (lw_at lw_m3 199 rfl) rfl
theorem q788 : (Jvm.Cond.methodLink "KeyTurns$Sealed" (25 : Nat) ({ cls := "java/util/BitSet", name := "or", desc := "(Ljava/util/BitSet;)V" } : Jvm.MethodName)) ∈ lw_all := lw_g (lw_at lw_m3 200 rfl) rfl
theorem q2328 : (Jvm.Cond.selects "KeyTurns$Sealed" ({ cls := "java/lang/Object", name := "equals", desc := "(Ljava/lang/Object;)Z" } : Jvm.MethodName) ({ cls := "java/lang/Object", name := "equals", desc := "(Ljava/lang/Object;)Z" } : Jvm.MethodName)) ∈ lw_all := lw_g (lw_at lw_m10 60 rfl) rfl
theorem q3048 : (Jvm.Cond.castable "KeyTurns$Sealed" "java/lang/Object") ∈ lw_tbl := lw_at lw_m13 60 rfl
theorem in_X10 : ∀ w ∈ wsX100, w ∈ lw_all := lw_in wsX100 [779, 781, 783, 785] (by decide +kernel) (by decide +kernel)
def RJ21 : String := "java/util/BitSet"
def TJ21 : u_T := fun k => match k with
  | 0 => ("java/util/BitSet", "words", "[J", false)
  | 1 => ("java/util/BitSet", "wordsInUse", "I", false)
  | _ => ("java/util/BitSet", "sizeIsSticky", "Z", false)
def tyJ21 : Nat → FieldType := fun k => match k with
  | 0 => .array .long
  | 1 => .int
  | _ => .boolean
abbrev wsJ210 : List Cond := u_ws RJ21 TJ21 3
theorem nmJ21 : ∀ a, a < 3 → ∀ b, b < 3 → a ≠ b → (TJ21 a).2.1 ≠ (TJ21 b).2.1 := by decide +kernel
theorem tyJ21_ok : ∀ k, k < 3 → parseFieldDescriptor (TJ21 k).2.2.1 = some (tyJ21 k) := by decide +kernel
abbrev cJ21_get : ByteArray := prog_60_method_26_code
def yJ21_get : MethodName := ⟨RJ21, "get", "(I)Z"⟩
abbrev cJ21_checkInvariants : ByteArray := prog_60_method_2_code
def yJ21_checkInvariants : MethodName := ⟨RJ21, "checkInvariants", "()V"⟩
abbrev cJ21_wordIndex : ByteArray := prog_60_method_1_code
def yJ21_wordIndex : MethodName := ⟨RJ21, "wordIndex", "(I)I"⟩
abbrev cJ21_nextSetBit : ByteArray := prog_60_method_28_code
def yJ21_nextSetBit : MethodName := ⟨RJ21, "nextSetBit", "(I)I"⟩
abbrev cJ21_cardinality : ByteArray := prog_60_method_35_code
def yJ21_cardinality : MethodName := ⟨RJ21, "cardinality", "()I"⟩
abbrev cJ21_init : ByteArray := prog_60_method_5_code
def yJ21_init : MethodName := ⟨RJ21, "<init>", "(I)V"⟩
abbrev cJ21_initWords : ByteArray := prog_60_method_6_code
def yJ21_initWords : MethodName := ⟨RJ21, "initWords", "(I)V"⟩
abbrev cJ21_or : ByteArray := prog_60_method_37_code
def yJ21_or : MethodName := ⟨RJ21, "or", "(Ljava/util/BitSet;)V"⟩
abbrev cJ21_ensureCapacity : ByteArray := prog_60_method_14_code
def yJ21_ensureCapacity : MethodName := ⟨RJ21, "ensureCapacity", "(I)V"⟩
abbrev cJ21_clear : ByteArray := prog_60_method_23_code
def yJ21_clear : MethodName := ⟨RJ21, "clear", "(I)V"⟩
abbrev cJ21_recalculateWordsInUse : ByteArray := prog_60_method_3_code
def yJ21_recalculateWordsInUse : MethodName := ⟨RJ21, "recalculateWordsInUse", "()V"⟩
abbrev cJ21_set : ByteArray := prog_60_method_19_code
def yJ21_set : MethodName := ⟨RJ21, "set", "(I)V"⟩
abbrev cJ21_expandTo : ByteArray := prog_60_method_15_code
def yJ21_expandTo : MethodName := ⟨RJ21, "expandTo", "(I)V"⟩
abbrev cJ21_length : ByteArray := prog_60_method_32_code
def yJ21_length : MethodName := ⟨RJ21, "length", "()I"⟩
theorem q143 : (Jvm.Cond.initialized "java/util/BitSet") ∈ lw_all := lw_g (lw_at lw_m1 35 rfl) rfl
theorem q405 : (Jvm.Cond.selects "java/util/BitSet" ({ cls := "java/lang/Object", name := "getClass", desc := "()Ljava/lang/Class;" } : Jvm.MethodName) ({ cls := "java/lang/Object", name := "getClass", desc := "()Ljava/lang/Class;" } : Jvm.MethodName)) ∈ lw_all := lw_g (lw_at lw_m2 57 rfl) rfl
theorem q519 : (Jvm.Cond.instanceMethod ({ cls := "java/util/BitSet", name := "get", desc := "(I)Z" } : Jvm.MethodName)) ∈ lw_all := lw_g (lw_at lw_m2 171 rfl) rfl
theorem q520 : (Jvm.Cond.selects "java/util/BitSet" ({ cls := "java/util/BitSet", name := "get", desc := "(I)Z" } : Jvm.MethodName) ({ cls := "java/util/BitSet", name := "get", desc := "(I)Z" } : Jvm.MethodName)) ∈ lw_all := lw_g (lw_at lw_m2 172 rfl) rfl
theorem q521 : (Jvm.Cond.code ({ cls := "java/util/BitSet", name := "get", desc := "(I)Z" } : Jvm.MethodName) prog_60_method_26_code (3 : Nat) (Option.some Jvm.ClassFile.FieldType.boolean)) ∈ lw_all := lw_g (lw_at lw_m2 173 rfl) rfl
theorem q522 : (Jvm.Cond.methodLink "java/util/BitSet" (56 : Nat) ({ cls := "java/util/BitSet", name := "checkInvariants", desc := "()V" } : Jvm.MethodName)) ∈ lw_all := lw_g (lw_at lw_m2 174 rfl) rfl
theorem q523 : (Jvm.Cond.privateMethod ({ cls := "java/util/BitSet", name := "checkInvariants", desc := "()V" } : Jvm.MethodName)) ∈ lw_tbl := lw_at lw_m2 175 rfl
theorem q524 : (Jvm.Cond.instanceMethod ({ cls := "java/util/BitSet", name := "checkInvariants", desc := "()V" } : Jvm.MethodName)) ∈ lw_all := lw_g (lw_at lw_m2 176 rfl) rfl
theorem q525 : (Jvm.Cond.instantiable "java/util/BitSet" (3 : Nat)) ∈ lw_all := lw_g (lw_at lw_m2 177 rfl) rfl
theorem q526 : (Jvm.Cond.code ({ cls := "java/util/BitSet", name := "checkInvariants", desc := "()V" } : Jvm.MethodName) prog_60_method_2_code (1 : Nat) (Option.none : Option Jvm.ClassFile.FieldType)) ∈ lw_all := lw_g (lw_at lw_m2 178 rfl) rfl
theorem q527 : (Jvm.Cond.fieldLink "java/util/BitSet" (3 : Nat) "java/util/BitSet" "$assertionsDisabled" "Z") ∈ lw_all := lw_g (lw_at lw_m2 179 rfl) rfl
theorem q528 : (Jvm.Cond.laysStatic "java/util/BitSet" "$assertionsDisabled" "Z") ∈ lw_tbl := lw_at lw_m2 180 rfl
theorem q529 : (Jvm.Cond.methodLink "java/util/BitSet" (52 : Nat) ({ cls := "java/util/BitSet", name := "wordIndex", desc := "(I)I" } : Jvm.MethodName)) ∈ lw_all := lw_g (lw_at lw_m2 181 rfl) rfl
theorem q530 : (Jvm.Cond.static ({ cls := "java/util/BitSet", name := "wordIndex", desc := "(I)I" } : Jvm.MethodName)) ∈ lw_all := lw_g (lw_at lw_m2 182 rfl) rfl
theorem q531 : (Jvm.Cond.code ({ cls := "java/util/BitSet", name := "wordIndex", desc := "(I)I" } : Jvm.MethodName) prog_60_method_1_code (1 : Nat) (Option.some Jvm.ClassFile.FieldType.int)) ∈ lw_all := lw_g (lw_at lw_m2 183 rfl) rfl
theorem q537 : (Jvm.Cond.instanceMethod ({ cls := "java/util/BitSet", name := "nextSetBit", desc := "(I)I" } : Jvm.MethodName)) ∈ lw_all := lw_g (lw_at lw_m2 189 rfl) rfl
theorem q538 : (Jvm.Cond.selects "java/util/BitSet" ({ cls := "java/util/BitSet", name := "nextSetBit", desc := "(I)I" } : Jvm.MethodName) ({ cls := "java/util/BitSet", name := "nextSetBit", desc := "(I)I" } : Jvm.MethodName)) ∈ lw_all := lw_g (lw_at lw_m2 190 rfl) rfl
theorem q539 : (Jvm.Cond.code ({ cls := "java/util/BitSet", name := "nextSetBit", desc := "(I)I" } : Jvm.MethodName) prog_60_method_28_code (5 : Nat) (Option.some Jvm.ClassFile.FieldType.int)) ∈ lw_all := lw_g (lw_at lw_m2 191 rfl) rfl
theorem q540 : (Jvm.Cond.constantLong "java/util/BitSet" (165 : Nat) (-1 : Int64)) ∈ lw_all := lw_g (lw_at lw_m2 192 rfl) rfl
theorem q541 : (Jvm.Cond.methodLink "java/util/BitSet" (182 : Nat) ({ cls := "java/lang/Long", name := "numberOfTrailingZeros", desc := "(J)I" } : Jvm.MethodName)) ∈ lw_all := lw_g (lw_at lw_m2 193 rfl) rfl
theorem q581 : (Jvm.Cond.instanceMethod ({ cls := "java/util/BitSet", name := "cardinality", desc := "()I" } : Jvm.MethodName)) ∈ lw_all := lw_g (lw_at lw_m2 233 rfl) rfl
theorem q582 : (Jvm.Cond.selects "java/util/BitSet" ({ cls := "java/util/BitSet", name := "cardinality", desc := "()I" } : Jvm.MethodName) ({ cls := "java/util/BitSet", name := "cardinality", desc := "()I" } : Jvm.MethodName)) ∈ lw_all := lw_g (lw_at lw_m2 234 rfl) rfl
theorem q583 : (Jvm.Cond.code ({ cls := "java/util/BitSet", name := "cardinality", desc := "()I" } : Jvm.MethodName) prog_60_method_35_code (3 : Nat) (Option.some Jvm.ClassFile.FieldType.int)) ∈ lw_all := lw_g (lw_at lw_m2 235 rfl) rfl
theorem q584 : (Jvm.Cond.methodLink "java/util/BitSet" (196 : Nat) ({ cls := "java/lang/Long", name := "bitCount", desc := "(J)I" } : Jvm.MethodName)) ∈ lw_all := lw_g (lw_at lw_m2 236 rfl) rfl
theorem q750 : (Jvm.Cond.instanceMethod ({ cls := "java/util/BitSet", name := "<init>", desc := "(I)V" } : Jvm.MethodName)) ∈ lw_all := lw_g (lw_at lw_m3 162 rfl) rfl
theorem q751 : (Jvm.Cond.code ({ cls := "java/util/BitSet", name := "<init>", desc := "(I)V" } : Jvm.MethodName) prog_60_method_5_code (2 : Nat) (Option.none : Option Jvm.ClassFile.FieldType)) ∈ lw_all := lw_g (lw_at lw_m3 163 rfl) rfl
theorem q752 : (Jvm.Cond.methodLink "java/util/BitSet" (21 : Nat) ({ cls := "java/lang/Object", name := "<init>", desc := "()V" } : Jvm.MethodName)) ∈ lw_all := lw_g (lw_at lw_m3 164 rfl) rfl
theorem q753 : (Jvm.Cond.methodLink "java/util/BitSet" (27 : Nat) ({ cls := "java/util/BitSet", name := "initWords", desc := "(I)V" } : Jvm.MethodName)) ∈ lw_all := lw_g (lw_at lw_m3 165 rfl) rfl
theorem q754 : (Jvm.Cond.privateMethod ({ cls := "java/util/BitSet", name := "initWords", desc := "(I)V" } : Jvm.MethodName)) ∈ lw_tbl := lw_at lw_m3 166 rfl
theorem q755 : (Jvm.Cond.instanceMethod ({ cls := "java/util/BitSet", name := "initWords", desc := "(I)V" } : Jvm.MethodName)) ∈ lw_all := lw_g (lw_at lw_m3 167 rfl) rfl
theorem q756 : (Jvm.Cond.code ({ cls := "java/util/BitSet", name := "initWords", desc := "(I)V" } : Jvm.MethodName) prog_60_method_6_code (2 : Nat) (Option.none : Option Jvm.ClassFile.FieldType)) ∈ lw_all := lw_g (lw_at lw_m3 168 rfl) rfl
theorem q757 : (Jvm.Cond.fieldLink "java/util/BitSet" (11 : Nat) "java/util/BitSet" "words" "[J") ∈ lw_all := lw_g (lw_at lw_m3 169 rfl) rfl
theorem q758 : (Jvm.Cond.fieldLink "java/util/BitSet" (7 : Nat) "java/util/BitSet" "wordsInUse" "I") ∈ lw_all := lw_g (lw_at lw_m3 170 rfl) rfl
theorem q759 : (Jvm.Cond.fieldLink "java/util/BitSet" (24 : Nat) "java/util/BitSet" "sizeIsSticky" "Z") ∈ lw_all := lw_g (lw_at lw_m3 171 rfl) rfl
theorem q760 : (Jvm.Cond.lays "java/util/BitSet" "java/util/BitSet" "words" "[J") ∈ lw_all := lw_g (lw_at lw_m3 172 rfl) rfl
theorem q761 : (Jvm.Cond.soleField "java/util/BitSet" "words") ∈ lw_all := lw_g (lw_at lw_m3 173 rfl) rfl
theorem q762 : (Jvm.Cond.lays "java/util/BitSet" "java/util/BitSet" "wordsInUse" "I") ∈ lw_all := lw_g (lw_at lw_m3 174 rfl) rfl
theorem q763 : (Jvm.Cond.soleField "java/util/BitSet" "wordsInUse") ∈ lw_all := lw_g (lw_at lw_m3 175 rfl) rfl
theorem q764 : (Jvm.Cond.lays "java/util/BitSet" "java/util/BitSet" "sizeIsSticky" "Z") ∈ lw_all := lw_g (lw_at lw_m3 176 rfl) rfl
theorem q765 : (Jvm.Cond.soleField "java/util/BitSet" "sizeIsSticky") ∈ lw_all := lw_g (lw_at lw_m3 177 rfl) rfl
theorem q766 : (Jvm.Cond.superclass "java/util/BitSet" "java/lang/Object") ∈ lw_all := lw_g (lw_at lw_m3 178 rfl) rfl
theorem q789 : (Jvm.Cond.instanceMethod ({ cls := "java/util/BitSet", name := "or", desc := "(Ljava/util/BitSet;)V" } : Jvm.MethodName)) ∈ lw_all := lw_g (lw_at lw_m3 201 rfl) rfl
theorem q790 : (Jvm.Cond.selects "java/util/BitSet" ({ cls := "java/util/BitSet", name := "or", desc := "(Ljava/util/BitSet;)V" } : Jvm.MethodName) ({ cls := "java/util/BitSet", name := "or", desc := "(Ljava/util/BitSet;)V" } : Jvm.MethodName)) ∈ lw_all := lw_g (lw_at lw_m3 202 rfl) rfl
theorem q791 : (Jvm.Cond.code ({ cls := "java/util/BitSet", name := "or", desc := "(Ljava/util/BitSet;)V" } : Jvm.MethodName) prog_60_method_37_code (4 : Nat) (Option.none : Option Jvm.ClassFile.FieldType)) ∈ lw_all := lw_g (lw_at lw_m3 203 rfl) rfl
theorem q792 : (Jvm.Cond.methodLink "java/util/BitSet" (193 : Nat) ({ cls := "java/lang/Math", name := "min", desc := "(II)I" } : Jvm.MethodName)) ∈ lw_all := lw_g (lw_at lw_m3 204 rfl) rfl
theorem q793 : (Jvm.Cond.methodLink "java/util/BitSet" (139 : Nat) ({ cls := "java/util/BitSet", name := "ensureCapacity", desc := "(I)V" } : Jvm.MethodName)) ∈ lw_all := lw_g (lw_at lw_m3 205 rfl) rfl
theorem q794 : (Jvm.Cond.privateMethod ({ cls := "java/util/BitSet", name := "ensureCapacity", desc := "(I)V" } : Jvm.MethodName)) ∈ lw_tbl := lw_at lw_m3 206 rfl
theorem q795 : (Jvm.Cond.instanceMethod ({ cls := "java/util/BitSet", name := "ensureCapacity", desc := "(I)V" } : Jvm.MethodName)) ∈ lw_all := lw_g (lw_at lw_m3 207 rfl) rfl
theorem q796 : (Jvm.Cond.code ({ cls := "java/util/BitSet", name := "ensureCapacity", desc := "(I)V" } : Jvm.MethodName) prog_60_method_14_code (3 : Nat) (Option.none : Option Jvm.ClassFile.FieldType)) ∈ lw_all := lw_g (lw_at lw_m3 208 rfl) rfl
theorem q797 : (Jvm.Cond.methodLink "java/util/BitSet" (133 : Nat) ({ cls := "java/lang/Math", name := "max", desc := "(II)I" } : Jvm.MethodName)) ∈ lw_all := lw_g (lw_at lw_m3 209 rfl) rfl
theorem q798 : (Jvm.Cond.methodLink "java/util/BitSet" (59 : Nat) ({ cls := "java/util/Arrays", name := "copyOf", desc := "([JI)[J" } : Jvm.MethodName)) ∈ lw_all := lw_g (lw_at lw_m3 210 rfl) rfl
theorem q808 : (Jvm.Cond.methodLink "java/util/BitSet" (199 : Nat) ({ cls := "java/lang/System", name := "arraycopy", desc := "(Ljava/lang/Object;ILjava/lang/Object;II)V" } : Jvm.MethodName)) ∈ lw_all := lw_g (lw_at lw_m3 220 rfl) rfl
theorem q1392 : (Jvm.Cond.instanceMethod ({ cls := "java/util/BitSet", name := "clear", desc := "(I)V" } : Jvm.MethodName)) ∈ lw_all := lw_g (lw_at lw_m6 84 rfl) rfl
theorem q1393 : (Jvm.Cond.selects "java/util/BitSet" ({ cls := "java/util/BitSet", name := "clear", desc := "(I)V" } : Jvm.MethodName) ({ cls := "java/util/BitSet", name := "clear", desc := "(I)V" } : Jvm.MethodName)) ∈ lw_all := lw_g (lw_at lw_m6 85 rfl) rfl
theorem q1394 : (Jvm.Cond.code ({ cls := "java/util/BitSet", name := "clear", desc := "(I)V" } : Jvm.MethodName) prog_60_method_23_code (3 : Nat) (Option.none : Option Jvm.ClassFile.FieldType)) ∈ lw_all := lw_g (lw_at lw_m6 86 rfl) rfl
theorem q1395 : (Jvm.Cond.methodLink "java/util/BitSet" (158 : Nat) ({ cls := "java/util/BitSet", name := "recalculateWordsInUse", desc := "()V" } : Jvm.MethodName)) ∈ lw_all := lw_g (lw_at lw_m6 87 rfl) rfl
theorem q1396 : (Jvm.Cond.privateMethod ({ cls := "java/util/BitSet", name := "recalculateWordsInUse", desc := "()V" } : Jvm.MethodName)) ∈ lw_tbl := lw_at lw_m6 88 rfl
theorem q1397 : (Jvm.Cond.instanceMethod ({ cls := "java/util/BitSet", name := "recalculateWordsInUse", desc := "()V" } : Jvm.MethodName)) ∈ lw_all := lw_g (lw_at lw_m6 89 rfl) rfl
theorem q1398 : (Jvm.Cond.code ({ cls := "java/util/BitSet", name := "recalculateWordsInUse", desc := "()V" } : Jvm.MethodName) prog_60_method_3_code (2 : Nat) (Option.none : Option Jvm.ClassFile.FieldType)) ∈ lw_all := lw_g (lw_at lw_m6 90 rfl) rfl
theorem q1400 : (Jvm.Cond.instanceMethod ({ cls := "java/util/BitSet", name := "set", desc := "(I)V" } : Jvm.MethodName)) ∈ lw_all := lw_g (lw_at lw_m6 92 rfl) rfl
theorem q1401 : (Jvm.Cond.selects "java/util/BitSet" ({ cls := "java/util/BitSet", name := "set", desc := "(I)V" } : Jvm.MethodName) ({ cls := "java/util/BitSet", name := "set", desc := "(I)V" } : Jvm.MethodName)) ∈ lw_all := lw_g (lw_at lw_m6 93 rfl) rfl
theorem q1402 : (Jvm.Cond.code ({ cls := "java/util/BitSet", name := "set", desc := "(I)V" } : Jvm.MethodName) prog_60_method_19_code (3 : Nat) (Option.none : Option Jvm.ClassFile.FieldType)) ∈ lw_all := lw_g (lw_at lw_m6 94 rfl) rfl
theorem q1403 : (Jvm.Cond.methodLink "java/util/BitSet" (155 : Nat) ({ cls := "java/util/BitSet", name := "expandTo", desc := "(I)V" } : Jvm.MethodName)) ∈ lw_all := lw_g (lw_at lw_m6 95 rfl) rfl
theorem q1404 : (Jvm.Cond.privateMethod ({ cls := "java/util/BitSet", name := "expandTo", desc := "(I)V" } : Jvm.MethodName)) ∈ lw_tbl := lw_at lw_m6 96 rfl
theorem q1405 : (Jvm.Cond.instanceMethod ({ cls := "java/util/BitSet", name := "expandTo", desc := "(I)V" } : Jvm.MethodName)) ∈ lw_all := lw_g (lw_at lw_m6 97 rfl) rfl
theorem q1406 : (Jvm.Cond.code ({ cls := "java/util/BitSet", name := "expandTo", desc := "(I)V" } : Jvm.MethodName) prog_60_method_15_code (3 : Nat) (Option.none : Option Jvm.ClassFile.FieldType)) ∈ lw_all := lw_g (lw_at lw_m6 98 rfl) rfl
theorem q2422 : (Jvm.Cond.instanceMethod ({ cls := "java/util/BitSet", name := "length", desc := "()I" } : Jvm.MethodName)) ∈ lw_all := lw_g (lw_at lw_m10 154 rfl) rfl
theorem q2423 : (Jvm.Cond.selects "java/util/BitSet" ({ cls := "java/util/BitSet", name := "length", desc := "()I" } : Jvm.MethodName) ({ cls := "java/util/BitSet", name := "length", desc := "()I" } : Jvm.MethodName)) ∈ lw_all := lw_g (lw_at lw_m10 155 rfl) rfl
theorem q2424 : (Jvm.Cond.code ({ cls := "java/util/BitSet", name := "length", desc := "()I" } : Jvm.MethodName) prog_60_method_32_code (1 : Nat) (Option.some Jvm.ClassFile.FieldType.int)) ∈ lw_all := lw_g (lw_at lw_m10 156 rfl) rfl
theorem q2425 : (Jvm.Cond.methodLink "java/util/BitSet" (190 : Nat) ({ cls := "java/lang/Long", name := "numberOfLeadingZeros", desc := "(J)I" } : Jvm.MethodName)) ∈ lw_all := lw_g (lw_at lw_m10 157 rfl) rfl
theorem q3049 : (Jvm.Cond.castable "java/util/BitSet" "java/lang/Object") ∈ lw_tbl := lw_at lw_m13 61 rfl
theorem in_J21 : ∀ w ∈ wsJ210, w ∈ lw_all := lw_in wsJ210 [760, 762, 764] (by decide +kernel) (by decide +kernel)
def RJ22 : String := "java/util/Objects"
abbrev cJ22_checkIndex : ByteArray := prog_75_method_17_code
def yJ22_checkIndex : MethodName := ⟨RJ22, "checkIndex", "(II)I"⟩
abbrev cJ22_requireNonNull : ByteArray := prog_75_method_10_code
def yJ22_requireNonNull : MethodName := ⟨RJ22, "requireNonNull", "(Ljava/lang/Object;)Ljava/lang/Object;"⟩
abbrev cJ22_equals : ByteArray := prog_75_method_2_code
def yJ22_equals : MethodName := ⟨RJ22, "equals", "(Ljava/lang/Object;Ljava/lang/Object;)Z"⟩
theorem q144 : (Jvm.Cond.initialized "java/util/Objects") ∈ lw_all := lw_g (lw_at lw_m1 36 rfl) rfl
theorem q486 : (Jvm.Cond.static ({ cls := "java/util/Objects", name := "checkIndex", desc := "(II)I" } : Jvm.MethodName)) ∈ lw_all := lw_g (lw_at lw_m2 138 rfl) rfl
theorem q487 : (Jvm.Cond.code ({ cls := "java/util/Objects", name := "checkIndex", desc := "(II)I" } : Jvm.MethodName) prog_75_method_17_code (2 : Nat) (Option.some Jvm.ClassFile.FieldType.int)) ∈ lw_all := lw_g (lw_at lw_m2 139 rfl) rfl
theorem q488 : (Jvm.Cond.methodLink "java/util/Objects" (105 : Nat) ({ cls := "jdk/internal/util/Preconditions", name := "checkIndex", desc := "(IILjava/util/function/BiFunction;)I" } : Jvm.MethodName)) ∈ lw_all := lw_g (lw_at lw_m2 140 rfl) rfl
theorem q2260 : (Jvm.Cond.static ({ cls := "java/util/Objects", name := "requireNonNull", desc := "(Ljava/lang/Object;)Ljava/lang/Object;" } : Jvm.MethodName)) ∈ lw_all := lw_g (lw_at lw_m9 232 rfl) rfl
theorem q2261 : (Jvm.Cond.code ({ cls := "java/util/Objects", name := "requireNonNull", desc := "(Ljava/lang/Object;)Ljava/lang/Object;" } : Jvm.MethodName) prog_75_method_10_code (1 : Nat) (Option.some (Jvm.ClassFile.FieldType.object "java/lang/Object"))) ∈ lw_all := lw_g (lw_at lw_m9 233 rfl) rfl
theorem q2359 : (Jvm.Cond.static ({ cls := "java/util/Objects", name := "equals", desc := "(Ljava/lang/Object;Ljava/lang/Object;)Z" } : Jvm.MethodName)) ∈ lw_all := lw_g (lw_at lw_m10 91 rfl) rfl
theorem q2360 : (Jvm.Cond.code ({ cls := "java/util/Objects", name := "equals", desc := "(Ljava/lang/Object;Ljava/lang/Object;)Z" } : Jvm.MethodName) prog_75_method_2_code (2 : Nat) (Option.some Jvm.ClassFile.FieldType.boolean)) ∈ lw_all := lw_g (lw_at lw_m10 92 rfl) rfl
theorem q2361 : (Jvm.Cond.methodLink "java/util/Objects" (14 : Nat) ({ cls := "java/lang/Object", name := "equals", desc := "(Ljava/lang/Object;)Z" } : Jvm.MethodName)) ∈ lw_all := lw_g (lw_at lw_m10 93 rfl) rfl
def RJ23 : String := "java/util/NoSuchElementException"
def TJ23 : u_T := fun k => match k with
  | 0 => ("java/lang/Throwable", "cause", "Ljava/lang/Throwable;", false)
  | 1 => ("java/lang/Throwable", "stackTrace", "[Ljava/lang/StackTraceElement;", false)
  | 2 => ("java/lang/Throwable", "suppressedExceptions", "Ljava/util/List;", false)
  | 3 => ("java/lang/Throwable", "detailMessage", "Ljava/lang/String;", false)
  | 4 => ("java/lang/Throwable", "backtrace", "Ljava/lang/Object;", false)
  | _ => ("java/lang/Throwable", "depth", "I", false)
def tyJ23 : Nat → FieldType := fun k => match k with
  | 0 => .object "java/lang/Throwable"
  | 1 => .array (.object "java/lang/StackTraceElement")
  | 2 => .object "java/util/List"
  | 3 => .object "java/lang/String"
  | 4 => .object "java/lang/Object"
  | _ => .int
abbrev wsJ230 : List Cond := u_ws RJ23 TJ23 6
theorem nmJ23 : ∀ a, a < 6 → ∀ b, b < 6 → a ≠ b → (TJ23 a).2.1 ≠ (TJ23 b).2.1 := by decide +kernel
theorem tyJ23_ok : ∀ k, k < 6 → parseFieldDescriptor (TJ23 k).2.2.1 = some (tyJ23 k) := by decide +kernel
abbrev cJ23_init : ByteArray := prog_74_method_1_code
def yJ23_init : MethodName := ⟨RJ23, "<init>", "()V"⟩
abbrev cJ23_init_2 : ByteArray := prog_74_method_3_code
def yJ23_init_2 : MethodName := ⟨RJ23, "<init>", "(Ljava/lang/Throwable;)V"⟩
theorem q145 : (Jvm.Cond.initialized "java/util/NoSuchElementException") ∈ lw_all := lw_g (lw_at lw_m1 37 rfl) rfl
theorem q411 : (Jvm.Cond.selects "java/util/NoSuchElementException" ({ cls := "java/lang/Object", name := "getClass", desc := "()Ljava/lang/Class;" } : Jvm.MethodName) ({ cls := "java/lang/Object", name := "getClass", desc := "()Ljava/lang/Class;" } : Jvm.MethodName)) ∈ lw_all := lw_g (lw_at lw_m2 63 rfl) rfl
theorem q652 : (Jvm.Cond.instantiable "java/util/NoSuchElementException" (6 : Nat)) ∈ lw_all := lw_g (lw_at lw_m3 64 rfl) rfl
theorem q653 : (Jvm.Cond.castable "java/util/NoSuchElementException" "java/util/NoSuchElementException") ∈ lw_tbl := lw_at lw_m3 65 rfl
theorem q660 : (Jvm.Cond.selects "java/util/NoSuchElementException" ({ cls := "java/lang/Throwable", name := "fillInStackTrace", desc := "(I)Ljava/lang/Throwable;" } : Jvm.MethodName) ({ cls := "java/lang/Throwable", name := "fillInStackTrace", desc := "(I)Ljava/lang/Throwable;" } : Jvm.MethodName)) ∈ lw_all := lw_g (lw_at lw_m3 72 rfl) rfl
theorem q661 : (Jvm.Cond.selects "java/util/NoSuchElementException" ({ cls := "java/lang/Throwable", name := "fillInStackTrace", desc := "()Ljava/lang/Throwable;" } : Jvm.MethodName) ({ cls := "java/lang/Throwable", name := "fillInStackTrace", desc := "()Ljava/lang/Throwable;" } : Jvm.MethodName)) ∈ lw_all := lw_g (lw_at lw_m3 73 rfl) rfl
theorem q662 : (Jvm.Cond.lays "java/util/NoSuchElementException" "java/lang/Throwable" "cause" "Ljava/lang/Throwable;") ∈ lw_all := lw_g (lw_at lw_m3 74 rfl) rfl
theorem q664 : (Jvm.Cond.lays "java/util/NoSuchElementException" "java/lang/Throwable" "stackTrace" "[Ljava/lang/StackTraceElement;") ∈ lw_all := lw_g (lw_at lw_m3 76 rfl) rfl
theorem q666 : (Jvm.Cond.lays "java/util/NoSuchElementException" "java/lang/Throwable" "suppressedExceptions" "Ljava/util/List;") ∈ lw_all := lw_g (lw_at lw_m3 78 rfl) rfl
theorem q668 : (Jvm.Cond.lays "java/util/NoSuchElementException" "java/lang/Throwable" "detailMessage" "Ljava/lang/String;") ∈ lw_all := lw_g (lw_at lw_m3 80 rfl) rfl
theorem q670 : (Jvm.Cond.lays "java/util/NoSuchElementException" "java/lang/Throwable" "backtrace" "Ljava/lang/Object;") ∈ lw_all := lw_g (lw_at lw_m3 82 rfl) rfl
theorem q693 : (Jvm.Cond.instanceMethod ({ cls := "java/util/NoSuchElementException", name := "<init>", desc := "()V" } : Jvm.MethodName)) ∈ lw_all := lw_g (lw_at lw_m3 105 rfl) rfl
theorem q694 : (Jvm.Cond.code ({ cls := "java/util/NoSuchElementException", name := "<init>", desc := "()V" } : Jvm.MethodName) prog_74_method_1_code (1 : Nat) (Option.none : Option Jvm.ClassFile.FieldType)) ∈ lw_all := lw_g (lw_at lw_m3 106 rfl) rfl
theorem q695 : (Jvm.Cond.methodLink "java/util/NoSuchElementException" (1 : Nat) ({ cls := "java/lang/RuntimeException", name := "<init>", desc := "()V" } : Jvm.MethodName)) ∈ lw_all := lw_g (lw_at lw_m3 107 rfl) rfl
theorem q711 : (Jvm.Cond.lays "java/util/NoSuchElementException" "java/lang/Throwable" "depth" "I") ∈ lw_all := lw_g (lw_at lw_m3 123 rfl) rfl
theorem q714 : (Jvm.Cond.superclass "java/util/NoSuchElementException" "java/lang/RuntimeException") ∈ lw_all := lw_g (lw_at lw_m3 126 rfl) rfl
theorem q1008 : (Jvm.Cond.instanceMethod ({ cls := "java/util/NoSuchElementException", name := "<init>", desc := "(Ljava/lang/Throwable;)V" } : Jvm.MethodName)) ∈ lw_all := lw_g (lw_at lw_m4 180 rfl) rfl
theorem q1009 : (Jvm.Cond.code ({ cls := "java/util/NoSuchElementException", name := "<init>", desc := "(Ljava/lang/Throwable;)V" } : Jvm.MethodName) prog_74_method_3_code (2 : Nat) (Option.none : Option Jvm.ClassFile.FieldType)) ∈ lw_all := lw_g (lw_at lw_m4 181 rfl) rfl
theorem q1010 : (Jvm.Cond.methodLink "java/util/NoSuchElementException" (10 : Nat) ({ cls := "java/lang/RuntimeException", name := "<init>", desc := "(Ljava/lang/Throwable;)V" } : Jvm.MethodName)) ∈ lw_all := lw_g (lw_at lw_m4 182 rfl) rfl
theorem q1024 : (Jvm.Cond.selects "java/util/NoSuchElementException" ({ cls := "java/lang/Throwable", name := "toString", desc := "()Ljava/lang/String;" } : Jvm.MethodName) ({ cls := "java/lang/Throwable", name := "toString", desc := "()Ljava/lang/String;" } : Jvm.MethodName)) ∈ lw_all := lw_g (lw_at lw_m4 196 rfl) rfl
theorem q1032 : (Jvm.Cond.selects "java/util/NoSuchElementException" ({ cls := "java/lang/Throwable", name := "getLocalizedMessage", desc := "()Ljava/lang/String;" } : Jvm.MethodName) ({ cls := "java/lang/Throwable", name := "getLocalizedMessage", desc := "()Ljava/lang/String;" } : Jvm.MethodName)) ∈ lw_all := lw_g (lw_at lw_m4 204 rfl) rfl
theorem q1039 : (Jvm.Cond.selects "java/util/NoSuchElementException" ({ cls := "java/lang/Throwable", name := "getMessage", desc := "()Ljava/lang/String;" } : Jvm.MethodName) ({ cls := "java/lang/Throwable", name := "getMessage", desc := "()Ljava/lang/String;" } : Jvm.MethodName)) ∈ lw_all := lw_g (lw_at lw_m4 211 rfl) rfl
theorem q3050 : (Jvm.Cond.castable "java/util/NoSuchElementException" "java/lang/Object") ∈ lw_tbl := lw_at lw_m13 62 rfl
theorem in_J23 : ∀ w ∈ wsJ230, w ∈ lw_all := lw_in wsJ230 [662, 664, 666, 668, 670, 711] (by decide +kernel) (by decide +kernel)
def RJ24 : String := "java/lang/Long"
abbrev cJ24_numberOfTrailingZeros : ByteArray := prog_37_method_49_code
def yJ24_numberOfTrailingZeros : MethodName := ⟨RJ24, "numberOfTrailingZeros", "(J)I"⟩
abbrev cJ24_bitCount : ByteArray := prog_37_method_50_code
def yJ24_bitCount : MethodName := ⟨RJ24, "bitCount", "(J)I"⟩
abbrev cJ24_numberOfLeadingZeros : ByteArray := prog_37_method_48_code
def yJ24_numberOfLeadingZeros : MethodName := ⟨RJ24, "numberOfLeadingZeros", "(J)I"⟩
theorem q146 : (Jvm.Cond.initialized "java/lang/Long") ∈ lw_all := lw_g (lw_at lw_m1 38 rfl) rfl
theorem q542 : (Jvm.Cond.static ({ cls := "java/lang/Long", name := "numberOfTrailingZeros", desc := "(J)I" } : Jvm.MethodName)) ∈ lw_all := lw_g (lw_at lw_m2 194 rfl) rfl
theorem q543 : (Jvm.Cond.code ({ cls := "java/lang/Long", name := "numberOfTrailingZeros", desc := "(J)I" } : Jvm.MethodName) prog_37_method_49_code (3 : Nat) (Option.some Jvm.ClassFile.FieldType.int)) ∈ lw_all := lw_g (lw_at lw_m2 195 rfl) rfl
theorem q544 : (Jvm.Cond.methodLink "java/lang/Long" (311 : Nat) ({ cls := "java/lang/Integer", name := "numberOfTrailingZeros", desc := "(I)I" } : Jvm.MethodName)) ∈ lw_all := lw_g (lw_at lw_m2 196 rfl) rfl
theorem q585 : (Jvm.Cond.static ({ cls := "java/lang/Long", name := "bitCount", desc := "(J)I" } : Jvm.MethodName)) ∈ lw_all := lw_g (lw_at lw_m2 237 rfl) rfl
theorem q586 : (Jvm.Cond.code ({ cls := "java/lang/Long", name := "bitCount", desc := "(J)I" } : Jvm.MethodName) prog_37_method_50_code (2 : Nat) (Option.some Jvm.ClassFile.FieldType.int)) ∈ lw_all := lw_g (lw_at lw_m2 238 rfl) rfl
theorem q587 : (Jvm.Cond.constantLong "java/lang/Long" (314 : Nat) (6148914691236517205 : Int64)) ∈ lw_all := lw_g (lw_at lw_m2 239 rfl) rfl
theorem q588 : (Jvm.Cond.constantLong "java/lang/Long" (316 : Nat) (3689348814741910323 : Int64)) ∈ lw_all := lw_g (lw_at lw_m3 0 rfl) rfl
theorem q589 : (Jvm.Cond.constantLong "java/lang/Long" (318 : Nat) (1085102592571150095 : Int64)) ∈ lw_all := lw_g (lw_at lw_m3 1 rfl) rfl
theorem q2426 : (Jvm.Cond.static ({ cls := "java/lang/Long", name := "numberOfLeadingZeros", desc := "(J)I" } : Jvm.MethodName)) ∈ lw_all := lw_g (lw_at lw_m10 158 rfl) rfl
theorem q2427 : (Jvm.Cond.code ({ cls := "java/lang/Long", name := "numberOfLeadingZeros", desc := "(J)I" } : Jvm.MethodName) prog_37_method_48_code (3 : Nat) (Option.some Jvm.ClassFile.FieldType.int)) ∈ lw_all := lw_g (lw_at lw_m10 159 rfl) rfl
theorem q2428 : (Jvm.Cond.methodLink "java/lang/Long" (308 : Nat) ({ cls := "java/lang/Integer", name := "numberOfLeadingZeros", desc := "(I)I" } : Jvm.MethodName)) ∈ lw_all := lw_g (lw_at lw_m10 160 rfl) rfl
def RX11 : String := "KeyTurns$Standing"
abbrev cX11_of : ByteArray := prog_11_method_5_code
def yX11_of : MethodName := ⟨RX11, "of", "(LKeyTurns$Version;I)I"⟩
abbrev cX11_values : ByteArray := prog_11_method_1_code
def yX11_values : MethodName := ⟨RX11, "values", "()[LKeyTurns$Standing;"⟩
theorem q147 : (Jvm.Cond.initialized "KeyTurns$Standing") ∈ lw_all := lw_g (lw_at lw_m1 39 rfl) rfl
theorem q1842 : (Jvm.Cond.static ({ cls := "KeyTurns$Standing", name := "of", desc := "(LKeyTurns$Version;I)I" } : Jvm.MethodName)) ∈ lw_all := lw_g (lw_at lw_m8 54 rfl) rfl
theorem q1843 : (Jvm.Cond.code ({ cls := "KeyTurns$Standing", name := "of", desc := "(LKeyTurns$Version;I)I" } : Jvm.MethodName) prog_11_method_5_code (7 : Nat) (Option.some Jvm.ClassFile.FieldType.int)) ∈ lw_all := lw_g (lw_at lw_m8 55 rfl) rfl
theorem q1844 : (Jvm.Cond.methodLink "KeyTurns$Standing" (37 : Nat) ({ cls := "KeyTurns$Standing", name := "values", desc := "()[LKeyTurns$Standing;" } : Jvm.MethodName)) ∈ lw_all := lw_g (lw_at lw_m8 56 rfl) rfl
theorem q1845 : (Jvm.Cond.static ({ cls := "KeyTurns$Standing", name := "values", desc := "()[LKeyTurns$Standing;" } : Jvm.MethodName)) ∈ lw_all := lw_g (lw_at lw_m8 57 rfl) rfl
theorem q1846 : (Jvm.Cond.code ({ cls := "KeyTurns$Standing", name := "values", desc := "()[LKeyTurns$Standing;" } : Jvm.MethodName) prog_11_method_1_code (0 : Nat) (Option.some (Jvm.ClassFile.FieldType.array (Jvm.ClassFile.FieldType.object "KeyTurns$Standing")))) ∈ lw_all := lw_g (lw_at lw_m8 58 rfl) rfl
theorem q1847 : (Jvm.Cond.fieldLink "KeyTurns$Standing" (18 : Nat) "KeyTurns$Standing" "$VALUES" "[LKeyTurns$Standing;") ∈ lw_all := lw_g (lw_at lw_m8 59 rfl) rfl
theorem q1848 : (Jvm.Cond.laysStatic "KeyTurns$Standing" "$VALUES" "[LKeyTurns$Standing;") ∈ lw_tbl := lw_at lw_m8 60 rfl
theorem q1849 : (Jvm.Cond.methodLink "KeyTurns$Standing" (22 : Nat) ({ cls := "[LKeyTurns$Standing;", name := "clone", desc := "()Ljava/lang/Object;" } : Jvm.MethodName)) ∈ lw_all := lw_g (lw_at lw_m8 61 rfl) rfl
theorem q1854 : (Jvm.Cond.classLink "KeyTurns$Standing" (23 : Nat) "[LKeyTurns$Standing;") ∈ lw_all := lw_g (lw_at lw_m8 66 rfl) rfl
theorem q1855 : (Jvm.Cond.methodLink "KeyTurns$Standing" (41 : Nat) ({ cls := "KeyTurns$Standing", name := "fits", desc := "(LKeyTurns$Version;I)Z" } : Jvm.MethodName)) ∈ lw_all := lw_g (lw_at lw_m8 67 rfl) rfl
theorem q1856 : (Jvm.Cond.declares ({ cls := "KeyTurns$Standing", name := "fits", desc := "(LKeyTurns$Version;I)Z" } : Jvm.MethodName)) ∈ lw_tbl := lw_at lw_m8 68 rfl
theorem q1857 : (Jvm.Cond.sameMethod "KeyTurns$Standing" "KeyTurns$Standing" "fits" "(LKeyTurns$Version;I)Z") ∈ lw_all := lw_g (lw_at lw_m8 69 rfl) rfl
theorem q1873 : (Jvm.Cond.methodLink "KeyTurns$Standing" (45 : Nat) ({ cls := "KeyTurns$Standing", name := "ordinal", desc := "()I" } : Jvm.MethodName)) ∈ lw_all := lw_g (lw_at lw_m8 85 rfl) rfl
theorem q1874 : (Jvm.Cond.sameMethod "KeyTurns$Standing" "java/lang/Enum" "ordinal" "()I") ∈ lw_all := lw_g (lw_at lw_m8 86 rfl) rfl
theorem q3032 : (Jvm.Cond.castable "KeyTurns$Standing" "java/lang/Object") ∈ lw_tbl := lw_at lw_m13 44 rfl
theorem q3090 : (Jvm.Cond.laysStatic "KeyTurns$Standing" "TO_COME" "LKeyTurns$Standing;") ∈ lw_tbl := lw_at lw_m13 102 rfl
theorem q3091 : (Jvm.Cond.laysStatic "KeyTurns$Standing" "IN_FORCE" "LKeyTurns$Standing;") ∈ lw_tbl := lw_at lw_m13 103 rfl
theorem q3092 : (Jvm.Cond.laysStatic "KeyTurns$Standing" "ENDED" "LKeyTurns$Standing;") ∈ lw_tbl := lw_at lw_m13 104 rfl
theorem q3093 : (Jvm.Cond.laysStatic "KeyTurns$Standing" "WITHDRAWN" "LKeyTurns$Standing;") ∈ lw_tbl := lw_at lw_m13 105 rfl
def RJ25 : String := "java/util/AbstractList$Itr"
abbrev cJ25_hasNext : ByteArray := prog_52_method_2_code
def yJ25_hasNext : MethodName := ⟨RJ25, "hasNext", "()Z"⟩
abbrev cJ25_next : ByteArray := prog_52_method_3_code
def yJ25_next : MethodName := ⟨RJ25, "next", "()Ljava/lang/Object;"⟩
abbrev cJ25_checkForComodification : ByteArray := prog_52_method_5_code
def yJ25_checkForComodification : MethodName := ⟨RJ25, "checkForComodification", "()V"⟩
theorem q148 : (Jvm.Cond.initialized "java/util/AbstractList$Itr") ∈ lw_all := lw_g (lw_at lw_m1 40 rfl) rfl
theorem q226 : (Jvm.Cond.fieldLink "java/util/AbstractList$Itr" (20 : Nat) "java/util/AbstractList" "modCount" "I") ∈ lw_all := lw_g (lw_at lw_m1 118 rfl) rfl
theorem q954 : (Jvm.Cond.instanceMethod ({ cls := "java/util/AbstractList$Itr", name := "hasNext", desc := "()Z" } : Jvm.MethodName)) ∈ lw_all := lw_g (lw_at lw_m4 126 rfl) rfl
theorem q955 : (Jvm.Cond.publicMethod ({ cls := "java/util/AbstractList$Itr", name := "hasNext", desc := "()Z" } : Jvm.MethodName)) ∈ lw_tbl := lw_at lw_m4 127 rfl
theorem q956 : (Jvm.Cond.code ({ cls := "java/util/AbstractList$Itr", name := "hasNext", desc := "()Z" } : Jvm.MethodName) prog_52_method_2_code (1 : Nat) (Option.some Jvm.ClassFile.FieldType.boolean)) ∈ lw_all := lw_g (lw_at lw_m4 128 rfl) rfl
theorem q957 : (Jvm.Cond.methodLink "java/util/AbstractList$Itr" (28 : Nat) ({ cls := "java/util/AbstractList", name := "size", desc := "()I" } : Jvm.MethodName)) ∈ lw_all := lw_g (lw_at lw_m4 129 rfl) rfl
theorem q982 : (Jvm.Cond.instanceMethod ({ cls := "java/util/AbstractList$Itr", name := "next", desc := "()Ljava/lang/Object;" } : Jvm.MethodName)) ∈ lw_all := lw_g (lw_at lw_m4 154 rfl) rfl
theorem q983 : (Jvm.Cond.publicMethod ({ cls := "java/util/AbstractList$Itr", name := "next", desc := "()Ljava/lang/Object;" } : Jvm.MethodName)) ∈ lw_tbl := lw_at lw_m4 155 rfl
theorem q984 : (Jvm.Cond.codeWith ({ cls := "java/util/AbstractList$Itr", name := "next", desc := "()Ljava/lang/Object;" } : Jvm.MethodName) prog_52_method_3_code (3 : Nat) (Option.some (Jvm.ClassFile.FieldType.object "java/lang/Object")) [((4 : Nat), (31 : Nat), (32 : Nat), (39 : Nat))]) ∈ lw_all := lw_g (lw_at lw_m4 156 rfl) rfl
theorem q985 : (Jvm.Cond.methodLink "java/util/AbstractList$Itr" (32 : Nat) ({ cls := "java/util/AbstractList$Itr", name := "checkForComodification", desc := "()V" } : Jvm.MethodName)) ∈ lw_all := lw_g (lw_at lw_m4 157 rfl) rfl
theorem q986 : (Jvm.Cond.instanceMethod ({ cls := "java/util/AbstractList$Itr", name := "checkForComodification", desc := "()V" } : Jvm.MethodName)) ∈ lw_all := lw_g (lw_at lw_m4 158 rfl) rfl
theorem q987 : (Jvm.Cond.sameMethod "java/util/AbstractList$Itr" "java/util/AbstractList$Itr" "checkForComodification" "()V") ∈ lw_all := lw_g (lw_at lw_m4 159 rfl) rfl
theorem q989 : (Jvm.Cond.code ({ cls := "java/util/AbstractList$Itr", name := "checkForComodification", desc := "()V" } : Jvm.MethodName) prog_52_method_5_code (1 : Nat) (Option.none : Option Jvm.ClassFile.FieldType)) ∈ lw_all := lw_g (lw_at lw_m4 161 rfl) rfl
theorem q990 : (Jvm.Cond.methodLink "java/util/AbstractList$Itr" (35 : Nat) ({ cls := "java/util/AbstractList", name := "get", desc := "(I)Ljava/lang/Object;" } : Jvm.MethodName)) ∈ lw_all := lw_g (lw_at lw_m4 162 rfl) rfl
theorem q1006 : (Jvm.Cond.classLink "java/util/AbstractList$Itr" (41 : Nat) "java/util/NoSuchElementException") ∈ lw_all := lw_g (lw_at lw_m4 178 rfl) rfl
theorem q1007 : (Jvm.Cond.methodLink "java/util/AbstractList$Itr" (43 : Nat) ({ cls := "java/util/NoSuchElementException", name := "<init>", desc := "(Ljava/lang/Throwable;)V" } : Jvm.MethodName)) ∈ lw_all := lw_g (lw_at lw_m4 179 rfl) rfl
theorem q3084 : (Jvm.Cond.fieldLink "java/util/AbstractList$Itr" (1 : Nat) "java/util/AbstractList$Itr" "this$0" "Ljava/util/AbstractList;") ∈ lw_all := lw_g (lw_at lw_m13 96 rfl) rfl
theorem q3085 : (Jvm.Cond.fieldLink "java/util/AbstractList$Itr" (13 : Nat) "java/util/AbstractList$Itr" "cursor" "I") ∈ lw_all := lw_g (lw_at lw_m13 97 rfl) rfl
theorem q3086 : (Jvm.Cond.fieldLink "java/util/AbstractList$Itr" (17 : Nat) "java/util/AbstractList$Itr" "lastRet" "I") ∈ lw_all := lw_g (lw_at lw_m13 98 rfl) rfl
theorem q3087 : (Jvm.Cond.fieldLink "java/util/AbstractList$Itr" (25 : Nat) "java/util/AbstractList$Itr" "expectedModCount" "I") ∈ lw_all := lw_g (lw_at lw_m13 99 rfl) rfl
def RJ26 : String := "java/util/ArrayList$Itr"
abbrev cJ26_init : ByteArray := prog_57_method_1_code
def yJ26_init : MethodName := ⟨RJ26, "<init>", "(Ljava/util/ArrayList;)V"⟩
abbrev cJ26_hasNext : ByteArray := prog_57_method_2_code
def yJ26_hasNext : MethodName := ⟨RJ26, "hasNext", "()Z"⟩
abbrev cJ26_next : ByteArray := prog_57_method_3_code
def yJ26_next : MethodName := ⟨RJ26, "next", "()Ljava/lang/Object;"⟩
abbrev cJ26_checkForComodification : ByteArray := prog_57_method_6_code
def yJ26_checkForComodification : MethodName := ⟨RJ26, "checkForComodification", "()V"⟩
theorem q150 : (Jvm.Cond.initialized "java/util/ArrayList$Itr") ∈ lw_all := lw_g (lw_at lw_m1 42 rfl) rfl
theorem q218 : (Jvm.Cond.fieldLink "java/util/ArrayList$Itr" (37 : Nat) "java/util/ArrayList" "elementData" "[Ljava/lang/Object;") ∈ lw_all := lw_g (lw_at lw_m1 110 rfl) rfl
theorem q219 : (Jvm.Cond.fieldLinkNest "java/util/ArrayList$Itr" (28 : Nat) "java/util/ArrayList" "size" "I" "java/util/ArrayList") ∈ lw_tbl := lw_at lw_m1 111 rfl
theorem q224 : (Jvm.Cond.fieldLink "java/util/ArrayList$Itr" (17 : Nat) "java/util/ArrayList" "modCount" "I") ∈ lw_all := lw_g (lw_at lw_m1 116 rfl) rfl
theorem q888 : (Jvm.Cond.instanceMethod ({ cls := "java/util/ArrayList$Itr", name := "<init>", desc := "(Ljava/util/ArrayList;)V" } : Jvm.MethodName)) ∈ lw_all := lw_g (lw_at lw_m4 60 rfl) rfl
theorem q889 : (Jvm.Cond.code ({ cls := "java/util/ArrayList$Itr", name := "<init>", desc := "(Ljava/util/ArrayList;)V" } : Jvm.MethodName) prog_57_method_1_code (2 : Nat) (Option.none : Option Jvm.ClassFile.FieldType)) ∈ lw_all := lw_g (lw_at lw_m4 61 rfl) rfl
theorem q890 : (Jvm.Cond.methodLink "java/util/ArrayList$Itr" (7 : Nat) ({ cls := "java/lang/Object", name := "<init>", desc := "()V" } : Jvm.MethodName)) ∈ lw_all := lw_g (lw_at lw_m4 62 rfl) rfl
theorem q894 : (Jvm.Cond.fieldLink "java/util/ArrayList$Itr" (25 : Nat) "java/util/ArrayList$Itr" "cursor" "I") ∈ lw_all := lw_g (lw_at lw_m4 66 rfl) rfl
theorem q895 : (Jvm.Cond.fieldLink "java/util/ArrayList$Itr" (13 : Nat) "java/util/ArrayList$Itr" "lastRet" "I") ∈ lw_all := lw_g (lw_at lw_m4 67 rfl) rfl
theorem q896 : (Jvm.Cond.fieldLink "java/util/ArrayList$Itr" (22 : Nat) "java/util/ArrayList$Itr" "expectedModCount" "I") ∈ lw_all := lw_g (lw_at lw_m4 68 rfl) rfl
theorem q897 : (Jvm.Cond.fieldLink "java/util/ArrayList$Itr" (1 : Nat) "java/util/ArrayList$Itr" "this$0" "Ljava/util/ArrayList;") ∈ lw_all := lw_g (lw_at lw_m4 69 rfl) rfl
theorem q901 : (Jvm.Cond.soleField "java/util/ArrayList$Itr" "cursor") ∈ lw_all := lw_g (lw_at lw_m4 73 rfl) rfl
theorem q903 : (Jvm.Cond.soleField "java/util/ArrayList$Itr" "lastRet") ∈ lw_all := lw_g (lw_at lw_m4 75 rfl) rfl
theorem q905 : (Jvm.Cond.soleField "java/util/ArrayList$Itr" "expectedModCount") ∈ lw_all := lw_g (lw_at lw_m4 77 rfl) rfl
theorem q907 : (Jvm.Cond.soleField "java/util/ArrayList$Itr" "this$0") ∈ lw_all := lw_g (lw_at lw_m4 79 rfl) rfl
theorem q967 : (Jvm.Cond.instanceMethod ({ cls := "java/util/ArrayList$Itr", name := "hasNext", desc := "()Z" } : Jvm.MethodName)) ∈ lw_all := lw_g (lw_at lw_m4 139 rfl) rfl
theorem q968 : (Jvm.Cond.publicMethod ({ cls := "java/util/ArrayList$Itr", name := "hasNext", desc := "()Z" } : Jvm.MethodName)) ∈ lw_tbl := lw_at lw_m4 140 rfl
theorem q969 : (Jvm.Cond.code ({ cls := "java/util/ArrayList$Itr", name := "hasNext", desc := "()Z" } : Jvm.MethodName) prog_57_method_2_code (1 : Nat) (Option.some Jvm.ClassFile.FieldType.boolean)) ∈ lw_all := lw_g (lw_at lw_m4 141 rfl) rfl
theorem q1294 : (Jvm.Cond.instanceMethod ({ cls := "java/util/ArrayList$Itr", name := "next", desc := "()Ljava/lang/Object;" } : Jvm.MethodName)) ∈ lw_all := lw_g (lw_at lw_m5 226 rfl) rfl
theorem q1295 : (Jvm.Cond.publicMethod ({ cls := "java/util/ArrayList$Itr", name := "next", desc := "()Ljava/lang/Object;" } : Jvm.MethodName)) ∈ lw_tbl := lw_at lw_m5 227 rfl
theorem q1296 : (Jvm.Cond.code ({ cls := "java/util/ArrayList$Itr", name := "next", desc := "()Ljava/lang/Object;" } : Jvm.MethodName) prog_57_method_3_code (3 : Nat) (Option.some (Jvm.ClassFile.FieldType.object "java/lang/Object"))) ∈ lw_all := lw_g (lw_at lw_m5 228 rfl) rfl
theorem q1297 : (Jvm.Cond.methodLink "java/util/ArrayList$Itr" (31 : Nat) ({ cls := "java/util/ArrayList$Itr", name := "checkForComodification", desc := "()V" } : Jvm.MethodName)) ∈ lw_all := lw_g (lw_at lw_m5 229 rfl) rfl
theorem q1298 : (Jvm.Cond.instanceMethod ({ cls := "java/util/ArrayList$Itr", name := "checkForComodification", desc := "()V" } : Jvm.MethodName)) ∈ lw_all := lw_g (lw_at lw_m5 230 rfl) rfl
theorem q1299 : (Jvm.Cond.sameMethod "java/util/ArrayList$Itr" "java/util/ArrayList$Itr" "checkForComodification" "()V") ∈ lw_all := lw_g (lw_at lw_m5 231 rfl) rfl
theorem q1301 : (Jvm.Cond.code ({ cls := "java/util/ArrayList$Itr", name := "checkForComodification", desc := "()V" } : Jvm.MethodName) prog_57_method_6_code (1 : Nat) (Option.none : Option Jvm.ClassFile.FieldType)) ∈ lw_all := lw_g (lw_at lw_m5 233 rfl) rfl
theorem q1302 : (Jvm.Cond.classLink "java/util/ArrayList$Itr" (34 : Nat) "java/util/NoSuchElementException") ∈ lw_all := lw_g (lw_at lw_m5 234 rfl) rfl
theorem q1303 : (Jvm.Cond.methodLink "java/util/ArrayList$Itr" (36 : Nat) ({ cls := "java/util/NoSuchElementException", name := "<init>", desc := "()V" } : Jvm.MethodName)) ∈ lw_all := lw_g (lw_at lw_m5 235 rfl) rfl
def RJ27 : String := "java/util/ArrayList$ListItr"
def TJ27 : u_T := fun k => match k with
  | 0 => ("java/util/ArrayList$Itr", "cursor", "I", false)
  | 1 => ("java/util/ArrayList$Itr", "lastRet", "I", false)
  | 2 => ("java/util/ArrayList$Itr", "expectedModCount", "I", false)
  | 3 => ("java/util/ArrayList$Itr", "this$0", "Ljava/util/ArrayList;", true)
  | _ => ("java/util/ArrayList$ListItr", "this$0", "Ljava/util/ArrayList;", true)
def tyJ27 : Nat → FieldType := fun k => match k with
  | 0 => .int
  | 1 => .int
  | 2 => .int
  | 3 => .object "java/util/ArrayList"
  | _ => .object "java/util/ArrayList"
abbrev wsJ270 : List Cond := u_ws RJ27 TJ27 5
-- two fields of one name: no nmJ27
theorem tyJ27_ok : ∀ k, k < 5 → parseFieldDescriptor (TJ27 k).2.2.1 = some (tyJ27 k) := by decide +kernel
abbrev cJ27_init : ByteArray := prog_58_method_1_code
def yJ27_init : MethodName := ⟨RJ27, "<init>", "(Ljava/util/ArrayList;I)V"⟩
theorem q151 : (Jvm.Cond.initialized "java/util/ArrayList$ListItr") ∈ lw_all := lw_g (lw_at lw_m1 43 rfl) rfl
theorem q404 : (Jvm.Cond.selects "java/util/ArrayList$ListItr" ({ cls := "java/lang/Object", name := "getClass", desc := "()Ljava/lang/Class;" } : Jvm.MethodName) ({ cls := "java/lang/Object", name := "getClass", desc := "()Ljava/lang/Class;" } : Jvm.MethodName)) ∈ lw_all := lw_g (lw_at lw_m2 56 rfl) rfl
theorem q883 : (Jvm.Cond.instantiable "java/util/ArrayList$ListItr" (5 : Nat)) ∈ lw_all := lw_g (lw_at lw_m4 55 rfl) rfl
theorem q885 : (Jvm.Cond.instanceMethod ({ cls := "java/util/ArrayList$ListItr", name := "<init>", desc := "(Ljava/util/ArrayList;I)V" } : Jvm.MethodName)) ∈ lw_all := lw_g (lw_at lw_m4 57 rfl) rfl
theorem q886 : (Jvm.Cond.code ({ cls := "java/util/ArrayList$ListItr", name := "<init>", desc := "(Ljava/util/ArrayList;I)V" } : Jvm.MethodName) prog_58_method_1_code (3 : Nat) (Option.none : Option Jvm.ClassFile.FieldType)) ∈ lw_all := lw_g (lw_at lw_m4 58 rfl) rfl
theorem q887 : (Jvm.Cond.methodLink "java/util/ArrayList$ListItr" (7 : Nat) ({ cls := "java/util/ArrayList$Itr", name := "<init>", desc := "(Ljava/util/ArrayList;)V" } : Jvm.MethodName)) ∈ lw_all := lw_g (lw_at lw_m4 59 rfl) rfl
theorem q891 : (Jvm.Cond.fieldLink "java/util/ArrayList$ListItr" (1 : Nat) "java/util/ArrayList$ListItr" "this$0" "Ljava/util/ArrayList;") ∈ lw_all := lw_g (lw_at lw_m4 63 rfl) rfl
theorem q892 : (Jvm.Cond.fieldLink "java/util/ArrayList$ListItr" (13 : Nat) "java/util/ArrayList$ListItr" "cursor" "I") ∈ lw_all := lw_g (lw_at lw_m4 64 rfl) rfl
theorem q893 : (Jvm.Cond.sameField "java/util/ArrayList$ListItr" "java/util/ArrayList$Itr" "cursor" "I") ∈ lw_all := lw_g (lw_at lw_m4 65 rfl) rfl
theorem q898 : (Jvm.Cond.laysFinal "java/util/ArrayList$ListItr" "java/util/ArrayList$ListItr" "this$0" "Ljava/util/ArrayList;") ∈ lw_all := lw_g (lw_at lw_m4 70 rfl) rfl
theorem q899 : (Jvm.Cond.soleField "java/util/ArrayList$ListItr" "this$0") ∈ lw_all := lw_g (lw_at lw_m4 71 rfl) rfl
theorem q900 : (Jvm.Cond.lays "java/util/ArrayList$ListItr" "java/util/ArrayList$Itr" "cursor" "I") ∈ lw_all := lw_g (lw_at lw_m4 72 rfl) rfl
theorem q902 : (Jvm.Cond.lays "java/util/ArrayList$ListItr" "java/util/ArrayList$Itr" "lastRet" "I") ∈ lw_all := lw_g (lw_at lw_m4 74 rfl) rfl
theorem q904 : (Jvm.Cond.lays "java/util/ArrayList$ListItr" "java/util/ArrayList$Itr" "expectedModCount" "I") ∈ lw_all := lw_g (lw_at lw_m4 76 rfl) rfl
theorem q906 : (Jvm.Cond.laysFinal "java/util/ArrayList$ListItr" "java/util/ArrayList$Itr" "this$0" "Ljava/util/ArrayList;") ∈ lw_all := lw_g (lw_at lw_m4 78 rfl) rfl
theorem q908 : (Jvm.Cond.superclass "java/util/ArrayList$ListItr" "java/util/ArrayList$Itr") ∈ lw_all := lw_g (lw_at lw_m4 80 rfl) rfl
theorem q964 : (Jvm.Cond.castable "java/util/ArrayList$ListItr" "java/util/Iterator") ∈ lw_tbl := lw_at lw_m4 136 rfl
theorem q965 : (Jvm.Cond.selects "java/util/ArrayList$ListItr" ({ cls := "java/util/Iterator", name := "hasNext", desc := "()Z" } : Jvm.MethodName) ({ cls := "java/util/ArrayList$Itr", name := "hasNext", desc := "()Z" } : Jvm.MethodName)) ∈ lw_all := lw_g (lw_at lw_m4 137 rfl) rfl
theorem q966 : (Jvm.Cond.unhidden "java/util/ArrayList$ListItr" "hasNext" "()Z") ∈ lw_tbl := lw_at lw_m4 138 rfl
theorem q1292 : (Jvm.Cond.selects "java/util/ArrayList$ListItr" ({ cls := "java/util/Iterator", name := "next", desc := "()Ljava/lang/Object;" } : Jvm.MethodName) ({ cls := "java/util/ArrayList$Itr", name := "next", desc := "()Ljava/lang/Object;" } : Jvm.MethodName)) ∈ lw_all := lw_g (lw_at lw_m5 224 rfl) rfl
theorem q1293 : (Jvm.Cond.unhidden "java/util/ArrayList$ListItr" "next" "()Ljava/lang/Object;") ∈ lw_tbl := lw_at lw_m5 225 rfl
theorem q1300 : (Jvm.Cond.selects "java/util/ArrayList$ListItr" ({ cls := "java/util/ArrayList$Itr", name := "checkForComodification", desc := "()V" } : Jvm.MethodName) ({ cls := "java/util/ArrayList$Itr", name := "checkForComodification", desc := "()V" } : Jvm.MethodName)) ∈ lw_all := lw_g (lw_at lw_m5 232 rfl) rfl
theorem q3056 : (Jvm.Cond.castable "java/util/ArrayList$ListItr" "java/lang/Object") ∈ lw_tbl := lw_at lw_m13 68 rfl
theorem in_J27 : ∀ w ∈ wsJ270, w ∈ lw_all := lw_in wsJ270 [900, 902, 904, 906, 898] (by decide +kernel) (by decide +kernel)
def RJ28 : String := "java/util/LinkedList$ListItr"
def TJ28 : u_T := fun k => match k with
  | 0 => ("java/util/LinkedList$ListItr", "lastReturned", "Ljava/util/LinkedList$Node;", false)
  | 1 => ("java/util/LinkedList$ListItr", "next", "Ljava/util/LinkedList$Node;", false)
  | 2 => ("java/util/LinkedList$ListItr", "nextIndex", "I", false)
  | 3 => ("java/util/LinkedList$ListItr", "expectedModCount", "I", false)
  | _ => ("java/util/LinkedList$ListItr", "this$0", "Ljava/util/LinkedList;", true)
def tyJ28 : Nat → FieldType := fun k => match k with
  | 0 => .object "java/util/LinkedList$Node"
  | 1 => .object "java/util/LinkedList$Node"
  | 2 => .int
  | 3 => .int
  | _ => .object "java/util/LinkedList"
abbrev wsJ280 : List Cond := u_ws RJ28 TJ28 5
theorem nmJ28 : ∀ a, a < 5 → ∀ b, b < 5 → a ≠ b → (TJ28 a).2.1 ≠ (TJ28 b).2.1 := by decide +kernel
theorem tyJ28_ok : ∀ k, k < 5 → parseFieldDescriptor (TJ28 k).2.2.1 = some (tyJ28 k) := by decide +kernel
abbrev cJ28_init : ByteArray := prog_70_method_1_code
def yJ28_init : MethodName := ⟨RJ28, "<init>", "(Ljava/util/LinkedList;I)V"⟩
abbrev cJ28_hasNext : ByteArray := prog_70_method_2_code
def yJ28_hasNext : MethodName := ⟨RJ28, "hasNext", "()Z"⟩
abbrev cJ28_next : ByteArray := prog_70_method_3_code
def yJ28_next : MethodName := ⟨RJ28, "next", "()Ljava/lang/Object;"⟩
abbrev cJ28_checkForComodification : ByteArray := prog_70_method_12_code
def yJ28_checkForComodification : MethodName := ⟨RJ28, "checkForComodification", "()V"⟩
theorem q152 : (Jvm.Cond.initialized "java/util/LinkedList$ListItr") ∈ lw_all := lw_g (lw_at lw_m1 44 rfl) rfl
theorem q222 : (Jvm.Cond.fieldLink "java/util/LinkedList$ListItr" (13 : Nat) "java/util/LinkedList" "modCount" "I") ∈ lw_all := lw_g (lw_at lw_m1 114 rfl) rfl
theorem q247 : (Jvm.Cond.fieldLink "java/util/LinkedList$ListItr" (22 : Nat) "java/util/LinkedList" "size" "I") ∈ lw_all := lw_g (lw_at lw_m1 139 rfl) rfl
theorem q409 : (Jvm.Cond.selects "java/util/LinkedList$ListItr" ({ cls := "java/lang/Object", name := "getClass", desc := "()Ljava/lang/Class;" } : Jvm.MethodName) ({ cls := "java/lang/Object", name := "getClass", desc := "()Ljava/lang/Class;" } : Jvm.MethodName)) ∈ lw_all := lw_g (lw_at lw_m2 61 rfl) rfl
theorem q921 : (Jvm.Cond.instantiable "java/util/LinkedList$ListItr" (5 : Nat)) ∈ lw_all := lw_g (lw_at lw_m4 93 rfl) rfl
theorem q923 : (Jvm.Cond.instanceMethod ({ cls := "java/util/LinkedList$ListItr", name := "<init>", desc := "(Ljava/util/LinkedList;I)V" } : Jvm.MethodName)) ∈ lw_all := lw_g (lw_at lw_m4 95 rfl) rfl
theorem q924 : (Jvm.Cond.code ({ cls := "java/util/LinkedList$ListItr", name := "<init>", desc := "(Ljava/util/LinkedList;I)V" } : Jvm.MethodName) prog_70_method_1_code (3 : Nat) (Option.none : Option Jvm.ClassFile.FieldType)) ∈ lw_all := lw_g (lw_at lw_m4 96 rfl) rfl
theorem q925 : (Jvm.Cond.methodLink "java/util/LinkedList$ListItr" (7 : Nat) ({ cls := "java/lang/Object", name := "<init>", desc := "()V" } : Jvm.MethodName)) ∈ lw_all := lw_g (lw_at lw_m4 97 rfl) rfl
theorem q926 : (Jvm.Cond.methodLink "java/util/LinkedList$ListItr" (25 : Nat) ({ cls := "java/util/LinkedList", name := "node", desc := "(I)Ljava/util/LinkedList$Node;" } : Jvm.MethodName)) ∈ lw_all := lw_g (lw_at lw_m4 98 rfl) rfl
theorem q930 : (Jvm.Cond.fieldLink "java/util/LinkedList$ListItr" (46 : Nat) "java/util/LinkedList$ListItr" "lastReturned" "Ljava/util/LinkedList$Node;") ∈ lw_all := lw_g (lw_at lw_m4 102 rfl) rfl
theorem q931 : (Jvm.Cond.fieldLink "java/util/LinkedList$ListItr" (29 : Nat) "java/util/LinkedList$ListItr" "next" "Ljava/util/LinkedList$Node;") ∈ lw_all := lw_g (lw_at lw_m4 103 rfl) rfl
theorem q932 : (Jvm.Cond.fieldLink "java/util/LinkedList$ListItr" (33 : Nat) "java/util/LinkedList$ListItr" "nextIndex" "I") ∈ lw_all := lw_g (lw_at lw_m4 104 rfl) rfl
theorem q933 : (Jvm.Cond.fieldLink "java/util/LinkedList$ListItr" (19 : Nat) "java/util/LinkedList$ListItr" "expectedModCount" "I") ∈ lw_all := lw_g (lw_at lw_m4 105 rfl) rfl
theorem q934 : (Jvm.Cond.fieldLink "java/util/LinkedList$ListItr" (1 : Nat) "java/util/LinkedList$ListItr" "this$0" "Ljava/util/LinkedList;") ∈ lw_all := lw_g (lw_at lw_m4 106 rfl) rfl
theorem q935 : (Jvm.Cond.lays "java/util/LinkedList$ListItr" "java/util/LinkedList$ListItr" "lastReturned" "Ljava/util/LinkedList$Node;") ∈ lw_all := lw_g (lw_at lw_m4 107 rfl) rfl
theorem q936 : (Jvm.Cond.soleField "java/util/LinkedList$ListItr" "lastReturned") ∈ lw_all := lw_g (lw_at lw_m4 108 rfl) rfl
theorem q937 : (Jvm.Cond.lays "java/util/LinkedList$ListItr" "java/util/LinkedList$ListItr" "next" "Ljava/util/LinkedList$Node;") ∈ lw_all := lw_g (lw_at lw_m4 109 rfl) rfl
theorem q938 : (Jvm.Cond.soleField "java/util/LinkedList$ListItr" "next") ∈ lw_all := lw_g (lw_at lw_m4 110 rfl) rfl
theorem q939 : (Jvm.Cond.lays "java/util/LinkedList$ListItr" "java/util/LinkedList$ListItr" "nextIndex" "I") ∈ lw_all := lw_g (lw_at lw_m4 111 rfl) rfl
theorem q940 : (Jvm.Cond.soleField "java/util/LinkedList$ListItr" "nextIndex") ∈ lw_all := lw_g (lw_at lw_m4 112 rfl) rfl
theorem q941 : (Jvm.Cond.lays "java/util/LinkedList$ListItr" "java/util/LinkedList$ListItr" "expectedModCount" "I") ∈ lw_all := lw_g (lw_at lw_m4 113 rfl) rfl
theorem q942 : (Jvm.Cond.soleField "java/util/LinkedList$ListItr" "expectedModCount") ∈ lw_all := lw_g (lw_at lw_m4 114 rfl) rfl
theorem q943 : (Jvm.Cond.laysFinal "java/util/LinkedList$ListItr" "java/util/LinkedList$ListItr" "this$0" "Ljava/util/LinkedList;") ∈ lw_all := lw_g (lw_at lw_m4 115 rfl) rfl
theorem q944 : (Jvm.Cond.soleField "java/util/LinkedList$ListItr" "this$0") ∈ lw_all := lw_g (lw_at lw_m4 116 rfl) rfl
theorem q945 : (Jvm.Cond.superclass "java/util/LinkedList$ListItr" "java/lang/Object") ∈ lw_all := lw_g (lw_at lw_m4 117 rfl) rfl
theorem q970 : (Jvm.Cond.castable "java/util/LinkedList$ListItr" "java/util/Iterator") ∈ lw_tbl := lw_at lw_m4 142 rfl
theorem q971 : (Jvm.Cond.selects "java/util/LinkedList$ListItr" ({ cls := "java/util/Iterator", name := "hasNext", desc := "()Z" } : Jvm.MethodName) ({ cls := "java/util/LinkedList$ListItr", name := "hasNext", desc := "()Z" } : Jvm.MethodName)) ∈ lw_all := lw_g (lw_at lw_m4 143 rfl) rfl
theorem q972 : (Jvm.Cond.unhidden "java/util/LinkedList$ListItr" "hasNext" "()Z") ∈ lw_tbl := lw_at lw_m4 144 rfl
theorem q973 : (Jvm.Cond.instanceMethod ({ cls := "java/util/LinkedList$ListItr", name := "hasNext", desc := "()Z" } : Jvm.MethodName)) ∈ lw_all := lw_g (lw_at lw_m4 145 rfl) rfl
theorem q974 : (Jvm.Cond.publicMethod ({ cls := "java/util/LinkedList$ListItr", name := "hasNext", desc := "()Z" } : Jvm.MethodName)) ∈ lw_tbl := lw_at lw_m4 146 rfl
theorem q975 : (Jvm.Cond.code ({ cls := "java/util/LinkedList$ListItr", name := "hasNext", desc := "()Z" } : Jvm.MethodName) prog_70_method_2_code (1 : Nat) (Option.some Jvm.ClassFile.FieldType.boolean)) ∈ lw_all := lw_g (lw_at lw_m4 147 rfl) rfl
theorem q1304 : (Jvm.Cond.selects "java/util/LinkedList$ListItr" ({ cls := "java/util/Iterator", name := "next", desc := "()Ljava/lang/Object;" } : Jvm.MethodName) ({ cls := "java/util/LinkedList$ListItr", name := "next", desc := "()Ljava/lang/Object;" } : Jvm.MethodName)) ∈ lw_all := lw_g (lw_at lw_m5 236 rfl) rfl
theorem q1305 : (Jvm.Cond.unhidden "java/util/LinkedList$ListItr" "next" "()Ljava/lang/Object;") ∈ lw_tbl := lw_at lw_m5 237 rfl
theorem q1306 : (Jvm.Cond.instanceMethod ({ cls := "java/util/LinkedList$ListItr", name := "next", desc := "()Ljava/lang/Object;" } : Jvm.MethodName)) ∈ lw_all := lw_g (lw_at lw_m5 238 rfl) rfl
theorem q1307 : (Jvm.Cond.publicMethod ({ cls := "java/util/LinkedList$ListItr", name := "next", desc := "()Ljava/lang/Object;" } : Jvm.MethodName)) ∈ lw_tbl := lw_at lw_m5 239 rfl
theorem q1308 : (Jvm.Cond.code ({ cls := "java/util/LinkedList$ListItr", name := "next", desc := "()Ljava/lang/Object;" } : Jvm.MethodName) prog_70_method_3_code (1 : Nat) (Option.some (Jvm.ClassFile.FieldType.object "java/lang/Object"))) ∈ lw_all := lw_g (lw_at lw_m6 0 rfl) rfl
theorem q1309 : (Jvm.Cond.methodLink "java/util/LinkedList$ListItr" (36 : Nat) ({ cls := "java/util/LinkedList$ListItr", name := "checkForComodification", desc := "()V" } : Jvm.MethodName)) ∈ lw_all := lw_g (lw_at lw_m6 1 rfl) rfl
theorem q1310 : (Jvm.Cond.instanceMethod ({ cls := "java/util/LinkedList$ListItr", name := "checkForComodification", desc := "()V" } : Jvm.MethodName)) ∈ lw_all := lw_g (lw_at lw_m6 2 rfl) rfl
theorem q1311 : (Jvm.Cond.selects "java/util/LinkedList$ListItr" ({ cls := "java/util/LinkedList$ListItr", name := "checkForComodification", desc := "()V" } : Jvm.MethodName) ({ cls := "java/util/LinkedList$ListItr", name := "checkForComodification", desc := "()V" } : Jvm.MethodName)) ∈ lw_all := lw_g (lw_at lw_m6 3 rfl) rfl
theorem q1312 : (Jvm.Cond.code ({ cls := "java/util/LinkedList$ListItr", name := "checkForComodification", desc := "()V" } : Jvm.MethodName) prog_70_method_12_code (1 : Nat) (Option.none : Option Jvm.ClassFile.FieldType)) ∈ lw_all := lw_g (lw_at lw_m6 4 rfl) rfl
theorem q1313 : (Jvm.Cond.methodLink "java/util/LinkedList$ListItr" (39 : Nat) ({ cls := "java/util/LinkedList$ListItr", name := "hasNext", desc := "()Z" } : Jvm.MethodName)) ∈ lw_all := lw_g (lw_at lw_m6 5 rfl) rfl
theorem q1314 : (Jvm.Cond.classLink "java/util/LinkedList$ListItr" (43 : Nat) "java/util/NoSuchElementException") ∈ lw_all := lw_g (lw_at lw_m6 6 rfl) rfl
theorem q1315 : (Jvm.Cond.methodLink "java/util/LinkedList$ListItr" (45 : Nat) ({ cls := "java/util/NoSuchElementException", name := "<init>", desc := "()V" } : Jvm.MethodName)) ∈ lw_all := lw_g (lw_at lw_m6 7 rfl) rfl
theorem q1332 : (Jvm.Cond.fieldLink "java/util/LinkedList$ListItr" (52 : Nat) "java/util/LinkedList$Node" "item" "Ljava/lang/Object;") ∈ lw_all := lw_g (lw_at lw_m6 24 rfl) rfl
theorem q1335 : (Jvm.Cond.fieldLink "java/util/LinkedList$ListItr" (49 : Nat) "java/util/LinkedList$Node" "next" "Ljava/util/LinkedList$Node;") ∈ lw_all := lw_g (lw_at lw_m6 27 rfl) rfl
theorem q3015 : (Jvm.Cond.selects "java/util/LinkedList$ListItr" ({ cls := "java/util/LinkedList$ListItr", name := "hasNext", desc := "()Z" } : Jvm.MethodName) ({ cls := "java/util/LinkedList$ListItr", name := "hasNext", desc := "()Z" } : Jvm.MethodName)) ∈ lw_all := lw_g (lw_at lw_m13 27 rfl) rfl
theorem q3057 : (Jvm.Cond.castable "java/util/LinkedList$ListItr" "java/lang/Object") ∈ lw_tbl := lw_at lw_m13 69 rfl
theorem in_J28 : ∀ w ∈ wsJ280, w ∈ lw_all := lw_in wsJ280 [935, 937, 939, 941, 943] (by decide +kernel) (by decide +kernel)
def RJ29 : String := "java/util/LinkedList$Node"
def TJ29 : u_T := fun k => match k with
  | 0 => ("java/util/LinkedList$Node", "item", "Ljava/lang/Object;", false)
  | 1 => ("java/util/LinkedList$Node", "next", "Ljava/util/LinkedList$Node;", false)
  | _ => ("java/util/LinkedList$Node", "prev", "Ljava/util/LinkedList$Node;", false)
def tyJ29 : Nat → FieldType := fun k => match k with
  | 0 => .object "java/lang/Object"
  | 1 => .object "java/util/LinkedList$Node"
  | _ => .object "java/util/LinkedList$Node"
abbrev wsJ290 : List Cond := u_ws RJ29 TJ29 3
theorem nmJ29 : ∀ a, a < 3 → ∀ b, b < 3 → a ≠ b → (TJ29 a).2.1 ≠ (TJ29 b).2.1 := by decide +kernel
theorem tyJ29_ok : ∀ k, k < 3 → parseFieldDescriptor (TJ29 k).2.2.1 = some (tyJ29 k) := by decide +kernel
abbrev cJ29_init : ByteArray := prog_71_method_1_code
def yJ29_init : MethodName := ⟨RJ29, "<init>", "(Ljava/util/LinkedList$Node;Ljava/lang/Object;Ljava/util/LinkedList$Node;)V"⟩
theorem q153 : (Jvm.Cond.initialized "java/util/LinkedList$Node") ∈ lw_all := lw_g (lw_at lw_m1 45 rfl) rfl
theorem q410 : (Jvm.Cond.selects "java/util/LinkedList$Node" ({ cls := "java/lang/Object", name := "getClass", desc := "()Ljava/lang/Class;" } : Jvm.MethodName) ({ cls := "java/lang/Object", name := "getClass", desc := "()Ljava/lang/Class;" } : Jvm.MethodName)) ∈ lw_all := lw_g (lw_at lw_m2 62 rfl) rfl
theorem q1326 : (Jvm.Cond.instantiable "java/util/LinkedList$Node" (3 : Nat)) ∈ lw_all := lw_g (lw_at lw_m6 18 rfl) rfl
theorem q1328 : (Jvm.Cond.instanceMethod ({ cls := "java/util/LinkedList$Node", name := "<init>", desc := "(Ljava/util/LinkedList$Node;Ljava/lang/Object;Ljava/util/LinkedList$Node;)V" } : Jvm.MethodName)) ∈ lw_all := lw_g (lw_at lw_m6 20 rfl) rfl
theorem q1329 : (Jvm.Cond.code ({ cls := "java/util/LinkedList$Node", name := "<init>", desc := "(Ljava/util/LinkedList$Node;Ljava/lang/Object;Ljava/util/LinkedList$Node;)V" } : Jvm.MethodName) prog_71_method_1_code (4 : Nat) (Option.none : Option Jvm.ClassFile.FieldType)) ∈ lw_all := lw_g (lw_at lw_m6 21 rfl) rfl
theorem q1330 : (Jvm.Cond.methodLink "java/util/LinkedList$Node" (1 : Nat) ({ cls := "java/lang/Object", name := "<init>", desc := "()V" } : Jvm.MethodName)) ∈ lw_all := lw_g (lw_at lw_m6 22 rfl) rfl
theorem q1331 : (Jvm.Cond.fieldLink "java/util/LinkedList$Node" (7 : Nat) "java/util/LinkedList$Node" "item" "Ljava/lang/Object;") ∈ lw_all := lw_g (lw_at lw_m6 23 rfl) rfl
theorem q1334 : (Jvm.Cond.fieldLink "java/util/LinkedList$Node" (13 : Nat) "java/util/LinkedList$Node" "next" "Ljava/util/LinkedList$Node;") ∈ lw_all := lw_g (lw_at lw_m6 26 rfl) rfl
theorem q1337 : (Jvm.Cond.fieldLink "java/util/LinkedList$Node" (17 : Nat) "java/util/LinkedList$Node" "prev" "Ljava/util/LinkedList$Node;") ∈ lw_all := lw_g (lw_at lw_m6 29 rfl) rfl
theorem q1339 : (Jvm.Cond.lays "java/util/LinkedList$Node" "java/util/LinkedList$Node" "item" "Ljava/lang/Object;") ∈ lw_all := lw_g (lw_at lw_m6 31 rfl) rfl
theorem q1340 : (Jvm.Cond.soleField "java/util/LinkedList$Node" "item") ∈ lw_all := lw_g (lw_at lw_m6 32 rfl) rfl
theorem q1341 : (Jvm.Cond.lays "java/util/LinkedList$Node" "java/util/LinkedList$Node" "next" "Ljava/util/LinkedList$Node;") ∈ lw_all := lw_g (lw_at lw_m6 33 rfl) rfl
theorem q1342 : (Jvm.Cond.soleField "java/util/LinkedList$Node" "next") ∈ lw_all := lw_g (lw_at lw_m6 34 rfl) rfl
theorem q1343 : (Jvm.Cond.lays "java/util/LinkedList$Node" "java/util/LinkedList$Node" "prev" "Ljava/util/LinkedList$Node;") ∈ lw_all := lw_g (lw_at lw_m6 35 rfl) rfl
theorem q1344 : (Jvm.Cond.soleField "java/util/LinkedList$Node" "prev") ∈ lw_all := lw_g (lw_at lw_m6 36 rfl) rfl
theorem q1345 : (Jvm.Cond.superclass "java/util/LinkedList$Node" "java/lang/Object") ∈ lw_all := lw_g (lw_at lw_m6 37 rfl) rfl
theorem q3058 : (Jvm.Cond.castable "java/util/LinkedList$Node" "java/lang/Object") ∈ lw_tbl := lw_at lw_m13 70 rfl
theorem in_J29 : ∀ w ∈ wsJ290, w ∈ lw_all := lw_in wsJ290 [1339, 1341, 1343] (by decide +kernel) (by decide +kernel)
def RX12 : String := "KeyTurns$Withdrawn"
def TX12 : u_T := fun k => match k with
  | 0 => ("KeyTurns$Version", "number", "I", true)
  | 1 => ("KeyTurns$Version", "first", "I", true)
  | 2 => ("KeyTurns$Version", "last", "I", true)
  | _ => ("KeyTurns$Withdrawn", "at", "I", true)
def tyX12 : Nat → FieldType := fun k => match k with
  | 0 => .int
  | 1 => .int
  | 2 => .int
  | _ => .int
abbrev wsX120 : List Cond := u_ws RX12 TX12 4
theorem nmX12 : ∀ a, a < 4 → ∀ b, b < 4 → a ≠ b → (TX12 a).2.1 ≠ (TX12 b).2.1 := by decide +kernel
theorem tyX12_ok : ∀ k, k < 4 → parseFieldDescriptor (TX12 k).2.2.1 = some (tyX12 k) := by decide +kernel
abbrev cX12_init : ByteArray := prog_22_method_1_code
def yX12_init : MethodName := ⟨RX12, "<init>", "(LKeyTurns$Version;I)V"⟩
theorem q154 : (Jvm.Cond.initialized "KeyTurns$Withdrawn") ∈ lw_all := lw_g (lw_at lw_m1 46 rfl) rfl
theorem q322 : (Jvm.Cond.fieldLink "KeyTurns$Withdrawn" (1 : Nat) "KeyTurns$Version" "number" "I") ∈ lw_all := lw_g (lw_at lw_m1 214 rfl) rfl
theorem q327 : (Jvm.Cond.fieldLink "KeyTurns$Withdrawn" (7 : Nat) "KeyTurns$Version" "first" "I") ∈ lw_all := lw_g (lw_at lw_m1 219 rfl) rfl
theorem q333 : (Jvm.Cond.sameField "KeyTurns$Withdrawn" "KeyTurns$Version" "first" "I") ∈ lw_all := lw_g (lw_at lw_m1 225 rfl) rfl
theorem q336 : (Jvm.Cond.fieldLink "KeyTurns$Withdrawn" (10 : Nat) "KeyTurns$Version" "last" "I") ∈ lw_all := lw_g (lw_at lw_m1 228 rfl) rfl
theorem q395 : (Jvm.Cond.selects "KeyTurns$Withdrawn" ({ cls := "java/lang/Object", name := "getClass", desc := "()Ljava/lang/Class;" } : Jvm.MethodName) ({ cls := "java/lang/Object", name := "getClass", desc := "()Ljava/lang/Class;" } : Jvm.MethodName)) ∈ lw_all := lw_g (lw_at lw_m2 47 rfl) rfl
theorem q500 : (Jvm.Cond.selects "KeyTurns$Withdrawn" ({ cls := "KeyTurns$Version", name := "isInForce", desc := "(I)Z" } : Jvm.MethodName) ({ cls := "KeyTurns$Version", name := "isInForce", desc := "(I)Z" } : Jvm.MethodName)) ∈ lw_all := lw_g (lw_at lw_m2 152 rfl) rfl
theorem q507 : (Jvm.Cond.selects "KeyTurns$Withdrawn" ({ cls := "KeyTurns$Version", name := "spans", desc := "(I)Z" } : Jvm.MethodName) ({ cls := "KeyTurns$Version", name := "spans", desc := "(I)Z" } : Jvm.MethodName)) ∈ lw_all := lw_g (lw_at lw_m2 159 rfl) rfl
theorem q1362 : (Jvm.Cond.instantiable "KeyTurns$Withdrawn" (4 : Nat)) ∈ lw_all := lw_g (lw_at lw_m6 54 rfl) rfl
theorem q1365 : (Jvm.Cond.instanceMethod ({ cls := "KeyTurns$Withdrawn", name := "<init>", desc := "(LKeyTurns$Version;I)V" } : Jvm.MethodName)) ∈ lw_all := lw_g (lw_at lw_m6 57 rfl) rfl
theorem q1366 : (Jvm.Cond.code ({ cls := "KeyTurns$Withdrawn", name := "<init>", desc := "(LKeyTurns$Version;I)V" } : Jvm.MethodName) prog_22_method_1_code (3 : Nat) (Option.none : Option Jvm.ClassFile.FieldType)) ∈ lw_all := lw_g (lw_at lw_m6 58 rfl) rfl
theorem q1367 : (Jvm.Cond.methodLink "KeyTurns$Withdrawn" (13 : Nat) ({ cls := "KeyTurns$Version", name := "<init>", desc := "(III)V" } : Jvm.MethodName)) ∈ lw_all := lw_g (lw_at lw_m6 59 rfl) rfl
theorem q1368 : (Jvm.Cond.fieldLink "KeyTurns$Withdrawn" (17 : Nat) "KeyTurns$Withdrawn" "at" "I") ∈ lw_all := lw_g (lw_at lw_m6 60 rfl) rfl
theorem q1371 : (Jvm.Cond.laysFinal "KeyTurns$Withdrawn" "KeyTurns$Withdrawn" "at" "I") ∈ lw_all := lw_g (lw_at lw_m6 63 rfl) rfl
theorem q1372 : (Jvm.Cond.soleField "KeyTurns$Withdrawn" "at") ∈ lw_all := lw_g (lw_at lw_m6 64 rfl) rfl
theorem q1373 : (Jvm.Cond.laysFinal "KeyTurns$Withdrawn" "KeyTurns$Version" "number" "I") ∈ lw_all := lw_g (lw_at lw_m6 65 rfl) rfl
theorem q1374 : (Jvm.Cond.laysFinal "KeyTurns$Withdrawn" "KeyTurns$Version" "first" "I") ∈ lw_all := lw_g (lw_at lw_m6 66 rfl) rfl
theorem q1375 : (Jvm.Cond.laysFinal "KeyTurns$Withdrawn" "KeyTurns$Version" "last" "I") ∈ lw_all := lw_g (lw_at lw_m6 67 rfl) rfl
theorem q1376 : (Jvm.Cond.superclass "KeyTurns$Withdrawn" "KeyTurns$Version") ∈ lw_all := lw_g (lw_at lw_m6 68 rfl) rfl
theorem q1389 : (Jvm.Cond.selects "KeyTurns$Withdrawn" ({ cls := "KeyTurns$Version", name := "hasEnded", desc := "(I)Z" } : Jvm.MethodName) ({ cls := "KeyTurns$Version", name := "hasEnded", desc := "(I)Z" } : Jvm.MethodName)) ∈ lw_all := lw_g (lw_at lw_m6 81 rfl) rfl
theorem q2338 : (Jvm.Cond.selects "KeyTurns$Withdrawn" ({ cls := "java/lang/Object", name := "equals", desc := "(Ljava/lang/Object;)Z" } : Jvm.MethodName) ({ cls := "java/lang/Object", name := "equals", desc := "(Ljava/lang/Object;)Z" } : Jvm.MethodName)) ∈ lw_all := lw_g (lw_at lw_m10 70 rfl) rfl
theorem q3027 : (Jvm.Cond.castable "KeyTurns$Withdrawn" "KeyTurns$Version") ∈ lw_tbl := lw_at lw_m13 39 rfl
theorem q3059 : (Jvm.Cond.castable "KeyTurns$Withdrawn" "java/lang/Object") ∈ lw_tbl := lw_at lw_m13 71 rfl
theorem in_X12 : ∀ w ∈ wsX120, w ∈ lw_all := lw_in wsX120 [1373, 1374, 1375, 1371] (by decide +kernel) (by decide +kernel)
def RJ30 : String := "java/lang/Float"
abbrev cJ30_floatToIntBits : ByteArray := prog_33_method_24_code
def yJ30_floatToIntBits : MethodName := ⟨RJ30, "floatToIntBits", "(F)I"⟩
abbrev cJ30_isNaN : ByteArray := prog_33_method_6_code
def yJ30_isNaN : MethodName := ⟨RJ30, "isNaN", "(F)Z"⟩
theorem q155 : (Jvm.Cond.initialized "java/lang/Float") ∈ lw_all := lw_g (lw_at lw_m1 47 rfl) rfl
theorem q2000 : (Jvm.Cond.static ({ cls := "java/lang/Float", name := "floatToIntBits", desc := "(F)I" } : Jvm.MethodName)) ∈ lw_all := lw_g (lw_at lw_m8 212 rfl) rfl
theorem q2001 : (Jvm.Cond.code ({ cls := "java/lang/Float", name := "floatToIntBits", desc := "(F)I" } : Jvm.MethodName) prog_33_method_24_code (1 : Nat) (Option.some Jvm.ClassFile.FieldType.int)) ∈ lw_all := lw_g (lw_at lw_m8 213 rfl) rfl
theorem q2002 : (Jvm.Cond.methodLink "java/lang/Float" (59 : Nat) ({ cls := "java/lang/Float", name := "isNaN", desc := "(F)Z" } : Jvm.MethodName)) ∈ lw_all := lw_g (lw_at lw_m8 214 rfl) rfl
theorem q2003 : (Jvm.Cond.static ({ cls := "java/lang/Float", name := "isNaN", desc := "(F)Z" } : Jvm.MethodName)) ∈ lw_all := lw_g (lw_at lw_m8 215 rfl) rfl
theorem q2004 : (Jvm.Cond.code ({ cls := "java/lang/Float", name := "isNaN", desc := "(F)Z" } : Jvm.MethodName) prog_33_method_6_code (1 : Nat) (Option.some Jvm.ClassFile.FieldType.boolean)) ∈ lw_all := lw_g (lw_at lw_m8 216 rfl) rfl
theorem q2005 : (Jvm.Cond.methodLink "java/lang/Float" (74 : Nat) ({ cls := "java/lang/Float", name := "floatToRawIntBits", desc := "(F)I" } : Jvm.MethodName)) ∈ lw_all := lw_g (lw_at lw_m8 217 rfl) rfl
theorem q2006 : (Jvm.Cond.static ({ cls := "java/lang/Float", name := "floatToRawIntBits", desc := "(F)I" } : Jvm.MethodName)) ∈ lw_all := lw_g (lw_at lw_m8 218 rfl) rfl
theorem q2007 : (Jvm.Cond.native ({ cls := "java/lang/Float", name := "floatToRawIntBits", desc := "(F)I" } : Jvm.MethodName)) ∈ lw_all := lw_g (lw_at lw_m8 219 rfl) rfl
theorem q2008 : (Jvm.Cond.constant "java/lang/Float" (77 : Nat) (2143289344 : Int32)) ∈ lw_all := lw_g (lw_at lw_m8 220 rfl) rfl
def RX13 : String := "KeyTurns$QueryParser"
def TX13 : u_T := fun k => match k with
  | 0 => ("KeyTurns$Scanner", "word", "Ljava/lang/StringBuilder;", true)
  | 1 => ("KeyTurns$Scanner", "end", "I", true)
  | 2 => ("KeyTurns$Scanner", "at", "I", false)
  | 3 => ("KeyTurns$Scanner", "begin", "I", false)
  | 4 => ("KeyTurns$Scanner", "value", "I", false)
  | 5 => ("KeyTurns$Scanner", "sign", "I", false)
  | 6 => ("KeyTurns$Scanner", "token", "LKeyTurns$Token;", false)
  | 7 => ("KeyTurns$Scanner", "this$0", "LKeyTurns;", true)
  | 8 => ("KeyTurns$QueryParser", "isFirst", "Z", false)
  | 9 => ("KeyTurns$QueryParser", "open", "I", false)
  | _ => ("KeyTurns$QueryParser", "this$0", "LKeyTurns;", true)
def tyX13 : Nat → FieldType := fun k => match k with
  | 0 => .object "java/lang/StringBuilder"
  | 1 => .int
  | 2 => .int
  | 3 => .int
  | 4 => .int
  | 5 => .int
  | 6 => .object "KeyTurns$Token"
  | 7 => .object "KeyTurns"
  | 8 => .boolean
  | 9 => .int
  | _ => .object "KeyTurns"
abbrev wsX130 : List Cond := u_ws RX13 TX13 11
-- two fields of one name: no nmX13
theorem tyX13_ok : ∀ k, k < 11 → parseFieldDescriptor (TX13 k).2.2.1 = some (tyX13 k) := by decide +kernel
abbrev cX13_init : ByteArray := prog_8_method_1_code
def yX13_init : MethodName := ⟨RX13, "<init>", "(LKeyTurns;I)V"⟩
abbrev cX13_parse : ByteArray := prog_8_method_2_code
def yX13_parse : MethodName := ⟨RX13, "parse", "()LKeyTurns$Test;"⟩
abbrev cX13_test : ByteArray := prog_8_method_3_code
def yX13_test : MethodName := ⟨RX13, "test", "()LKeyTurns$Test;"⟩
abbrev cX13_conjunction : ByteArray := prog_8_method_4_code
def yX13_conjunction : MethodName := ⟨RX13, "conjunction", "()LKeyTurns$Test;"⟩
abbrev cX13_factor : ByteArray := prog_8_method_6_code
def yX13_factor : MethodName := ⟨RX13, "factor", "()LKeyTurns$Test;"⟩
abbrev cX13_enter : ByteArray := prog_8_method_5_code
def yX13_enter : MethodName := ⟨RX13, "enter", "()V"⟩
abbrev cX13_operand : ByteArray := prog_8_method_7_code
def yX13_operand : MethodName := ⟨RX13, "operand", "()I"⟩
theorem q156 : (Jvm.Cond.initialized "KeyTurns$QueryParser") ∈ lw_all := lw_g (lw_at lw_m1 48 rfl) rfl
theorem q386 : (Jvm.Cond.selects "KeyTurns$QueryParser" ({ cls := "java/lang/Object", name := "getClass", desc := "()Ljava/lang/Class;" } : Jvm.MethodName) ({ cls := "java/lang/Object", name := "getClass", desc := "()Ljava/lang/Class;" } : Jvm.MethodName)) ∈ lw_all := lw_g (lw_at lw_m2 38 rfl) rfl
theorem q1519 : (Jvm.Cond.selects "KeyTurns$QueryParser" ({ cls := "KeyTurns$Scanner", name := "next", desc := "()V" } : Jvm.MethodName) ({ cls := "KeyTurns$Scanner", name := "next", desc := "()V" } : Jvm.MethodName)) ∈ lw_all := lw_g (lw_at lw_m6 211 rfl) rfl
theorem q1586 : (Jvm.Cond.fieldLink "KeyTurns$QueryParser" (35 : Nat) "KeyTurns$QueryParser" "token" "LKeyTurns$Token;") ∈ lw_all := lw_g (lw_at lw_m7 38 rfl) rfl
theorem q1587 : (Jvm.Cond.sameField "KeyTurns$QueryParser" "KeyTurns$Scanner" "token" "LKeyTurns$Token;") ∈ lw_all := lw_g (lw_at lw_m7 39 rfl) rfl
theorem q1630 : (Jvm.Cond.selects "KeyTurns$QueryParser" ({ cls := "KeyTurns$Scanner", name := "keyword", desc := "()Ljava/lang/String;" } : Jvm.MethodName) ({ cls := "KeyTurns$Scanner", name := "keyword", desc := "()Ljava/lang/String;" } : Jvm.MethodName)) ∈ lw_all := lw_g (lw_at lw_m7 82 rfl) rfl
theorem q1686 : (Jvm.Cond.selects "KeyTurns$QueryParser" ({ cls := "KeyTurns$Scanner", name := "peek", desc := "(II)I" } : Jvm.MethodName) ({ cls := "KeyTurns$Scanner", name := "peek", desc := "(II)I" } : Jvm.MethodName)) ∈ lw_all := lw_g (lw_at lw_m7 138 rfl) rfl
theorem q1700 : (Jvm.Cond.selects "KeyTurns$QueryParser" ({ cls := "KeyTurns$Scanner", name := "isSign", desc := "(I)Z" } : Jvm.MethodName) ({ cls := "KeyTurns$Scanner", name := "isSign", desc := "(I)Z" } : Jvm.MethodName)) ∈ lw_all := lw_g (lw_at lw_m7 152 rfl) rfl
theorem q2147 : (Jvm.Cond.instantiable "KeyTurns$QueryParser" (11 : Nat)) ∈ lw_all := lw_g (lw_at lw_m9 119 rfl) rfl
theorem q2149 : (Jvm.Cond.instanceMethod ({ cls := "KeyTurns$QueryParser", name := "<init>", desc := "(LKeyTurns;I)V" } : Jvm.MethodName)) ∈ lw_all := lw_g (lw_at lw_m9 121 rfl) rfl
theorem q2150 : (Jvm.Cond.code ({ cls := "KeyTurns$QueryParser", name := "<init>", desc := "(LKeyTurns;I)V" } : Jvm.MethodName) prog_8_method_1_code (3 : Nat) (Option.none : Option Jvm.ClassFile.FieldType)) ∈ lw_all := lw_g (lw_at lw_m9 122 rfl) rfl
theorem q2151 : (Jvm.Cond.methodLink "KeyTurns$QueryParser" (9 : Nat) ({ cls := "KeyTurns$Scanner", name := "<init>", desc := "(LKeyTurns;I)V" } : Jvm.MethodName)) ∈ lw_all := lw_g (lw_at lw_m9 123 rfl) rfl
theorem q2152 : (Jvm.Cond.fieldLink "KeyTurns$QueryParser" (21 : Nat) "KeyTurns$QueryParser" "isFirst" "Z") ∈ lw_all := lw_g (lw_at lw_m9 124 rfl) rfl
theorem q2154 : (Jvm.Cond.fieldLink "KeyTurns$QueryParser" (68 : Nat) "KeyTurns$QueryParser" "open" "I") ∈ lw_all := lw_g (lw_at lw_m9 126 rfl) rfl
theorem q2155 : (Jvm.Cond.fieldLink "KeyTurns$QueryParser" (3 : Nat) "KeyTurns$QueryParser" "this$0" "LKeyTurns;") ∈ lw_all := lw_g (lw_at lw_m9 127 rfl) rfl
theorem q2156 : (Jvm.Cond.lays "KeyTurns$QueryParser" "KeyTurns$QueryParser" "isFirst" "Z") ∈ lw_all := lw_g (lw_at lw_m9 128 rfl) rfl
theorem q2157 : (Jvm.Cond.soleField "KeyTurns$QueryParser" "isFirst") ∈ lw_all := lw_g (lw_at lw_m9 129 rfl) rfl
theorem q2158 : (Jvm.Cond.lays "KeyTurns$QueryParser" "KeyTurns$QueryParser" "open" "I") ∈ lw_all := lw_g (lw_at lw_m9 130 rfl) rfl
theorem q2159 : (Jvm.Cond.soleField "KeyTurns$QueryParser" "open") ∈ lw_all := lw_g (lw_at lw_m9 131 rfl) rfl
theorem q2160 : (Jvm.Cond.laysFinal "KeyTurns$QueryParser" "KeyTurns$QueryParser" "this$0" "LKeyTurns;") ∈ lw_all := lw_g (lw_at lw_m9 132 rfl) rfl
theorem q2161 : (Jvm.Cond.soleField "KeyTurns$QueryParser" "this$0") ∈ lw_all := lw_g (lw_at lw_m9 133 rfl) rfl
theorem q2162 : (Jvm.Cond.laysFinal "KeyTurns$QueryParser" "KeyTurns$Scanner" "word" "Ljava/lang/StringBuilder;") ∈ lw_all := lw_g (lw_at lw_m9 134 rfl) rfl
theorem q2163 : (Jvm.Cond.laysFinal "KeyTurns$QueryParser" "KeyTurns$Scanner" "end" "I") ∈ lw_all := lw_g (lw_at lw_m9 135 rfl) rfl
theorem q2164 : (Jvm.Cond.lays "KeyTurns$QueryParser" "KeyTurns$Scanner" "at" "I") ∈ lw_all := lw_g (lw_at lw_m9 136 rfl) rfl
theorem q2165 : (Jvm.Cond.lays "KeyTurns$QueryParser" "KeyTurns$Scanner" "begin" "I") ∈ lw_all := lw_g (lw_at lw_m9 137 rfl) rfl
theorem q2166 : (Jvm.Cond.lays "KeyTurns$QueryParser" "KeyTurns$Scanner" "value" "I") ∈ lw_all := lw_g (lw_at lw_m9 138 rfl) rfl
theorem q2167 : (Jvm.Cond.lays "KeyTurns$QueryParser" "KeyTurns$Scanner" "sign" "I") ∈ lw_all := lw_g (lw_at lw_m9 139 rfl) rfl
theorem q2168 : (Jvm.Cond.lays "KeyTurns$QueryParser" "KeyTurns$Scanner" "token" "LKeyTurns$Token;") ∈ lw_all := lw_g (lw_at lw_m9 140 rfl) rfl
theorem q2169 : (Jvm.Cond.laysFinal "KeyTurns$QueryParser" "KeyTurns$Scanner" "this$0" "LKeyTurns;") ∈ lw_all := lw_g (lw_at lw_m9 141 rfl) rfl
theorem q2170 : (Jvm.Cond.superclass "KeyTurns$QueryParser" "KeyTurns$Scanner") ∈ lw_all := lw_g (lw_at lw_m9 142 rfl) rfl
theorem q2172 : (Jvm.Cond.instanceMethod ({ cls := "KeyTurns$QueryParser", name := "parse", desc := "()LKeyTurns$Test;" } : Jvm.MethodName)) ∈ lw_all := lw_g (lw_at lw_m9 144 rfl) rfl
theorem q2173 : (Jvm.Cond.selects "KeyTurns$QueryParser" ({ cls := "KeyTurns$QueryParser", name := "parse", desc := "()LKeyTurns$Test;" } : Jvm.MethodName) ({ cls := "KeyTurns$QueryParser", name := "parse", desc := "()LKeyTurns$Test;" } : Jvm.MethodName)) ∈ lw_all := lw_g (lw_at lw_m9 145 rfl) rfl
theorem q2174 : (Jvm.Cond.code ({ cls := "KeyTurns$QueryParser", name := "parse", desc := "()LKeyTurns$Test;" } : Jvm.MethodName) prog_8_method_2_code (2 : Nat) (Option.some (Jvm.ClassFile.FieldType.object "KeyTurns$Test"))) ∈ lw_all := lw_g (lw_at lw_m9 146 rfl) rfl
theorem q2175 : (Jvm.Cond.stringRef "KeyTurns$QueryParser" (15 : Nat) "first") ∈ lw_tbl := lw_at lw_m9 147 rfl
theorem q2176 : (Jvm.Cond.methodLink "KeyTurns$QueryParser" (17 : Nat) ({ cls := "KeyTurns$QueryParser", name := "accept", desc := "(Ljava/lang/String;)Z" } : Jvm.MethodName)) ∈ lw_all := lw_g (lw_at lw_m9 148 rfl) rfl
theorem q2177 : (Jvm.Cond.sameMethod "KeyTurns$QueryParser" "KeyTurns$Scanner" "accept" "(Ljava/lang/String;)Z") ∈ lw_all := lw_g (lw_at lw_m9 149 rfl) rfl
theorem q2178 : (Jvm.Cond.selects "KeyTurns$QueryParser" ({ cls := "KeyTurns$QueryParser", name := "accept", desc := "(Ljava/lang/String;)Z" } : Jvm.MethodName) ({ cls := "KeyTurns$Scanner", name := "accept", desc := "(Ljava/lang/String;)Z" } : Jvm.MethodName)) ∈ lw_all := lw_g (lw_at lw_m9 150 rfl) rfl
theorem q2179 : (Jvm.Cond.stringRef "KeyTurns$QueryParser" (25 : Nat) "many") ∈ lw_tbl := lw_at lw_m9 151 rfl
theorem q2180 : (Jvm.Cond.methodLink "KeyTurns$QueryParser" (27 : Nat) ({ cls := "KeyTurns$QueryParser", name := "check", desc := "(ZI)V" } : Jvm.MethodName)) ∈ lw_all := lw_g (lw_at lw_m9 152 rfl) rfl
theorem q2181 : (Jvm.Cond.sameMethod "KeyTurns$QueryParser" "KeyTurns$Scanner" "check" "(ZI)V") ∈ lw_all := lw_g (lw_at lw_m9 153 rfl) rfl
theorem q2182 : (Jvm.Cond.selects "KeyTurns$QueryParser" ({ cls := "KeyTurns$QueryParser", name := "check", desc := "(ZI)V" } : Jvm.MethodName) ({ cls := "KeyTurns$Scanner", name := "check", desc := "(ZI)V" } : Jvm.MethodName)) ∈ lw_all := lw_g (lw_at lw_m9 154 rfl) rfl
theorem q2183 : (Jvm.Cond.methodLink "KeyTurns$QueryParser" (31 : Nat) ({ cls := "KeyTurns$QueryParser", name := "test", desc := "()LKeyTurns$Test;" } : Jvm.MethodName)) ∈ lw_all := lw_g (lw_at lw_m9 155 rfl) rfl
theorem q2184 : (Jvm.Cond.privateMethod ({ cls := "KeyTurns$QueryParser", name := "test", desc := "()LKeyTurns$Test;" } : Jvm.MethodName)) ∈ lw_tbl := lw_at lw_m9 156 rfl
theorem q2185 : (Jvm.Cond.instanceMethod ({ cls := "KeyTurns$QueryParser", name := "test", desc := "()LKeyTurns$Test;" } : Jvm.MethodName)) ∈ lw_all := lw_g (lw_at lw_m9 157 rfl) rfl
theorem q2186 : (Jvm.Cond.code ({ cls := "KeyTurns$QueryParser", name := "test", desc := "()LKeyTurns$Test;" } : Jvm.MethodName) prog_8_method_3_code (2 : Nat) (Option.some (Jvm.ClassFile.FieldType.object "KeyTurns$Test"))) ∈ lw_all := lw_g (lw_at lw_m9 158 rfl) rfl
theorem q2187 : (Jvm.Cond.classLink "KeyTurns$QueryParser" (44 : Nat) "java/util/ArrayList") ∈ lw_all := lw_g (lw_at lw_m9 159 rfl) rfl
theorem q2188 : (Jvm.Cond.methodLink "KeyTurns$QueryParser" (46 : Nat) ({ cls := "java/util/ArrayList", name := "<init>", desc := "()V" } : Jvm.MethodName)) ∈ lw_all := lw_g (lw_at lw_m9 160 rfl) rfl
theorem q2189 : (Jvm.Cond.methodLink "KeyTurns$QueryParser" (49 : Nat) ({ cls := "KeyTurns$QueryParser", name := "conjunction", desc := "()LKeyTurns$Test;" } : Jvm.MethodName)) ∈ lw_all := lw_g (lw_at lw_m9 161 rfl) rfl
theorem q2190 : (Jvm.Cond.privateMethod ({ cls := "KeyTurns$QueryParser", name := "conjunction", desc := "()LKeyTurns$Test;" } : Jvm.MethodName)) ∈ lw_tbl := lw_at lw_m9 162 rfl
theorem q2191 : (Jvm.Cond.instanceMethod ({ cls := "KeyTurns$QueryParser", name := "conjunction", desc := "()LKeyTurns$Test;" } : Jvm.MethodName)) ∈ lw_all := lw_g (lw_at lw_m9 163 rfl) rfl
theorem q2192 : (Jvm.Cond.code ({ cls := "KeyTurns$QueryParser", name := "conjunction", desc := "()LKeyTurns$Test;" } : Jvm.MethodName) prog_8_method_4_code (2 : Nat) (Option.some (Jvm.ClassFile.FieldType.object "KeyTurns$Test"))) ∈ lw_all := lw_g (lw_at lw_m9 164 rfl) rfl
theorem q2193 : (Jvm.Cond.methodLink "KeyTurns$QueryParser" (63 : Nat) ({ cls := "KeyTurns$QueryParser", name := "factor", desc := "()LKeyTurns$Test;" } : Jvm.MethodName)) ∈ lw_all := lw_g (lw_at lw_m9 165 rfl) rfl
theorem q2194 : (Jvm.Cond.privateMethod ({ cls := "KeyTurns$QueryParser", name := "factor", desc := "()LKeyTurns$Test;" } : Jvm.MethodName)) ∈ lw_tbl := lw_at lw_m9 166 rfl
theorem q2195 : (Jvm.Cond.instanceMethod ({ cls := "KeyTurns$QueryParser", name := "factor", desc := "()LKeyTurns$Test;" } : Jvm.MethodName)) ∈ lw_all := lw_g (lw_at lw_m9 167 rfl) rfl
theorem q2196 : (Jvm.Cond.code ({ cls := "KeyTurns$QueryParser", name := "factor", desc := "()LKeyTurns$Test;" } : Jvm.MethodName) prog_8_method_6_code (3 : Nat) (Option.some (Jvm.ClassFile.FieldType.object "KeyTurns$Test"))) ∈ lw_all := lw_g (lw_at lw_m9 168 rfl) rfl
theorem q2197 : (Jvm.Cond.methodLink "KeyTurns$QueryParser" (75 : Nat) ({ cls := "KeyTurns$QueryParser", name := "keyword", desc := "()Ljava/lang/String;" } : Jvm.MethodName)) ∈ lw_all := lw_g (lw_at lw_m9 169 rfl) rfl
theorem q2198 : (Jvm.Cond.sameMethod "KeyTurns$QueryParser" "KeyTurns$Scanner" "keyword" "()Ljava/lang/String;") ∈ lw_all := lw_g (lw_at lw_m9 170 rfl) rfl
theorem q2199 : (Jvm.Cond.selects "KeyTurns$QueryParser" ({ cls := "KeyTurns$QueryParser", name := "keyword", desc := "()Ljava/lang/String;" } : Jvm.MethodName) ({ cls := "KeyTurns$Scanner", name := "keyword", desc := "()Ljava/lang/String;" } : Jvm.MethodName)) ∈ lw_all := lw_g (lw_at lw_m9 171 rfl) rfl
theorem q2200 : (Jvm.Cond.stringRef "KeyTurns$QueryParser" (79 : Nat) "not") ∈ lw_tbl := lw_at lw_m9 172 rfl
theorem q2201 : (Jvm.Cond.methodLink "KeyTurns$QueryParser" (81 : Nat) ({ cls := "java/lang/String", name := "equals", desc := "(Ljava/lang/Object;)Z" } : Jvm.MethodName)) ∈ lw_all := lw_g (lw_at lw_m9 173 rfl) rfl
theorem q2202 : (Jvm.Cond.methodLink "KeyTurns$QueryParser" (86 : Nat) ({ cls := "KeyTurns$QueryParser", name := "enter", desc := "()V" } : Jvm.MethodName)) ∈ lw_all := lw_g (lw_at lw_m9 174 rfl) rfl
theorem q2203 : (Jvm.Cond.privateMethod ({ cls := "KeyTurns$QueryParser", name := "enter", desc := "()V" } : Jvm.MethodName)) ∈ lw_tbl := lw_at lw_m9 175 rfl
theorem q2204 : (Jvm.Cond.instanceMethod ({ cls := "KeyTurns$QueryParser", name := "enter", desc := "()V" } : Jvm.MethodName)) ∈ lw_all := lw_g (lw_at lw_m9 176 rfl) rfl
theorem q2205 : (Jvm.Cond.code ({ cls := "KeyTurns$QueryParser", name := "enter", desc := "()V" } : Jvm.MethodName) prog_8_method_5_code (1 : Nat) (Option.none : Option Jvm.ClassFile.FieldType)) ∈ lw_all := lw_g (lw_at lw_m9 177 rfl) rfl
theorem q2206 : (Jvm.Cond.methodLink "KeyTurns$QueryParser" (72 : Nat) ({ cls := "KeyTurns$QueryParser", name := "next", desc := "()V" } : Jvm.MethodName)) ∈ lw_all := lw_g (lw_at lw_m9 178 rfl) rfl
theorem q2207 : (Jvm.Cond.sameMethod "KeyTurns$QueryParser" "KeyTurns$Scanner" "next" "()V") ∈ lw_all := lw_g (lw_at lw_m9 179 rfl) rfl
theorem q2208 : (Jvm.Cond.selects "KeyTurns$QueryParser" ({ cls := "KeyTurns$QueryParser", name := "next", desc := "()V" } : Jvm.MethodName) ({ cls := "KeyTurns$Scanner", name := "next", desc := "()V" } : Jvm.MethodName)) ∈ lw_all := lw_g (lw_at lw_m9 180 rfl) rfl
theorem q2209 : (Jvm.Cond.classLink "KeyTurns$QueryParser" (89 : Nat) "KeyTurns$Not") ∈ lw_all := lw_g (lw_at lw_m9 181 rfl) rfl
theorem q2211 : (Jvm.Cond.methodLink "KeyTurns$QueryParser" (91 : Nat) ({ cls := "KeyTurns$Not", name := "<init>", desc := "(LKeyTurns$Test;)V" } : Jvm.MethodName)) ∈ lw_all := lw_g (lw_at lw_m9 183 rfl) rfl
theorem q2222 : (Jvm.Cond.methodLink "KeyTurns$QueryParser" (94 : Nat) ({ cls := "KeyTurns$QueryParser", name := "isSign", desc := "(I)Z" } : Jvm.MethodName)) ∈ lw_all := lw_g (lw_at lw_m9 194 rfl) rfl
theorem q2223 : (Jvm.Cond.sameMethod "KeyTurns$QueryParser" "KeyTurns$Scanner" "isSign" "(I)Z") ∈ lw_all := lw_g (lw_at lw_m9 195 rfl) rfl
theorem q2225 : (Jvm.Cond.selects "KeyTurns$QueryParser" ({ cls := "KeyTurns$QueryParser", name := "isSign", desc := "(I)Z" } : Jvm.MethodName) ({ cls := "KeyTurns$Scanner", name := "isSign", desc := "(I)Z" } : Jvm.MethodName)) ∈ lw_all := lw_g (lw_at lw_m9 197 rfl) rfl
theorem q2226 : (Jvm.Cond.methodLink "KeyTurns$QueryParser" (98 : Nat) ({ cls := "KeyTurns$QueryParser", name := "expectSign", desc := "(I)V" } : Jvm.MethodName)) ∈ lw_all := lw_g (lw_at lw_m9 198 rfl) rfl
theorem q2227 : (Jvm.Cond.sameMethod "KeyTurns$QueryParser" "KeyTurns$Scanner" "expectSign" "(I)V") ∈ lw_all := lw_g (lw_at lw_m9 199 rfl) rfl
theorem q2228 : (Jvm.Cond.selects "KeyTurns$QueryParser" ({ cls := "KeyTurns$QueryParser", name := "expectSign", desc := "(I)V" } : Jvm.MethodName) ({ cls := "KeyTurns$Scanner", name := "expectSign", desc := "(I)V" } : Jvm.MethodName)) ∈ lw_all := lw_g (lw_at lw_m9 200 rfl) rfl
theorem q2229 : (Jvm.Cond.methodLink "KeyTurns$QueryParser" (102 : Nat) ({ cls := "KeyTurns$QueryParser", name := "operand", desc := "()I" } : Jvm.MethodName)) ∈ lw_all := lw_g (lw_at lw_m9 201 rfl) rfl
theorem q2230 : (Jvm.Cond.privateMethod ({ cls := "KeyTurns$QueryParser", name := "operand", desc := "()I" } : Jvm.MethodName)) ∈ lw_tbl := lw_at lw_m9 202 rfl
theorem q2231 : (Jvm.Cond.instanceMethod ({ cls := "KeyTurns$QueryParser", name := "operand", desc := "()I" } : Jvm.MethodName)) ∈ lw_all := lw_g (lw_at lw_m9 203 rfl) rfl
theorem q2232 : (Jvm.Cond.code ({ cls := "KeyTurns$QueryParser", name := "operand", desc := "()I" } : Jvm.MethodName) prog_8_method_7_code (2 : Nat) (Option.some Jvm.ClassFile.FieldType.int)) ∈ lw_all := lw_g (lw_at lw_m9 204 rfl) rfl
theorem q2233 : (Jvm.Cond.fieldLink "KeyTurns$QueryParser" (114 : Nat) "KeyTurns$Token" "NUMBER" "LKeyTurns$Token;") ∈ lw_all := lw_g (lw_at lw_m9 205 rfl) rfl
theorem q2234 : (Jvm.Cond.methodLink "KeyTurns$QueryParser" (117 : Nat) ({ cls := "KeyTurns$QueryParser", name := "number", desc := "(II)I" } : Jvm.MethodName)) ∈ lw_all := lw_g (lw_at lw_m9 206 rfl) rfl
theorem q2235 : (Jvm.Cond.sameMethod "KeyTurns$QueryParser" "KeyTurns$Scanner" "number" "(II)I") ∈ lw_all := lw_g (lw_at lw_m9 207 rfl) rfl
theorem q2236 : (Jvm.Cond.selects "KeyTurns$QueryParser" ({ cls := "KeyTurns$QueryParser", name := "number", desc := "(II)I" } : Jvm.MethodName) ({ cls := "KeyTurns$Scanner", name := "number", desc := "(II)I" } : Jvm.MethodName)) ∈ lw_all := lw_g (lw_at lw_m9 208 rfl) rfl
theorem q2237 : (Jvm.Cond.methodLinkNest "KeyTurns$QueryParser" (121 : Nat) ({ cls := "KeyTurns", name := "propertyCode", desc := "(Ljava/lang/String;)I" } : Jvm.MethodName) "KeyTurns") ∈ lw_tbl := lw_at lw_m9 209 rfl
theorem q2327 : (Jvm.Cond.selects "KeyTurns$QueryParser" ({ cls := "java/lang/Object", name := "equals", desc := "(Ljava/lang/Object;)Z" } : Jvm.MethodName) ({ cls := "java/lang/Object", name := "equals", desc := "(Ljava/lang/Object;)Z" } : Jvm.MethodName)) ∈ lw_all := lw_g (lw_at lw_m10 59 rfl) rfl
theorem q2369 : (Jvm.Cond.methodLink "KeyTurns$QueryParser" (106 : Nat) ({ cls := "KeyTurns$QueryParser", name := "relationSign", desc := "()I" } : Jvm.MethodName)) ∈ lw_all := lw_g (lw_at lw_m10 101 rfl) rfl
theorem q2370 : (Jvm.Cond.sameMethod "KeyTurns$QueryParser" "KeyTurns$Scanner" "relationSign" "()I") ∈ lw_all := lw_g (lw_at lw_m10 102 rfl) rfl
theorem q2372 : (Jvm.Cond.selects "KeyTurns$QueryParser" ({ cls := "KeyTurns$QueryParser", name := "relationSign", desc := "()I" } : Jvm.MethodName) ({ cls := "KeyTurns$Scanner", name := "relationSign", desc := "()I" } : Jvm.MethodName)) ∈ lw_all := lw_g (lw_at lw_m10 104 rfl) rfl
theorem q2375 : (Jvm.Cond.classLink "KeyTurns$QueryParser" (109 : Nat) "KeyTurns$Comparison") ∈ lw_all := lw_g (lw_at lw_m10 107 rfl) rfl
theorem q2377 : (Jvm.Cond.methodLink "KeyTurns$QueryParser" (111 : Nat) ({ cls := "KeyTurns$Comparison", name := "<init>", desc := "(III)V" } : Jvm.MethodName)) ∈ lw_all := lw_g (lw_at lw_m10 109 rfl) rfl
theorem q2391 : (Jvm.Cond.methodLink "KeyTurns$QueryParser" (52 : Nat) ({ cls := "java/util/ArrayList", name := "add", desc := "(Ljava/lang/Object;)Z" } : Jvm.MethodName)) ∈ lw_all := lw_g (lw_at lw_m10 123 rfl) rfl
theorem q2392 : (Jvm.Cond.stringRef "KeyTurns$QueryParser" (66 : Nat) "and") ∈ lw_tbl := lw_at lw_m10 124 rfl
theorem q2393 : (Jvm.Cond.classLink "KeyTurns$QueryParser" (58 : Nat) "KeyTurns$Joined") ∈ lw_all := lw_g (lw_at lw_m10 125 rfl) rfl
theorem q2395 : (Jvm.Cond.methodLink "KeyTurns$QueryParser" (60 : Nat) ({ cls := "KeyTurns$Joined", name := "<init>", desc := "(Ljava/util/ArrayList;Z)V" } : Jvm.MethodName)) ∈ lw_all := lw_g (lw_at lw_m10 127 rfl) rfl
theorem q2406 : (Jvm.Cond.stringRef "KeyTurns$QueryParser" (56 : Nat) "or") ∈ lw_tbl := lw_at lw_m10 138 rfl
theorem q2407 : (Jvm.Cond.fieldLink "KeyTurns$QueryParser" (39 : Nat) "KeyTurns$Token" "END" "LKeyTurns$Token;") ∈ lw_all := lw_g (lw_at lw_m10 139 rfl) rfl
theorem q3021 : (Jvm.Cond.selects "KeyTurns$QueryParser" ({ cls := "KeyTurns$Scanner", name := "check", desc := "(ZI)V" } : Jvm.MethodName) ({ cls := "KeyTurns$Scanner", name := "check", desc := "(ZI)V" } : Jvm.MethodName)) ∈ lw_all := lw_g (lw_at lw_m13 33 rfl) rfl
theorem q3060 : (Jvm.Cond.castable "KeyTurns$QueryParser" "java/lang/Object") ∈ lw_tbl := lw_at lw_m13 72 rfl
theorem in_X13 : ∀ w ∈ wsX130, w ∈ lw_all := lw_in wsX130 [2162, 2163, 2164, 2165, 2166, 2167, 2168, 2169, 2156, 2158, 2160] (by decide +kernel) (by decide +kernel)
def RX14 : String := "KeyTurns$Test"
abbrev cX14_init : ByteArray := prog_17_method_1_code
def yX14_init : MethodName := ⟨RX14, "<init>", "()V"⟩
theorem q157 : (Jvm.Cond.initialized "KeyTurns$Test") ∈ lw_all := lw_g (lw_at lw_m1 49 rfl) rfl
theorem q2215 : (Jvm.Cond.instanceMethod ({ cls := "KeyTurns$Test", name := "<init>", desc := "()V" } : Jvm.MethodName)) ∈ lw_all := lw_g (lw_at lw_m9 187 rfl) rfl
theorem q2216 : (Jvm.Cond.code ({ cls := "KeyTurns$Test", name := "<init>", desc := "()V" } : Jvm.MethodName) prog_17_method_1_code (1 : Nat) (Option.none : Option Jvm.ClassFile.FieldType)) ∈ lw_all := lw_g (lw_at lw_m9 188 rfl) rfl
theorem q2217 : (Jvm.Cond.methodLink "KeyTurns$Test" (1 : Nat) ({ cls := "java/lang/Object", name := "<init>", desc := "()V" } : Jvm.MethodName)) ∈ lw_all := lw_g (lw_at lw_m9 189 rfl) rfl
theorem q2410 : (Jvm.Cond.declares ({ cls := "KeyTurns$Test", name := "holds", desc := "(LKeyTurns$State;I)Z" } : Jvm.MethodName)) ∈ lw_tbl := lw_at lw_m10 142 rfl
theorem q2411 : (Jvm.Cond.sameMethod "KeyTurns$Test" "KeyTurns$Test" "holds" "(LKeyTurns$State;I)Z") ∈ lw_all := lw_g (lw_at lw_m10 143 rfl) rfl
def RX15 : String := "KeyTurns$Not"
def TX15 : u_T := fun k => match k with
  | _ => ("KeyTurns$Not", "operand", "LKeyTurns$Test;", true)
def tyX15 : Nat → FieldType := fun k => match k with
  | _ => .object "KeyTurns$Test"
abbrev wsX150 : List Cond := u_ws RX15 TX15 1
theorem nmX15 : ∀ a, a < 1 → ∀ b, b < 1 → a ≠ b → (TX15 a).2.1 ≠ (TX15 b).2.1 := by decide +kernel
theorem tyX15_ok : ∀ k, k < 1 → parseFieldDescriptor (TX15 k).2.2.1 = some (tyX15 k) := by decide +kernel
abbrev cX15_init : ByteArray := prog_7_method_1_code
def yX15_init : MethodName := ⟨RX15, "<init>", "(LKeyTurns$Test;)V"⟩
abbrev cX15_holds : ByteArray := prog_7_method_2_code
def yX15_holds : MethodName := ⟨RX15, "holds", "(LKeyTurns$State;I)Z"⟩
theorem q158 : (Jvm.Cond.initialized "KeyTurns$Not") ∈ lw_all := lw_g (lw_at lw_m1 50 rfl) rfl
theorem q385 : (Jvm.Cond.selects "KeyTurns$Not" ({ cls := "java/lang/Object", name := "getClass", desc := "()Ljava/lang/Class;" } : Jvm.MethodName) ({ cls := "java/lang/Object", name := "getClass", desc := "()Ljava/lang/Class;" } : Jvm.MethodName)) ∈ lw_all := lw_g (lw_at lw_m2 37 rfl) rfl
theorem q2210 : (Jvm.Cond.instantiable "KeyTurns$Not" (1 : Nat)) ∈ lw_all := lw_g (lw_at lw_m9 182 rfl) rfl
theorem q2212 : (Jvm.Cond.instanceMethod ({ cls := "KeyTurns$Not", name := "<init>", desc := "(LKeyTurns$Test;)V" } : Jvm.MethodName)) ∈ lw_all := lw_g (lw_at lw_m9 184 rfl) rfl
theorem q2213 : (Jvm.Cond.code ({ cls := "KeyTurns$Not", name := "<init>", desc := "(LKeyTurns$Test;)V" } : Jvm.MethodName) prog_7_method_1_code (2 : Nat) (Option.none : Option Jvm.ClassFile.FieldType)) ∈ lw_all := lw_g (lw_at lw_m9 185 rfl) rfl
theorem q2214 : (Jvm.Cond.methodLinkNest "KeyTurns$Not" (1 : Nat) ({ cls := "KeyTurns$Test", name := "<init>", desc := "()V" } : Jvm.MethodName) "KeyTurns") ∈ lw_tbl := lw_at lw_m9 186 rfl
theorem q2218 : (Jvm.Cond.fieldLink "KeyTurns$Not" (7 : Nat) "KeyTurns$Not" "operand" "LKeyTurns$Test;") ∈ lw_all := lw_g (lw_at lw_m9 190 rfl) rfl
theorem q2219 : (Jvm.Cond.laysFinal "KeyTurns$Not" "KeyTurns$Not" "operand" "LKeyTurns$Test;") ∈ lw_all := lw_g (lw_at lw_m9 191 rfl) rfl
theorem q2220 : (Jvm.Cond.soleField "KeyTurns$Not" "operand") ∈ lw_all := lw_g (lw_at lw_m9 192 rfl) rfl
theorem q2221 : (Jvm.Cond.superclass "KeyTurns$Not" "KeyTurns$Test") ∈ lw_all := lw_g (lw_at lw_m9 193 rfl) rfl
theorem q2326 : (Jvm.Cond.selects "KeyTurns$Not" ({ cls := "java/lang/Object", name := "equals", desc := "(Ljava/lang/Object;)Z" } : Jvm.MethodName) ({ cls := "java/lang/Object", name := "equals", desc := "(Ljava/lang/Object;)Z" } : Jvm.MethodName)) ∈ lw_all := lw_g (lw_at lw_m10 58 rfl) rfl
theorem q2439 : (Jvm.Cond.instanceMethod ({ cls := "KeyTurns$Not", name := "holds", desc := "(LKeyTurns$State;I)Z" } : Jvm.MethodName)) ∈ lw_all := lw_g (lw_at lw_m10 171 rfl) rfl
theorem q2440 : (Jvm.Cond.code ({ cls := "KeyTurns$Not", name := "holds", desc := "(LKeyTurns$State;I)Z" } : Jvm.MethodName) prog_7_method_2_code (3 : Nat) (Option.some Jvm.ClassFile.FieldType.boolean)) ∈ lw_all := lw_g (lw_at lw_m10 172 rfl) rfl
theorem q2441 : (Jvm.Cond.methodLink "KeyTurns$Not" (13 : Nat) ({ cls := "KeyTurns$Test", name := "holds", desc := "(LKeyTurns$State;I)Z" } : Jvm.MethodName)) ∈ lw_all := lw_g (lw_at lw_m10 173 rfl) rfl
theorem q2442 : (Jvm.Cond.selects "KeyTurns$Not" ({ cls := "KeyTurns$Test", name := "holds", desc := "(LKeyTurns$State;I)Z" } : Jvm.MethodName) ({ cls := "KeyTurns$Not", name := "holds", desc := "(LKeyTurns$State;I)Z" } : Jvm.MethodName)) ∈ lw_all := lw_g (lw_at lw_m10 174 rfl) rfl
theorem q3030 : (Jvm.Cond.castable "KeyTurns$Not" "KeyTurns$Test") ∈ lw_tbl := lw_at lw_m13 42 rfl
theorem q3061 : (Jvm.Cond.castable "KeyTurns$Not" "java/lang/Object") ∈ lw_tbl := lw_at lw_m13 73 rfl
theorem in_X15 : ∀ w ∈ wsX150, w ∈ lw_all := lw_in wsX150 [2219] (by decide +kernel) (by decide +kernel)
def RJ31 : String := "java/util/List"
abbrev cJ31_of : ByteArray := prog_72_method_44_code
def yJ31_of : MethodName := ⟨RJ31, "of", "(Ljava/lang/Object;Ljava/lang/Object;Ljava/lang/Object;Ljava/lang/Object;Ljava/lang/Object;Ljava/lang/Object;Ljava/lang/Object;Ljava/lang/Object;)Ljava/util/List;"⟩
theorem q159 : (Jvm.Cond.initialized "java/util/List") ∈ lw_all := lw_g (lw_at lw_m1 51 rfl) rfl
theorem q2249 : (Jvm.Cond.static ({ cls := "java/util/List", name := "of", desc := "(Ljava/lang/Object;Ljava/lang/Object;Ljava/lang/Object;Ljava/lang/Object;Ljava/lang/Object;Ljava/lang/Object;Ljava/lang/Object;Ljava/lang/Object;)Ljava/util/List;" } : Jvm.MethodName)) ∈ lw_all := lw_g (lw_at lw_m9 221 rfl) rfl
theorem q2250 : (Jvm.Cond.code ({ cls := "java/util/List", name := "of", desc := "(Ljava/lang/Object;Ljava/lang/Object;Ljava/lang/Object;Ljava/lang/Object;Ljava/lang/Object;Ljava/lang/Object;Ljava/lang/Object;Ljava/lang/Object;)Ljava/util/List;" } : Jvm.MethodName) prog_72_method_44_code (8 : Nat) (Option.some (Jvm.ClassFile.FieldType.object "java/util/List"))) ∈ lw_all := lw_g (lw_at lw_m9 222 rfl) rfl
theorem q2251 : (Jvm.Cond.classLink "java/util/List" (103 : Nat) "java/lang/Object") ∈ lw_all := lw_g (lw_at lw_m9 223 rfl) rfl
theorem q2252 : (Jvm.Cond.methodLink "java/util/List" (105 : Nat) ({ cls := "java/util/ImmutableCollections", name := "listFromTrustedArray", desc := "([Ljava/lang/Object;)Ljava/util/List;" } : Jvm.MethodName)) ∈ lw_all := lw_g (lw_at lw_m9 224 rfl) rfl
theorem q2304 : (Jvm.Cond.interfaceMethod "java/util/List" "java/util/List" "indexOf" "(Ljava/lang/Object;)I") ∈ lw_tbl := lw_at lw_m10 36 rfl
theorem q2305 : (Jvm.Cond.declares ({ cls := "java/util/List", name := "indexOf", desc := "(Ljava/lang/Object;)I" } : Jvm.MethodName)) ∈ lw_tbl := lw_at lw_m10 37 rfl
def RJ32 : String := "java/util/ImmutableCollections"
abbrev cJ32_listFromTrustedArray : ByteArray := prog_63_method_5_code
def yJ32_listFromTrustedArray : MethodName := ⟨RJ32, "listFromTrustedArray", "([Ljava/lang/Object;)Ljava/util/List;"⟩
theorem q160 : (Jvm.Cond.initialized "java/util/ImmutableCollections") ∈ lw_all := lw_g (lw_at lw_m1 52 rfl) rfl
theorem q2253 : (Jvm.Cond.static ({ cls := "java/util/ImmutableCollections", name := "listFromTrustedArray", desc := "([Ljava/lang/Object;)Ljava/util/List;" } : Jvm.MethodName)) ∈ lw_all := lw_g (lw_at lw_m9 225 rfl) rfl
theorem q2254 : (Jvm.Cond.code ({ cls := "java/util/ImmutableCollections", name := "listFromTrustedArray", desc := "([Ljava/lang/Object;)Ljava/util/List;" } : Jvm.MethodName) prog_63_method_5_code (5 : Nat) (Option.some (Jvm.ClassFile.FieldType.object "java/util/List"))) ∈ lw_all := lw_g (lw_at lw_m9 226 rfl) rfl
theorem q2255 : (Jvm.Cond.fieldLink "java/util/ImmutableCollections" (46 : Nat) "java/util/ImmutableCollections" "$assertionsDisabled" "Z") ∈ lw_all := lw_g (lw_at lw_m9 227 rfl) rfl
theorem q2256 : (Jvm.Cond.laysStatic "java/util/ImmutableCollections" "$assertionsDisabled" "Z") ∈ lw_tbl := lw_at lw_m9 228 rfl
theorem q2257 : (Jvm.Cond.methodLink "java/util/ImmutableCollections" (51 : Nat) ({ cls := "java/lang/Object", name := "getClass", desc := "()Ljava/lang/Class;" } : Jvm.MethodName)) ∈ lw_all := lw_g (lw_at lw_m9 229 rfl) rfl
theorem q2258 : (Jvm.Cond.classLink "java/util/ImmutableCollections" (55 : Nat) "[Ljava/lang/Object;") ∈ lw_all := lw_g (lw_at lw_m9 230 rfl) rfl
theorem q2259 : (Jvm.Cond.methodLink "java/util/ImmutableCollections" (37 : Nat) ({ cls := "java/util/Objects", name := "requireNonNull", desc := "(Ljava/lang/Object;)Ljava/lang/Object;" } : Jvm.MethodName)) ∈ lw_all := lw_g (lw_at lw_m9 231 rfl) rfl
theorem q2262 : (Jvm.Cond.fieldLink "java/util/ImmutableCollections" (60 : Nat) "java/util/ImmutableCollections" "EMPTY_LIST" "Ljava/util/ImmutableCollections$ListN;") ∈ lw_all := lw_g (lw_at lw_m9 234 rfl) rfl
theorem q2263 : (Jvm.Cond.laysStatic "java/util/ImmutableCollections" "EMPTY_LIST" "Ljava/util/ImmutableCollections$ListN;") ∈ lw_tbl := lw_at lw_m9 235 rfl
theorem q2264 : (Jvm.Cond.classLink "java/util/ImmutableCollections" (10 : Nat) "java/util/ImmutableCollections$List12") ∈ lw_all := lw_g (lw_at lw_m9 236 rfl) rfl
theorem q2266 : (Jvm.Cond.methodLink "java/util/ImmutableCollections" (64 : Nat) ({ cls := "java/util/ImmutableCollections$List12", name := "<init>", desc := "(Ljava/lang/Object;)V" } : Jvm.MethodName)) ∈ lw_all := lw_g (lw_at lw_m9 238 rfl) rfl
theorem q2278 : (Jvm.Cond.laysStatic "java/util/ImmutableCollections" "EMPTY" "Ljava/lang/Object;") ∈ lw_tbl := lw_at lw_m10 10 rfl
theorem q2286 : (Jvm.Cond.methodLink "java/util/ImmutableCollections" (67 : Nat) ({ cls := "java/util/ImmutableCollections$List12", name := "<init>", desc := "(Ljava/lang/Object;Ljava/lang/Object;)V" } : Jvm.MethodName)) ∈ lw_all := lw_g (lw_at lw_m10 18 rfl) rfl
theorem q2289 : (Jvm.Cond.classLink "java/util/ImmutableCollections" (12 : Nat) "java/util/ImmutableCollections$ListN") ∈ lw_all := lw_g (lw_at lw_m10 21 rfl) rfl
theorem q2291 : (Jvm.Cond.methodLinkNest "java/util/ImmutableCollections" (43 : Nat) ({ cls := "java/util/ImmutableCollections$ListN", name := "<init>", desc := "([Ljava/lang/Object;Z)V" } : Jvm.MethodName) "java/util/ImmutableCollections") ∈ lw_tbl := lw_at lw_m10 23 rfl
def RJ33 : String := "java/util/ImmutableCollections$AbstractImmutableCollection"
abbrev cJ33_init : ByteArray := prog_64_method_1_code
def yJ33_init : MethodName := ⟨RJ33, "<init>", "()V"⟩
theorem q161 : (Jvm.Cond.initialized "java/util/ImmutableCollections$AbstractImmutableCollection") ∈ lw_all := lw_g (lw_at lw_m1 53 rfl) rfl
theorem q2273 : (Jvm.Cond.instanceMethod ({ cls := "java/util/ImmutableCollections$AbstractImmutableCollection", name := "<init>", desc := "()V" } : Jvm.MethodName)) ∈ lw_all := lw_g (lw_at lw_m10 5 rfl) rfl
theorem q2274 : (Jvm.Cond.code ({ cls := "java/util/ImmutableCollections$AbstractImmutableCollection", name := "<init>", desc := "()V" } : Jvm.MethodName) prog_64_method_1_code (1 : Nat) (Option.none : Option Jvm.ClassFile.FieldType)) ∈ lw_all := lw_g (lw_at lw_m10 6 rfl) rfl
theorem q2275 : (Jvm.Cond.methodLink "java/util/ImmutableCollections$AbstractImmutableCollection" (1 : Nat) ({ cls := "java/util/AbstractCollection", name := "<init>", desc := "()V" } : Jvm.MethodName)) ∈ lw_all := lw_g (lw_at lw_m10 7 rfl) rfl
def RJ34 : String := "java/util/ImmutableCollections$AbstractImmutableList"
abbrev cJ34_init : ByteArray := prog_65_method_1_code
def yJ34_init : MethodName := ⟨RJ34, "<init>", "()V"⟩
theorem q162 : (Jvm.Cond.initialized "java/util/ImmutableCollections$AbstractImmutableList") ∈ lw_all := lw_g (lw_at lw_m1 54 rfl) rfl
theorem q2270 : (Jvm.Cond.instanceMethod ({ cls := "java/util/ImmutableCollections$AbstractImmutableList", name := "<init>", desc := "()V" } : Jvm.MethodName)) ∈ lw_all := lw_g (lw_at lw_m10 2 rfl) rfl
theorem q2271 : (Jvm.Cond.code ({ cls := "java/util/ImmutableCollections$AbstractImmutableList", name := "<init>", desc := "()V" } : Jvm.MethodName) prog_65_method_1_code (1 : Nat) (Option.none : Option Jvm.ClassFile.FieldType)) ∈ lw_all := lw_g (lw_at lw_m10 3 rfl) rfl
theorem q2272 : (Jvm.Cond.methodLink "java/util/ImmutableCollections$AbstractImmutableList" (1 : Nat) ({ cls := "java/util/ImmutableCollections$AbstractImmutableCollection", name := "<init>", desc := "()V" } : Jvm.MethodName)) ∈ lw_all := lw_g (lw_at lw_m10 4 rfl) rfl
def RJ35 : String := "java/util/ImmutableCollections$List12"
def TJ35 : u_T := fun k => match k with
  | 0 => ("java/util/ImmutableCollections$List12", "e0", "Ljava/lang/Object;", true)
  | _ => ("java/util/ImmutableCollections$List12", "e1", "Ljava/lang/Object;", true)
def tyJ35 : Nat → FieldType := fun k => match k with
  | 0 => .object "java/lang/Object"
  | _ => .object "java/lang/Object"
abbrev wsJ350 : List Cond := u_ws RJ35 TJ35 2
theorem nmJ35 : ∀ a, a < 2 → ∀ b, b < 2 → a ≠ b → (TJ35 a).2.1 ≠ (TJ35 b).2.1 := by decide +kernel
theorem tyJ35_ok : ∀ k, k < 2 → parseFieldDescriptor (TJ35 k).2.2.1 = some (tyJ35 k) := by decide +kernel
abbrev cJ35_init : ByteArray := prog_66_method_1_code
def yJ35_init : MethodName := ⟨RJ35, "<init>", "(Ljava/lang/Object;)V"⟩
abbrev cJ35_init_2 : ByteArray := prog_66_method_2_code
def yJ35_init_2 : MethodName := ⟨RJ35, "<init>", "(Ljava/lang/Object;Ljava/lang/Object;)V"⟩
abbrev cJ35_indexOf : ByteArray := prog_66_method_6_code
def yJ35_indexOf : MethodName := ⟨RJ35, "indexOf", "(Ljava/lang/Object;)I"⟩
theorem q163 : (Jvm.Cond.initialized "java/util/ImmutableCollections$List12") ∈ lw_all := lw_g (lw_at lw_m1 55 rfl) rfl
theorem q406 : (Jvm.Cond.selects "java/util/ImmutableCollections$List12" ({ cls := "java/lang/Object", name := "getClass", desc := "()Ljava/lang/Class;" } : Jvm.MethodName) ({ cls := "java/lang/Object", name := "getClass", desc := "()Ljava/lang/Class;" } : Jvm.MethodName)) ∈ lw_all := lw_g (lw_at lw_m2 58 rfl) rfl
theorem q2265 : (Jvm.Cond.instantiable "java/util/ImmutableCollections$List12" (2 : Nat)) ∈ lw_all := lw_g (lw_at lw_m9 237 rfl) rfl
theorem q2267 : (Jvm.Cond.instanceMethod ({ cls := "java/util/ImmutableCollections$List12", name := "<init>", desc := "(Ljava/lang/Object;)V" } : Jvm.MethodName)) ∈ lw_all := lw_g (lw_at lw_m9 239 rfl) rfl
theorem q2268 : (Jvm.Cond.code ({ cls := "java/util/ImmutableCollections$List12", name := "<init>", desc := "(Ljava/lang/Object;)V" } : Jvm.MethodName) prog_66_method_1_code (2 : Nat) (Option.none : Option Jvm.ClassFile.FieldType)) ∈ lw_all := lw_g (lw_at lw_m10 0 rfl) rfl
theorem q2269 : (Jvm.Cond.methodLink "java/util/ImmutableCollections$List12" (1 : Nat) ({ cls := "java/util/ImmutableCollections$AbstractImmutableList", name := "<init>", desc := "()V" } : Jvm.MethodName)) ∈ lw_all := lw_g (lw_at lw_m10 1 rfl) rfl
theorem q2276 : (Jvm.Cond.methodLink "java/util/ImmutableCollections$List12" (7 : Nat) ({ cls := "java/util/Objects", name := "requireNonNull", desc := "(Ljava/lang/Object;)Ljava/lang/Object;" } : Jvm.MethodName)) ∈ lw_all := lw_g (lw_at lw_m10 8 rfl) rfl
theorem q2277 : (Jvm.Cond.fieldLinkNest "java/util/ImmutableCollections$List12" (19 : Nat) "java/util/ImmutableCollections" "EMPTY" "Ljava/lang/Object;" "java/util/ImmutableCollections") ∈ lw_tbl := lw_at lw_m10 9 rfl
theorem q2279 : (Jvm.Cond.fieldLink "java/util/ImmutableCollections$List12" (13 : Nat) "java/util/ImmutableCollections$List12" "e0" "Ljava/lang/Object;") ∈ lw_all := lw_g (lw_at lw_m10 11 rfl) rfl
theorem q2280 : (Jvm.Cond.fieldLink "java/util/ImmutableCollections$List12" (24 : Nat) "java/util/ImmutableCollections$List12" "e1" "Ljava/lang/Object;") ∈ lw_all := lw_g (lw_at lw_m10 12 rfl) rfl
theorem q2281 : (Jvm.Cond.laysFinal "java/util/ImmutableCollections$List12" "java/util/ImmutableCollections$List12" "e0" "Ljava/lang/Object;") ∈ lw_all := lw_g (lw_at lw_m10 13 rfl) rfl
theorem q2282 : (Jvm.Cond.soleField "java/util/ImmutableCollections$List12" "e0") ∈ lw_all := lw_g (lw_at lw_m10 14 rfl) rfl
theorem q2283 : (Jvm.Cond.laysFinal "java/util/ImmutableCollections$List12" "java/util/ImmutableCollections$List12" "e1" "Ljava/lang/Object;") ∈ lw_all := lw_g (lw_at lw_m10 15 rfl) rfl
theorem q2284 : (Jvm.Cond.soleField "java/util/ImmutableCollections$List12" "e1") ∈ lw_all := lw_g (lw_at lw_m10 16 rfl) rfl
theorem q2285 : (Jvm.Cond.superclass "java/util/ImmutableCollections$List12" "java/util/ImmutableCollections$AbstractImmutableList") ∈ lw_all := lw_g (lw_at lw_m10 17 rfl) rfl
theorem q2287 : (Jvm.Cond.instanceMethod ({ cls := "java/util/ImmutableCollections$List12", name := "<init>", desc := "(Ljava/lang/Object;Ljava/lang/Object;)V" } : Jvm.MethodName)) ∈ lw_all := lw_g (lw_at lw_m10 19 rfl) rfl
theorem q2288 : (Jvm.Cond.code ({ cls := "java/util/ImmutableCollections$List12", name := "<init>", desc := "(Ljava/lang/Object;Ljava/lang/Object;)V" } : Jvm.MethodName) prog_66_method_2_code (3 : Nat) (Option.none : Option Jvm.ClassFile.FieldType)) ∈ lw_all := lw_g (lw_at lw_m10 20 rfl) rfl
theorem q2345 : (Jvm.Cond.castable "java/util/ImmutableCollections$List12" "java/util/List") ∈ lw_tbl := lw_at lw_m10 77 rfl
theorem q2346 : (Jvm.Cond.selects "java/util/ImmutableCollections$List12" ({ cls := "java/util/List", name := "indexOf", desc := "(Ljava/lang/Object;)I" } : Jvm.MethodName) ({ cls := "java/util/ImmutableCollections$List12", name := "indexOf", desc := "(Ljava/lang/Object;)I" } : Jvm.MethodName)) ∈ lw_all := lw_g (lw_at lw_m10 78 rfl) rfl
theorem q2347 : (Jvm.Cond.unhidden "java/util/ImmutableCollections$List12" "indexOf" "(Ljava/lang/Object;)I") ∈ lw_tbl := lw_at lw_m10 79 rfl
theorem q2348 : (Jvm.Cond.instanceMethod ({ cls := "java/util/ImmutableCollections$List12", name := "indexOf", desc := "(Ljava/lang/Object;)I" } : Jvm.MethodName)) ∈ lw_all := lw_g (lw_at lw_m10 80 rfl) rfl
theorem q2349 : (Jvm.Cond.publicMethod ({ cls := "java/util/ImmutableCollections$List12", name := "indexOf", desc := "(Ljava/lang/Object;)I" } : Jvm.MethodName)) ∈ lw_tbl := lw_at lw_m10 81 rfl
theorem q2350 : (Jvm.Cond.code ({ cls := "java/util/ImmutableCollections$List12", name := "indexOf", desc := "(Ljava/lang/Object;)I" } : Jvm.MethodName) prog_66_method_6_code (2 : Nat) (Option.some Jvm.ClassFile.FieldType.int)) ∈ lw_all := lw_g (lw_at lw_m10 82 rfl) rfl
theorem q2351 : (Jvm.Cond.methodLink "java/util/ImmutableCollections$List12" (31 : Nat) ({ cls := "java/lang/Object", name := "equals", desc := "(Ljava/lang/Object;)Z" } : Jvm.MethodName)) ∈ lw_all := lw_g (lw_at lw_m10 83 rfl) rfl
theorem q3063 : (Jvm.Cond.castable "java/util/ImmutableCollections$List12" "java/lang/Object") ∈ lw_tbl := lw_at lw_m13 75 rfl
theorem in_J35 : ∀ w ∈ wsJ350, w ∈ lw_all := lw_in wsJ350 [2281, 2283] (by decide +kernel) (by decide +kernel)
def RJ36 : String := "java/util/ImmutableCollections$ListN"
def TJ36 : u_T := fun k => match k with
  | 0 => ("java/util/ImmutableCollections$ListN", "elements", "[Ljava/lang/Object;", true)
  | _ => ("java/util/ImmutableCollections$ListN", "allowNulls", "Z", true)
def tyJ36 : Nat → FieldType := fun k => match k with
  | 0 => .array (.object "java/lang/Object")
  | _ => .boolean
abbrev wsJ360 : List Cond := u_ws RJ36 TJ36 2
theorem nmJ36 : ∀ a, a < 2 → ∀ b, b < 2 → a ≠ b → (TJ36 a).2.1 ≠ (TJ36 b).2.1 := by decide +kernel
theorem tyJ36_ok : ∀ k, k < 2 → parseFieldDescriptor (TJ36 k).2.2.1 = some (tyJ36 k) := by decide +kernel
abbrev cJ36_init : ByteArray := prog_67_method_1_code
def yJ36_init : MethodName := ⟨RJ36, "<init>", "([Ljava/lang/Object;Z)V"⟩
abbrev cJ36_indexOf : ByteArray := prog_67_method_9_code
def yJ36_indexOf : MethodName := ⟨RJ36, "indexOf", "(Ljava/lang/Object;)I"⟩
theorem q164 : (Jvm.Cond.initialized "java/util/ImmutableCollections$ListN") ∈ lw_all := lw_g (lw_at lw_m1 56 rfl) rfl
theorem q407 : (Jvm.Cond.selects "java/util/ImmutableCollections$ListN" ({ cls := "java/lang/Object", name := "getClass", desc := "()Ljava/lang/Class;" } : Jvm.MethodName) ({ cls := "java/lang/Object", name := "getClass", desc := "()Ljava/lang/Class;" } : Jvm.MethodName)) ∈ lw_all := lw_g (lw_at lw_m2 59 rfl) rfl
theorem q2290 : (Jvm.Cond.instantiable "java/util/ImmutableCollections$ListN" (2 : Nat)) ∈ lw_all := lw_g (lw_at lw_m10 22 rfl) rfl
theorem q2292 : (Jvm.Cond.instanceMethod ({ cls := "java/util/ImmutableCollections$ListN", name := "<init>", desc := "([Ljava/lang/Object;Z)V" } : Jvm.MethodName)) ∈ lw_all := lw_g (lw_at lw_m10 24 rfl) rfl
theorem q2293 : (Jvm.Cond.code ({ cls := "java/util/ImmutableCollections$ListN", name := "<init>", desc := "([Ljava/lang/Object;Z)V" } : Jvm.MethodName) prog_67_method_1_code (3 : Nat) (Option.none : Option Jvm.ClassFile.FieldType)) ∈ lw_all := lw_g (lw_at lw_m10 25 rfl) rfl
theorem q2294 : (Jvm.Cond.methodLink "java/util/ImmutableCollections$ListN" (1 : Nat) ({ cls := "java/util/ImmutableCollections$AbstractImmutableList", name := "<init>", desc := "()V" } : Jvm.MethodName)) ∈ lw_all := lw_g (lw_at lw_m10 26 rfl) rfl
theorem q2295 : (Jvm.Cond.fieldLink "java/util/ImmutableCollections$ListN" (7 : Nat) "java/util/ImmutableCollections$ListN" "elements" "[Ljava/lang/Object;") ∈ lw_all := lw_g (lw_at lw_m10 27 rfl) rfl
theorem q2296 : (Jvm.Cond.fieldLink "java/util/ImmutableCollections$ListN" (13 : Nat) "java/util/ImmutableCollections$ListN" "allowNulls" "Z") ∈ lw_all := lw_g (lw_at lw_m10 28 rfl) rfl
theorem q2297 : (Jvm.Cond.laysFinal "java/util/ImmutableCollections$ListN" "java/util/ImmutableCollections$ListN" "elements" "[Ljava/lang/Object;") ∈ lw_all := lw_g (lw_at lw_m10 29 rfl) rfl
theorem q2298 : (Jvm.Cond.soleField "java/util/ImmutableCollections$ListN" "elements") ∈ lw_all := lw_g (lw_at lw_m10 30 rfl) rfl
theorem q2299 : (Jvm.Cond.laysFinal "java/util/ImmutableCollections$ListN" "java/util/ImmutableCollections$ListN" "allowNulls" "Z") ∈ lw_all := lw_g (lw_at lw_m10 31 rfl) rfl
theorem q2300 : (Jvm.Cond.soleField "java/util/ImmutableCollections$ListN" "allowNulls") ∈ lw_all := lw_g (lw_at lw_m10 32 rfl) rfl
theorem q2301 : (Jvm.Cond.superclass "java/util/ImmutableCollections$ListN" "java/util/ImmutableCollections$AbstractImmutableList") ∈ lw_all := lw_g (lw_at lw_m10 33 rfl) rfl
theorem q2352 : (Jvm.Cond.castable "java/util/ImmutableCollections$ListN" "java/util/List") ∈ lw_tbl := lw_at lw_m10 84 rfl
theorem q2353 : (Jvm.Cond.selects "java/util/ImmutableCollections$ListN" ({ cls := "java/util/List", name := "indexOf", desc := "(Ljava/lang/Object;)I" } : Jvm.MethodName) ({ cls := "java/util/ImmutableCollections$ListN", name := "indexOf", desc := "(Ljava/lang/Object;)I" } : Jvm.MethodName)) ∈ lw_all := lw_g (lw_at lw_m10 85 rfl) rfl
theorem q2354 : (Jvm.Cond.unhidden "java/util/ImmutableCollections$ListN" "indexOf" "(Ljava/lang/Object;)I") ∈ lw_tbl := lw_at lw_m10 86 rfl
theorem q2355 : (Jvm.Cond.instanceMethod ({ cls := "java/util/ImmutableCollections$ListN", name := "indexOf", desc := "(Ljava/lang/Object;)I" } : Jvm.MethodName)) ∈ lw_all := lw_g (lw_at lw_m10 87 rfl) rfl
theorem q2356 : (Jvm.Cond.publicMethod ({ cls := "java/util/ImmutableCollections$ListN", name := "indexOf", desc := "(Ljava/lang/Object;)I" } : Jvm.MethodName)) ∈ lw_tbl := lw_at lw_m10 88 rfl
theorem q2357 : (Jvm.Cond.code ({ cls := "java/util/ImmutableCollections$ListN", name := "indexOf", desc := "(Ljava/lang/Object;)I" } : Jvm.MethodName) prog_67_method_9_code (4 : Nat) (Option.some Jvm.ClassFile.FieldType.int)) ∈ lw_all := lw_g (lw_at lw_m10 89 rfl) rfl
theorem q2358 : (Jvm.Cond.methodLink "java/util/ImmutableCollections$ListN" (53 : Nat) ({ cls := "java/util/Objects", name := "equals", desc := "(Ljava/lang/Object;Ljava/lang/Object;)Z" } : Jvm.MethodName)) ∈ lw_all := lw_g (lw_at lw_m10 90 rfl) rfl
theorem q3062 : (Jvm.Cond.castable "java/util/ImmutableCollections$ListN" "java/lang/Object") ∈ lw_tbl := lw_at lw_m13 74 rfl
theorem in_J36 : ∀ w ∈ wsJ360, w ∈ lw_all := lw_in wsJ360 [2297, 2299] (by decide +kernel) (by decide +kernel)
def RX16 : String := "KeyTurns$Comparison"
def TX16 : u_T := fun k => match k with
  | 0 => ("KeyTurns$Comparison", "left", "I", true)
  | 1 => ("KeyTurns$Comparison", "sign", "I", true)
  | _ => ("KeyTurns$Comparison", "right", "I", true)
def tyX16 : Nat → FieldType := fun k => match k with
  | 0 => .int
  | 1 => .int
  | _ => .int
abbrev wsX160 : List Cond := u_ws RX16 TX16 3
theorem nmX16 : ∀ a, a < 3 → ∀ b, b < 3 → a ≠ b → (TX16 a).2.1 ≠ (TX16 b).2.1 := by decide +kernel
theorem tyX16_ok : ∀ k, k < 3 → parseFieldDescriptor (TX16 k).2.2.1 = some (tyX16 k) := by decide +kernel
abbrev cX16_init : ByteArray := prog_3_method_1_code
def yX16_init : MethodName := ⟨RX16, "<init>", "(III)V"⟩
abbrev cX16_holds : ByteArray := prog_3_method_2_code
def yX16_holds : MethodName := ⟨RX16, "holds", "(LKeyTurns$State;I)Z"⟩
abbrev cX16_value : ByteArray := prog_3_method_3_code
def yX16_value : MethodName := ⟨RX16, "value", "(ILKeyTurns$State;I)I"⟩
theorem q165 : (Jvm.Cond.initialized "KeyTurns$Comparison") ∈ lw_all := lw_g (lw_at lw_m1 57 rfl) rfl
theorem q381 : (Jvm.Cond.selects "KeyTurns$Comparison" ({ cls := "java/lang/Object", name := "getClass", desc := "()Ljava/lang/Class;" } : Jvm.MethodName) ({ cls := "java/lang/Object", name := "getClass", desc := "()Ljava/lang/Class;" } : Jvm.MethodName)) ∈ lw_all := lw_g (lw_at lw_m2 33 rfl) rfl
theorem q2322 : (Jvm.Cond.selects "KeyTurns$Comparison" ({ cls := "java/lang/Object", name := "equals", desc := "(Ljava/lang/Object;)Z" } : Jvm.MethodName) ({ cls := "java/lang/Object", name := "equals", desc := "(Ljava/lang/Object;)Z" } : Jvm.MethodName)) ∈ lw_all := lw_g (lw_at lw_m10 54 rfl) rfl
theorem q2376 : (Jvm.Cond.instantiable "KeyTurns$Comparison" (3 : Nat)) ∈ lw_all := lw_g (lw_at lw_m10 108 rfl) rfl
theorem q2378 : (Jvm.Cond.instanceMethod ({ cls := "KeyTurns$Comparison", name := "<init>", desc := "(III)V" } : Jvm.MethodName)) ∈ lw_all := lw_g (lw_at lw_m10 110 rfl) rfl
theorem q2379 : (Jvm.Cond.code ({ cls := "KeyTurns$Comparison", name := "<init>", desc := "(III)V" } : Jvm.MethodName) prog_3_method_1_code (4 : Nat) (Option.none : Option Jvm.ClassFile.FieldType)) ∈ lw_all := lw_g (lw_at lw_m10 111 rfl) rfl
theorem q2380 : (Jvm.Cond.methodLinkNest "KeyTurns$Comparison" (1 : Nat) ({ cls := "KeyTurns$Test", name := "<init>", desc := "()V" } : Jvm.MethodName) "KeyTurns") ∈ lw_tbl := lw_at lw_m10 112 rfl
theorem q2381 : (Jvm.Cond.fieldLink "KeyTurns$Comparison" (7 : Nat) "KeyTurns$Comparison" "left" "I") ∈ lw_all := lw_g (lw_at lw_m10 113 rfl) rfl
theorem q2382 : (Jvm.Cond.fieldLink "KeyTurns$Comparison" (13 : Nat) "KeyTurns$Comparison" "sign" "I") ∈ lw_all := lw_g (lw_at lw_m10 114 rfl) rfl
theorem q2383 : (Jvm.Cond.fieldLink "KeyTurns$Comparison" (16 : Nat) "KeyTurns$Comparison" "right" "I") ∈ lw_all := lw_g (lw_at lw_m10 115 rfl) rfl
theorem q2384 : (Jvm.Cond.laysFinal "KeyTurns$Comparison" "KeyTurns$Comparison" "left" "I") ∈ lw_all := lw_g (lw_at lw_m10 116 rfl) rfl
theorem q2385 : (Jvm.Cond.soleField "KeyTurns$Comparison" "left") ∈ lw_all := lw_g (lw_at lw_m10 117 rfl) rfl
theorem q2386 : (Jvm.Cond.laysFinal "KeyTurns$Comparison" "KeyTurns$Comparison" "sign" "I") ∈ lw_all := lw_g (lw_at lw_m10 118 rfl) rfl
theorem q2387 : (Jvm.Cond.soleField "KeyTurns$Comparison" "sign") ∈ lw_all := lw_g (lw_at lw_m10 119 rfl) rfl
theorem q2388 : (Jvm.Cond.laysFinal "KeyTurns$Comparison" "KeyTurns$Comparison" "right" "I") ∈ lw_all := lw_g (lw_at lw_m10 120 rfl) rfl
theorem q2389 : (Jvm.Cond.soleField "KeyTurns$Comparison" "right") ∈ lw_all := lw_g (lw_at lw_m10 121 rfl) rfl
theorem q2390 : (Jvm.Cond.superclass "KeyTurns$Comparison" "KeyTurns$Test") ∈ lw_all := lw_g (lw_at lw_m10 122 rfl) rfl
theorem q2412 : (Jvm.Cond.selects "KeyTurns$Comparison" ({ cls := "KeyTurns$Test", name := "holds", desc := "(LKeyTurns$State;I)Z" } : Jvm.MethodName) ({ cls := "KeyTurns$Comparison", name := "holds", desc := "(LKeyTurns$State;I)Z" } : Jvm.MethodName)) ∈ lw_all := lw_g (lw_at lw_m10 144 rfl) rfl
theorem q2413 : (Jvm.Cond.instanceMethod ({ cls := "KeyTurns$Comparison", name := "holds", desc := "(LKeyTurns$State;I)Z" } : Jvm.MethodName)) ∈ lw_all := lw_g (lw_at lw_m10 145 rfl) rfl
theorem q2414 : (Jvm.Cond.code ({ cls := "KeyTurns$Comparison", name := "holds", desc := "(LKeyTurns$State;I)Z" } : Jvm.MethodName) prog_3_method_2_code (5 : Nat) (Option.some Jvm.ClassFile.FieldType.boolean)) ∈ lw_all := lw_g (lw_at lw_m10 146 rfl) rfl
theorem q2415 : (Jvm.Cond.methodLink "KeyTurns$Comparison" (19 : Nat) ({ cls := "KeyTurns$Comparison", name := "value", desc := "(ILKeyTurns$State;I)I" } : Jvm.MethodName)) ∈ lw_all := lw_g (lw_at lw_m10 147 rfl) rfl
theorem q2416 : (Jvm.Cond.static ({ cls := "KeyTurns$Comparison", name := "value", desc := "(ILKeyTurns$State;I)I" } : Jvm.MethodName)) ∈ lw_all := lw_g (lw_at lw_m10 148 rfl) rfl
theorem q2417 : (Jvm.Cond.code ({ cls := "KeyTurns$Comparison", name := "value", desc := "(ILKeyTurns$State;I)I" } : Jvm.MethodName) prog_3_method_3_code (3 : Nat) (Option.some Jvm.ClassFile.FieldType.int)) ∈ lw_all := lw_g (lw_at lw_m10 149 rfl) rfl
theorem q2418 : (Jvm.Cond.methodLinkNest "KeyTurns$Comparison" (23 : Nat) ({ cls := "KeyTurns", name := "of", desc := "(ILKeyTurns$State;I)I" } : Jvm.MethodName) "KeyTurns") ∈ lw_tbl := lw_at lw_m10 150 rfl
theorem q3028 : (Jvm.Cond.castable "KeyTurns$Comparison" "KeyTurns$Test") ∈ lw_tbl := lw_at lw_m13 40 rfl
theorem q3064 : (Jvm.Cond.castable "KeyTurns$Comparison" "java/lang/Object") ∈ lw_tbl := lw_at lw_m13 76 rfl
theorem in_X16 : ∀ w ∈ wsX160, w ∈ lw_all := lw_in wsX160 [2384, 2386, 2388] (by decide +kernel) (by decide +kernel)
def RX17 : String := "KeyTurns$Joined"
def TX17 : u_T := fun k => match k with
  | 0 => ("KeyTurns$Joined", "operands", "Ljava/util/ArrayList;", true)
  | _ => ("KeyTurns$Joined", "isAny", "Z", true)
def tyX17 : Nat → FieldType := fun k => match k with
  | 0 => .object "java/util/ArrayList"
  | _ => .boolean
abbrev wsX170 : List Cond := u_ws RX17 TX17 2
theorem nmX17 : ∀ a, a < 2 → ∀ b, b < 2 → a ≠ b → (TX17 a).2.1 ≠ (TX17 b).2.1 := by decide +kernel
theorem tyX17_ok : ∀ k, k < 2 → parseFieldDescriptor (TX17 k).2.2.1 = some (tyX17 k) := by decide +kernel
abbrev cX17_init : ByteArray := prog_5_method_1_code
def yX17_init : MethodName := ⟨RX17, "<init>", "(Ljava/util/ArrayList;Z)V"⟩
abbrev cX17_holds : ByteArray := prog_5_method_2_code
def yX17_holds : MethodName := ⟨RX17, "holds", "(LKeyTurns$State;I)Z"⟩
theorem q166 : (Jvm.Cond.initialized "KeyTurns$Joined") ∈ lw_all := lw_g (lw_at lw_m1 58 rfl) rfl
theorem q383 : (Jvm.Cond.selects "KeyTurns$Joined" ({ cls := "java/lang/Object", name := "getClass", desc := "()Ljava/lang/Class;" } : Jvm.MethodName) ({ cls := "java/lang/Object", name := "getClass", desc := "()Ljava/lang/Class;" } : Jvm.MethodName)) ∈ lw_all := lw_g (lw_at lw_m2 35 rfl) rfl
theorem q2324 : (Jvm.Cond.selects "KeyTurns$Joined" ({ cls := "java/lang/Object", name := "equals", desc := "(Ljava/lang/Object;)Z" } : Jvm.MethodName) ({ cls := "java/lang/Object", name := "equals", desc := "(Ljava/lang/Object;)Z" } : Jvm.MethodName)) ∈ lw_all := lw_g (lw_at lw_m10 56 rfl) rfl
theorem q2394 : (Jvm.Cond.instantiable "KeyTurns$Joined" (2 : Nat)) ∈ lw_all := lw_g (lw_at lw_m10 126 rfl) rfl
theorem q2396 : (Jvm.Cond.instanceMethod ({ cls := "KeyTurns$Joined", name := "<init>", desc := "(Ljava/util/ArrayList;Z)V" } : Jvm.MethodName)) ∈ lw_all := lw_g (lw_at lw_m10 128 rfl) rfl
theorem q2397 : (Jvm.Cond.code ({ cls := "KeyTurns$Joined", name := "<init>", desc := "(Ljava/util/ArrayList;Z)V" } : Jvm.MethodName) prog_5_method_1_code (3 : Nat) (Option.none : Option Jvm.ClassFile.FieldType)) ∈ lw_all := lw_g (lw_at lw_m10 129 rfl) rfl
theorem q2398 : (Jvm.Cond.methodLinkNest "KeyTurns$Joined" (1 : Nat) ({ cls := "KeyTurns$Test", name := "<init>", desc := "()V" } : Jvm.MethodName) "KeyTurns") ∈ lw_tbl := lw_at lw_m10 130 rfl
theorem q2399 : (Jvm.Cond.fieldLink "KeyTurns$Joined" (7 : Nat) "KeyTurns$Joined" "operands" "Ljava/util/ArrayList;") ∈ lw_all := lw_g (lw_at lw_m10 131 rfl) rfl
theorem q2400 : (Jvm.Cond.fieldLink "KeyTurns$Joined" (13 : Nat) "KeyTurns$Joined" "isAny" "Z") ∈ lw_all := lw_g (lw_at lw_m10 132 rfl) rfl
theorem q2401 : (Jvm.Cond.laysFinal "KeyTurns$Joined" "KeyTurns$Joined" "operands" "Ljava/util/ArrayList;") ∈ lw_all := lw_g (lw_at lw_m10 133 rfl) rfl
theorem q2402 : (Jvm.Cond.soleField "KeyTurns$Joined" "operands") ∈ lw_all := lw_g (lw_at lw_m10 134 rfl) rfl
theorem q2403 : (Jvm.Cond.laysFinal "KeyTurns$Joined" "KeyTurns$Joined" "isAny" "Z") ∈ lw_all := lw_g (lw_at lw_m10 135 rfl) rfl
theorem q2404 : (Jvm.Cond.soleField "KeyTurns$Joined" "isAny") ∈ lw_all := lw_g (lw_at lw_m10 136 rfl) rfl
theorem q2405 : (Jvm.Cond.superclass "KeyTurns$Joined" "KeyTurns$Test") ∈ lw_all := lw_g (lw_at lw_m10 137 rfl) rfl
theorem q2432 : (Jvm.Cond.selects "KeyTurns$Joined" ({ cls := "KeyTurns$Test", name := "holds", desc := "(LKeyTurns$State;I)Z" } : Jvm.MethodName) ({ cls := "KeyTurns$Joined", name := "holds", desc := "(LKeyTurns$State;I)Z" } : Jvm.MethodName)) ∈ lw_all := lw_g (lw_at lw_m10 164 rfl) rfl
theorem q2433 : (Jvm.Cond.instanceMethod ({ cls := "KeyTurns$Joined", name := "holds", desc := "(LKeyTurns$State;I)Z" } : Jvm.MethodName)) ∈ lw_all := lw_g (lw_at lw_m10 165 rfl) rfl
theorem q2434 : (Jvm.Cond.code ({ cls := "KeyTurns$Joined", name := "holds", desc := "(LKeyTurns$State;I)Z" } : Jvm.MethodName) prog_5_method_2_code (4 : Nat) (Option.some Jvm.ClassFile.FieldType.boolean)) ∈ lw_all := lw_g (lw_at lw_m10 166 rfl) rfl
theorem q2435 : (Jvm.Cond.methodLink "KeyTurns$Joined" (17 : Nat) ({ cls := "java/util/ArrayList", name := "size", desc := "()I" } : Jvm.MethodName)) ∈ lw_all := lw_g (lw_at lw_m10 167 rfl) rfl
theorem q2436 : (Jvm.Cond.methodLink "KeyTurns$Joined" (23 : Nat) ({ cls := "java/util/ArrayList", name := "get", desc := "(I)Ljava/lang/Object;" } : Jvm.MethodName)) ∈ lw_all := lw_g (lw_at lw_m10 168 rfl) rfl
theorem q2437 : (Jvm.Cond.classLink "KeyTurns$Joined" (2 : Nat) "KeyTurns$Test") ∈ lw_all := lw_g (lw_at lw_m10 169 rfl) rfl
theorem q2438 : (Jvm.Cond.methodLink "KeyTurns$Joined" (27 : Nat) ({ cls := "KeyTurns$Test", name := "holds", desc := "(LKeyTurns$State;I)Z" } : Jvm.MethodName)) ∈ lw_all := lw_g (lw_at lw_m10 170 rfl) rfl
theorem q3029 : (Jvm.Cond.castable "KeyTurns$Joined" "KeyTurns$Test") ∈ lw_tbl := lw_at lw_m13 41 rfl
theorem q3065 : (Jvm.Cond.castable "KeyTurns$Joined" "java/lang/Object") ∈ lw_tbl := lw_at lw_m13 77 rfl
theorem in_X17 : ∀ w ∈ wsX170, w ∈ lw_all := lw_in wsX170 [2401, 2403] (by decide +kernel) (by decide +kernel)
def RJ37 : String := "java/lang/Object"
abbrev cJ37_init : ByteArray := object_method_1_code
def yJ37_init : MethodName := ⟨RJ37, "<init>", "()V"⟩
abbrev cJ37_equals : ByteArray := object_method_4_code
def yJ37_equals : MethodName := ⟨RJ37, "equals", "(Ljava/lang/Object;)Z"⟩
theorem q173 : (Jvm.Cond.instanceMethod ({ cls := "java/lang/Object", name := "<init>", desc := "()V" } : Jvm.MethodName)) ∈ lw_all := lw_g (lw_at lw_m1 65 rfl) rfl
theorem q174 : (Jvm.Cond.code ({ cls := "java/lang/Object", name := "<init>", desc := "()V" } : Jvm.MethodName) object_method_1_code (1 : Nat) (Option.none : Option Jvm.ClassFile.FieldType)) ∈ lw_all := lw_g (lw_at lw_m1 66 rfl) rfl
theorem q377 : (Jvm.Cond.instanceMethod ({ cls := "java/lang/Object", name := "getClass", desc := "()Ljava/lang/Class;" } : Jvm.MethodName)) ∈ lw_all := lw_g (lw_at lw_m2 29 rfl) rfl
theorem q378 : (Jvm.Cond.sameMethod "java/lang/Object" "java/lang/Object" "getClass" "()Ljava/lang/Class;") ∈ lw_all := lw_g (lw_at lw_m2 30 rfl) rfl
theorem q412 : (Jvm.Cond.native ({ cls := "java/lang/Object", name := "getClass", desc := "()Ljava/lang/Class;" } : Jvm.MethodName)) ∈ lw_all := lw_g (lw_at lw_m2 64 rfl) rfl
theorem q803 : (Jvm.Cond.native ({ cls := "java/lang/Object", name := "clone", desc := "()Ljava/lang/Object;" } : Jvm.MethodName)) ∈ lw_all := lw_g (lw_at lw_m3 215 rfl) rfl
theorem q804 : (Jvm.Cond.instanceMethod ({ cls := "java/lang/Object", name := "clone", desc := "()Ljava/lang/Object;" } : Jvm.MethodName)) ∈ lw_all := lw_g (lw_at lw_m3 216 rfl) rfl
theorem q2316 : (Jvm.Cond.declares ({ cls := "java/lang/Object", name := "equals", desc := "(Ljava/lang/Object;)Z" } : Jvm.MethodName)) ∈ lw_tbl := lw_at lw_m10 48 rfl
theorem q2318 : (Jvm.Cond.instanceMethod ({ cls := "java/lang/Object", name := "equals", desc := "(Ljava/lang/Object;)Z" } : Jvm.MethodName)) ∈ lw_all := lw_g (lw_at lw_m10 50 rfl) rfl
theorem q2319 : (Jvm.Cond.sameMethod "java/lang/Object" "java/lang/Object" "equals" "(Ljava/lang/Object;)Z") ∈ lw_all := lw_g (lw_at lw_m10 51 rfl) rfl
theorem q2344 : (Jvm.Cond.code ({ cls := "java/lang/Object", name := "equals", desc := "(Ljava/lang/Object;)Z" } : Jvm.MethodName) object_method_4_code (2 : Nat) (Option.some Jvm.ClassFile.FieldType.boolean)) ∈ lw_all := lw_g (lw_at lw_m10 76 rfl) rfl
theorem q3025 : (Jvm.Cond.initialized "java/lang/Object") ∈ lw_all := lw_g (lw_at lw_m13 37 rfl) rfl
theorem q3031 : (Jvm.Cond.selects "java/lang/Object" ({ cls := "java/lang/Object", name := "equals", desc := "(Ljava/lang/Object;)Z" } : Jvm.MethodName) ({ cls := "java/lang/Object", name := "equals", desc := "(Ljava/lang/Object;)Z" } : Jvm.MethodName)) ∈ lw_all := lw_g (lw_at lw_m13 43 rfl) rfl
theorem q3073 : (Jvm.Cond.declares ({ cls := "java/lang/Object", name := "getClass", desc := "()Ljava/lang/Class;" } : Jvm.MethodName)) ∈ lw_tbl := lw_at lw_m13 85 rfl
theorem q3094 : (Jvm.Cond.instantiable "java/lang/Object" (0 : Nat)) ∈ lw_all := lw_g (lw_at lw_m13 106 rfl) rfl
def RX18 : String := "KeyTurns$Standing$1"
abbrev cX18_fits : ByteArray := prog_12_method_2_code
def yX18_fits : MethodName := ⟨RX18, "fits", "(LKeyTurns$Version;I)Z"⟩
theorem q329 : (Jvm.Cond.fieldLink "KeyTurns$Standing$1" (7 : Nat) "KeyTurns$Version" "first" "I") ∈ lw_all := lw_g (lw_at lw_m1 221 rfl) rfl
theorem q388 : (Jvm.Cond.selects "KeyTurns$Standing$1" ({ cls := "java/lang/Object", name := "getClass", desc := "()Ljava/lang/Class;" } : Jvm.MethodName) ({ cls := "java/lang/Object", name := "getClass", desc := "()Ljava/lang/Class;" } : Jvm.MethodName)) ∈ lw_all := lw_g (lw_at lw_m2 40 rfl) rfl
theorem q1858 : (Jvm.Cond.selects "KeyTurns$Standing$1" ({ cls := "KeyTurns$Standing", name := "fits", desc := "(LKeyTurns$Version;I)Z" } : Jvm.MethodName) ({ cls := "KeyTurns$Standing$1", name := "fits", desc := "(LKeyTurns$Version;I)Z" } : Jvm.MethodName)) ∈ lw_all := lw_g (lw_at lw_m8 70 rfl) rfl
theorem q1859 : (Jvm.Cond.instanceMethod ({ cls := "KeyTurns$Standing$1", name := "fits", desc := "(LKeyTurns$Version;I)Z" } : Jvm.MethodName)) ∈ lw_all := lw_g (lw_at lw_m8 71 rfl) rfl
theorem q1860 : (Jvm.Cond.code ({ cls := "KeyTurns$Standing$1", name := "fits", desc := "(LKeyTurns$Version;I)Z" } : Jvm.MethodName) prog_12_method_2_code (3 : Nat) (Option.some Jvm.ClassFile.FieldType.boolean)) ∈ lw_all := lw_g (lw_at lw_m8 72 rfl) rfl
theorem q1876 : (Jvm.Cond.selects "KeyTurns$Standing$1" ({ cls := "KeyTurns$Standing", name := "ordinal", desc := "()I" } : Jvm.MethodName) ({ cls := "java/lang/Enum", name := "ordinal", desc := "()I" } : Jvm.MethodName)) ∈ lw_all := lw_g (lw_at lw_m8 88 rfl) rfl
theorem q2329 : (Jvm.Cond.selects "KeyTurns$Standing$1" ({ cls := "java/lang/Object", name := "equals", desc := "(Ljava/lang/Object;)Z" } : Jvm.MethodName) ({ cls := "java/lang/Enum", name := "equals", desc := "(Ljava/lang/Object;)Z" } : Jvm.MethodName)) ∈ lw_all := lw_g (lw_at lw_m10 61 rfl) rfl
theorem q3051 : (Jvm.Cond.castable "KeyTurns$Standing$1" "java/lang/Object") ∈ lw_tbl := lw_at lw_m13 63 rfl
theorem q3067 : (Jvm.Cond.castable "KeyTurns$Standing$1" "KeyTurns$Standing") ∈ lw_tbl := lw_at lw_m13 79 rfl
def RX19 : String := "KeyTurns$Standing$2"
abbrev cX19_fits : ByteArray := prog_13_method_2_code
def yX19_fits : MethodName := ⟨RX19, "fits", "(LKeyTurns$Version;I)Z"⟩
theorem q389 : (Jvm.Cond.selects "KeyTurns$Standing$2" ({ cls := "java/lang/Object", name := "getClass", desc := "()Ljava/lang/Class;" } : Jvm.MethodName) ({ cls := "java/lang/Object", name := "getClass", desc := "()Ljava/lang/Class;" } : Jvm.MethodName)) ∈ lw_all := lw_g (lw_at lw_m2 41 rfl) rfl
theorem q1861 : (Jvm.Cond.selects "KeyTurns$Standing$2" ({ cls := "KeyTurns$Standing", name := "fits", desc := "(LKeyTurns$Version;I)Z" } : Jvm.MethodName) ({ cls := "KeyTurns$Standing$2", name := "fits", desc := "(LKeyTurns$Version;I)Z" } : Jvm.MethodName)) ∈ lw_all := lw_g (lw_at lw_m8 73 rfl) rfl
theorem q1862 : (Jvm.Cond.instanceMethod ({ cls := "KeyTurns$Standing$2", name := "fits", desc := "(LKeyTurns$Version;I)Z" } : Jvm.MethodName)) ∈ lw_all := lw_g (lw_at lw_m8 74 rfl) rfl
theorem q1863 : (Jvm.Cond.code ({ cls := "KeyTurns$Standing$2", name := "fits", desc := "(LKeyTurns$Version;I)Z" } : Jvm.MethodName) prog_13_method_2_code (3 : Nat) (Option.some Jvm.ClassFile.FieldType.boolean)) ∈ lw_all := lw_g (lw_at lw_m8 75 rfl) rfl
theorem q1864 : (Jvm.Cond.methodLink "KeyTurns$Standing$2" (7 : Nat) ({ cls := "KeyTurns$Version", name := "spans", desc := "(I)Z" } : Jvm.MethodName)) ∈ lw_all := lw_g (lw_at lw_m8 76 rfl) rfl
theorem q1877 : (Jvm.Cond.selects "KeyTurns$Standing$2" ({ cls := "KeyTurns$Standing", name := "ordinal", desc := "()I" } : Jvm.MethodName) ({ cls := "java/lang/Enum", name := "ordinal", desc := "()I" } : Jvm.MethodName)) ∈ lw_all := lw_g (lw_at lw_m8 89 rfl) rfl
theorem q2332 : (Jvm.Cond.selects "KeyTurns$Standing$2" ({ cls := "java/lang/Object", name := "equals", desc := "(Ljava/lang/Object;)Z" } : Jvm.MethodName) ({ cls := "java/lang/Enum", name := "equals", desc := "(Ljava/lang/Object;)Z" } : Jvm.MethodName)) ∈ lw_all := lw_g (lw_at lw_m10 64 rfl) rfl
theorem q3052 : (Jvm.Cond.castable "KeyTurns$Standing$2" "java/lang/Object") ∈ lw_tbl := lw_at lw_m13 64 rfl
theorem q3068 : (Jvm.Cond.castable "KeyTurns$Standing$2" "KeyTurns$Standing") ∈ lw_tbl := lw_at lw_m13 80 rfl
def RX20 : String := "KeyTurns$Standing$3"
abbrev cX20_fits : ByteArray := prog_14_method_2_code
def yX20_fits : MethodName := ⟨RX20, "fits", "(LKeyTurns$Version;I)Z"⟩
theorem q390 : (Jvm.Cond.selects "KeyTurns$Standing$3" ({ cls := "java/lang/Object", name := "getClass", desc := "()Ljava/lang/Class;" } : Jvm.MethodName) ({ cls := "java/lang/Object", name := "getClass", desc := "()Ljava/lang/Class;" } : Jvm.MethodName)) ∈ lw_all := lw_g (lw_at lw_m2 42 rfl) rfl
theorem q1865 : (Jvm.Cond.selects "KeyTurns$Standing$3" ({ cls := "KeyTurns$Standing", name := "fits", desc := "(LKeyTurns$Version;I)Z" } : Jvm.MethodName) ({ cls := "KeyTurns$Standing$3", name := "fits", desc := "(LKeyTurns$Version;I)Z" } : Jvm.MethodName)) ∈ lw_all := lw_g (lw_at lw_m8 77 rfl) rfl
theorem q1866 : (Jvm.Cond.instanceMethod ({ cls := "KeyTurns$Standing$3", name := "fits", desc := "(LKeyTurns$Version;I)Z" } : Jvm.MethodName)) ∈ lw_all := lw_g (lw_at lw_m8 78 rfl) rfl
theorem q1867 : (Jvm.Cond.code ({ cls := "KeyTurns$Standing$3", name := "fits", desc := "(LKeyTurns$Version;I)Z" } : Jvm.MethodName) prog_14_method_2_code (3 : Nat) (Option.some Jvm.ClassFile.FieldType.boolean)) ∈ lw_all := lw_g (lw_at lw_m8 79 rfl) rfl
theorem q1868 : (Jvm.Cond.methodLink "KeyTurns$Standing$3" (7 : Nat) ({ cls := "KeyTurns$Version", name := "hasEnded", desc := "(I)Z" } : Jvm.MethodName)) ∈ lw_all := lw_g (lw_at lw_m8 80 rfl) rfl
theorem q1878 : (Jvm.Cond.selects "KeyTurns$Standing$3" ({ cls := "KeyTurns$Standing", name := "ordinal", desc := "()I" } : Jvm.MethodName) ({ cls := "java/lang/Enum", name := "ordinal", desc := "()I" } : Jvm.MethodName)) ∈ lw_all := lw_g (lw_at lw_m8 90 rfl) rfl
theorem q2333 : (Jvm.Cond.selects "KeyTurns$Standing$3" ({ cls := "java/lang/Object", name := "equals", desc := "(Ljava/lang/Object;)Z" } : Jvm.MethodName) ({ cls := "java/lang/Enum", name := "equals", desc := "(Ljava/lang/Object;)Z" } : Jvm.MethodName)) ∈ lw_all := lw_g (lw_at lw_m10 65 rfl) rfl
theorem q3053 : (Jvm.Cond.castable "KeyTurns$Standing$3" "java/lang/Object") ∈ lw_tbl := lw_at lw_m13 65 rfl
theorem q3069 : (Jvm.Cond.castable "KeyTurns$Standing$3" "KeyTurns$Standing") ∈ lw_tbl := lw_at lw_m13 81 rfl
def RX21 : String := "KeyTurns$Standing$4"
abbrev cX21_fits : ByteArray := prog_15_method_2_code
def yX21_fits : MethodName := ⟨RX21, "fits", "(LKeyTurns$Version;I)Z"⟩
theorem q391 : (Jvm.Cond.selects "KeyTurns$Standing$4" ({ cls := "java/lang/Object", name := "getClass", desc := "()Ljava/lang/Class;" } : Jvm.MethodName) ({ cls := "java/lang/Object", name := "getClass", desc := "()Ljava/lang/Class;" } : Jvm.MethodName)) ∈ lw_all := lw_g (lw_at lw_m2 43 rfl) rfl
theorem q1869 : (Jvm.Cond.selects "KeyTurns$Standing$4" ({ cls := "KeyTurns$Standing", name := "fits", desc := "(LKeyTurns$Version;I)Z" } : Jvm.MethodName) ({ cls := "KeyTurns$Standing$4", name := "fits", desc := "(LKeyTurns$Version;I)Z" } : Jvm.MethodName)) ∈ lw_all := lw_g (lw_at lw_m8 81 rfl) rfl
theorem q1870 : (Jvm.Cond.instanceMethod ({ cls := "KeyTurns$Standing$4", name := "fits", desc := "(LKeyTurns$Version;I)Z" } : Jvm.MethodName)) ∈ lw_all := lw_g (lw_at lw_m8 82 rfl) rfl
theorem q1871 : (Jvm.Cond.code ({ cls := "KeyTurns$Standing$4", name := "fits", desc := "(LKeyTurns$Version;I)Z" } : Jvm.MethodName) prog_15_method_2_code (3 : Nat) (Option.some Jvm.ClassFile.FieldType.boolean)) ∈ lw_all := lw_g (lw_at lw_m8 83 rfl) rfl
theorem q1872 : (Jvm.Cond.classLink "KeyTurns$Standing$4" (7 : Nat) "KeyTurns$Withdrawn") ∈ lw_all := lw_g (lw_at lw_m8 84 rfl) rfl
theorem q1879 : (Jvm.Cond.selects "KeyTurns$Standing$4" ({ cls := "KeyTurns$Standing", name := "ordinal", desc := "()I" } : Jvm.MethodName) ({ cls := "java/lang/Enum", name := "ordinal", desc := "()I" } : Jvm.MethodName)) ∈ lw_all := lw_g (lw_at lw_m8 91 rfl) rfl
theorem q2334 : (Jvm.Cond.selects "KeyTurns$Standing$4" ({ cls := "java/lang/Object", name := "equals", desc := "(Ljava/lang/Object;)Z" } : Jvm.MethodName) ({ cls := "java/lang/Enum", name := "equals", desc := "(Ljava/lang/Object;)Z" } : Jvm.MethodName)) ∈ lw_all := lw_g (lw_at lw_m10 66 rfl) rfl
theorem q3054 : (Jvm.Cond.castable "KeyTurns$Standing$4" "java/lang/Object") ∈ lw_tbl := lw_at lw_m13 66 rfl
theorem q3070 : (Jvm.Cond.castable "KeyTurns$Standing$4" "KeyTurns$Standing") ∈ lw_tbl := lw_at lw_m13 82 rfl
def RJ38 : String := "java/lang/System$2"
abbrev cJ38_getUTF16Char : ByteArray := prog_46_method_45_code
def yJ38_getUTF16Char : MethodName := ⟨RJ38, "getUTF16Char", "([BI)C"⟩
theorem q400 : (Jvm.Cond.selects "java/lang/System$2" ({ cls := "java/lang/Object", name := "getClass", desc := "()Ljava/lang/Class;" } : Jvm.MethodName) ({ cls := "java/lang/Object", name := "getClass", desc := "()Ljava/lang/Class;" } : Jvm.MethodName)) ∈ lw_all := lw_g (lw_at lw_m2 52 rfl) rfl
theorem q1734 : (Jvm.Cond.castable "java/lang/System$2" "jdk/internal/access/JavaLangAccess") ∈ lw_tbl := lw_at lw_m7 186 rfl
theorem q1735 : (Jvm.Cond.selects "java/lang/System$2" ({ cls := "jdk/internal/access/JavaLangAccess", name := "getUTF16Char", desc := "([BI)C" } : Jvm.MethodName) ({ cls := "java/lang/System$2", name := "getUTF16Char", desc := "([BI)C" } : Jvm.MethodName)) ∈ lw_all := lw_g (lw_at lw_m7 187 rfl) rfl
theorem q1736 : (Jvm.Cond.unhidden "java/lang/System$2" "getUTF16Char" "([BI)C") ∈ lw_tbl := lw_at lw_m7 188 rfl
theorem q1737 : (Jvm.Cond.instanceMethod ({ cls := "java/lang/System$2", name := "getUTF16Char", desc := "([BI)C" } : Jvm.MethodName)) ∈ lw_all := lw_g (lw_at lw_m7 189 rfl) rfl
theorem q1738 : (Jvm.Cond.publicMethod ({ cls := "java/lang/System$2", name := "getUTF16Char", desc := "([BI)C" } : Jvm.MethodName)) ∈ lw_tbl := lw_at lw_m7 190 rfl
theorem q1739 : (Jvm.Cond.code ({ cls := "java/lang/System$2", name := "getUTF16Char", desc := "([BI)C" } : Jvm.MethodName) prog_46_method_45_code (3 : Nat) (Option.some Jvm.ClassFile.FieldType.char)) ∈ lw_all := lw_g (lw_at lw_m7 191 rfl) rfl
theorem q1740 : (Jvm.Cond.methodLink "java/lang/System$2" (185 : Nat) ({ cls := "java/lang/StringUTF16", name := "getChar", desc := "([BI)C" } : Jvm.MethodName)) ∈ lw_all := lw_g (lw_at lw_m7 192 rfl) rfl
theorem q2343 : (Jvm.Cond.selects "java/lang/System$2" ({ cls := "java/lang/Object", name := "equals", desc := "(Ljava/lang/Object;)Z" } : Jvm.MethodName) ({ cls := "java/lang/Object", name := "equals", desc := "(Ljava/lang/Object;)Z" } : Jvm.MethodName)) ∈ lw_all := lw_g (lw_at lw_m10 75 rfl) rfl
theorem q3046 : (Jvm.Cond.castable "java/lang/System$2" "java/lang/Object") ∈ lw_tbl := lw_at lw_m13 58 rfl
abbrev cL_law : ByteArray := code
theorem q185 : (Jvm.Cond.arrayOver (Jvm.ClassFile.FieldType.object "java/lang/Object")) ∈ lw_tbl := lw_at lw_m1 77 rfl
theorem q236 : (Jvm.Cond.arrayClass Jvm.ClassFile.FieldType.byte) ∈ lw_all := lw_g (lw_at lw_m1 128 rfl) rfl
theorem q312 : (Jvm.Cond.arrayClass Jvm.ClassFile.FieldType.int) ∈ lw_all := lw_g (lw_at lw_m1 204 rfl) rfl
theorem q767 : (Jvm.Cond.arrayClass Jvm.ClassFile.FieldType.long) ∈ lw_all := lw_g (lw_at lw_m3 179 rfl) rfl
theorem q1853 : (Jvm.Cond.arrayOver (Jvm.ClassFile.FieldType.object "KeyTurns$Standing")) ∈ lw_tbl := lw_at lw_m8 65 rfl
theorem q2450 : (Jvm.Cond.arrayOver (Jvm.ClassFile.FieldType.object "java/lang/String")) ∈ lw_tbl := lw_at lw_m10 182 rfl
theorem q3080 : (Jvm.Cond.arrayClass Jvm.ClassFile.FieldType.char) ∈ lw_all := lw_g (lw_at lw_m13 92 rfl) rfl
theorem q3081 : (Jvm.Cond.arrayClass Jvm.ClassFile.FieldType.short) ∈ lw_all := lw_g (lw_at lw_m13 93 rfl) rfl
theorem q122 : (Jvm.Cond.initialized "java/lang/System") ∈ lw_all := lw_g (lw_at lw_m1 14 rfl) rfl
theorem q422 : (Jvm.Cond.static ({ cls := "java/lang/System", name := "arraycopy", desc := "(Ljava/lang/Object;ILjava/lang/Object;II)V" } : Jvm.MethodName)) ∈ lw_all := lw_g (lw_at lw_m2 74 rfl) rfl
theorem q423 : (Jvm.Cond.native ({ cls := "java/lang/System", name := "arraycopy", desc := "(Ljava/lang/Object;ILjava/lang/Object;II)V" } : Jvm.MethodName)) ∈ lw_all := lw_g (lw_at lw_m2 75 rfl) rfl
theorem q136 : (Jvm.Cond.initialized "java/lang/Number") ∈ lw_all := lw_g (lw_at lw_m1 28 rfl) rfl
theorem q139 : (Jvm.Cond.initialized "KeyTurns$Token") ∈ lw_all := lw_g (lw_at lw_m1 31 rfl) rfl
theorem q394 : (Jvm.Cond.selects "KeyTurns$Token" ({ cls := "java/lang/Object", name := "getClass", desc := "()Ljava/lang/Class;" } : Jvm.MethodName) ({ cls := "java/lang/Object", name := "getClass", desc := "()Ljava/lang/Class;" } : Jvm.MethodName)) ∈ lw_all := lw_g (lw_at lw_m2 46 rfl) rfl
theorem q1549 : (Jvm.Cond.laysStatic "KeyTurns$Token" "END" "LKeyTurns$Token;") ∈ lw_tbl := lw_at lw_m7 1 rfl
theorem q1567 : (Jvm.Cond.laysStatic "KeyTurns$Token" "WORD" "LKeyTurns$Token;") ∈ lw_tbl := lw_at lw_m7 19 rfl
theorem q1574 : (Jvm.Cond.laysStatic "KeyTurns$Token" "NUMBER" "LKeyTurns$Token;") ∈ lw_tbl := lw_at lw_m7 26 rfl
theorem q1576 : (Jvm.Cond.laysStatic "KeyTurns$Token" "SIGN" "LKeyTurns$Token;") ∈ lw_tbl := lw_at lw_m7 28 rfl
theorem q2337 : (Jvm.Cond.selects "KeyTurns$Token" ({ cls := "java/lang/Object", name := "equals", desc := "(Ljava/lang/Object;)Z" } : Jvm.MethodName) ({ cls := "java/lang/Enum", name := "equals", desc := "(Ljava/lang/Object;)Z" } : Jvm.MethodName)) ∈ lw_all := lw_g (lw_at lw_m10 69 rfl) rfl
theorem q3044 : (Jvm.Cond.castable "KeyTurns$Token" "java/lang/Object") ∈ lw_tbl := lw_at lw_m13 56 rfl
theorem q149 : (Jvm.Cond.initialized "java/util/AbstractList$ListItr") ∈ lw_all := lw_g (lw_at lw_m1 41 rfl) rfl
theorem q401 : (Jvm.Cond.selects "java/util/AbstractList$ListItr" ({ cls := "java/lang/Object", name := "getClass", desc := "()Ljava/lang/Class;" } : Jvm.MethodName) ({ cls := "java/lang/Object", name := "getClass", desc := "()Ljava/lang/Class;" } : Jvm.MethodName)) ∈ lw_all := lw_g (lw_at lw_m2 53 rfl) rfl
theorem q951 : (Jvm.Cond.castable "java/util/AbstractList$ListItr" "java/util/Iterator") ∈ lw_tbl := lw_at lw_m4 123 rfl
theorem q952 : (Jvm.Cond.selects "java/util/AbstractList$ListItr" ({ cls := "java/util/Iterator", name := "hasNext", desc := "()Z" } : Jvm.MethodName) ({ cls := "java/util/AbstractList$Itr", name := "hasNext", desc := "()Z" } : Jvm.MethodName)) ∈ lw_all := lw_g (lw_at lw_m4 124 rfl) rfl
theorem q953 : (Jvm.Cond.unhidden "java/util/AbstractList$ListItr" "hasNext" "()Z") ∈ lw_tbl := lw_at lw_m4 125 rfl
theorem q980 : (Jvm.Cond.selects "java/util/AbstractList$ListItr" ({ cls := "java/util/Iterator", name := "next", desc := "()Ljava/lang/Object;" } : Jvm.MethodName) ({ cls := "java/util/AbstractList$Itr", name := "next", desc := "()Ljava/lang/Object;" } : Jvm.MethodName)) ∈ lw_all := lw_g (lw_at lw_m4 152 rfl) rfl
theorem q981 : (Jvm.Cond.unhidden "java/util/AbstractList$ListItr" "next" "()Ljava/lang/Object;") ∈ lw_tbl := lw_at lw_m4 153 rfl
theorem q988 : (Jvm.Cond.selects "java/util/AbstractList$ListItr" ({ cls := "java/util/AbstractList$Itr", name := "checkForComodification", desc := "()V" } : Jvm.MethodName) ({ cls := "java/util/AbstractList$Itr", name := "checkForComodification", desc := "()V" } : Jvm.MethodName)) ∈ lw_all := lw_g (lw_at lw_m4 160 rfl) rfl
theorem q3055 : (Jvm.Cond.castable "java/util/AbstractList$ListItr" "java/lang/Object") ∈ lw_tbl := lw_at lw_m13 67 rfl
theorem q3083 : (Jvm.Cond.fieldLink "java/util/AbstractList$ListItr" (1 : Nat) "java/util/AbstractList$ListItr" "this$0" "Ljava/util/AbstractList;") ∈ lw_all := lw_g (lw_at lw_m13 95 rfl) rfl
theorem q3088 : (Jvm.Cond.fieldLink "java/util/AbstractList$ListItr" (13 : Nat) "java/util/AbstractList$ListItr" "cursor" "I") ∈ lw_all := lw_g (lw_at lw_m13 100 rfl) rfl
theorem q3089 : (Jvm.Cond.sameField "java/util/AbstractList$ListItr" "java/util/AbstractList$Itr" "cursor" "I") ∈ lw_all := lw_g (lw_at lw_m13 101 rfl) rfl
theorem q802 : (Jvm.Cond.sameMethod "[J" "java/lang/Object" "clone" "()Ljava/lang/Object;") ∈ lw_all := lw_g (lw_at lw_m3 214 rfl) rfl
theorem q805 : (Jvm.Cond.selects "[J" ({ cls := "[J", name := "clone", desc := "()Ljava/lang/Object;" } : Jvm.MethodName) ({ cls := "java/lang/Object", name := "clone", desc := "()Ljava/lang/Object;" } : Jvm.MethodName)) ∈ lw_all := lw_g (lw_at lw_m3 217 rfl) rfl
theorem q806 : (Jvm.Cond.castable "[J" "java/lang/Cloneable") ∈ lw_tbl := lw_at lw_m3 218 rfl
theorem q3077 : (Jvm.Cond.castable "[J" "java/lang/Object") ∈ lw_tbl := lw_at lw_m13 89 rfl
theorem q816 : (Jvm.Cond.sameMethod "[I" "java/lang/Object" "clone" "()Ljava/lang/Object;") ∈ lw_all := lw_g (lw_at lw_m3 228 rfl) rfl
theorem q817 : (Jvm.Cond.selects "[I" ({ cls := "[I", name := "clone", desc := "()Ljava/lang/Object;" } : Jvm.MethodName) ({ cls := "java/lang/Object", name := "clone", desc := "()Ljava/lang/Object;" } : Jvm.MethodName)) ∈ lw_all := lw_g (lw_at lw_m3 229 rfl) rfl
theorem q818 : (Jvm.Cond.castable "[I" "java/lang/Cloneable") ∈ lw_tbl := lw_at lw_m3 230 rfl
theorem q3076 : (Jvm.Cond.castable "[I" "java/lang/Object") ∈ lw_tbl := lw_at lw_m13 88 rfl
theorem q949 : (Jvm.Cond.interfaceMethod "java/util/Iterator" "java/util/Iterator" "hasNext" "()Z") ∈ lw_tbl := lw_at lw_m4 121 rfl
theorem q950 : (Jvm.Cond.declares ({ cls := "java/util/Iterator", name := "hasNext", desc := "()Z" } : Jvm.MethodName)) ∈ lw_tbl := lw_at lw_m4 122 rfl
theorem q978 : (Jvm.Cond.interfaceMethod "java/util/Iterator" "java/util/Iterator" "next" "()Ljava/lang/Object;") ∈ lw_tbl := lw_at lw_m4 150 rfl
theorem q979 : (Jvm.Cond.declares ({ cls := "java/util/Iterator", name := "next", desc := "()Ljava/lang/Object;" } : Jvm.MethodName)) ∈ lw_tbl := lw_at lw_m4 151 rfl
theorem q1098 : (Jvm.Cond.sameMethod "[B" "java/lang/Object" "clone" "()Ljava/lang/Object;") ∈ lw_all := lw_g (lw_at lw_m5 30 rfl) rfl
theorem q1099 : (Jvm.Cond.selects "[B" ({ cls := "[B", name := "clone", desc := "()Ljava/lang/Object;" } : Jvm.MethodName) ({ cls := "java/lang/Object", name := "clone", desc := "()Ljava/lang/Object;" } : Jvm.MethodName)) ∈ lw_all := lw_g (lw_at lw_m5 31 rfl) rfl
theorem q1100 : (Jvm.Cond.castable "[B" "java/lang/Cloneable") ∈ lw_tbl := lw_at lw_m5 32 rfl
theorem q3075 : (Jvm.Cond.castable "[B" "java/lang/Object") ∈ lw_tbl := lw_at lw_m13 87 rfl
theorem q1732 : (Jvm.Cond.interfaceMethod "jdk/internal/access/JavaLangAccess" "jdk/internal/access/JavaLangAccess" "getUTF16Char" "([BI)C") ∈ lw_tbl := lw_at lw_m7 184 rfl
theorem q1733 : (Jvm.Cond.declares ({ cls := "jdk/internal/access/JavaLangAccess", name := "getUTF16Char", desc := "([BI)C" } : Jvm.MethodName)) ∈ lw_tbl := lw_at lw_m7 185 rfl
theorem q1821 : (Jvm.Cond.interfaceMethod "KeyTurns$VersionTest" "KeyTurns$VersionTest" "is" "(LKeyTurns$Version;)Z") ∈ lw_tbl := lw_at lw_m8 33 rfl
theorem q1822 : (Jvm.Cond.declares ({ cls := "KeyTurns$VersionTest", name := "is", desc := "(LKeyTurns$Version;)Z" } : Jvm.MethodName)) ∈ lw_tbl := lw_at lw_m8 34 rfl
theorem q1850 : (Jvm.Cond.sameMethod "[LKeyTurns$Standing;" "java/lang/Object" "clone" "()Ljava/lang/Object;") ∈ lw_all := lw_g (lw_at lw_m8 62 rfl) rfl
theorem q1851 : (Jvm.Cond.selects "[LKeyTurns$Standing;" ({ cls := "[LKeyTurns$Standing;", name := "clone", desc := "()Ljava/lang/Object;" } : Jvm.MethodName) ({ cls := "java/lang/Object", name := "clone", desc := "()Ljava/lang/Object;" } : Jvm.MethodName)) ∈ lw_all := lw_g (lw_at lw_m8 63 rfl) rfl
theorem q1852 : (Jvm.Cond.castable "[LKeyTurns$Standing;" "java/lang/Cloneable") ∈ lw_tbl := lw_at lw_m8 64 rfl
theorem q3078 : (Jvm.Cond.castable "[LKeyTurns$Standing;" "java/lang/Object") ∈ lw_tbl := lw_at lw_m13 90 rfl
theorem q3071 : (Jvm.Cond.sameMethod "[Ljava/lang/Object;" "java/lang/Object" "getClass" "()Ljava/lang/Class;") ∈ lw_all := lw_g (lw_at lw_m13 83 rfl) rfl
theorem q3072 : (Jvm.Cond.selects "[Ljava/lang/Object;" ({ cls := "java/lang/Object", name := "getClass", desc := "()Ljava/lang/Class;" } : Jvm.MethodName) ({ cls := "java/lang/Object", name := "getClass", desc := "()Ljava/lang/Class;" } : Jvm.MethodName)) ∈ lw_all := lw_g (lw_at lw_m13 84 rfl) rfl
theorem q3074 : (Jvm.Cond.castable "[Ljava/lang/Object;" "java/lang/Object") ∈ lw_tbl := lw_at lw_m13 86 rfl
theorem q3079 : (Jvm.Cond.castable "[Ljava/lang/String;" "java/lang/Object") ∈ lw_tbl := lw_at lw_m13 91 rfl
