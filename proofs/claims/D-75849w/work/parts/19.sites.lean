set_option maxRecDepth 100000
/-! ===== methods and fields at their places ===== -/
abbrev kc_J0_init : Cond := .code yJ0_init cJ0_init 1 (Option.none : Option Jvm.ClassFile.FieldType)
theorem cd_J0_init : kt_cd kc_J0_init yJ0_init 1 := ⟨q182, by decide, Or.inl ⟨_, _, rfl⟩⟩
theorem in_J0_init : Cond.initialized yJ0_init.cls ∈ lw_all := q110
theorem hy_J0_init : yJ0_init.cls ≠ "java/lang/invoke/MethodHandle" ∧ yJ0_init.cls ≠ "java/lang/invoke/VarHandle" ∧ (parseMethodDescriptor yJ0_init.desc).map (fun d => d.parameters.length) = some 0 := by decide +kernel
theorem hi_J0_init : yJ0_init.name = "<init>" ∧ yJ0_init.cls ≠ "java/lang/invoke/MethodHandle" ∧ yJ0_init.cls ≠ "java/lang/invoke/VarHandle" ∧ (parseMethodDescriptor yJ0_init.desc).map (fun d => d.parameters.length) = some 0 := ⟨rfl, hy_J0_init⟩
abbrev kc_J1_addLast : Cond := .code yJ1_addLast cJ1_addLast 3 (Option.none : Option Jvm.ClassFile.FieldType)
theorem cd_J1_addLast : kt_cd kc_J1_addLast yJ1_addLast 3 := ⟨q718, by decide, Or.inl ⟨_, _, rfl⟩⟩
theorem in_J1_addLast : Cond.initialized yJ1_addLast.cls ∈ lw_all := q111
theorem hy_J1_addLast : yJ1_addLast.cls ≠ "java/lang/invoke/MethodHandle" ∧ yJ1_addLast.cls ≠ "java/lang/invoke/VarHandle" ∧ (parseMethodDescriptor yJ1_addLast.desc).map (fun d => d.parameters.length) = some 1 := by decide +kernel
abbrev kc_J1_circularClear : Cond := .code yJ1_circularClear cJ1_circularClear 4 (Option.none : Option Jvm.ClassFile.FieldType)
theorem cd_J1_circularClear : kt_cd kc_J1_circularClear yJ1_circularClear 4 := ⟨q1453, by decide, Or.inl ⟨_, _, rfl⟩⟩
theorem in_J1_circularClear : Cond.initialized yJ1_circularClear.cls ∈ lw_all := q111
theorem hy_J1_circularClear : yJ1_circularClear.cls ≠ "java/lang/invoke/MethodHandle" ∧ yJ1_circularClear.cls ≠ "java/lang/invoke/VarHandle" ∧ (parseMethodDescriptor yJ1_circularClear.desc).map (fun d => d.parameters.length) = some 3 := by decide +kernel
abbrev kc_J1_clear : Cond := .code yJ1_clear cJ1_clear 1 (Option.none : Option Jvm.ClassFile.FieldType)
theorem cd_J1_clear : kt_cd kc_J1_clear yJ1_clear 1 := ⟨q1450, by decide, Or.inl ⟨_, _, rfl⟩⟩
theorem in_J1_clear : Cond.initialized yJ1_clear.cls ∈ lw_all := q111
theorem hy_J1_clear : yJ1_clear.cls ≠ "java/lang/invoke/MethodHandle" ∧ yJ1_clear.cls ≠ "java/lang/invoke/VarHandle" ∧ (parseMethodDescriptor yJ1_clear.desc).map (fun d => d.parameters.length) = some 0 := by decide +kernel
abbrev kc_J1_dec : Cond := .code yJ1_dec cJ1_dec 2 (Option.some Jvm.ClassFile.FieldType.int)
theorem cd_J1_dec : kt_cd kc_J1_dec yJ1_dec 2 := ⟨q1438, by decide, Or.inl ⟨_, _, rfl⟩⟩
theorem in_J1_dec : Cond.initialized yJ1_dec.cls ∈ lw_all := q111
theorem hy_J1_dec : yJ1_dec.cls ≠ "java/lang/invoke/MethodHandle" ∧ yJ1_dec.cls ≠ "java/lang/invoke/VarHandle" ∧ (parseMethodDescriptor yJ1_dec.desc).map (fun d => d.parameters.length) = some 2 := by decide +kernel
abbrev kc_J1_elementAt : Cond := .code yJ1_elementAt cJ1_elementAt 2 (Option.some (Jvm.ClassFile.FieldType.object "java/lang/Object"))
theorem cd_J1_elementAt : kt_cd kc_J1_elementAt yJ1_elementAt 2 := ⟨q647, by decide, Or.inl ⟨_, _, rfl⟩⟩
theorem in_J1_elementAt : Cond.initialized yJ1_elementAt.cls ∈ lw_all := q111
theorem hy_J1_elementAt : yJ1_elementAt.cls ≠ "java/lang/invoke/MethodHandle" ∧ yJ1_elementAt.cls ≠ "java/lang/invoke/VarHandle" ∧ (parseMethodDescriptor yJ1_elementAt.desc).map (fun d => d.parameters.length) = some 2 := by decide +kernel
abbrev kc_J1_grow : Cond := .code yJ1_grow cJ1_grow 9 (Option.none : Option Jvm.ClassFile.FieldType)
theorem cd_J1_grow : kt_cd kc_J1_grow yJ1_grow 9 := ⟨q722, by decide, Or.inl ⟨_, _, rfl⟩⟩
theorem in_J1_grow : Cond.initialized yJ1_grow.cls ∈ lw_all := q111
theorem hy_J1_grow : yJ1_grow.cls ≠ "java/lang/invoke/MethodHandle" ∧ yJ1_grow.cls ≠ "java/lang/invoke/VarHandle" ∧ (parseMethodDescriptor yJ1_grow.desc).map (fun d => d.parameters.length) = some 1 := by decide +kernel
abbrev kc_J1_inc : Cond := .code yJ1_inc cJ1_inc 2 (Option.some Jvm.ClassFile.FieldType.int)
theorem cd_J1_inc : kt_cd kc_J1_inc yJ1_inc 2 := ⟨q650, by decide, Or.inl ⟨_, _, rfl⟩⟩
theorem in_J1_inc : Cond.initialized yJ1_inc.cls ∈ lw_all := q111
theorem hy_J1_inc : yJ1_inc.cls ≠ "java/lang/invoke/MethodHandle" ∧ yJ1_inc.cls ≠ "java/lang/invoke/VarHandle" ∧ (parseMethodDescriptor yJ1_inc.desc).map (fun d => d.parameters.length) = some 2 := by decide +kernel
abbrev kc_J1_init : Cond := .code yJ1_init cJ1_init 1 (Option.none : Option Jvm.ClassFile.FieldType)
theorem cd_J1_init : kt_cd kc_J1_init yJ1_init 1 := ⟨q179, by decide, Or.inl ⟨_, _, rfl⟩⟩
theorem in_J1_init : Cond.initialized yJ1_init.cls ∈ lw_all := q111
theorem hy_J1_init : yJ1_init.cls ≠ "java/lang/invoke/MethodHandle" ∧ yJ1_init.cls ≠ "java/lang/invoke/VarHandle" ∧ (parseMethodDescriptor yJ1_init.desc).map (fun d => d.parameters.length) = some 0 := by decide +kernel
theorem hi_J1_init : yJ1_init.name = "<init>" ∧ yJ1_init.cls ≠ "java/lang/invoke/MethodHandle" ∧ yJ1_init.cls ≠ "java/lang/invoke/VarHandle" ∧ (parseMethodDescriptor yJ1_init.desc).map (fun d => d.parameters.length) = some 0 := ⟨rfl, hy_J1_init⟩
abbrev kc_J1_isEmpty : Cond := .code yJ1_isEmpty cJ1_isEmpty 1 (Option.some Jvm.ClassFile.FieldType.boolean)
theorem cd_J1_isEmpty : kt_cd kc_J1_isEmpty yJ1_isEmpty 1 := ⟨q1427, by decide, Or.inl ⟨_, _, rfl⟩⟩
theorem in_J1_isEmpty : Cond.initialized yJ1_isEmpty.cls ∈ lw_all := q111
theorem hy_J1_isEmpty : yJ1_isEmpty.cls ≠ "java/lang/invoke/MethodHandle" ∧ yJ1_isEmpty.cls ≠ "java/lang/invoke/VarHandle" ∧ (parseMethodDescriptor yJ1_isEmpty.desc).map (fun d => d.parameters.length) = some 0 := by decide +kernel
abbrev kc_J1_newCapacity : Cond := .code yJ1_newCapacity cJ1_newCapacity 5 (Option.some Jvm.ClassFile.FieldType.int)
theorem cd_J1_newCapacity : kt_cd kc_J1_newCapacity yJ1_newCapacity 5 := ⟨q727, by decide, Or.inl ⟨_, _, rfl⟩⟩
theorem in_J1_newCapacity : Cond.initialized yJ1_newCapacity.cls ∈ lw_all := q111
theorem hy_J1_newCapacity : yJ1_newCapacity.cls ≠ "java/lang/invoke/MethodHandle" ∧ yJ1_newCapacity.cls ≠ "java/lang/invoke/VarHandle" ∧ (parseMethodDescriptor yJ1_newCapacity.desc).map (fun d => d.parameters.length) = some 2 := by decide +kernel
abbrev kc_J1_pollFirst : Cond := .code yJ1_pollFirst cJ1_pollFirst 4 (Option.some (Jvm.ClassFile.FieldType.object "java/lang/Object"))
theorem cd_J1_pollFirst : kt_cd kc_J1_pollFirst yJ1_pollFirst 4 := ⟨q644, by decide, Or.inl ⟨_, _, rfl⟩⟩
theorem in_J1_pollFirst : Cond.initialized yJ1_pollFirst.cls ∈ lw_all := q111
theorem hy_J1_pollFirst : yJ1_pollFirst.cls ≠ "java/lang/invoke/MethodHandle" ∧ yJ1_pollFirst.cls ≠ "java/lang/invoke/VarHandle" ∧ (parseMethodDescriptor yJ1_pollFirst.desc).map (fun d => d.parameters.length) = some 0 := by decide +kernel
abbrev kc_J1_pollLast : Cond := .code yJ1_pollLast cJ1_pollLast 4 (Option.some (Jvm.ClassFile.FieldType.object "java/lang/Object"))
theorem cd_J1_pollLast : kt_cd kc_J1_pollLast yJ1_pollLast 4 := ⟨q1435, by decide, Or.inl ⟨_, _, rfl⟩⟩
theorem in_J1_pollLast : Cond.initialized yJ1_pollLast.cls ∈ lw_all := q111
theorem hy_J1_pollLast : yJ1_pollLast.cls ≠ "java/lang/invoke/MethodHandle" ∧ yJ1_pollLast.cls ≠ "java/lang/invoke/VarHandle" ∧ (parseMethodDescriptor yJ1_pollLast.desc).map (fun d => d.parameters.length) = some 0 := by decide +kernel
abbrev kc_J1_removeFirst : Cond := .code yJ1_removeFirst cJ1_removeFirst 2 (Option.some (Jvm.ClassFile.FieldType.object "java/lang/Object"))
theorem cd_J1_removeFirst : kt_cd kc_J1_removeFirst yJ1_removeFirst 2 := ⟨q640, by decide, Or.inl ⟨_, _, rfl⟩⟩
theorem in_J1_removeFirst : Cond.initialized yJ1_removeFirst.cls ∈ lw_all := q111
theorem hy_J1_removeFirst : yJ1_removeFirst.cls ≠ "java/lang/invoke/MethodHandle" ∧ yJ1_removeFirst.cls ≠ "java/lang/invoke/VarHandle" ∧ (parseMethodDescriptor yJ1_removeFirst.desc).map (fun d => d.parameters.length) = some 0 := by decide +kernel
abbrev kc_J1_removeLast : Cond := .code yJ1_removeLast cJ1_removeLast 2 (Option.some (Jvm.ClassFile.FieldType.object "java/lang/Object"))
theorem cd_J1_removeLast : kt_cd kc_J1_removeLast yJ1_removeLast 2 := ⟨q1431, by decide, Or.inl ⟨_, _, rfl⟩⟩
theorem in_J1_removeLast : Cond.initialized yJ1_removeLast.cls ∈ lw_all := q111
theorem hy_J1_removeLast : yJ1_removeLast.cls ≠ "java/lang/invoke/MethodHandle" ∧ yJ1_removeLast.cls ≠ "java/lang/invoke/VarHandle" ∧ (parseMethodDescriptor yJ1_removeLast.desc).map (fun d => d.parameters.length) = some 0 := by decide +kernel
abbrev kc_J1_size : Cond := .code yJ1_size cJ1_size 1 (Option.some Jvm.ClassFile.FieldType.int)
theorem cd_J1_size : kt_cd kc_J1_size yJ1_size 1 := ⟨q633, by decide, Or.inl ⟨_, _, rfl⟩⟩
theorem in_J1_size : Cond.initialized yJ1_size.cls ∈ lw_all := q111
theorem hy_J1_size : yJ1_size.cls ≠ "java/lang/invoke/MethodHandle" ∧ yJ1_size.cls ≠ "java/lang/invoke/VarHandle" ∧ (parseMethodDescriptor yJ1_size.desc).map (fun d => d.parameters.length) = some 0 := by decide +kernel
abbrev kc_J1_sub : Cond := .code yJ1_sub cJ1_sub 3 (Option.some Jvm.ClassFile.FieldType.int)
theorem cd_J1_sub : kt_cd kc_J1_sub yJ1_sub 3 := ⟨q636, by decide, Or.inl ⟨_, _, rfl⟩⟩
theorem in_J1_sub : Cond.initialized yJ1_sub.cls ∈ lw_all := q111
theorem hy_J1_sub : yJ1_sub.cls ≠ "java/lang/invoke/MethodHandle" ∧ yJ1_sub.cls ≠ "java/lang/invoke/VarHandle" ∧ (parseMethodDescriptor yJ1_sub.desc).map (fun d => d.parameters.length) = some 3 := by decide +kernel
abbrev kc_J10_init : Cond := .code yJ10_init cJ10_init 1 (Option.none : Option Jvm.ClassFile.FieldType)
theorem cd_J10_init : kt_cd kc_J10_init yJ10_init 1 := ⟨q700, by decide, Or.inl ⟨_, _, rfl⟩⟩
theorem in_J10_init : Cond.initialized yJ10_init.cls ∈ lw_all := q125
theorem hy_J10_init : yJ10_init.cls ≠ "java/lang/invoke/MethodHandle" ∧ yJ10_init.cls ≠ "java/lang/invoke/VarHandle" ∧ (parseMethodDescriptor yJ10_init.desc).map (fun d => d.parameters.length) = some 0 := by decide +kernel
theorem hi_J10_init : yJ10_init.name = "<init>" ∧ yJ10_init.cls ≠ "java/lang/invoke/MethodHandle" ∧ yJ10_init.cls ≠ "java/lang/invoke/VarHandle" ∧ (parseMethodDescriptor yJ10_init.desc).map (fun d => d.parameters.length) = some 0 := ⟨rfl, hy_J10_init⟩
abbrev kc_J10_init_2 : Cond := .code yJ10_init_2 cJ10_init_2 2 (Option.none : Option Jvm.ClassFile.FieldType)
theorem cd_J10_init_2 : kt_cd kc_J10_init_2 yJ10_init_2 2 := ⟨q1015, by decide, Or.inl ⟨_, _, rfl⟩⟩
theorem in_J10_init_2 : Cond.initialized yJ10_init_2.cls ∈ lw_all := q125
theorem hy_J10_init_2 : yJ10_init_2.cls ≠ "java/lang/invoke/MethodHandle" ∧ yJ10_init_2.cls ≠ "java/lang/invoke/VarHandle" ∧ (parseMethodDescriptor yJ10_init_2.desc).map (fun d => d.parameters.length) = some 1 := by decide +kernel
theorem hi_J10_init_2 : yJ10_init_2.name = "<init>" ∧ yJ10_init_2.cls ≠ "java/lang/invoke/MethodHandle" ∧ yJ10_init_2.cls ≠ "java/lang/invoke/VarHandle" ∧ (parseMethodDescriptor yJ10_init_2.desc).map (fun d => d.parameters.length) = some 1 := ⟨rfl, hy_J10_init_2⟩
abbrev kc_J10_init_3 : Cond := .code yJ10_init_3 cJ10_init_3 2 (Option.none : Option Jvm.ClassFile.FieldType)
theorem cd_J10_init_3 : kt_cd kc_J10_init_3 yJ10_init_3 2 := ⟨q1260, by decide, Or.inl ⟨_, _, rfl⟩⟩
theorem in_J10_init_3 : Cond.initialized yJ10_init_3.cls ∈ lw_all := q125
theorem hy_J10_init_3 : yJ10_init_3.cls ≠ "java/lang/invoke/MethodHandle" ∧ yJ10_init_3.cls ≠ "java/lang/invoke/VarHandle" ∧ (parseMethodDescriptor yJ10_init_3.desc).map (fun d => d.parameters.length) = some 1 := by decide +kernel
theorem hi_J10_init_3 : yJ10_init_3.name = "<init>" ∧ yJ10_init_3.cls ≠ "java/lang/invoke/MethodHandle" ∧ yJ10_init_3.cls ≠ "java/lang/invoke/VarHandle" ∧ (parseMethodDescriptor yJ10_init_3.desc).map (fun d => d.parameters.length) = some 1 := ⟨rfl, hy_J10_init_3⟩
abbrev kc_J10_init_4 : Cond := .code yJ10_init_4 cJ10_init_4 5 (Option.none : Option Jvm.ClassFile.FieldType)
theorem cd_J10_init_4 : kt_cd kc_J10_init_4 yJ10_init_4 5 := ⟨q1662, by decide, Or.inl ⟨_, _, rfl⟩⟩
theorem in_J10_init_4 : Cond.initialized yJ10_init_4.cls ∈ lw_all := q125
theorem hy_J10_init_4 : yJ10_init_4.cls ≠ "java/lang/invoke/MethodHandle" ∧ yJ10_init_4.cls ≠ "java/lang/invoke/VarHandle" ∧ (parseMethodDescriptor yJ10_init_4.desc).map (fun d => d.parameters.length) = some 4 := by decide +kernel
theorem hi_J10_init_4 : yJ10_init_4.name = "<init>" ∧ yJ10_init_4.cls ≠ "java/lang/invoke/MethodHandle" ∧ yJ10_init_4.cls ≠ "java/lang/invoke/VarHandle" ∧ (parseMethodDescriptor yJ10_init_4.desc).map (fun d => d.parameters.length) = some 4 := ⟨rfl, hy_J10_init_4⟩
abbrev kc_J11_init : Cond := .code yJ11_init cJ11_init 1 (Option.none : Option Jvm.ClassFile.FieldType)
theorem cd_J11_init : kt_cd kc_J11_init yJ11_init 1 := ⟨q697, by decide, Or.inl ⟨_, _, rfl⟩⟩
theorem in_J11_init : Cond.initialized yJ11_init.cls ∈ lw_all := q126
theorem hy_J11_init : yJ11_init.cls ≠ "java/lang/invoke/MethodHandle" ∧ yJ11_init.cls ≠ "java/lang/invoke/VarHandle" ∧ (parseMethodDescriptor yJ11_init.desc).map (fun d => d.parameters.length) = some 0 := by decide +kernel
theorem hi_J11_init : yJ11_init.name = "<init>" ∧ yJ11_init.cls ≠ "java/lang/invoke/MethodHandle" ∧ yJ11_init.cls ≠ "java/lang/invoke/VarHandle" ∧ (parseMethodDescriptor yJ11_init.desc).map (fun d => d.parameters.length) = some 0 := ⟨rfl, hy_J11_init⟩
abbrev kc_J11_init_2 : Cond := .code yJ11_init_2 cJ11_init_2 2 (Option.none : Option Jvm.ClassFile.FieldType)
theorem cd_J11_init_2 : kt_cd kc_J11_init_2 yJ11_init_2 2 := ⟨q1012, by decide, Or.inl ⟨_, _, rfl⟩⟩
theorem in_J11_init_2 : Cond.initialized yJ11_init_2.cls ∈ lw_all := q126
theorem hy_J11_init_2 : yJ11_init_2.cls ≠ "java/lang/invoke/MethodHandle" ∧ yJ11_init_2.cls ≠ "java/lang/invoke/VarHandle" ∧ (parseMethodDescriptor yJ11_init_2.desc).map (fun d => d.parameters.length) = some 1 := by decide +kernel
theorem hi_J11_init_2 : yJ11_init_2.name = "<init>" ∧ yJ11_init_2.cls ≠ "java/lang/invoke/MethodHandle" ∧ yJ11_init_2.cls ≠ "java/lang/invoke/VarHandle" ∧ (parseMethodDescriptor yJ11_init_2.desc).map (fun d => d.parameters.length) = some 1 := ⟨rfl, hy_J11_init_2⟩
abbrev kc_J11_init_3 : Cond := .code yJ11_init_3 cJ11_init_3 2 (Option.none : Option Jvm.ClassFile.FieldType)
theorem cd_J11_init_3 : kt_cd kc_J11_init_3 yJ11_init_3 2 := ⟨q1257, by decide, Or.inl ⟨_, _, rfl⟩⟩
theorem in_J11_init_3 : Cond.initialized yJ11_init_3.cls ∈ lw_all := q126
theorem hy_J11_init_3 : yJ11_init_3.cls ≠ "java/lang/invoke/MethodHandle" ∧ yJ11_init_3.cls ≠ "java/lang/invoke/VarHandle" ∧ (parseMethodDescriptor yJ11_init_3.desc).map (fun d => d.parameters.length) = some 1 := by decide +kernel
theorem hi_J11_init_3 : yJ11_init_3.name = "<init>" ∧ yJ11_init_3.cls ≠ "java/lang/invoke/MethodHandle" ∧ yJ11_init_3.cls ≠ "java/lang/invoke/VarHandle" ∧ (parseMethodDescriptor yJ11_init_3.desc).map (fun d => d.parameters.length) = some 1 := ⟨rfl, hy_J11_init_3⟩
abbrev kc_J12_init : Cond := .code yJ12_init cJ12_init 2 (Option.none : Option Jvm.ClassFile.FieldType)
theorem cd_J12_init : kt_cd kc_J12_init yJ12_init 2 := ⟨q1254, by decide, Or.inl ⟨_, _, rfl⟩⟩
theorem in_J12_init : Cond.initialized yJ12_init.cls ∈ lw_all := q127
theorem hy_J12_init : yJ12_init.cls ≠ "java/lang/invoke/MethodHandle" ∧ yJ12_init.cls ≠ "java/lang/invoke/VarHandle" ∧ (parseMethodDescriptor yJ12_init.desc).map (fun d => d.parameters.length) = some 1 := by decide +kernel
theorem hi_J12_init : yJ12_init.name = "<init>" ∧ yJ12_init.cls ≠ "java/lang/invoke/MethodHandle" ∧ yJ12_init.cls ≠ "java/lang/invoke/VarHandle" ∧ (parseMethodDescriptor yJ12_init.desc).map (fun d => d.parameters.length) = some 1 := ⟨rfl, hy_J12_init⟩
abbrev kc_J12_init_2 : Cond := .code yJ12_init_2 cJ12_init_2 1 (Option.none : Option Jvm.ClassFile.FieldType)
theorem cd_J12_init_2 : kt_cd kc_J12_init_2 yJ12_init_2 1 := ⟨q1502, by decide, Or.inl ⟨_, _, rfl⟩⟩
theorem in_J12_init_2 : Cond.initialized yJ12_init_2.cls ∈ lw_all := q127
theorem hy_J12_init_2 : yJ12_init_2.cls ≠ "java/lang/invoke/MethodHandle" ∧ yJ12_init_2.cls ≠ "java/lang/invoke/VarHandle" ∧ (parseMethodDescriptor yJ12_init_2.desc).map (fun d => d.parameters.length) = some 0 := by decide +kernel
theorem hi_J12_init_2 : yJ12_init_2.name = "<init>" ∧ yJ12_init_2.cls ≠ "java/lang/invoke/MethodHandle" ∧ yJ12_init_2.cls ≠ "java/lang/invoke/VarHandle" ∧ (parseMethodDescriptor yJ12_init_2.desc).map (fun d => d.parameters.length) = some 0 := ⟨rfl, hy_J12_init_2⟩
abbrev kc_J13_append : Cond := .code yJ13_append cJ13_append 3 (Option.some (Jvm.ClassFile.FieldType.object "java/lang/AbstractStringBuilder"))
theorem cd_J13_append : kt_cd kc_J13_append yJ13_append 3 := ⟨q1079, by decide, Or.inl ⟨_, _, rfl⟩⟩
theorem in_J13_append : Cond.initialized yJ13_append.cls ∈ lw_all := q130
theorem hy_J13_append : yJ13_append.cls ≠ "java/lang/invoke/MethodHandle" ∧ yJ13_append.cls ≠ "java/lang/invoke/VarHandle" ∧ (parseMethodDescriptor yJ13_append.desc).map (fun d => d.parameters.length) = some 1 := by decide +kernel
theorem hb_J13_append : yJ13_append.name ≠ "<init>" ∧ (parseMethodDescriptor yJ13_append.desc).map (fun d => d.parameters.length) = some 1 := ⟨by decide, hy_J13_append.2.2⟩
abbrev kc_J13_appendNull : Cond := .code yJ13_appendNull cJ13_appendNull 3 (Option.some (Jvm.ClassFile.FieldType.object "java/lang/AbstractStringBuilder"))
theorem cd_J13_appendNull : kt_cd kc_J13_appendNull yJ13_appendNull 3 := ⟨q1083, by decide, Or.inl ⟨_, _, rfl⟩⟩
theorem in_J13_appendNull : Cond.initialized yJ13_appendNull.cls ∈ lw_all := q130
theorem hy_J13_appendNull : yJ13_appendNull.cls ≠ "java/lang/invoke/MethodHandle" ∧ yJ13_appendNull.cls ≠ "java/lang/invoke/VarHandle" ∧ (parseMethodDescriptor yJ13_appendNull.desc).map (fun d => d.parameters.length) = some 0 := by decide +kernel
theorem hb_J13_appendNull : yJ13_appendNull.name ≠ "<init>" ∧ (parseMethodDescriptor yJ13_appendNull.desc).map (fun d => d.parameters.length) = some 0 := ⟨by decide, hy_J13_appendNull.2.2⟩
abbrev kc_J13_append_2 : Cond := .code yJ13_append_2 cJ13_append_2 4 (Option.some (Jvm.ClassFile.FieldType.object "java/lang/AbstractStringBuilder"))
theorem cd_J13_append_2 : kt_cd kc_J13_append_2 yJ13_append_2 4 := ⟨q1230, by decide, Or.inl ⟨_, _, rfl⟩⟩
theorem in_J13_append_2 : Cond.initialized yJ13_append_2.cls ∈ lw_all := q130
theorem hy_J13_append_2 : yJ13_append_2.cls ≠ "java/lang/invoke/MethodHandle" ∧ yJ13_append_2.cls ≠ "java/lang/invoke/VarHandle" ∧ (parseMethodDescriptor yJ13_append_2.desc).map (fun d => d.parameters.length) = some 1 := by decide +kernel
theorem hb_J13_append_2 : yJ13_append_2.name ≠ "<init>" ∧ (parseMethodDescriptor yJ13_append_2.desc).map (fun d => d.parameters.length) = some 1 := ⟨by decide, hy_J13_append_2.2.2⟩
abbrev kc_J13_append_3 : Cond := .code yJ13_append_3 cJ13_append_3 2 (Option.some (Jvm.ClassFile.FieldType.object "java/lang/AbstractStringBuilder"))
theorem cd_J13_append_3 : kt_cd kc_J13_append_3 yJ13_append_3 2 := ⟨q1559, by decide, Or.inl ⟨_, _, rfl⟩⟩
theorem in_J13_append_3 : Cond.initialized yJ13_append_3.cls ∈ lw_all := q130
theorem hy_J13_append_3 : yJ13_append_3.cls ≠ "java/lang/invoke/MethodHandle" ∧ yJ13_append_3.cls ≠ "java/lang/invoke/VarHandle" ∧ (parseMethodDescriptor yJ13_append_3.desc).map (fun d => d.parameters.length) = some 1 := by decide +kernel
theorem hb_J13_append_3 : yJ13_append_3.name ≠ "<init>" ∧ (parseMethodDescriptor yJ13_append_3.desc).map (fun d => d.parameters.length) = some 1 := ⟨by decide, hy_J13_append_3.2.2⟩
abbrev kc_J13_ensureCapacityInternal : Cond := .code yJ13_ensureCapacityInternal cJ13_ensureCapacityInternal 3 (Option.none : Option Jvm.ClassFile.FieldType)
theorem cd_J13_ensureCapacityInternal : kt_cd kc_J13_ensureCapacityInternal yJ13_ensureCapacityInternal 3 := ⟨q1087, by decide, Or.inl ⟨_, _, rfl⟩⟩
theorem in_J13_ensureCapacityInternal : Cond.initialized yJ13_ensureCapacityInternal.cls ∈ lw_all := q130
theorem hy_J13_ensureCapacityInternal : yJ13_ensureCapacityInternal.cls ≠ "java/lang/invoke/MethodHandle" ∧ yJ13_ensureCapacityInternal.cls ≠ "java/lang/invoke/VarHandle" ∧ (parseMethodDescriptor yJ13_ensureCapacityInternal.desc).map (fun d => d.parameters.length) = some 1 := by decide +kernel
theorem hb_J13_ensureCapacityInternal : yJ13_ensureCapacityInternal.name ≠ "<init>" ∧ (parseMethodDescriptor yJ13_ensureCapacityInternal.desc).map (fun d => d.parameters.length) = some 1 := ⟨by decide, hy_J13_ensureCapacityInternal.2.2⟩
abbrev kc_J13_getValue : Cond := .code yJ13_getValue cJ13_getValue 1 (Option.some (Jvm.ClassFile.FieldType.array Jvm.ClassFile.FieldType.byte))
theorem cd_J13_getValue : kt_cd kc_J13_getValue yJ13_getValue 1 := ⟨q1194, by decide, Or.inl ⟨_, _, rfl⟩⟩
theorem in_J13_getValue : Cond.initialized yJ13_getValue.cls ∈ lw_all := q130
theorem hy_J13_getValue : yJ13_getValue.cls ≠ "java/lang/invoke/MethodHandle" ∧ yJ13_getValue.cls ≠ "java/lang/invoke/VarHandle" ∧ (parseMethodDescriptor yJ13_getValue.desc).map (fun d => d.parameters.length) = some 0 := by decide +kernel
theorem hb_J13_getValue : yJ13_getValue.name ≠ "<init>" ∧ (parseMethodDescriptor yJ13_getValue.desc).map (fun d => d.parameters.length) = some 0 := ⟨by decide, hy_J13_getValue.2.2⟩
abbrev kc_J13_inflate : Cond := .code yJ13_inflate cJ13_inflate 2 (Option.none : Option Jvm.ClassFile.FieldType)
theorem cd_J13_inflate : kt_cd kc_J13_inflate yJ13_inflate 2 := ⟨q1154, by decide, Or.inl ⟨_, _, rfl⟩⟩
theorem in_J13_inflate : Cond.initialized yJ13_inflate.cls ∈ lw_all := q130
theorem hy_J13_inflate : yJ13_inflate.cls ≠ "java/lang/invoke/MethodHandle" ∧ yJ13_inflate.cls ≠ "java/lang/invoke/VarHandle" ∧ (parseMethodDescriptor yJ13_inflate.desc).map (fun d => d.parameters.length) = some 0 := by decide +kernel
theorem hb_J13_inflate : yJ13_inflate.name ≠ "<init>" ∧ (parseMethodDescriptor yJ13_inflate.desc).map (fun d => d.parameters.length) = some 0 := ⟨by decide, hy_J13_inflate.2.2⟩
abbrev kc_J13_inflateIfNeededFor : Cond := .code yJ13_inflateIfNeededFor cJ13_inflateIfNeededFor 2 (Option.none : Option Jvm.ClassFile.FieldType)
theorem cd_J13_inflateIfNeededFor : kt_cd kc_J13_inflateIfNeededFor yJ13_inflateIfNeededFor 2 := ⟨q1149, by decide, Or.inl ⟨_, _, rfl⟩⟩
theorem in_J13_inflateIfNeededFor : Cond.initialized yJ13_inflateIfNeededFor.cls ∈ lw_all := q130
theorem hy_J13_inflateIfNeededFor : yJ13_inflateIfNeededFor.cls ≠ "java/lang/invoke/MethodHandle" ∧ yJ13_inflateIfNeededFor.cls ≠ "java/lang/invoke/VarHandle" ∧ (parseMethodDescriptor yJ13_inflateIfNeededFor.desc).map (fun d => d.parameters.length) = some 1 := by decide +kernel
theorem hb_J13_inflateIfNeededFor : yJ13_inflateIfNeededFor.name ≠ "<init>" ∧ (parseMethodDescriptor yJ13_inflateIfNeededFor.desc).map (fun d => d.parameters.length) = some 1 := ⟨by decide, hy_J13_inflateIfNeededFor.2.2⟩
abbrev kc_J13_init : Cond := .code yJ13_init cJ13_init 2 (Option.none : Option Jvm.ClassFile.FieldType)
theorem cd_J13_init : kt_cd kc_J13_init yJ13_init 2 := ⟨q1048, by decide, Or.inl ⟨_, _, rfl⟩⟩
theorem in_J13_init : Cond.initialized yJ13_init.cls ∈ lw_all := q130
theorem hy_J13_init : yJ13_init.cls ≠ "java/lang/invoke/MethodHandle" ∧ yJ13_init.cls ≠ "java/lang/invoke/VarHandle" ∧ (parseMethodDescriptor yJ13_init.desc).map (fun d => d.parameters.length) = some 1 := by decide +kernel
theorem hi_J13_init : yJ13_init.name = "<init>" ∧ yJ13_init.cls ≠ "java/lang/invoke/MethodHandle" ∧ yJ13_init.cls ≠ "java/lang/invoke/VarHandle" ∧ (parseMethodDescriptor yJ13_init.desc).map (fun d => d.parameters.length) = some 1 := ⟨rfl, hy_J13_init⟩
abbrev kc_J13_isLatin1 : Cond := .code yJ13_isLatin1 cJ13_isLatin1 1 (Option.some Jvm.ClassFile.FieldType.boolean)
theorem cd_J13_isLatin1 : kt_cd kc_J13_isLatin1 yJ13_isLatin1 1 := ⟨q1106, by decide, Or.inl ⟨_, _, rfl⟩⟩
theorem in_J13_isLatin1 : Cond.initialized yJ13_isLatin1.cls ∈ lw_all := q130
theorem hy_J13_isLatin1 : yJ13_isLatin1.cls ≠ "java/lang/invoke/MethodHandle" ∧ yJ13_isLatin1.cls ≠ "java/lang/invoke/VarHandle" ∧ (parseMethodDescriptor yJ13_isLatin1.desc).map (fun d => d.parameters.length) = some 0 := by decide +kernel
theorem hb_J13_isLatin1 : yJ13_isLatin1.name ≠ "<init>" ∧ (parseMethodDescriptor yJ13_isLatin1.desc).map (fun d => d.parameters.length) = some 0 := ⟨by decide, hy_J13_isLatin1.2.2⟩
abbrev kc_J13_length : Cond := .code yJ13_length cJ13_length 1 (Option.some Jvm.ClassFile.FieldType.int)
theorem cd_J13_length : kt_cd kc_J13_length yJ13_length 1 := ⟨q1202, by decide, Or.inl ⟨_, _, rfl⟩⟩
theorem in_J13_length : Cond.initialized yJ13_length.cls ∈ lw_all := q130
theorem hy_J13_length : yJ13_length.cls ≠ "java/lang/invoke/MethodHandle" ∧ yJ13_length.cls ≠ "java/lang/invoke/VarHandle" ∧ (parseMethodDescriptor yJ13_length.desc).map (fun d => d.parameters.length) = some 0 := by decide +kernel
theorem hb_J13_length : yJ13_length.name ≠ "<init>" ∧ (parseMethodDescriptor yJ13_length.desc).map (fun d => d.parameters.length) = some 0 := ⟨by decide, hy_J13_length.2.2⟩
abbrev kc_J13_newCapacity : Cond := .code yJ13_newCapacity cJ13_newCapacity 6 (Option.some Jvm.ClassFile.FieldType.int)
theorem cd_J13_newCapacity : kt_cd kc_J13_newCapacity yJ13_newCapacity 6 := ⟨q1091, by decide, Or.inl ⟨_, _, rfl⟩⟩
theorem in_J13_newCapacity : Cond.initialized yJ13_newCapacity.cls ∈ lw_all := q130
theorem hy_J13_newCapacity : yJ13_newCapacity.cls ≠ "java/lang/invoke/MethodHandle" ∧ yJ13_newCapacity.cls ≠ "java/lang/invoke/VarHandle" ∧ (parseMethodDescriptor yJ13_newCapacity.desc).map (fun d => d.parameters.length) = some 1 := by decide +kernel
theorem hb_J13_newCapacity : yJ13_newCapacity.name ≠ "<init>" ∧ (parseMethodDescriptor yJ13_newCapacity.desc).map (fun d => d.parameters.length) = some 1 := ⟨by decide, hy_J13_newCapacity.2.2⟩
abbrev kc_J13_putStringAt : Cond := .code yJ13_putStringAt cJ13_putStringAt 3 (Option.none : Option Jvm.ClassFile.FieldType)
theorem cd_J13_putStringAt : kt_cd kc_J13_putStringAt yJ13_putStringAt 3 := ⟨q1145, by decide, Or.inl ⟨_, _, rfl⟩⟩
theorem in_J13_putStringAt : Cond.initialized yJ13_putStringAt.cls ∈ lw_all := q130
theorem hy_J13_putStringAt : yJ13_putStringAt.cls ≠ "java/lang/invoke/MethodHandle" ∧ yJ13_putStringAt.cls ≠ "java/lang/invoke/VarHandle" ∧ (parseMethodDescriptor yJ13_putStringAt.desc).map (fun d => d.parameters.length) = some 2 := by decide +kernel
theorem hb_J13_putStringAt : yJ13_putStringAt.name ≠ "<init>" ∧ (parseMethodDescriptor yJ13_putStringAt.desc).map (fun d => d.parameters.length) = some 2 := ⟨by decide, hy_J13_putStringAt.2.2⟩
abbrev kc_J13_setLength : Cond := .code yJ13_setLength cJ13_setLength 2 (Option.none : Option Jvm.ClassFile.FieldType)
theorem cd_J13_setLength : kt_cd kc_J13_setLength yJ13_setLength 2 := ⟨q1531, by decide, Or.inl ⟨_, _, rfl⟩⟩
theorem in_J13_setLength : Cond.initialized yJ13_setLength.cls ∈ lw_all := q130
theorem hy_J13_setLength : yJ13_setLength.cls ≠ "java/lang/invoke/MethodHandle" ∧ yJ13_setLength.cls ≠ "java/lang/invoke/VarHandle" ∧ (parseMethodDescriptor yJ13_setLength.desc).map (fun d => d.parameters.length) = some 1 := by decide +kernel
theorem hb_J13_setLength : yJ13_setLength.name ≠ "<init>" ∧ (parseMethodDescriptor yJ13_setLength.desc).map (fun d => d.parameters.length) = some 1 := ⟨by decide, hy_J13_setLength.2.2⟩
abbrev kc_J14_append : Cond := .code yJ14_append cJ14_append 2 (Option.some (Jvm.ClassFile.FieldType.object "java/lang/StringBuilder"))
theorem cd_J14_append : kt_cd kc_J14_append yJ14_append 2 := ⟨q1076, by decide, Or.inl ⟨_, _, rfl⟩⟩
theorem in_J14_append : Cond.initialized yJ14_append.cls ∈ lw_all := q131
theorem hy_J14_append : yJ14_append.cls ≠ "java/lang/invoke/MethodHandle" ∧ yJ14_append.cls ≠ "java/lang/invoke/VarHandle" ∧ (parseMethodDescriptor yJ14_append.desc).map (fun d => d.parameters.length) = some 1 := by decide +kernel
abbrev kc_J14_append_2 : Cond := .code yJ14_append_2 cJ14_append_2 2 (Option.some (Jvm.ClassFile.FieldType.object "java/lang/StringBuilder"))
theorem cd_J14_append_2 : kt_cd kc_J14_append_2 yJ14_append_2 2 := ⟨q1227, by decide, Or.inl ⟨_, _, rfl⟩⟩
theorem in_J14_append_2 : Cond.initialized yJ14_append_2.cls ∈ lw_all := q131
theorem hy_J14_append_2 : yJ14_append_2.cls ≠ "java/lang/invoke/MethodHandle" ∧ yJ14_append_2.cls ≠ "java/lang/invoke/VarHandle" ∧ (parseMethodDescriptor yJ14_append_2.desc).map (fun d => d.parameters.length) = some 1 := by decide +kernel
abbrev kc_J14_append_3 : Cond := .code yJ14_append_3 cJ14_append_3 2 (Option.some (Jvm.ClassFile.FieldType.object "java/lang/StringBuilder"))
theorem cd_J14_append_3 : kt_cd kc_J14_append_3 yJ14_append_3 2 := ⟨q1556, by decide, Or.inl ⟨_, _, rfl⟩⟩
theorem in_J14_append_3 : Cond.initialized yJ14_append_3.cls ∈ lw_all := q131
theorem hy_J14_append_3 : yJ14_append_3.cls ≠ "java/lang/invoke/MethodHandle" ∧ yJ14_append_3.cls ≠ "java/lang/invoke/VarHandle" ∧ (parseMethodDescriptor yJ14_append_3.desc).map (fun d => d.parameters.length) = some 1 := by decide +kernel
abbrev kc_J14_init : Cond := .code yJ14_init cJ14_init 1 (Option.none : Option Jvm.ClassFile.FieldType)
theorem cd_J14_init : kt_cd kc_J14_init yJ14_init 1 := ⟨q1045, by decide, Or.inl ⟨_, _, rfl⟩⟩
theorem in_J14_init : Cond.initialized yJ14_init.cls ∈ lw_all := q131
theorem hy_J14_init : yJ14_init.cls ≠ "java/lang/invoke/MethodHandle" ∧ yJ14_init.cls ≠ "java/lang/invoke/VarHandle" ∧ (parseMethodDescriptor yJ14_init.desc).map (fun d => d.parameters.length) = some 0 := by decide +kernel
theorem hi_J14_init : yJ14_init.name = "<init>" ∧ yJ14_init.cls ≠ "java/lang/invoke/MethodHandle" ∧ yJ14_init.cls ≠ "java/lang/invoke/VarHandle" ∧ (parseMethodDescriptor yJ14_init.desc).map (fun d => d.parameters.length) = some 0 := ⟨rfl, hy_J14_init⟩
abbrev kc_J14_length : Cond := .code yJ14_length cJ14_length 1 (Option.some Jvm.ClassFile.FieldType.int)
theorem cd_J14_length : kt_cd kc_J14_length yJ14_length 1 := ⟨q1200, by decide, Or.inl ⟨_, _, rfl⟩⟩
theorem in_J14_length : Cond.initialized yJ14_length.cls ∈ lw_all := q131
theorem hy_J14_length : yJ14_length.cls ≠ "java/lang/invoke/MethodHandle" ∧ yJ14_length.cls ≠ "java/lang/invoke/VarHandle" ∧ (parseMethodDescriptor yJ14_length.desc).map (fun d => d.parameters.length) = some 0 := by decide +kernel
abbrev kc_J14_setLength : Cond := .code yJ14_setLength cJ14_setLength 2 (Option.none : Option Jvm.ClassFile.FieldType)
theorem cd_J14_setLength : kt_cd kc_J14_setLength yJ14_setLength 2 := ⟨q1528, by decide, Or.inl ⟨_, _, rfl⟩⟩
theorem in_J14_setLength : Cond.initialized yJ14_setLength.cls ∈ lw_all := q131
theorem hy_J14_setLength : yJ14_setLength.cls ≠ "java/lang/invoke/MethodHandle" ∧ yJ14_setLength.cls ≠ "java/lang/invoke/VarHandle" ∧ (parseMethodDescriptor yJ14_setLength.desc).map (fun d => d.parameters.length) = some 1 := by decide +kernel
abbrev kc_J14_toString : Cond := .code yJ14_toString cJ14_toString 1 (Option.some (Jvm.ClassFile.FieldType.object "java/lang/String"))
theorem cd_J14_toString : kt_cd kc_J14_toString yJ14_toString 1 := ⟨q1180, by decide, Or.inl ⟨_, _, rfl⟩⟩
theorem in_J14_toString : Cond.initialized yJ14_toString.cls ∈ lw_all := q131
theorem hy_J14_toString : yJ14_toString.cls ≠ "java/lang/invoke/MethodHandle" ∧ yJ14_toString.cls ≠ "java/lang/invoke/VarHandle" ∧ (parseMethodDescriptor yJ14_toString.desc).map (fun d => d.parameters.length) = some 0 := by decide +kernel
abbrev kc_J15_charAt : Cond := .code yJ15_charAt cJ15_charAt 2 (Option.some Jvm.ClassFile.FieldType.char)
theorem cd_J15_charAt : kt_cd kc_J15_charAt yJ15_charAt 2 := ⟨q1463, by decide, Or.inl ⟨_, _, rfl⟩⟩
theorem in_J15_charAt : Cond.initialized yJ15_charAt.cls ∈ lw_all := q132
theorem hy_J15_charAt : yJ15_charAt.cls ≠ "java/lang/invoke/MethodHandle" ∧ yJ15_charAt.cls ≠ "java/lang/invoke/VarHandle" ∧ (parseMethodDescriptor yJ15_charAt.desc).map (fun d => d.parameters.length) = some 1 := by decide +kernel
abbrev kc_J15_checkBoundsBeginEnd : Cond := .code yJ15_checkBoundsBeginEnd cJ15_checkBoundsBeginEnd 3 (Option.none : Option Jvm.ClassFile.FieldType)
theorem cd_J15_checkBoundsBeginEnd : kt_cd kc_J15_checkBoundsBeginEnd yJ15_checkBoundsBeginEnd 3 := ⟨q1118, by decide, Or.inl ⟨_, _, rfl⟩⟩
theorem in_J15_checkBoundsBeginEnd : Cond.initialized yJ15_checkBoundsBeginEnd.cls ∈ lw_all := q132
theorem hy_J15_checkBoundsBeginEnd : yJ15_checkBoundsBeginEnd.cls ≠ "java/lang/invoke/MethodHandle" ∧ yJ15_checkBoundsBeginEnd.cls ≠ "java/lang/invoke/VarHandle" ∧ (parseMethodDescriptor yJ15_checkBoundsBeginEnd.desc).map (fun d => d.parameters.length) = some 3 := by decide +kernel
abbrev kc_J15_checkBoundsOffCount : Cond := .code yJ15_checkBoundsOffCount cJ15_checkBoundsOffCount 3 (Option.some Jvm.ClassFile.FieldType.int)
theorem cd_J15_checkBoundsOffCount : kt_cd kc_J15_checkBoundsOffCount yJ15_checkBoundsOffCount 3 := ⟨q1166, by decide, Or.inl ⟨_, _, rfl⟩⟩
theorem in_J15_checkBoundsOffCount : Cond.initialized yJ15_checkBoundsOffCount.cls ∈ lw_all := q132
theorem hy_J15_checkBoundsOffCount : yJ15_checkBoundsOffCount.cls ≠ "java/lang/invoke/MethodHandle" ∧ yJ15_checkBoundsOffCount.cls ≠ "java/lang/invoke/VarHandle" ∧ (parseMethodDescriptor yJ15_checkBoundsOffCount.desc).map (fun d => d.parameters.length) = some 3 := by decide +kernel
abbrev kc_J15_checkIndex : Cond := .code yJ15_checkIndex cJ15_checkIndex 2 (Option.none : Option Jvm.ClassFile.FieldType)
theorem cd_J15_checkIndex : kt_cd kc_J15_checkIndex yJ15_checkIndex 2 := ⟨q1473, by decide, Or.inl ⟨_, _, rfl⟩⟩
theorem in_J15_checkIndex : Cond.initialized yJ15_checkIndex.cls ∈ lw_all := q132
theorem hy_J15_checkIndex : yJ15_checkIndex.cls ≠ "java/lang/invoke/MethodHandle" ∧ yJ15_checkIndex.cls ≠ "java/lang/invoke/VarHandle" ∧ (parseMethodDescriptor yJ15_checkIndex.desc).map (fun d => d.parameters.length) = some 2 := by decide +kernel
abbrev kc_J15_coder : Cond := .code yJ15_coder cJ15_coder 1 (Option.some Jvm.ClassFile.FieldType.byte)
theorem cd_J15_coder : kt_cd kc_J15_coder yJ15_coder 1 := ⟨q1140, by decide, Or.inl ⟨_, _, rfl⟩⟩
theorem in_J15_coder : Cond.initialized yJ15_coder.cls ∈ lw_all := q132
theorem hy_J15_coder : yJ15_coder.cls ≠ "java/lang/invoke/MethodHandle" ∧ yJ15_coder.cls ≠ "java/lang/invoke/VarHandle" ∧ (parseMethodDescriptor yJ15_coder.desc).map (fun d => d.parameters.length) = some 0 := by decide +kernel
abbrev kc_J15_equals : Cond := .code yJ15_equals cJ15_equals 3 (Option.some Jvm.ClassFile.FieldType.boolean)
theorem cd_J15_equals : kt_cd kc_J15_equals yJ15_equals 3 := ⟨q1637, by decide, Or.inl ⟨_, _, rfl⟩⟩
theorem in_J15_equals : Cond.initialized yJ15_equals.cls ∈ lw_all := q132
theorem hy_J15_equals : yJ15_equals.cls ≠ "java/lang/invoke/MethodHandle" ∧ yJ15_equals.cls ≠ "java/lang/invoke/VarHandle" ∧ (parseMethodDescriptor yJ15_equals.desc).map (fun d => d.parameters.length) = some 1 := by decide +kernel
abbrev kc_J15_getBytes : Cond := .code yJ15_getBytes cJ15_getBytes 4 (Option.none : Option Jvm.ClassFile.FieldType)
theorem cd_J15_getBytes : kt_cd kc_J15_getBytes yJ15_getBytes 4 := ⟨q1173, by decide, Or.inl ⟨_, _, rfl⟩⟩
theorem in_J15_getBytes : Cond.initialized yJ15_getBytes.cls ∈ lw_all := q132
theorem hy_J15_getBytes : yJ15_getBytes.cls ≠ "java/lang/invoke/MethodHandle" ∧ yJ15_getBytes.cls ≠ "java/lang/invoke/VarHandle" ∧ (parseMethodDescriptor yJ15_getBytes.desc).map (fun d => d.parameters.length) = some 3 := by decide +kernel
abbrev kc_J15_hashCode : Cond := .code yJ15_hashCode cJ15_hashCode 2 (Option.some Jvm.ClassFile.FieldType.int)
theorem cd_J15_hashCode : kt_cd kc_J15_hashCode yJ15_hashCode 2 := ⟨q1714, by decide, Or.inl ⟨_, _, rfl⟩⟩
theorem in_J15_hashCode : Cond.initialized yJ15_hashCode.cls ∈ lw_all := q132
theorem hy_J15_hashCode : yJ15_hashCode.cls ≠ "java/lang/invoke/MethodHandle" ∧ yJ15_hashCode.cls ≠ "java/lang/invoke/VarHandle" ∧ (parseMethodDescriptor yJ15_hashCode.desc).map (fun d => d.parameters.length) = some 0 := by decide +kernel
abbrev kc_J15_init : Cond := .code yJ15_init cJ15_init 2 (Option.none : Option Jvm.ClassFile.FieldType)
theorem cd_J15_init : kt_cd kc_J15_init yJ15_init 2 := ⟨q1185, by decide, Or.inl ⟨_, _, rfl⟩⟩
theorem in_J15_init : Cond.initialized yJ15_init.cls ∈ lw_all := q132
theorem hy_J15_init : yJ15_init.cls ≠ "java/lang/invoke/MethodHandle" ∧ yJ15_init.cls ≠ "java/lang/invoke/VarHandle" ∧ (parseMethodDescriptor yJ15_init.desc).map (fun d => d.parameters.length) = some 1 := by decide +kernel
theorem hi_J15_init : yJ15_init.name = "<init>" ∧ yJ15_init.cls ≠ "java/lang/invoke/MethodHandle" ∧ yJ15_init.cls ≠ "java/lang/invoke/VarHandle" ∧ (parseMethodDescriptor yJ15_init.desc).map (fun d => d.parameters.length) = some 1 := ⟨rfl, hy_J15_init⟩
abbrev kc_J15_init_2 : Cond := .code yJ15_init_2 cJ15_init_2 5 (Option.none : Option Jvm.ClassFile.FieldType)
theorem cd_J15_init_2 : kt_cd kc_J15_init_2 yJ15_init_2 5 := ⟨q1188, by decide, Or.inl ⟨_, _, rfl⟩⟩
theorem in_J15_init_2 : Cond.initialized yJ15_init_2.cls ∈ lw_all := q132
theorem hy_J15_init_2 : yJ15_init_2.cls ≠ "java/lang/invoke/MethodHandle" ∧ yJ15_init_2.cls ≠ "java/lang/invoke/VarHandle" ∧ (parseMethodDescriptor yJ15_init_2.desc).map (fun d => d.parameters.length) = some 2 := by decide +kernel
theorem hi_J15_init_2 : yJ15_init_2.name = "<init>" ∧ yJ15_init_2.cls ≠ "java/lang/invoke/MethodHandle" ∧ yJ15_init_2.cls ≠ "java/lang/invoke/VarHandle" ∧ (parseMethodDescriptor yJ15_init_2.desc).map (fun d => d.parameters.length) = some 2 := ⟨rfl, hy_J15_init_2⟩
abbrev kc_J15_isLatin1 : Cond := .code yJ15_isLatin1 cJ15_isLatin1 1 (Option.some Jvm.ClassFile.FieldType.boolean)
theorem cd_J15_isLatin1 : kt_cd kc_J15_isLatin1 yJ15_isLatin1 1 := ⟨q1467, by decide, Or.inl ⟨_, _, rfl⟩⟩
theorem in_J15_isLatin1 : Cond.initialized yJ15_isLatin1.cls ∈ lw_all := q132
theorem hy_J15_isLatin1 : yJ15_isLatin1.cls ≠ "java/lang/invoke/MethodHandle" ∧ yJ15_isLatin1.cls ≠ "java/lang/invoke/VarHandle" ∧ (parseMethodDescriptor yJ15_isLatin1.desc).map (fun d => d.parameters.length) = some 0 := by decide +kernel
abbrev kc_J15_length : Cond := .code yJ15_length cJ15_length 1 (Option.some Jvm.ClassFile.FieldType.int)
theorem cd_J15_length : kt_cd kc_J15_length yJ15_length 1 := ⟨q1136, by decide, Or.inl ⟨_, _, rfl⟩⟩
theorem in_J15_length : Cond.initialized yJ15_length.cls ∈ lw_all := q132
theorem hy_J15_length : yJ15_length.cls ≠ "java/lang/invoke/MethodHandle" ∧ yJ15_length.cls ≠ "java/lang/invoke/VarHandle" ∧ (parseMethodDescriptor yJ15_length.desc).map (fun d => d.parameters.length) = some 0 := by decide +kernel
abbrev kc_J16_charAt : Cond := .code yJ16_charAt cJ16_charAt 2 (Option.some Jvm.ClassFile.FieldType.char)
theorem cd_J16_charAt : kt_cd kc_J16_charAt yJ16_charAt 2 := ⟨q1477, by decide, Or.inl ⟨_, _, rfl⟩⟩
theorem in_J16_charAt : Cond.initialized yJ16_charAt.cls ∈ lw_all := q133
theorem hy_J16_charAt : yJ16_charAt.cls ≠ "java/lang/invoke/MethodHandle" ∧ yJ16_charAt.cls ≠ "java/lang/invoke/VarHandle" ∧ (parseMethodDescriptor yJ16_charAt.desc).map (fun d => d.parameters.length) = some 2 := by decide +kernel
abbrev kc_J16_checkBoundsBeginEnd : Cond := .code yJ16_checkBoundsBeginEnd cJ16_checkBoundsBeginEnd 3 (Option.none : Option Jvm.ClassFile.FieldType)
theorem cd_J16_checkBoundsBeginEnd : kt_cd kc_J16_checkBoundsBeginEnd yJ16_checkBoundsBeginEnd 3 := ⟨q1112, by decide, Or.inl ⟨_, _, rfl⟩⟩
theorem in_J16_checkBoundsBeginEnd : Cond.initialized yJ16_checkBoundsBeginEnd.cls ∈ lw_all := q133
theorem hy_J16_checkBoundsBeginEnd : yJ16_checkBoundsBeginEnd.cls ≠ "java/lang/invoke/MethodHandle" ∧ yJ16_checkBoundsBeginEnd.cls ≠ "java/lang/invoke/VarHandle" ∧ (parseMethodDescriptor yJ16_checkBoundsBeginEnd.desc).map (fun d => d.parameters.length) = some 3 := by decide +kernel
abbrev kc_J16_checkBoundsOffCount : Cond := .code yJ16_checkBoundsOffCount cJ16_checkBoundsOffCount 3 (Option.none : Option Jvm.ClassFile.FieldType)
theorem cd_J16_checkBoundsOffCount : kt_cd kc_J16_checkBoundsOffCount yJ16_checkBoundsOffCount 3 := ⟨q1163, by decide, Or.inl ⟨_, _, rfl⟩⟩
theorem in_J16_checkBoundsOffCount : Cond.initialized yJ16_checkBoundsOffCount.cls ∈ lw_all := q133
theorem hy_J16_checkBoundsOffCount : yJ16_checkBoundsOffCount.cls ≠ "java/lang/invoke/MethodHandle" ∧ yJ16_checkBoundsOffCount.cls ≠ "java/lang/invoke/VarHandle" ∧ (parseMethodDescriptor yJ16_checkBoundsOffCount.desc).map (fun d => d.parameters.length) = some 3 := by decide +kernel
abbrev kc_J16_checkIndex : Cond := .code yJ16_checkIndex cJ16_checkIndex 2 (Option.none : Option Jvm.ClassFile.FieldType)
theorem cd_J16_checkIndex : kt_cd kc_J16_checkIndex yJ16_checkIndex 2 := ⟨q1480, by decide, Or.inl ⟨_, _, rfl⟩⟩
theorem in_J16_checkIndex : Cond.initialized yJ16_checkIndex.cls ∈ lw_all := q133
theorem hy_J16_checkIndex : yJ16_checkIndex.cls ≠ "java/lang/invoke/MethodHandle" ∧ yJ16_checkIndex.cls ≠ "java/lang/invoke/VarHandle" ∧ (parseMethodDescriptor yJ16_checkIndex.desc).map (fun d => d.parameters.length) = some 2 := by decide +kernel
abbrev kc_J16_coderFromArrayLen : Cond := .code yJ16_coderFromArrayLen cJ16_coderFromArrayLen 2 (Option.some Jvm.ClassFile.FieldType.byte)
theorem cd_J16_coderFromArrayLen : kt_cd kc_J16_coderFromArrayLen yJ16_coderFromArrayLen 2 := ⟨q1278, by decide, Or.inl ⟨_, _, rfl⟩⟩
theorem in_J16_coderFromArrayLen : Cond.initialized yJ16_coderFromArrayLen.cls ∈ lw_all := q133
theorem hy_J16_coderFromArrayLen : yJ16_coderFromArrayLen.cls ≠ "java/lang/invoke/MethodHandle" ∧ yJ16_coderFromArrayLen.cls ≠ "java/lang/invoke/VarHandle" ∧ (parseMethodDescriptor yJ16_coderFromArrayLen.desc).map (fun d => d.parameters.length) = some 2 := by decide +kernel
abbrev kc_J16_compress : Cond := .code yJ16_compress cJ16_compress 6 (Option.some (Jvm.ClassFile.FieldType.array Jvm.ClassFile.FieldType.byte))
theorem cd_J16_compress : kt_cd kc_J16_compress yJ16_compress 6 := ⟨q1268, by decide, Or.inl ⟨_, _, rfl⟩⟩
theorem in_J16_compress : Cond.initialized yJ16_compress.cls ∈ lw_all := q133
theorem hy_J16_compress : yJ16_compress.cls ≠ "java/lang/invoke/MethodHandle" ∧ yJ16_compress.cls ≠ "java/lang/invoke/VarHandle" ∧ (parseMethodDescriptor yJ16_compress.desc).map (fun d => d.parameters.length) = some 3 := by decide +kernel
abbrev kc_J16_compress_2 : Cond := .code yJ16_compress_2 cJ16_compress_2 7 (Option.some Jvm.ClassFile.FieldType.int)
theorem cd_J16_compress_2 : kt_cd kc_J16_compress_2 yJ16_compress_2 7 := ⟨q1271, by decide, Or.inl ⟨_, _, rfl⟩⟩
theorem in_J16_compress_2 : Cond.initialized yJ16_compress_2.cls ∈ lw_all := q133
theorem hy_J16_compress_2 : yJ16_compress_2.cls ≠ "java/lang/invoke/MethodHandle" ∧ yJ16_compress_2.cls ≠ "java/lang/invoke/VarHandle" ∧ (parseMethodDescriptor yJ16_compress_2.desc).map (fun d => d.parameters.length) = some 5 := by decide +kernel
abbrev kc_J16_fillNull : Cond := .code yJ16_fillNull cJ16_fillNull 3 (Option.none : Option Jvm.ClassFile.FieldType)
theorem cd_J16_fillNull : kt_cd kc_J16_fillNull yJ16_fillNull 3 := ⟨q1546, by decide, Or.inl ⟨_, _, rfl⟩⟩
theorem in_J16_fillNull : Cond.initialized yJ16_fillNull.cls ∈ lw_all := q133
theorem hy_J16_fillNull : yJ16_fillNull.cls ≠ "java/lang/invoke/MethodHandle" ∧ yJ16_fillNull.cls ≠ "java/lang/invoke/VarHandle" ∧ (parseMethodDescriptor yJ16_fillNull.desc).map (fun d => d.parameters.length) = some 3 := by decide +kernel
abbrev kc_J16_getChar : Cond := .code yJ16_getChar cJ16_getChar 2 (Option.some Jvm.ClassFile.FieldType.char)
theorem cd_J16_getChar : kt_cd kc_J16_getChar yJ16_getChar 2 := ⟨q1274, by decide, Or.inl ⟨_, _, rfl⟩⟩
theorem in_J16_getChar : Cond.initialized yJ16_getChar.cls ∈ lw_all := q133
theorem hy_J16_getChar : yJ16_getChar.cls ≠ "java/lang/invoke/MethodHandle" ∧ yJ16_getChar.cls ≠ "java/lang/invoke/VarHandle" ∧ (parseMethodDescriptor yJ16_getChar.desc).map (fun d => d.parameters.length) = some 2 := by decide +kernel
abbrev kc_J16_getChars : Cond := .code yJ16_getChars cJ16_getChars 5 (Option.some Jvm.ClassFile.FieldType.int)
theorem cd_J16_getChars : kt_cd kc_J16_getChars yJ16_getChars 5 := ⟨q1243, by decide, Or.inl ⟨_, _, rfl⟩⟩
theorem in_J16_getChars : Cond.initialized yJ16_getChars.cls ∈ lw_all := q133
theorem hy_J16_getChars : yJ16_getChars.cls ≠ "java/lang/invoke/MethodHandle" ∧ yJ16_getChars.cls ≠ "java/lang/invoke/VarHandle" ∧ (parseMethodDescriptor yJ16_getChars.desc).map (fun d => d.parameters.length) = some 4 := by decide +kernel
abbrev kc_J16_getChars_2 : Cond := .code yJ16_getChars_2 cJ16_getChars_2 7 (Option.some Jvm.ClassFile.FieldType.int)
theorem cd_J16_getChars_2 : kt_cd kc_J16_getChars_2 yJ16_getChars_2 7 := ⟨q1246, by decide, Or.inl ⟨_, _, rfl⟩⟩
theorem in_J16_getChars_2 : Cond.initialized yJ16_getChars_2.cls ∈ lw_all := q133
theorem hy_J16_getChars_2 : yJ16_getChars_2.cls ≠ "java/lang/invoke/MethodHandle" ∧ yJ16_getChars_2.cls ≠ "java/lang/invoke/VarHandle" ∧ (parseMethodDescriptor yJ16_getChars_2.desc).map (fun d => d.parameters.length) = some 3 := by decide +kernel
abbrev kc_J16_hashCode : Cond := .code yJ16_hashCode cJ16_hashCode 1 (Option.some Jvm.ClassFile.FieldType.int)
theorem cd_J16_hashCode : kt_cd kc_J16_hashCode yJ16_hashCode 1 := ⟨q1766, by decide, Or.inl ⟨_, _, rfl⟩⟩
theorem in_J16_hashCode : Cond.initialized yJ16_hashCode.cls ∈ lw_all := q133
theorem hy_J16_hashCode : yJ16_hashCode.cls ≠ "java/lang/invoke/MethodHandle" ∧ yJ16_hashCode.cls ≠ "java/lang/invoke/VarHandle" ∧ (parseMethodDescriptor yJ16_hashCode.desc).map (fun d => d.parameters.length) = some 1 := by decide +kernel
abbrev kc_J16_inflate : Cond := .code yJ16_inflate cJ16_inflate 6 (Option.none : Option Jvm.ClassFile.FieldType)
theorem cd_J16_inflate : kt_cd kc_J16_inflate yJ16_inflate 6 := ⟨q1160, by decide, Or.inl ⟨_, _, rfl⟩⟩
theorem in_J16_inflate : Cond.initialized yJ16_inflate.cls ∈ lw_all := q133
theorem hy_J16_inflate : yJ16_inflate.cls ≠ "java/lang/invoke/MethodHandle" ∧ yJ16_inflate.cls ≠ "java/lang/invoke/VarHandle" ∧ (parseMethodDescriptor yJ16_inflate.desc).map (fun d => d.parameters.length) = some 5 := by decide +kernel
abbrev kc_J16_length : Cond := .code yJ16_length cJ16_length 1 (Option.some Jvm.ClassFile.FieldType.int)
theorem cd_J16_length : kt_cd kc_J16_length yJ16_length 1 := ⟨q1115, by decide, Or.inl ⟨_, _, rfl⟩⟩
theorem in_J16_length : Cond.initialized yJ16_length.cls ∈ lw_all := q133
theorem hy_J16_length : yJ16_length.cls ≠ "java/lang/invoke/MethodHandle" ∧ yJ16_length.cls ≠ "java/lang/invoke/VarHandle" ∧ (parseMethodDescriptor yJ16_length.desc).map (fun d => d.parameters.length) = some 1 := by decide +kernel
abbrev kc_J16_newBytesFor : Cond := .code yJ16_newBytesFor cJ16_newBytesFor 1 (Option.some (Jvm.ClassFile.FieldType.array Jvm.ClassFile.FieldType.byte))
theorem cd_J16_newBytesFor : kt_cd kc_J16_newBytesFor yJ16_newBytesFor 1 := ⟨q1054, by decide, Or.inl ⟨_, _, rfl⟩⟩
theorem in_J16_newBytesFor : Cond.initialized yJ16_newBytesFor.cls ∈ lw_all := q133
theorem hy_J16_newBytesFor : yJ16_newBytesFor.cls ≠ "java/lang/invoke/MethodHandle" ∧ yJ16_newBytesFor.cls ≠ "java/lang/invoke/VarHandle" ∧ (parseMethodDescriptor yJ16_newBytesFor.desc).map (fun d => d.parameters.length) = some 1 := by decide +kernel
abbrev kc_J16_newBytesLength : Cond := .code yJ16_newBytesLength cJ16_newBytesLength 1 (Option.some Jvm.ClassFile.FieldType.int)
theorem cd_J16_newBytesLength : kt_cd kc_J16_newBytesLength yJ16_newBytesLength 1 := ⟨q1057, by decide, Or.inl ⟨_, _, rfl⟩⟩
theorem in_J16_newBytesLength : Cond.initialized yJ16_newBytesLength.cls ∈ lw_all := q133
theorem hy_J16_newBytesLength : yJ16_newBytesLength.cls ≠ "java/lang/invoke/MethodHandle" ∧ yJ16_newBytesLength.cls ≠ "java/lang/invoke/VarHandle" ∧ (parseMethodDescriptor yJ16_newBytesLength.desc).map (fun d => d.parameters.length) = some 1 := by decide +kernel
abbrev kc_J16_putChar : Cond := .code yJ16_putChar cJ16_putChar 3 (Option.none : Option Jvm.ClassFile.FieldType)
theorem cd_J16_putChar : kt_cd kc_J16_putChar yJ16_putChar 3 := ⟨q1126, by decide, Or.inl ⟨_, _, rfl⟩⟩
theorem in_J16_putChar : Cond.initialized yJ16_putChar.cls ∈ lw_all := q133
theorem hy_J16_putChar : yJ16_putChar.cls ≠ "java/lang/invoke/MethodHandle" ∧ yJ16_putChar.cls ≠ "java/lang/invoke/VarHandle" ∧ (parseMethodDescriptor yJ16_putChar.desc).map (fun d => d.parameters.length) = some 3 := by decide +kernel
abbrev kc_J16_putCharSB : Cond := .code yJ16_putCharSB cJ16_putCharSB 3 (Option.none : Option Jvm.ClassFile.FieldType)
theorem cd_J16_putCharSB : kt_cd kc_J16_putCharSB yJ16_putCharSB 3 := ⟨q1565, by decide, Or.inl ⟨_, _, rfl⟩⟩
theorem in_J16_putCharSB : Cond.initialized yJ16_putCharSB.cls ∈ lw_all := q133
theorem hy_J16_putCharSB : yJ16_putCharSB.cls ≠ "java/lang/invoke/MethodHandle" ∧ yJ16_putCharSB.cls ≠ "java/lang/invoke/VarHandle" ∧ (parseMethodDescriptor yJ16_putCharSB.desc).map (fun d => d.parameters.length) = some 3 := by decide +kernel
abbrev kc_J16_putCharsAt : Cond := .code yJ16_putCharsAt cJ16_putCharsAt 7 (Option.some Jvm.ClassFile.FieldType.int)
theorem cd_J16_putCharsAt : kt_cd kc_J16_putCharsAt yJ16_putCharsAt 7 := ⟨q1109, by decide, Or.inl ⟨_, _, rfl⟩⟩
theorem in_J16_putCharsAt : Cond.initialized yJ16_putCharsAt.cls ∈ lw_all := q133
theorem hy_J16_putCharsAt : yJ16_putCharsAt.cls ≠ "java/lang/invoke/MethodHandle" ∧ yJ16_putCharsAt.cls ≠ "java/lang/invoke/VarHandle" ∧ (parseMethodDescriptor yJ16_putCharsAt.desc).map (fun d => d.parameters.length) = some 6 := by decide +kernel
abbrev kc_J17_canEncode : Cond := .code yJ17_canEncode cJ17_canEncode 1 (Option.some Jvm.ClassFile.FieldType.boolean)
theorem cd_J17_canEncode : kt_cd kc_J17_canEncode yJ17_canEncode 1 := ⟨q1562, by decide, Or.inl ⟨_, _, rfl⟩⟩
theorem in_J17_canEncode : Cond.initialized yJ17_canEncode.cls ∈ lw_all := q134
theorem hy_J17_canEncode : yJ17_canEncode.cls ≠ "java/lang/invoke/MethodHandle" ∧ yJ17_canEncode.cls ≠ "java/lang/invoke/VarHandle" ∧ (parseMethodDescriptor yJ17_canEncode.desc).map (fun d => d.parameters.length) = some 1 := by decide +kernel
abbrev kc_J17_charAt : Cond := .code yJ17_charAt cJ17_charAt 2 (Option.some Jvm.ClassFile.FieldType.char)
theorem cd_J17_charAt : kt_cd kc_J17_charAt yJ17_charAt 2 := ⟨q1470, by decide, Or.inl ⟨_, _, rfl⟩⟩
theorem in_J17_charAt : Cond.initialized yJ17_charAt.cls ∈ lw_all := q134
theorem hy_J17_charAt : yJ17_charAt.cls ≠ "java/lang/invoke/MethodHandle" ∧ yJ17_charAt.cls ≠ "java/lang/invoke/VarHandle" ∧ (parseMethodDescriptor yJ17_charAt.desc).map (fun d => d.parameters.length) = some 2 := by decide +kernel
abbrev kc_J17_equals : Cond := .code yJ17_equals cJ17_equals 3 (Option.some Jvm.ClassFile.FieldType.boolean)
theorem cd_J17_equals : kt_cd kc_J17_equals yJ17_equals 3 := ⟨q1641, by decide, Or.inl ⟨_, _, rfl⟩⟩
theorem in_J17_equals : Cond.initialized yJ17_equals.cls ∈ lw_all := q134
theorem hy_J17_equals : yJ17_equals.cls ≠ "java/lang/invoke/MethodHandle" ∧ yJ17_equals.cls ≠ "java/lang/invoke/VarHandle" ∧ (parseMethodDescriptor yJ17_equals.desc).map (fun d => d.parameters.length) = some 2 := by decide +kernel
abbrev kc_J17_fillNull : Cond := .code yJ17_fillNull cJ17_fillNull 3 (Option.none : Option Jvm.ClassFile.FieldType)
theorem cd_J17_fillNull : kt_cd kc_J17_fillNull yJ17_fillNull 3 := ⟨q1534, by decide, Or.inl ⟨_, _, rfl⟩⟩
theorem in_J17_fillNull : Cond.initialized yJ17_fillNull.cls ∈ lw_all := q134
theorem hy_J17_fillNull : yJ17_fillNull.cls ≠ "java/lang/invoke/MethodHandle" ∧ yJ17_fillNull.cls ≠ "java/lang/invoke/VarHandle" ∧ (parseMethodDescriptor yJ17_fillNull.desc).map (fun d => d.parameters.length) = some 3 := by decide +kernel
abbrev kc_J17_hashCode : Cond := .code yJ17_hashCode cJ17_hashCode 1 (Option.some Jvm.ClassFile.FieldType.int)
theorem cd_J17_hashCode : kt_cd kc_J17_hashCode yJ17_hashCode 1 := ⟨q1717, by decide, Or.inl ⟨_, _, rfl⟩⟩
theorem in_J17_hashCode : Cond.initialized yJ17_hashCode.cls ∈ lw_all := q134
theorem hy_J17_hashCode : yJ17_hashCode.cls ≠ "java/lang/invoke/MethodHandle" ∧ yJ17_hashCode.cls ≠ "java/lang/invoke/VarHandle" ∧ (parseMethodDescriptor yJ17_hashCode.desc).map (fun d => d.parameters.length) = some 1 := by decide +kernel
abbrev kc_J17_inflate : Cond := .code yJ17_inflate cJ17_inflate 5 (Option.none : Option Jvm.ClassFile.FieldType)
theorem cd_J17_inflate : kt_cd kc_J17_inflate yJ17_inflate 5 := ⟨q1157, by decide, Or.inl ⟨_, _, rfl⟩⟩
theorem in_J17_inflate : Cond.initialized yJ17_inflate.cls ∈ lw_all := q134
theorem hy_J17_inflate : yJ17_inflate.cls ≠ "java/lang/invoke/MethodHandle" ∧ yJ17_inflate.cls ≠ "java/lang/invoke/VarHandle" ∧ (parseMethodDescriptor yJ17_inflate.desc).map (fun d => d.parameters.length) = some 5 := by decide +kernel
abbrev kc_J18_checkFromIndexSize : Cond := .code yJ18_checkFromIndexSize cJ18_checkFromIndexSize 4 (Option.some Jvm.ClassFile.FieldType.int)
theorem cd_J18_checkFromIndexSize : kt_cd kc_J18_checkFromIndexSize yJ18_checkFromIndexSize 4 := ⟨q1169, by decide, Or.inl ⟨_, _, rfl⟩⟩
theorem in_J18_checkFromIndexSize : Cond.initialized yJ18_checkFromIndexSize.cls ∈ lw_all := q135
theorem hy_J18_checkFromIndexSize : yJ18_checkFromIndexSize.cls ≠ "java/lang/invoke/MethodHandle" ∧ yJ18_checkFromIndexSize.cls ≠ "java/lang/invoke/VarHandle" ∧ (parseMethodDescriptor yJ18_checkFromIndexSize.desc).map (fun d => d.parameters.length) = some 4 := by decide +kernel
abbrev kc_J18_checkFromToIndex : Cond := .code yJ18_checkFromToIndex cJ18_checkFromToIndex 4 (Option.some Jvm.ClassFile.FieldType.int)
theorem cd_J18_checkFromToIndex : kt_cd kc_J18_checkFromToIndex yJ18_checkFromToIndex 4 := ⟨q1123, by decide, Or.inl ⟨_, _, rfl⟩⟩
theorem in_J18_checkFromToIndex : Cond.initialized yJ18_checkFromToIndex.cls ∈ lw_all := q135
theorem hy_J18_checkFromToIndex : yJ18_checkFromToIndex.cls ≠ "java/lang/invoke/MethodHandle" ∧ yJ18_checkFromToIndex.cls ≠ "java/lang/invoke/VarHandle" ∧ (parseMethodDescriptor yJ18_checkFromToIndex.desc).map (fun d => d.parameters.length) = some 4 := by decide +kernel
abbrev kc_J18_checkIndex : Cond := .code yJ18_checkIndex cJ18_checkIndex 3 (Option.some Jvm.ClassFile.FieldType.int)
theorem cd_J18_checkIndex : kt_cd kc_J18_checkIndex yJ18_checkIndex 3 := ⟨q490, by decide, Or.inl ⟨_, _, rfl⟩⟩
theorem in_J18_checkIndex : Cond.initialized yJ18_checkIndex.cls ∈ lw_all := q135
theorem hy_J18_checkIndex : yJ18_checkIndex.cls ≠ "java/lang/invoke/MethodHandle" ∧ yJ18_checkIndex.cls ≠ "java/lang/invoke/VarHandle" ∧ (parseMethodDescriptor yJ18_checkIndex.desc).map (fun d => d.parameters.length) = some 3 := by decide +kernel
abbrev kc_J19_bitCount : Cond := .code yJ19_bitCount cJ19_bitCount 1 (Option.some Jvm.ClassFile.FieldType.int)
theorem cd_J19_bitCount : kt_cd kc_J19_bitCount yJ19_bitCount 1 := ⟨q1922, by decide, Or.inl ⟨_, _, rfl⟩⟩
theorem in_J19_bitCount : Cond.initialized yJ19_bitCount.cls ∈ lw_all := q137
theorem hy_J19_bitCount : yJ19_bitCount.cls ≠ "java/lang/invoke/MethodHandle" ∧ yJ19_bitCount.cls ≠ "java/lang/invoke/VarHandle" ∧ (parseMethodDescriptor yJ19_bitCount.desc).map (fun d => d.parameters.length) = some 1 := by decide +kernel
abbrev kc_J19_getChars : Cond := .code yJ19_getChars cJ19_getChars 7 (Option.some Jvm.ClassFile.FieldType.int)
theorem cd_J19_getChars : kt_cd kc_J19_getChars yJ19_getChars 7 := ⟨q1236, by decide, Or.inl ⟨_, _, rfl⟩⟩
theorem in_J19_getChars : Cond.initialized yJ19_getChars.cls ∈ lw_all := q137
theorem hy_J19_getChars : yJ19_getChars.cls ≠ "java/lang/invoke/MethodHandle" ∧ yJ19_getChars.cls ≠ "java/lang/invoke/VarHandle" ∧ (parseMethodDescriptor yJ19_getChars.desc).map (fun d => d.parameters.length) = some 3 := by decide +kernel
abbrev kc_J19_numberOfLeadingZeros : Cond := .code yJ19_numberOfLeadingZeros cJ19_numberOfLeadingZeros 2 (Option.some Jvm.ClassFile.FieldType.int)
theorem cd_J19_numberOfLeadingZeros : kt_cd kc_J19_numberOfLeadingZeros yJ19_numberOfLeadingZeros 2 := ⟨q2430, by decide, Or.inl ⟨_, _, rfl⟩⟩
theorem in_J19_numberOfLeadingZeros : Cond.initialized yJ19_numberOfLeadingZeros.cls ∈ lw_all := q137
theorem hy_J19_numberOfLeadingZeros : yJ19_numberOfLeadingZeros.cls ≠ "java/lang/invoke/MethodHandle" ∧ yJ19_numberOfLeadingZeros.cls ≠ "java/lang/invoke/VarHandle" ∧ (parseMethodDescriptor yJ19_numberOfLeadingZeros.desc).map (fun d => d.parameters.length) = some 1 := by decide +kernel
abbrev kc_J19_numberOfTrailingZeros : Cond := .code yJ19_numberOfTrailingZeros cJ19_numberOfTrailingZeros 2 (Option.some Jvm.ClassFile.FieldType.int)
theorem cd_J19_numberOfTrailingZeros : kt_cd kc_J19_numberOfTrailingZeros yJ19_numberOfTrailingZeros 2 := ⟨q546, by decide, Or.inl ⟨_, _, rfl⟩⟩
theorem in_J19_numberOfTrailingZeros : Cond.initialized yJ19_numberOfTrailingZeros.cls ∈ lw_all := q137
theorem hy_J19_numberOfTrailingZeros : yJ19_numberOfTrailingZeros.cls ≠ "java/lang/invoke/MethodHandle" ∧ yJ19_numberOfTrailingZeros.cls ≠ "java/lang/invoke/VarHandle" ∧ (parseMethodDescriptor yJ19_numberOfTrailingZeros.desc).map (fun d => d.parameters.length) = some 1 := by decide +kernel
abbrev kc_J19_stringSize : Cond := .code yJ19_stringSize cJ19_stringSize 4 (Option.some Jvm.ClassFile.FieldType.int)
theorem cd_J19_stringSize : kt_cd kc_J19_stringSize yJ19_stringSize 4 := ⟨q1233, by decide, Or.inl ⟨_, _, rfl⟩⟩
theorem in_J19_stringSize : Cond.initialized yJ19_stringSize.cls ∈ lw_all := q137
theorem hy_J19_stringSize : yJ19_stringSize.cls ≠ "java/lang/invoke/MethodHandle" ∧ yJ19_stringSize.cls ≠ "java/lang/invoke/VarHandle" ∧ (parseMethodDescriptor yJ19_stringSize.desc).map (fun d => d.parameters.length) = some 1 := by decide +kernel
abbrev kc_J2_init : Cond := .code yJ2_init cJ2_init 1 (Option.none : Option Jvm.ClassFile.FieldType)
theorem cd_J2_init : kt_cd kc_J2_init yJ2_init 1 := ⟨q213, by decide, Or.inl ⟨_, _, rfl⟩⟩
theorem in_J2_init : Cond.initialized yJ2_init.cls ∈ lw_all := q113
theorem hy_J2_init : yJ2_init.cls ≠ "java/lang/invoke/MethodHandle" ∧ yJ2_init.cls ≠ "java/lang/invoke/VarHandle" ∧ (parseMethodDescriptor yJ2_init.desc).map (fun d => d.parameters.length) = some 0 := by decide +kernel
theorem hi_J2_init : yJ2_init.name = "<init>" ∧ yJ2_init.cls ≠ "java/lang/invoke/MethodHandle" ∧ yJ2_init.cls ≠ "java/lang/invoke/VarHandle" ∧ (parseMethodDescriptor yJ2_init.desc).map (fun d => d.parameters.length) = some 0 := ⟨rfl, hy_J2_init⟩
abbrev kc_J2_listIterator : Cond := .code yJ2_listIterator cJ2_listIterator 1 (Option.some (Jvm.ClassFile.FieldType.object "java/util/ListIterator"))
theorem cd_J2_listIterator : kt_cd kc_J2_listIterator yJ2_listIterator 1 := ⟨q871, by decide, Or.inl ⟨_, _, rfl⟩⟩
theorem in_J2_listIterator : Cond.initialized yJ2_listIterator.cls ∈ lw_all := q113
theorem hy_J2_listIterator : yJ2_listIterator.cls ≠ "java/lang/invoke/MethodHandle" ∧ yJ2_listIterator.cls ≠ "java/lang/invoke/VarHandle" ∧ (parseMethodDescriptor yJ2_listIterator.desc).map (fun d => d.parameters.length) = some 0 := by decide +kernel
abbrev kc_J20_equals : Cond := .code yJ20_equals cJ20_equals 2 (Option.some Jvm.ClassFile.FieldType.boolean)
theorem cd_J20_equals : kt_cd kc_J20_equals yJ20_equals 2 := ⟨q2331, by decide, Or.inl ⟨_, _, rfl⟩⟩
theorem in_J20_equals : Cond.initialized yJ20_equals.cls ∈ lw_all := q138
theorem hy_J20_equals : yJ20_equals.cls ≠ "java/lang/invoke/MethodHandle" ∧ yJ20_equals.cls ≠ "java/lang/invoke/VarHandle" ∧ (parseMethodDescriptor yJ20_equals.desc).map (fun d => d.parameters.length) = some 1 := by decide +kernel
abbrev kc_J20_ordinal : Cond := .code yJ20_ordinal cJ20_ordinal 1 (Option.some Jvm.ClassFile.FieldType.int)
theorem cd_J20_ordinal : kt_cd kc_J20_ordinal yJ20_ordinal 1 := ⟨q1881, by decide, Or.inl ⟨_, _, rfl⟩⟩
theorem in_J20_ordinal : Cond.initialized yJ20_ordinal.cls ∈ lw_all := q138
theorem hy_J20_ordinal : yJ20_ordinal.cls ≠ "java/lang/invoke/MethodHandle" ∧ yJ20_ordinal.cls ≠ "java/lang/invoke/VarHandle" ∧ (parseMethodDescriptor yJ20_ordinal.desc).map (fun d => d.parameters.length) = some 0 := by decide +kernel
abbrev kc_J21_cardinality : Cond := .code yJ21_cardinality cJ21_cardinality 3 (Option.some Jvm.ClassFile.FieldType.int)
theorem cd_J21_cardinality : kt_cd kc_J21_cardinality yJ21_cardinality 3 := ⟨q583, by decide, Or.inl ⟨_, _, rfl⟩⟩
theorem in_J21_cardinality : Cond.initialized yJ21_cardinality.cls ∈ lw_all := q143
theorem hy_J21_cardinality : yJ21_cardinality.cls ≠ "java/lang/invoke/MethodHandle" ∧ yJ21_cardinality.cls ≠ "java/lang/invoke/VarHandle" ∧ (parseMethodDescriptor yJ21_cardinality.desc).map (fun d => d.parameters.length) = some 0 := by decide +kernel
abbrev kc_J21_checkInvariants : Cond := .code yJ21_checkInvariants cJ21_checkInvariants 1 (Option.none : Option Jvm.ClassFile.FieldType)
theorem cd_J21_checkInvariants : kt_cd kc_J21_checkInvariants yJ21_checkInvariants 1 := ⟨q526, by decide, Or.inl ⟨_, _, rfl⟩⟩
theorem in_J21_checkInvariants : Cond.initialized yJ21_checkInvariants.cls ∈ lw_all := q143
theorem hy_J21_checkInvariants : yJ21_checkInvariants.cls ≠ "java/lang/invoke/MethodHandle" ∧ yJ21_checkInvariants.cls ≠ "java/lang/invoke/VarHandle" ∧ (parseMethodDescriptor yJ21_checkInvariants.desc).map (fun d => d.parameters.length) = some 0 := by decide +kernel
abbrev kc_J21_clear : Cond := .code yJ21_clear cJ21_clear 3 (Option.none : Option Jvm.ClassFile.FieldType)
theorem cd_J21_clear : kt_cd kc_J21_clear yJ21_clear 3 := ⟨q1394, by decide, Or.inl ⟨_, _, rfl⟩⟩
theorem in_J21_clear : Cond.initialized yJ21_clear.cls ∈ lw_all := q143
theorem hy_J21_clear : yJ21_clear.cls ≠ "java/lang/invoke/MethodHandle" ∧ yJ21_clear.cls ≠ "java/lang/invoke/VarHandle" ∧ (parseMethodDescriptor yJ21_clear.desc).map (fun d => d.parameters.length) = some 1 := by decide +kernel
abbrev kc_J21_ensureCapacity : Cond := .code yJ21_ensureCapacity cJ21_ensureCapacity 3 (Option.none : Option Jvm.ClassFile.FieldType)
theorem cd_J21_ensureCapacity : kt_cd kc_J21_ensureCapacity yJ21_ensureCapacity 3 := ⟨q796, by decide, Or.inl ⟨_, _, rfl⟩⟩
theorem in_J21_ensureCapacity : Cond.initialized yJ21_ensureCapacity.cls ∈ lw_all := q143
theorem hy_J21_ensureCapacity : yJ21_ensureCapacity.cls ≠ "java/lang/invoke/MethodHandle" ∧ yJ21_ensureCapacity.cls ≠ "java/lang/invoke/VarHandle" ∧ (parseMethodDescriptor yJ21_ensureCapacity.desc).map (fun d => d.parameters.length) = some 1 := by decide +kernel
abbrev kc_J21_expandTo : Cond := .code yJ21_expandTo cJ21_expandTo 3 (Option.none : Option Jvm.ClassFile.FieldType)
theorem cd_J21_expandTo : kt_cd kc_J21_expandTo yJ21_expandTo 3 := ⟨q1406, by decide, Or.inl ⟨_, _, rfl⟩⟩
theorem in_J21_expandTo : Cond.initialized yJ21_expandTo.cls ∈ lw_all := q143
theorem hy_J21_expandTo : yJ21_expandTo.cls ≠ "java/lang/invoke/MethodHandle" ∧ yJ21_expandTo.cls ≠ "java/lang/invoke/VarHandle" ∧ (parseMethodDescriptor yJ21_expandTo.desc).map (fun d => d.parameters.length) = some 1 := by decide +kernel
abbrev kc_J21_get : Cond := .code yJ21_get cJ21_get 3 (Option.some Jvm.ClassFile.FieldType.boolean)
theorem cd_J21_get : kt_cd kc_J21_get yJ21_get 3 := ⟨q521, by decide, Or.inl ⟨_, _, rfl⟩⟩
theorem in_J21_get : Cond.initialized yJ21_get.cls ∈ lw_all := q143
theorem hy_J21_get : yJ21_get.cls ≠ "java/lang/invoke/MethodHandle" ∧ yJ21_get.cls ≠ "java/lang/invoke/VarHandle" ∧ (parseMethodDescriptor yJ21_get.desc).map (fun d => d.parameters.length) = some 1 := by decide +kernel
abbrev kc_J21_init : Cond := .code yJ21_init cJ21_init 2 (Option.none : Option Jvm.ClassFile.FieldType)
theorem cd_J21_init : kt_cd kc_J21_init yJ21_init 2 := ⟨q751, by decide, Or.inl ⟨_, _, rfl⟩⟩
theorem in_J21_init : Cond.initialized yJ21_init.cls ∈ lw_all := q143
theorem hy_J21_init : yJ21_init.cls ≠ "java/lang/invoke/MethodHandle" ∧ yJ21_init.cls ≠ "java/lang/invoke/VarHandle" ∧ (parseMethodDescriptor yJ21_init.desc).map (fun d => d.parameters.length) = some 1 := by decide +kernel
theorem hi_J21_init : yJ21_init.name = "<init>" ∧ yJ21_init.cls ≠ "java/lang/invoke/MethodHandle" ∧ yJ21_init.cls ≠ "java/lang/invoke/VarHandle" ∧ (parseMethodDescriptor yJ21_init.desc).map (fun d => d.parameters.length) = some 1 := ⟨rfl, hy_J21_init⟩
abbrev kc_J21_initWords : Cond := .code yJ21_initWords cJ21_initWords 2 (Option.none : Option Jvm.ClassFile.FieldType)
theorem cd_J21_initWords : kt_cd kc_J21_initWords yJ21_initWords 2 := ⟨q756, by decide, Or.inl ⟨_, _, rfl⟩⟩
theorem in_J21_initWords : Cond.initialized yJ21_initWords.cls ∈ lw_all := q143
theorem hy_J21_initWords : yJ21_initWords.cls ≠ "java/lang/invoke/MethodHandle" ∧ yJ21_initWords.cls ≠ "java/lang/invoke/VarHandle" ∧ (parseMethodDescriptor yJ21_initWords.desc).map (fun d => d.parameters.length) = some 1 := by decide +kernel
abbrev kc_J21_length : Cond := .code yJ21_length cJ21_length 1 (Option.some Jvm.ClassFile.FieldType.int)
theorem cd_J21_length : kt_cd kc_J21_length yJ21_length 1 := ⟨q2424, by decide, Or.inl ⟨_, _, rfl⟩⟩
theorem in_J21_length : Cond.initialized yJ21_length.cls ∈ lw_all := q143
theorem hy_J21_length : yJ21_length.cls ≠ "java/lang/invoke/MethodHandle" ∧ yJ21_length.cls ≠ "java/lang/invoke/VarHandle" ∧ (parseMethodDescriptor yJ21_length.desc).map (fun d => d.parameters.length) = some 0 := by decide +kernel
abbrev kc_J21_nextSetBit : Cond := .code yJ21_nextSetBit cJ21_nextSetBit 5 (Option.some Jvm.ClassFile.FieldType.int)
theorem cd_J21_nextSetBit : kt_cd kc_J21_nextSetBit yJ21_nextSetBit 5 := ⟨q539, by decide, Or.inl ⟨_, _, rfl⟩⟩
theorem in_J21_nextSetBit : Cond.initialized yJ21_nextSetBit.cls ∈ lw_all := q143
theorem hy_J21_nextSetBit : yJ21_nextSetBit.cls ≠ "java/lang/invoke/MethodHandle" ∧ yJ21_nextSetBit.cls ≠ "java/lang/invoke/VarHandle" ∧ (parseMethodDescriptor yJ21_nextSetBit.desc).map (fun d => d.parameters.length) = some 1 := by decide +kernel
abbrev kc_J21_or : Cond := .code yJ21_or cJ21_or 4 (Option.none : Option Jvm.ClassFile.FieldType)
theorem cd_J21_or : kt_cd kc_J21_or yJ21_or 4 := ⟨q791, by decide, Or.inl ⟨_, _, rfl⟩⟩
theorem in_J21_or : Cond.initialized yJ21_or.cls ∈ lw_all := q143
theorem hy_J21_or : yJ21_or.cls ≠ "java/lang/invoke/MethodHandle" ∧ yJ21_or.cls ≠ "java/lang/invoke/VarHandle" ∧ (parseMethodDescriptor yJ21_or.desc).map (fun d => d.parameters.length) = some 1 := by decide +kernel
abbrev kc_J21_recalculateWordsInUse : Cond := .code yJ21_recalculateWordsInUse cJ21_recalculateWordsInUse 2 (Option.none : Option Jvm.ClassFile.FieldType)
theorem cd_J21_recalculateWordsInUse : kt_cd kc_J21_recalculateWordsInUse yJ21_recalculateWordsInUse 2 := ⟨q1398, by decide, Or.inl ⟨_, _, rfl⟩⟩
theorem in_J21_recalculateWordsInUse : Cond.initialized yJ21_recalculateWordsInUse.cls ∈ lw_all := q143
theorem hy_J21_recalculateWordsInUse : yJ21_recalculateWordsInUse.cls ≠ "java/lang/invoke/MethodHandle" ∧ yJ21_recalculateWordsInUse.cls ≠ "java/lang/invoke/VarHandle" ∧ (parseMethodDescriptor yJ21_recalculateWordsInUse.desc).map (fun d => d.parameters.length) = some 0 := by decide +kernel
abbrev kc_J21_set : Cond := .code yJ21_set cJ21_set 3 (Option.none : Option Jvm.ClassFile.FieldType)
theorem cd_J21_set : kt_cd kc_J21_set yJ21_set 3 := ⟨q1402, by decide, Or.inl ⟨_, _, rfl⟩⟩
theorem in_J21_set : Cond.initialized yJ21_set.cls ∈ lw_all := q143
theorem hy_J21_set : yJ21_set.cls ≠ "java/lang/invoke/MethodHandle" ∧ yJ21_set.cls ≠ "java/lang/invoke/VarHandle" ∧ (parseMethodDescriptor yJ21_set.desc).map (fun d => d.parameters.length) = some 1 := by decide +kernel
abbrev kc_J21_wordIndex : Cond := .code yJ21_wordIndex cJ21_wordIndex 1 (Option.some Jvm.ClassFile.FieldType.int)
theorem cd_J21_wordIndex : kt_cd kc_J21_wordIndex yJ21_wordIndex 1 := ⟨q531, by decide, Or.inl ⟨_, _, rfl⟩⟩
theorem in_J21_wordIndex : Cond.initialized yJ21_wordIndex.cls ∈ lw_all := q143
theorem hy_J21_wordIndex : yJ21_wordIndex.cls ≠ "java/lang/invoke/MethodHandle" ∧ yJ21_wordIndex.cls ≠ "java/lang/invoke/VarHandle" ∧ (parseMethodDescriptor yJ21_wordIndex.desc).map (fun d => d.parameters.length) = some 1 := by decide +kernel
abbrev kc_J22_checkIndex : Cond := .code yJ22_checkIndex cJ22_checkIndex 2 (Option.some Jvm.ClassFile.FieldType.int)
theorem cd_J22_checkIndex : kt_cd kc_J22_checkIndex yJ22_checkIndex 2 := ⟨q487, by decide, Or.inl ⟨_, _, rfl⟩⟩
theorem in_J22_checkIndex : Cond.initialized yJ22_checkIndex.cls ∈ lw_all := q144
theorem hy_J22_checkIndex : yJ22_checkIndex.cls ≠ "java/lang/invoke/MethodHandle" ∧ yJ22_checkIndex.cls ≠ "java/lang/invoke/VarHandle" ∧ (parseMethodDescriptor yJ22_checkIndex.desc).map (fun d => d.parameters.length) = some 2 := by decide +kernel
abbrev kc_J22_equals : Cond := .code yJ22_equals cJ22_equals 2 (Option.some Jvm.ClassFile.FieldType.boolean)
theorem cd_J22_equals : kt_cd kc_J22_equals yJ22_equals 2 := ⟨q2360, by decide, Or.inl ⟨_, _, rfl⟩⟩
theorem in_J22_equals : Cond.initialized yJ22_equals.cls ∈ lw_all := q144
theorem hy_J22_equals : yJ22_equals.cls ≠ "java/lang/invoke/MethodHandle" ∧ yJ22_equals.cls ≠ "java/lang/invoke/VarHandle" ∧ (parseMethodDescriptor yJ22_equals.desc).map (fun d => d.parameters.length) = some 2 := by decide +kernel
abbrev kc_J22_requireNonNull : Cond := .code yJ22_requireNonNull cJ22_requireNonNull 1 (Option.some (Jvm.ClassFile.FieldType.object "java/lang/Object"))
theorem cd_J22_requireNonNull : kt_cd kc_J22_requireNonNull yJ22_requireNonNull 1 := ⟨q2261, by decide, Or.inl ⟨_, _, rfl⟩⟩
theorem in_J22_requireNonNull : Cond.initialized yJ22_requireNonNull.cls ∈ lw_all := q144
theorem hy_J22_requireNonNull : yJ22_requireNonNull.cls ≠ "java/lang/invoke/MethodHandle" ∧ yJ22_requireNonNull.cls ≠ "java/lang/invoke/VarHandle" ∧ (parseMethodDescriptor yJ22_requireNonNull.desc).map (fun d => d.parameters.length) = some 1 := by decide +kernel
abbrev kc_J23_init : Cond := .code yJ23_init cJ23_init 1 (Option.none : Option Jvm.ClassFile.FieldType)
theorem cd_J23_init : kt_cd kc_J23_init yJ23_init 1 := ⟨q694, by decide, Or.inl ⟨_, _, rfl⟩⟩
theorem in_J23_init : Cond.initialized yJ23_init.cls ∈ lw_all := q145
theorem hy_J23_init : yJ23_init.cls ≠ "java/lang/invoke/MethodHandle" ∧ yJ23_init.cls ≠ "java/lang/invoke/VarHandle" ∧ (parseMethodDescriptor yJ23_init.desc).map (fun d => d.parameters.length) = some 0 := by decide +kernel
theorem hi_J23_init : yJ23_init.name = "<init>" ∧ yJ23_init.cls ≠ "java/lang/invoke/MethodHandle" ∧ yJ23_init.cls ≠ "java/lang/invoke/VarHandle" ∧ (parseMethodDescriptor yJ23_init.desc).map (fun d => d.parameters.length) = some 0 := ⟨rfl, hy_J23_init⟩
abbrev kc_J23_init_2 : Cond := .code yJ23_init_2 cJ23_init_2 2 (Option.none : Option Jvm.ClassFile.FieldType)
theorem cd_J23_init_2 : kt_cd kc_J23_init_2 yJ23_init_2 2 := ⟨q1009, by decide, Or.inl ⟨_, _, rfl⟩⟩
theorem in_J23_init_2 : Cond.initialized yJ23_init_2.cls ∈ lw_all := q145
theorem hy_J23_init_2 : yJ23_init_2.cls ≠ "java/lang/invoke/MethodHandle" ∧ yJ23_init_2.cls ≠ "java/lang/invoke/VarHandle" ∧ (parseMethodDescriptor yJ23_init_2.desc).map (fun d => d.parameters.length) = some 1 := by decide +kernel
theorem hi_J23_init_2 : yJ23_init_2.name = "<init>" ∧ yJ23_init_2.cls ≠ "java/lang/invoke/MethodHandle" ∧ yJ23_init_2.cls ≠ "java/lang/invoke/VarHandle" ∧ (parseMethodDescriptor yJ23_init_2.desc).map (fun d => d.parameters.length) = some 1 := ⟨rfl, hy_J23_init_2⟩
abbrev kc_J24_bitCount : Cond := .code yJ24_bitCount cJ24_bitCount 2 (Option.some Jvm.ClassFile.FieldType.int)
theorem cd_J24_bitCount : kt_cd kc_J24_bitCount yJ24_bitCount 2 := ⟨q586, by decide, Or.inl ⟨_, _, rfl⟩⟩
theorem in_J24_bitCount : Cond.initialized yJ24_bitCount.cls ∈ lw_all := q146
theorem hy_J24_bitCount : yJ24_bitCount.cls ≠ "java/lang/invoke/MethodHandle" ∧ yJ24_bitCount.cls ≠ "java/lang/invoke/VarHandle" ∧ (parseMethodDescriptor yJ24_bitCount.desc).map (fun d => d.parameters.length) = some 1 := by decide +kernel
abbrev kc_J24_numberOfLeadingZeros : Cond := .code yJ24_numberOfLeadingZeros cJ24_numberOfLeadingZeros 3 (Option.some Jvm.ClassFile.FieldType.int)
theorem cd_J24_numberOfLeadingZeros : kt_cd kc_J24_numberOfLeadingZeros yJ24_numberOfLeadingZeros 3 := ⟨q2427, by decide, Or.inl ⟨_, _, rfl⟩⟩
theorem in_J24_numberOfLeadingZeros : Cond.initialized yJ24_numberOfLeadingZeros.cls ∈ lw_all := q146
theorem hy_J24_numberOfLeadingZeros : yJ24_numberOfLeadingZeros.cls ≠ "java/lang/invoke/MethodHandle" ∧ yJ24_numberOfLeadingZeros.cls ≠ "java/lang/invoke/VarHandle" ∧ (parseMethodDescriptor yJ24_numberOfLeadingZeros.desc).map (fun d => d.parameters.length) = some 1 := by decide +kernel
abbrev kc_J24_numberOfTrailingZeros : Cond := .code yJ24_numberOfTrailingZeros cJ24_numberOfTrailingZeros 3 (Option.some Jvm.ClassFile.FieldType.int)
theorem cd_J24_numberOfTrailingZeros : kt_cd kc_J24_numberOfTrailingZeros yJ24_numberOfTrailingZeros 3 := ⟨q543, by decide, Or.inl ⟨_, _, rfl⟩⟩
theorem in_J24_numberOfTrailingZeros : Cond.initialized yJ24_numberOfTrailingZeros.cls ∈ lw_all := q146
theorem hy_J24_numberOfTrailingZeros : yJ24_numberOfTrailingZeros.cls ≠ "java/lang/invoke/MethodHandle" ∧ yJ24_numberOfTrailingZeros.cls ≠ "java/lang/invoke/VarHandle" ∧ (parseMethodDescriptor yJ24_numberOfTrailingZeros.desc).map (fun d => d.parameters.length) = some 1 := by decide +kernel
abbrev kc_J25_checkForComodification : Cond := .code yJ25_checkForComodification cJ25_checkForComodification 1 (Option.none : Option Jvm.ClassFile.FieldType)
theorem cd_J25_checkForComodification : kt_cd kc_J25_checkForComodification yJ25_checkForComodification 1 := ⟨q989, by decide, Or.inl ⟨_, _, rfl⟩⟩
theorem in_J25_checkForComodification : Cond.initialized yJ25_checkForComodification.cls ∈ lw_all := q148
theorem hy_J25_checkForComodification : yJ25_checkForComodification.cls ≠ "java/lang/invoke/MethodHandle" ∧ yJ25_checkForComodification.cls ≠ "java/lang/invoke/VarHandle" ∧ (parseMethodDescriptor yJ25_checkForComodification.desc).map (fun d => d.parameters.length) = some 0 := by decide +kernel
abbrev kc_J25_hasNext : Cond := .code yJ25_hasNext cJ25_hasNext 1 (Option.some Jvm.ClassFile.FieldType.boolean)
theorem cd_J25_hasNext : kt_cd kc_J25_hasNext yJ25_hasNext 1 := ⟨q956, by decide, Or.inl ⟨_, _, rfl⟩⟩
theorem in_J25_hasNext : Cond.initialized yJ25_hasNext.cls ∈ lw_all := q148
theorem hy_J25_hasNext : yJ25_hasNext.cls ≠ "java/lang/invoke/MethodHandle" ∧ yJ25_hasNext.cls ≠ "java/lang/invoke/VarHandle" ∧ (parseMethodDescriptor yJ25_hasNext.desc).map (fun d => d.parameters.length) = some 0 := by decide +kernel
abbrev kc_J25_next : Cond := .codeWith yJ25_next cJ25_next 3 (Option.some (Jvm.ClassFile.FieldType.object "java/lang/Object")) [((4 : Nat), (31 : Nat), (32 : Nat), (39 : Nat))]
theorem cd_J25_next : kt_cd kc_J25_next yJ25_next 3 := ⟨q984, by decide, Or.inr ⟨_, _, _, rfl⟩⟩
theorem in_J25_next : Cond.initialized yJ25_next.cls ∈ lw_all := q148
theorem hy_J25_next : yJ25_next.cls ≠ "java/lang/invoke/MethodHandle" ∧ yJ25_next.cls ≠ "java/lang/invoke/VarHandle" ∧ (parseMethodDescriptor yJ25_next.desc).map (fun d => d.parameters.length) = some 0 := by decide +kernel
abbrev kc_J26_checkForComodification : Cond := .code yJ26_checkForComodification cJ26_checkForComodification 1 (Option.none : Option Jvm.ClassFile.FieldType)
theorem cd_J26_checkForComodification : kt_cd kc_J26_checkForComodification yJ26_checkForComodification 1 := ⟨q1301, by decide, Or.inl ⟨_, _, rfl⟩⟩
theorem in_J26_checkForComodification : Cond.initialized yJ26_checkForComodification.cls ∈ lw_all := q150
theorem hy_J26_checkForComodification : yJ26_checkForComodification.cls ≠ "java/lang/invoke/MethodHandle" ∧ yJ26_checkForComodification.cls ≠ "java/lang/invoke/VarHandle" ∧ (parseMethodDescriptor yJ26_checkForComodification.desc).map (fun d => d.parameters.length) = some 0 := by decide +kernel
abbrev kc_J26_hasNext : Cond := .code yJ26_hasNext cJ26_hasNext 1 (Option.some Jvm.ClassFile.FieldType.boolean)
theorem cd_J26_hasNext : kt_cd kc_J26_hasNext yJ26_hasNext 1 := ⟨q969, by decide, Or.inl ⟨_, _, rfl⟩⟩
theorem in_J26_hasNext : Cond.initialized yJ26_hasNext.cls ∈ lw_all := q150
theorem hy_J26_hasNext : yJ26_hasNext.cls ≠ "java/lang/invoke/MethodHandle" ∧ yJ26_hasNext.cls ≠ "java/lang/invoke/VarHandle" ∧ (parseMethodDescriptor yJ26_hasNext.desc).map (fun d => d.parameters.length) = some 0 := by decide +kernel
abbrev kc_J26_init : Cond := .code yJ26_init cJ26_init 2 (Option.none : Option Jvm.ClassFile.FieldType)
theorem cd_J26_init : kt_cd kc_J26_init yJ26_init 2 := ⟨q889, by decide, Or.inl ⟨_, _, rfl⟩⟩
theorem in_J26_init : Cond.initialized yJ26_init.cls ∈ lw_all := q150
theorem hy_J26_init : yJ26_init.cls ≠ "java/lang/invoke/MethodHandle" ∧ yJ26_init.cls ≠ "java/lang/invoke/VarHandle" ∧ (parseMethodDescriptor yJ26_init.desc).map (fun d => d.parameters.length) = some 1 := by decide +kernel
theorem hi_J26_init : yJ26_init.name = "<init>" ∧ yJ26_init.cls ≠ "java/lang/invoke/MethodHandle" ∧ yJ26_init.cls ≠ "java/lang/invoke/VarHandle" ∧ (parseMethodDescriptor yJ26_init.desc).map (fun d => d.parameters.length) = some 1 := ⟨rfl, hy_J26_init⟩
abbrev kc_J26_next : Cond := .code yJ26_next cJ26_next 3 (Option.some (Jvm.ClassFile.FieldType.object "java/lang/Object"))
theorem cd_J26_next : kt_cd kc_J26_next yJ26_next 3 := ⟨q1296, by decide, Or.inl ⟨_, _, rfl⟩⟩
theorem in_J26_next : Cond.initialized yJ26_next.cls ∈ lw_all := q150
theorem hy_J26_next : yJ26_next.cls ≠ "java/lang/invoke/MethodHandle" ∧ yJ26_next.cls ≠ "java/lang/invoke/VarHandle" ∧ (parseMethodDescriptor yJ26_next.desc).map (fun d => d.parameters.length) = some 0 := by decide +kernel
abbrev kc_J27_init : Cond := .code yJ27_init cJ27_init 3 (Option.none : Option Jvm.ClassFile.FieldType)
theorem cd_J27_init : kt_cd kc_J27_init yJ27_init 3 := ⟨q886, by decide, Or.inl ⟨_, _, rfl⟩⟩
theorem in_J27_init : Cond.initialized yJ27_init.cls ∈ lw_all := q151
theorem hy_J27_init : yJ27_init.cls ≠ "java/lang/invoke/MethodHandle" ∧ yJ27_init.cls ≠ "java/lang/invoke/VarHandle" ∧ (parseMethodDescriptor yJ27_init.desc).map (fun d => d.parameters.length) = some 2 := by decide +kernel
theorem hi_J27_init : yJ27_init.name = "<init>" ∧ yJ27_init.cls ≠ "java/lang/invoke/MethodHandle" ∧ yJ27_init.cls ≠ "java/lang/invoke/VarHandle" ∧ (parseMethodDescriptor yJ27_init.desc).map (fun d => d.parameters.length) = some 2 := ⟨rfl, hy_J27_init⟩
abbrev kc_J28_checkForComodification : Cond := .code yJ28_checkForComodification cJ28_checkForComodification 1 (Option.none : Option Jvm.ClassFile.FieldType)
theorem cd_J28_checkForComodification : kt_cd kc_J28_checkForComodification yJ28_checkForComodification 1 := ⟨q1312, by decide, Or.inl ⟨_, _, rfl⟩⟩
theorem in_J28_checkForComodification : Cond.initialized yJ28_checkForComodification.cls ∈ lw_all := q152
theorem hy_J28_checkForComodification : yJ28_checkForComodification.cls ≠ "java/lang/invoke/MethodHandle" ∧ yJ28_checkForComodification.cls ≠ "java/lang/invoke/VarHandle" ∧ (parseMethodDescriptor yJ28_checkForComodification.desc).map (fun d => d.parameters.length) = some 0 := by decide +kernel
abbrev kc_J28_hasNext : Cond := .code yJ28_hasNext cJ28_hasNext 1 (Option.some Jvm.ClassFile.FieldType.boolean)
theorem cd_J28_hasNext : kt_cd kc_J28_hasNext yJ28_hasNext 1 := ⟨q975, by decide, Or.inl ⟨_, _, rfl⟩⟩
theorem in_J28_hasNext : Cond.initialized yJ28_hasNext.cls ∈ lw_all := q152
theorem hy_J28_hasNext : yJ28_hasNext.cls ≠ "java/lang/invoke/MethodHandle" ∧ yJ28_hasNext.cls ≠ "java/lang/invoke/VarHandle" ∧ (parseMethodDescriptor yJ28_hasNext.desc).map (fun d => d.parameters.length) = some 0 := by decide +kernel
abbrev kc_J28_init : Cond := .code yJ28_init cJ28_init 3 (Option.none : Option Jvm.ClassFile.FieldType)
theorem cd_J28_init : kt_cd kc_J28_init yJ28_init 3 := ⟨q924, by decide, Or.inl ⟨_, _, rfl⟩⟩
theorem in_J28_init : Cond.initialized yJ28_init.cls ∈ lw_all := q152
theorem hy_J28_init : yJ28_init.cls ≠ "java/lang/invoke/MethodHandle" ∧ yJ28_init.cls ≠ "java/lang/invoke/VarHandle" ∧ (parseMethodDescriptor yJ28_init.desc).map (fun d => d.parameters.length) = some 2 := by decide +kernel
theorem hi_J28_init : yJ28_init.name = "<init>" ∧ yJ28_init.cls ≠ "java/lang/invoke/MethodHandle" ∧ yJ28_init.cls ≠ "java/lang/invoke/VarHandle" ∧ (parseMethodDescriptor yJ28_init.desc).map (fun d => d.parameters.length) = some 2 := ⟨rfl, hy_J28_init⟩
abbrev kc_J28_next : Cond := .code yJ28_next cJ28_next 1 (Option.some (Jvm.ClassFile.FieldType.object "java/lang/Object"))
theorem cd_J28_next : kt_cd kc_J28_next yJ28_next 1 := ⟨q1308, by decide, Or.inl ⟨_, _, rfl⟩⟩
theorem in_J28_next : Cond.initialized yJ28_next.cls ∈ lw_all := q152
theorem hy_J28_next : yJ28_next.cls ≠ "java/lang/invoke/MethodHandle" ∧ yJ28_next.cls ≠ "java/lang/invoke/VarHandle" ∧ (parseMethodDescriptor yJ28_next.desc).map (fun d => d.parameters.length) = some 0 := by decide +kernel
abbrev kc_J29_init : Cond := .code yJ29_init cJ29_init 4 (Option.none : Option Jvm.ClassFile.FieldType)
theorem cd_J29_init : kt_cd kc_J29_init yJ29_init 4 := ⟨q1329, by decide, Or.inl ⟨_, _, rfl⟩⟩
theorem in_J29_init : Cond.initialized yJ29_init.cls ∈ lw_all := q153
theorem hy_J29_init : yJ29_init.cls ≠ "java/lang/invoke/MethodHandle" ∧ yJ29_init.cls ≠ "java/lang/invoke/VarHandle" ∧ (parseMethodDescriptor yJ29_init.desc).map (fun d => d.parameters.length) = some 3 := by decide +kernel
theorem hi_J29_init : yJ29_init.name = "<init>" ∧ yJ29_init.cls ≠ "java/lang/invoke/MethodHandle" ∧ yJ29_init.cls ≠ "java/lang/invoke/VarHandle" ∧ (parseMethodDescriptor yJ29_init.desc).map (fun d => d.parameters.length) = some 3 := ⟨rfl, hy_J29_init⟩
abbrev kc_J3_add : Cond := .code yJ3_add cJ3_add 2 (Option.some Jvm.ClassFile.FieldType.boolean)
theorem cd_J3_add : kt_cd kc_J3_add yJ3_add 2 := ⟨q350, by decide, Or.inl ⟨_, _, rfl⟩⟩
theorem in_J3_add : Cond.initialized yJ3_add.cls ∈ lw_all := q114
theorem hy_J3_add : yJ3_add.cls ≠ "java/lang/invoke/MethodHandle" ∧ yJ3_add.cls ≠ "java/lang/invoke/VarHandle" ∧ (parseMethodDescriptor yJ3_add.desc).map (fun d => d.parameters.length) = some 1 := by decide +kernel
abbrev kc_J3_add_2 : Cond := .code yJ3_add_2 cJ3_add_2 4 (Option.none : Option Jvm.ClassFile.FieldType)
theorem cd_J3_add_2 : kt_cd kc_J3_add_2 yJ3_add_2 4 := ⟨q354, by decide, Or.inl ⟨_, _, rfl⟩⟩
theorem in_J3_add_2 : Cond.initialized yJ3_add_2.cls ∈ lw_all := q114
theorem hy_J3_add_2 : yJ3_add_2.cls ≠ "java/lang/invoke/MethodHandle" ∧ yJ3_add_2.cls ≠ "java/lang/invoke/VarHandle" ∧ (parseMethodDescriptor yJ3_add_2.desc).map (fun d => d.parameters.length) = some 3 := by decide +kernel
abbrev kc_J3_elementData : Cond := .code yJ3_elementData cJ3_elementData 2 (Option.some (Jvm.ClassFile.FieldType.object "java/lang/Object"))
theorem cd_J3_elementData : kt_cd kc_J3_elementData yJ3_elementData 2 := ⟨q494, by decide, Or.inl ⟨_, _, rfl⟩⟩
theorem in_J3_elementData : Cond.initialized yJ3_elementData.cls ∈ lw_all := q114
theorem hy_J3_elementData : yJ3_elementData.cls ≠ "java/lang/invoke/MethodHandle" ∧ yJ3_elementData.cls ≠ "java/lang/invoke/VarHandle" ∧ (parseMethodDescriptor yJ3_elementData.desc).map (fun d => d.parameters.length) = some 1 := by decide +kernel
abbrev kc_J3_get : Cond := .code yJ3_get cJ3_get 2 (Option.some (Jvm.ClassFile.FieldType.object "java/lang/Object"))
theorem cd_J3_get : kt_cd kc_J3_get yJ3_get 2 := ⟨q484, by decide, Or.inl ⟨_, _, rfl⟩⟩
theorem in_J3_get : Cond.initialized yJ3_get.cls ∈ lw_all := q114
theorem hy_J3_get : yJ3_get.cls ≠ "java/lang/invoke/MethodHandle" ∧ yJ3_get.cls ≠ "java/lang/invoke/VarHandle" ∧ (parseMethodDescriptor yJ3_get.desc).map (fun d => d.parameters.length) = some 1 := by decide +kernel
abbrev kc_J3_grow : Cond := .code yJ3_grow cJ3_grow 1 (Option.some (Jvm.ClassFile.FieldType.array (Jvm.ClassFile.FieldType.object "java/lang/Object")))
theorem cd_J3_grow : kt_cd kc_J3_grow yJ3_grow 1 := ⟨q358, by decide, Or.inl ⟨_, _, rfl⟩⟩
theorem in_J3_grow : Cond.initialized yJ3_grow.cls ∈ lw_all := q114
theorem hy_J3_grow : yJ3_grow.cls ≠ "java/lang/invoke/MethodHandle" ∧ yJ3_grow.cls ≠ "java/lang/invoke/VarHandle" ∧ (parseMethodDescriptor yJ3_grow.desc).map (fun d => d.parameters.length) = some 0 := by decide +kernel
abbrev kc_J3_grow_2 : Cond := .code yJ3_grow_2 cJ3_grow_2 4 (Option.some (Jvm.ClassFile.FieldType.array (Jvm.ClassFile.FieldType.object "java/lang/Object")))
theorem cd_J3_grow_2 : kt_cd kc_J3_grow_2 yJ3_grow_2 4 := ⟨q362, by decide, Or.inl ⟨_, _, rfl⟩⟩
theorem in_J3_grow_2 : Cond.initialized yJ3_grow_2.cls ∈ lw_all := q114
theorem hy_J3_grow_2 : yJ3_grow_2.cls ≠ "java/lang/invoke/MethodHandle" ∧ yJ3_grow_2.cls ≠ "java/lang/invoke/VarHandle" ∧ (parseMethodDescriptor yJ3_grow_2.desc).map (fun d => d.parameters.length) = some 1 := by decide +kernel
abbrev kc_J3_indexOf : Cond := .code yJ3_indexOf cJ3_indexOf 2 (Option.some Jvm.ClassFile.FieldType.int)
theorem cd_J3_indexOf : kt_cd kc_J3_indexOf yJ3_indexOf 2 := ⟨q2311, by decide, Or.inl ⟨_, _, rfl⟩⟩
theorem in_J3_indexOf : Cond.initialized yJ3_indexOf.cls ∈ lw_all := q114
theorem hy_J3_indexOf : yJ3_indexOf.cls ≠ "java/lang/invoke/MethodHandle" ∧ yJ3_indexOf.cls ≠ "java/lang/invoke/VarHandle" ∧ (parseMethodDescriptor yJ3_indexOf.desc).map (fun d => d.parameters.length) = some 1 := by decide +kernel
abbrev kc_J3_indexOfRange : Cond := .code yJ3_indexOfRange cJ3_indexOfRange 6 (Option.some Jvm.ClassFile.FieldType.int)
theorem cd_J3_indexOfRange : kt_cd kc_J3_indexOfRange yJ3_indexOfRange 6 := ⟨q2315, by decide, Or.inl ⟨_, _, rfl⟩⟩
theorem in_J3_indexOfRange : Cond.initialized yJ3_indexOfRange.cls ∈ lw_all := q114
theorem hy_J3_indexOfRange : yJ3_indexOfRange.cls ≠ "java/lang/invoke/MethodHandle" ∧ yJ3_indexOfRange.cls ≠ "java/lang/invoke/VarHandle" ∧ (parseMethodDescriptor yJ3_indexOfRange.desc).map (fun d => d.parameters.length) = some 3 := by decide +kernel
abbrev kc_J3_init : Cond := .code yJ3_init cJ3_init 1 (Option.none : Option Jvm.ClassFile.FieldType)
theorem cd_J3_init : kt_cd kc_J3_init yJ3_init 1 := ⟨q210, by decide, Or.inl ⟨_, _, rfl⟩⟩
theorem in_J3_init : Cond.initialized yJ3_init.cls ∈ lw_all := q114
theorem hy_J3_init : yJ3_init.cls ≠ "java/lang/invoke/MethodHandle" ∧ yJ3_init.cls ≠ "java/lang/invoke/VarHandle" ∧ (parseMethodDescriptor yJ3_init.desc).map (fun d => d.parameters.length) = some 0 := by decide +kernel
theorem hi_J3_init : yJ3_init.name = "<init>" ∧ yJ3_init.cls ≠ "java/lang/invoke/MethodHandle" ∧ yJ3_init.cls ≠ "java/lang/invoke/VarHandle" ∧ (parseMethodDescriptor yJ3_init.desc).map (fun d => d.parameters.length) = some 0 := ⟨rfl, hy_J3_init⟩
abbrev kc_J3_listIterator : Cond := .code yJ3_listIterator cJ3_listIterator 2 (Option.some (Jvm.ClassFile.FieldType.object "java/util/ListIterator"))
theorem cd_J3_listIterator : kt_cd kc_J3_listIterator yJ3_listIterator 2 := ⟨q877, by decide, Or.inl ⟨_, _, rfl⟩⟩
theorem in_J3_listIterator : Cond.initialized yJ3_listIterator.cls ∈ lw_all := q114
theorem hy_J3_listIterator : yJ3_listIterator.cls ≠ "java/lang/invoke/MethodHandle" ∧ yJ3_listIterator.cls ≠ "java/lang/invoke/VarHandle" ∧ (parseMethodDescriptor yJ3_listIterator.desc).map (fun d => d.parameters.length) = some 1 := by decide +kernel
abbrev kc_J3_rangeCheckForAdd : Cond := .code yJ3_rangeCheckForAdd cJ3_rangeCheckForAdd 2 (Option.none : Option Jvm.ClassFile.FieldType)
theorem cd_J3_rangeCheckForAdd : kt_cd kc_J3_rangeCheckForAdd yJ3_rangeCheckForAdd 2 := ⟨q881, by decide, Or.inl ⟨_, _, rfl⟩⟩
theorem in_J3_rangeCheckForAdd : Cond.initialized yJ3_rangeCheckForAdd.cls ∈ lw_all := q114
theorem hy_J3_rangeCheckForAdd : yJ3_rangeCheckForAdd.cls ≠ "java/lang/invoke/MethodHandle" ∧ yJ3_rangeCheckForAdd.cls ≠ "java/lang/invoke/VarHandle" ∧ (parseMethodDescriptor yJ3_rangeCheckForAdd.desc).map (fun d => d.parameters.length) = some 1 := by decide +kernel
abbrev kc_J3_set : Cond := .code yJ3_set cJ3_set 4 (Option.some (Jvm.ClassFile.FieldType.object "java/lang/Object"))
theorem cd_J3_set : kt_cd kc_J3_set yJ3_set 4 := ⟨q1360, by decide, Or.inl ⟨_, _, rfl⟩⟩
theorem in_J3_set : Cond.initialized yJ3_set.cls ∈ lw_all := q114
theorem hy_J3_set : yJ3_set.cls ≠ "java/lang/invoke/MethodHandle" ∧ yJ3_set.cls ≠ "java/lang/invoke/VarHandle" ∧ (parseMethodDescriptor yJ3_set.desc).map (fun d => d.parameters.length) = some 2 := by decide +kernel
abbrev kc_J3_size : Cond := .code yJ3_size cJ3_size 1 (Option.some Jvm.ClassFile.FieldType.int)
theorem cd_J3_size : kt_cd kc_J3_size yJ3_size 1 := ⟨q480, by decide, Or.inl ⟨_, _, rfl⟩⟩
theorem in_J3_size : Cond.initialized yJ3_size.cls ∈ lw_all := q114
theorem hy_J3_size : yJ3_size.cls ≠ "java/lang/invoke/MethodHandle" ∧ yJ3_size.cls ≠ "java/lang/invoke/VarHandle" ∧ (parseMethodDescriptor yJ3_size.desc).map (fun d => d.parameters.length) = some 0 := by decide +kernel
abbrev kc_J30_floatToIntBits : Cond := .code yJ30_floatToIntBits cJ30_floatToIntBits 1 (Option.some Jvm.ClassFile.FieldType.int)
theorem cd_J30_floatToIntBits : kt_cd kc_J30_floatToIntBits yJ30_floatToIntBits 1 := ⟨q2001, by decide, Or.inl ⟨_, _, rfl⟩⟩
theorem in_J30_floatToIntBits : Cond.initialized yJ30_floatToIntBits.cls ∈ lw_all := q155
theorem hy_J30_floatToIntBits : yJ30_floatToIntBits.cls ≠ "java/lang/invoke/MethodHandle" ∧ yJ30_floatToIntBits.cls ≠ "java/lang/invoke/VarHandle" ∧ (parseMethodDescriptor yJ30_floatToIntBits.desc).map (fun d => d.parameters.length) = some 1 := by decide +kernel
abbrev kc_J30_isNaN : Cond := .code yJ30_isNaN cJ30_isNaN 1 (Option.some Jvm.ClassFile.FieldType.boolean)
theorem cd_J30_isNaN : kt_cd kc_J30_isNaN yJ30_isNaN 1 := ⟨q2004, by decide, Or.inl ⟨_, _, rfl⟩⟩
theorem in_J30_isNaN : Cond.initialized yJ30_isNaN.cls ∈ lw_all := q155
theorem hy_J30_isNaN : yJ30_isNaN.cls ≠ "java/lang/invoke/MethodHandle" ∧ yJ30_isNaN.cls ≠ "java/lang/invoke/VarHandle" ∧ (parseMethodDescriptor yJ30_isNaN.desc).map (fun d => d.parameters.length) = some 1 := by decide +kernel
abbrev kc_J31_of : Cond := .code yJ31_of cJ31_of 8 (Option.some (Jvm.ClassFile.FieldType.object "java/util/List"))
theorem cd_J31_of : kt_cd kc_J31_of yJ31_of 8 := ⟨q2250, by decide, Or.inl ⟨_, _, rfl⟩⟩
theorem in_J31_of : Cond.initialized yJ31_of.cls ∈ lw_all := q159
theorem hy_J31_of : yJ31_of.cls ≠ "java/lang/invoke/MethodHandle" ∧ yJ31_of.cls ≠ "java/lang/invoke/VarHandle" ∧ (parseMethodDescriptor yJ31_of.desc).map (fun d => d.parameters.length) = some 8 := by decide +kernel
abbrev kc_J32_listFromTrustedArray : Cond := .code yJ32_listFromTrustedArray cJ32_listFromTrustedArray 5 (Option.some (Jvm.ClassFile.FieldType.object "java/util/List"))
theorem cd_J32_listFromTrustedArray : kt_cd kc_J32_listFromTrustedArray yJ32_listFromTrustedArray 5 := ⟨q2254, by decide, Or.inl ⟨_, _, rfl⟩⟩
theorem in_J32_listFromTrustedArray : Cond.initialized yJ32_listFromTrustedArray.cls ∈ lw_all := q160
theorem hy_J32_listFromTrustedArray : yJ32_listFromTrustedArray.cls ≠ "java/lang/invoke/MethodHandle" ∧ yJ32_listFromTrustedArray.cls ≠ "java/lang/invoke/VarHandle" ∧ (parseMethodDescriptor yJ32_listFromTrustedArray.desc).map (fun d => d.parameters.length) = some 1 := by decide +kernel
abbrev kc_J33_init : Cond := .code yJ33_init cJ33_init 1 (Option.none : Option Jvm.ClassFile.FieldType)
theorem cd_J33_init : kt_cd kc_J33_init yJ33_init 1 := ⟨q2274, by decide, Or.inl ⟨_, _, rfl⟩⟩
theorem in_J33_init : Cond.initialized yJ33_init.cls ∈ lw_all := q161
theorem hy_J33_init : yJ33_init.cls ≠ "java/lang/invoke/MethodHandle" ∧ yJ33_init.cls ≠ "java/lang/invoke/VarHandle" ∧ (parseMethodDescriptor yJ33_init.desc).map (fun d => d.parameters.length) = some 0 := by decide +kernel
theorem hi_J33_init : yJ33_init.name = "<init>" ∧ yJ33_init.cls ≠ "java/lang/invoke/MethodHandle" ∧ yJ33_init.cls ≠ "java/lang/invoke/VarHandle" ∧ (parseMethodDescriptor yJ33_init.desc).map (fun d => d.parameters.length) = some 0 := ⟨rfl, hy_J33_init⟩
abbrev kc_J34_init : Cond := .code yJ34_init cJ34_init 1 (Option.none : Option Jvm.ClassFile.FieldType)
theorem cd_J34_init : kt_cd kc_J34_init yJ34_init 1 := ⟨q2271, by decide, Or.inl ⟨_, _, rfl⟩⟩
theorem in_J34_init : Cond.initialized yJ34_init.cls ∈ lw_all := q162
theorem hy_J34_init : yJ34_init.cls ≠ "java/lang/invoke/MethodHandle" ∧ yJ34_init.cls ≠ "java/lang/invoke/VarHandle" ∧ (parseMethodDescriptor yJ34_init.desc).map (fun d => d.parameters.length) = some 0 := by decide +kernel
theorem hi_J34_init : yJ34_init.name = "<init>" ∧ yJ34_init.cls ≠ "java/lang/invoke/MethodHandle" ∧ yJ34_init.cls ≠ "java/lang/invoke/VarHandle" ∧ (parseMethodDescriptor yJ34_init.desc).map (fun d => d.parameters.length) = some 0 := ⟨rfl, hy_J34_init⟩
abbrev kc_J35_indexOf : Cond := .code yJ35_indexOf cJ35_indexOf 2 (Option.some Jvm.ClassFile.FieldType.int)
theorem cd_J35_indexOf : kt_cd kc_J35_indexOf yJ35_indexOf 2 := ⟨q2350, by decide, Or.inl ⟨_, _, rfl⟩⟩
theorem in_J35_indexOf : Cond.initialized yJ35_indexOf.cls ∈ lw_all := q163
theorem hy_J35_indexOf : yJ35_indexOf.cls ≠ "java/lang/invoke/MethodHandle" ∧ yJ35_indexOf.cls ≠ "java/lang/invoke/VarHandle" ∧ (parseMethodDescriptor yJ35_indexOf.desc).map (fun d => d.parameters.length) = some 1 := by decide +kernel
abbrev kc_J35_init : Cond := .code yJ35_init cJ35_init 2 (Option.none : Option Jvm.ClassFile.FieldType)
theorem cd_J35_init : kt_cd kc_J35_init yJ35_init 2 := ⟨q2268, by decide, Or.inl ⟨_, _, rfl⟩⟩
theorem in_J35_init : Cond.initialized yJ35_init.cls ∈ lw_all := q163
theorem hy_J35_init : yJ35_init.cls ≠ "java/lang/invoke/MethodHandle" ∧ yJ35_init.cls ≠ "java/lang/invoke/VarHandle" ∧ (parseMethodDescriptor yJ35_init.desc).map (fun d => d.parameters.length) = some 1 := by decide +kernel
theorem hi_J35_init : yJ35_init.name = "<init>" ∧ yJ35_init.cls ≠ "java/lang/invoke/MethodHandle" ∧ yJ35_init.cls ≠ "java/lang/invoke/VarHandle" ∧ (parseMethodDescriptor yJ35_init.desc).map (fun d => d.parameters.length) = some 1 := ⟨rfl, hy_J35_init⟩
abbrev kc_J35_init_2 : Cond := .code yJ35_init_2 cJ35_init_2 3 (Option.none : Option Jvm.ClassFile.FieldType)
theorem cd_J35_init_2 : kt_cd kc_J35_init_2 yJ35_init_2 3 := ⟨q2288, by decide, Or.inl ⟨_, _, rfl⟩⟩
theorem in_J35_init_2 : Cond.initialized yJ35_init_2.cls ∈ lw_all := q163
theorem hy_J35_init_2 : yJ35_init_2.cls ≠ "java/lang/invoke/MethodHandle" ∧ yJ35_init_2.cls ≠ "java/lang/invoke/VarHandle" ∧ (parseMethodDescriptor yJ35_init_2.desc).map (fun d => d.parameters.length) = some 2 := by decide +kernel
theorem hi_J35_init_2 : yJ35_init_2.name = "<init>" ∧ yJ35_init_2.cls ≠ "java/lang/invoke/MethodHandle" ∧ yJ35_init_2.cls ≠ "java/lang/invoke/VarHandle" ∧ (parseMethodDescriptor yJ35_init_2.desc).map (fun d => d.parameters.length) = some 2 := ⟨rfl, hy_J35_init_2⟩
abbrev kc_J36_indexOf : Cond := .code yJ36_indexOf cJ36_indexOf 4 (Option.some Jvm.ClassFile.FieldType.int)
theorem cd_J36_indexOf : kt_cd kc_J36_indexOf yJ36_indexOf 4 := ⟨q2357, by decide, Or.inl ⟨_, _, rfl⟩⟩
theorem in_J36_indexOf : Cond.initialized yJ36_indexOf.cls ∈ lw_all := q164
theorem hy_J36_indexOf : yJ36_indexOf.cls ≠ "java/lang/invoke/MethodHandle" ∧ yJ36_indexOf.cls ≠ "java/lang/invoke/VarHandle" ∧ (parseMethodDescriptor yJ36_indexOf.desc).map (fun d => d.parameters.length) = some 1 := by decide +kernel
abbrev kc_J36_init : Cond := .code yJ36_init cJ36_init 3 (Option.none : Option Jvm.ClassFile.FieldType)
theorem cd_J36_init : kt_cd kc_J36_init yJ36_init 3 := ⟨q2293, by decide, Or.inl ⟨_, _, rfl⟩⟩
theorem in_J36_init : Cond.initialized yJ36_init.cls ∈ lw_all := q164
theorem hy_J36_init : yJ36_init.cls ≠ "java/lang/invoke/MethodHandle" ∧ yJ36_init.cls ≠ "java/lang/invoke/VarHandle" ∧ (parseMethodDescriptor yJ36_init.desc).map (fun d => d.parameters.length) = some 2 := by decide +kernel
theorem hi_J36_init : yJ36_init.name = "<init>" ∧ yJ36_init.cls ≠ "java/lang/invoke/MethodHandle" ∧ yJ36_init.cls ≠ "java/lang/invoke/VarHandle" ∧ (parseMethodDescriptor yJ36_init.desc).map (fun d => d.parameters.length) = some 2 := ⟨rfl, hy_J36_init⟩
abbrev kc_J37_equals : Cond := .code yJ37_equals cJ37_equals 2 (Option.some Jvm.ClassFile.FieldType.boolean)
theorem cd_J37_equals : kt_cd kc_J37_equals yJ37_equals 2 := ⟨q2344, by decide, Or.inl ⟨_, _, rfl⟩⟩
theorem in_J37_equals : Cond.initialized yJ37_equals.cls ∈ lw_all := q3025
theorem hy_J37_equals : yJ37_equals.cls ≠ "java/lang/invoke/MethodHandle" ∧ yJ37_equals.cls ≠ "java/lang/invoke/VarHandle" ∧ (parseMethodDescriptor yJ37_equals.desc).map (fun d => d.parameters.length) = some 1 := by decide +kernel
abbrev kc_J37_init : Cond := .code yJ37_init cJ37_init 1 (Option.none : Option Jvm.ClassFile.FieldType)
theorem cd_J37_init : kt_cd kc_J37_init yJ37_init 1 := ⟨q174, by decide, Or.inl ⟨_, _, rfl⟩⟩
theorem in_J37_init : Cond.initialized yJ37_init.cls ∈ lw_all := q3025
theorem hy_J37_init : yJ37_init.cls ≠ "java/lang/invoke/MethodHandle" ∧ yJ37_init.cls ≠ "java/lang/invoke/VarHandle" ∧ (parseMethodDescriptor yJ37_init.desc).map (fun d => d.parameters.length) = some 0 := by decide +kernel
theorem hi_J37_init : yJ37_init.name = "<init>" ∧ yJ37_init.cls ≠ "java/lang/invoke/MethodHandle" ∧ yJ37_init.cls ≠ "java/lang/invoke/VarHandle" ∧ (parseMethodDescriptor yJ37_init.desc).map (fun d => d.parameters.length) = some 0 := ⟨rfl, hy_J37_init⟩
abbrev kc_J38_getUTF16Char : Cond := .code yJ38_getUTF16Char cJ38_getUTF16Char 3 (Option.some Jvm.ClassFile.FieldType.char)
theorem cd_J38_getUTF16Char : kt_cd kc_J38_getUTF16Char yJ38_getUTF16Char 3 := ⟨q1739, by decide, Or.inl ⟨_, _, rfl⟩⟩
theorem hy_J38_getUTF16Char : yJ38_getUTF16Char.cls ≠ "java/lang/invoke/MethodHandle" ∧ yJ38_getUTF16Char.cls ≠ "java/lang/invoke/VarHandle" ∧ (parseMethodDescriptor yJ38_getUTF16Char.desc).map (fun d => d.parameters.length) = some 2 := by decide +kernel
abbrev kc_J4_init : Cond := .code yJ4_init cJ4_init 1 (Option.none : Option Jvm.ClassFile.FieldType)
theorem cd_J4_init : kt_cd kc_J4_init yJ4_init 1 := ⟨q244, by decide, Or.inl ⟨_, _, rfl⟩⟩
theorem in_J4_init : Cond.initialized yJ4_init.cls ∈ lw_all := q115
theorem hy_J4_init : yJ4_init.cls ≠ "java/lang/invoke/MethodHandle" ∧ yJ4_init.cls ≠ "java/lang/invoke/VarHandle" ∧ (parseMethodDescriptor yJ4_init.desc).map (fun d => d.parameters.length) = some 0 := by decide +kernel
theorem hi_J4_init : yJ4_init.name = "<init>" ∧ yJ4_init.cls ≠ "java/lang/invoke/MethodHandle" ∧ yJ4_init.cls ≠ "java/lang/invoke/VarHandle" ∧ (parseMethodDescriptor yJ4_init.desc).map (fun d => d.parameters.length) = some 0 := ⟨rfl, hy_J4_init⟩
abbrev kc_J4_iterator : Cond := .code yJ4_iterator cJ4_iterator 1 (Option.some (Jvm.ClassFile.FieldType.object "java/util/Iterator"))
theorem cd_J4_iterator : kt_cd kc_J4_iterator yJ4_iterator 1 := ⟨q865, by decide, Or.inl ⟨_, _, rfl⟩⟩
theorem in_J4_iterator : Cond.initialized yJ4_iterator.cls ∈ lw_all := q115
theorem hy_J4_iterator : yJ4_iterator.cls ≠ "java/lang/invoke/MethodHandle" ∧ yJ4_iterator.cls ≠ "java/lang/invoke/VarHandle" ∧ (parseMethodDescriptor yJ4_iterator.desc).map (fun d => d.parameters.length) = some 0 := by decide +kernel
abbrev kc_J5_addLast : Cond := .code yJ5_addLast cJ5_addLast 2 (Option.none : Option Jvm.ClassFile.FieldType)
theorem cd_J5_addLast : kt_cd kc_J5_addLast yJ5_addLast 2 := ⟨q1320, by decide, Or.inl ⟨_, _, rfl⟩⟩
theorem in_J5_addLast : Cond.initialized yJ5_addLast.cls ∈ lw_all := q116
theorem hy_J5_addLast : yJ5_addLast.cls ≠ "java/lang/invoke/MethodHandle" ∧ yJ5_addLast.cls ≠ "java/lang/invoke/VarHandle" ∧ (parseMethodDescriptor yJ5_addLast.desc).map (fun d => d.parameters.length) = some 1 := by decide +kernel
abbrev kc_J5_checkElementIndex : Cond := .code yJ5_checkElementIndex cJ5_checkElementIndex 2 (Option.none : Option Jvm.ClassFile.FieldType)
theorem cd_J5_checkElementIndex : kt_cd kc_J5_checkElementIndex yJ5_checkElementIndex 2 := ⟨q1000, by decide, Or.inl ⟨_, _, rfl⟩⟩
theorem in_J5_checkElementIndex : Cond.initialized yJ5_checkElementIndex.cls ∈ lw_all := q116
theorem hy_J5_checkElementIndex : yJ5_checkElementIndex.cls ≠ "java/lang/invoke/MethodHandle" ∧ yJ5_checkElementIndex.cls ≠ "java/lang/invoke/VarHandle" ∧ (parseMethodDescriptor yJ5_checkElementIndex.desc).map (fun d => d.parameters.length) = some 1 := by decide +kernel
abbrev kc_J5_checkPositionIndex : Cond := .code yJ5_checkPositionIndex cJ5_checkPositionIndex 2 (Option.none : Option Jvm.ClassFile.FieldType)
theorem cd_J5_checkPositionIndex : kt_cd kc_J5_checkPositionIndex yJ5_checkPositionIndex 2 := ⟨q915, by decide, Or.inl ⟨_, _, rfl⟩⟩
theorem in_J5_checkPositionIndex : Cond.initialized yJ5_checkPositionIndex.cls ∈ lw_all := q116
theorem hy_J5_checkPositionIndex : yJ5_checkPositionIndex.cls ≠ "java/lang/invoke/MethodHandle" ∧ yJ5_checkPositionIndex.cls ≠ "java/lang/invoke/VarHandle" ∧ (parseMethodDescriptor yJ5_checkPositionIndex.desc).map (fun d => d.parameters.length) = some 1 := by decide +kernel
abbrev kc_J5_get : Cond := .code yJ5_get cJ5_get 2 (Option.some (Jvm.ClassFile.FieldType.object "java/lang/Object"))
theorem cd_J5_get : kt_cd kc_J5_get yJ5_get 2 := ⟨q996, by decide, Or.inl ⟨_, _, rfl⟩⟩
theorem in_J5_get : Cond.initialized yJ5_get.cls ∈ lw_all := q116
theorem hy_J5_get : yJ5_get.cls ≠ "java/lang/invoke/MethodHandle" ∧ yJ5_get.cls ≠ "java/lang/invoke/VarHandle" ∧ (parseMethodDescriptor yJ5_get.desc).map (fun d => d.parameters.length) = some 1 := by decide +kernel
abbrev kc_J5_indexOf : Cond := .code yJ5_indexOf cJ5_indexOf 4 (Option.some Jvm.ClassFile.FieldType.int)
theorem cd_J5_indexOf : kt_cd kc_J5_indexOf yJ5_indexOf 4 := ⟨q2367, by decide, Or.inl ⟨_, _, rfl⟩⟩
theorem in_J5_indexOf : Cond.initialized yJ5_indexOf.cls ∈ lw_all := q116
theorem hy_J5_indexOf : yJ5_indexOf.cls ≠ "java/lang/invoke/MethodHandle" ∧ yJ5_indexOf.cls ≠ "java/lang/invoke/VarHandle" ∧ (parseMethodDescriptor yJ5_indexOf.desc).map (fun d => d.parameters.length) = some 1 := by decide +kernel
abbrev kc_J5_init : Cond := .code yJ5_init cJ5_init 1 (Option.none : Option Jvm.ClassFile.FieldType)
theorem cd_J5_init : kt_cd kc_J5_init yJ5_init 1 := ⟨q241, by decide, Or.inl ⟨_, _, rfl⟩⟩
theorem in_J5_init : Cond.initialized yJ5_init.cls ∈ lw_all := q116
theorem hy_J5_init : yJ5_init.cls ≠ "java/lang/invoke/MethodHandle" ∧ yJ5_init.cls ≠ "java/lang/invoke/VarHandle" ∧ (parseMethodDescriptor yJ5_init.desc).map (fun d => d.parameters.length) = some 0 := by decide +kernel
theorem hi_J5_init : yJ5_init.name = "<init>" ∧ yJ5_init.cls ≠ "java/lang/invoke/MethodHandle" ∧ yJ5_init.cls ≠ "java/lang/invoke/VarHandle" ∧ (parseMethodDescriptor yJ5_init.desc).map (fun d => d.parameters.length) = some 0 := ⟨rfl, hy_J5_init⟩
abbrev kc_J5_isElementIndex : Cond := .code yJ5_isElementIndex cJ5_isElementIndex 2 (Option.some Jvm.ClassFile.FieldType.boolean)
theorem cd_J5_isElementIndex : kt_cd kc_J5_isElementIndex yJ5_isElementIndex 2 := ⟨q1004, by decide, Or.inl ⟨_, _, rfl⟩⟩
theorem in_J5_isElementIndex : Cond.initialized yJ5_isElementIndex.cls ∈ lw_all := q116
theorem hy_J5_isElementIndex : yJ5_isElementIndex.cls ≠ "java/lang/invoke/MethodHandle" ∧ yJ5_isElementIndex.cls ≠ "java/lang/invoke/VarHandle" ∧ (parseMethodDescriptor yJ5_isElementIndex.desc).map (fun d => d.parameters.length) = some 1 := by decide +kernel
abbrev kc_J5_isPositionIndex : Cond := .code yJ5_isPositionIndex cJ5_isPositionIndex 2 (Option.some Jvm.ClassFile.FieldType.boolean)
theorem cd_J5_isPositionIndex : kt_cd kc_J5_isPositionIndex yJ5_isPositionIndex 2 := ⟨q919, by decide, Or.inl ⟨_, _, rfl⟩⟩
theorem in_J5_isPositionIndex : Cond.initialized yJ5_isPositionIndex.cls ∈ lw_all := q116
theorem hy_J5_isPositionIndex : yJ5_isPositionIndex.cls ≠ "java/lang/invoke/MethodHandle" ∧ yJ5_isPositionIndex.cls ≠ "java/lang/invoke/VarHandle" ∧ (parseMethodDescriptor yJ5_isPositionIndex.desc).map (fun d => d.parameters.length) = some 1 := by decide +kernel
abbrev kc_J5_linkLast : Cond := .code yJ5_linkLast cJ5_linkLast 4 (Option.none : Option Jvm.ClassFile.FieldType)
theorem cd_J5_linkLast : kt_cd kc_J5_linkLast yJ5_linkLast 4 := ⟨q1324, by decide, Or.inl ⟨_, _, rfl⟩⟩
theorem in_J5_linkLast : Cond.initialized yJ5_linkLast.cls ∈ lw_all := q116
theorem hy_J5_linkLast : yJ5_linkLast.cls ≠ "java/lang/invoke/MethodHandle" ∧ yJ5_linkLast.cls ≠ "java/lang/invoke/VarHandle" ∧ (parseMethodDescriptor yJ5_linkLast.desc).map (fun d => d.parameters.length) = some 1 := by decide +kernel
abbrev kc_J5_listIterator : Cond := .code yJ5_listIterator cJ5_listIterator 2 (Option.some (Jvm.ClassFile.FieldType.object "java/util/ListIterator"))
theorem cd_J5_listIterator : kt_cd kc_J5_listIterator yJ5_listIterator 2 := ⟨q911, by decide, Or.inl ⟨_, _, rfl⟩⟩
theorem in_J5_listIterator : Cond.initialized yJ5_listIterator.cls ∈ lw_all := q116
theorem hy_J5_listIterator : yJ5_listIterator.cls ≠ "java/lang/invoke/MethodHandle" ∧ yJ5_listIterator.cls ≠ "java/lang/invoke/VarHandle" ∧ (parseMethodDescriptor yJ5_listIterator.desc).map (fun d => d.parameters.length) = some 1 := by decide +kernel
abbrev kc_J5_node : Cond := .code yJ5_node cJ5_node 4 (Option.some (Jvm.ClassFile.FieldType.object "java/util/LinkedList$Node"))
theorem cd_J5_node : kt_cd kc_J5_node yJ5_node 4 := ⟨q929, by decide, Or.inl ⟨_, _, rfl⟩⟩
theorem in_J5_node : Cond.initialized yJ5_node.cls ∈ lw_all := q116
theorem hy_J5_node : yJ5_node.cls ≠ "java/lang/invoke/MethodHandle" ∧ yJ5_node.cls ≠ "java/lang/invoke/VarHandle" ∧ (parseMethodDescriptor yJ5_node.desc).map (fun d => d.parameters.length) = some 1 := by decide +kernel
abbrev kc_J5_removeFirst : Cond := .code yJ5_removeFirst cJ5_removeFirst 2 (Option.some (Jvm.ClassFile.FieldType.object "java/lang/Object"))
theorem cd_J5_removeFirst : kt_cd kc_J5_removeFirst yJ5_removeFirst 2 := ⟨q2080, by decide, Or.inl ⟨_, _, rfl⟩⟩
theorem in_J5_removeFirst : Cond.initialized yJ5_removeFirst.cls ∈ lw_all := q116
theorem hy_J5_removeFirst : yJ5_removeFirst.cls ≠ "java/lang/invoke/MethodHandle" ∧ yJ5_removeFirst.cls ≠ "java/lang/invoke/VarHandle" ∧ (parseMethodDescriptor yJ5_removeFirst.desc).map (fun d => d.parameters.length) = some 0 := by decide +kernel
abbrev kc_J5_size : Cond := .code yJ5_size cJ5_size 1 (Option.some Jvm.ClassFile.FieldType.int)
theorem cd_J5_size : kt_cd kc_J5_size yJ5_size 1 := ⟨q963, by decide, Or.inl ⟨_, _, rfl⟩⟩
theorem in_J5_size : Cond.initialized yJ5_size.cls ∈ lw_all := q116
theorem hy_J5_size : yJ5_size.cls ≠ "java/lang/invoke/MethodHandle" ∧ yJ5_size.cls ≠ "java/lang/invoke/VarHandle" ∧ (parseMethodDescriptor yJ5_size.desc).map (fun d => d.parameters.length) = some 0 := by decide +kernel
abbrev kc_J5_unlinkFirst : Cond := .code yJ5_unlinkFirst cJ5_unlinkFirst 4 (Option.some (Jvm.ClassFile.FieldType.object "java/lang/Object"))
theorem cd_J5_unlinkFirst : kt_cd kc_J5_unlinkFirst yJ5_unlinkFirst 4 := ⟨q2086, by decide, Or.inl ⟨_, _, rfl⟩⟩
theorem in_J5_unlinkFirst : Cond.initialized yJ5_unlinkFirst.cls ∈ lw_all := q116
theorem hy_J5_unlinkFirst : yJ5_unlinkFirst.cls ≠ "java/lang/invoke/MethodHandle" ∧ yJ5_unlinkFirst.cls ≠ "java/lang/invoke/VarHandle" ∧ (parseMethodDescriptor yJ5_unlinkFirst.desc).map (fun d => d.parameters.length) = some 1 := by decide +kernel
abbrev kc_J6_hashCode : Cond := .code yJ6_hashCode cJ6_hashCode 6 (Option.some Jvm.ClassFile.FieldType.int)
theorem cd_J6_hashCode : kt_cd kc_J6_hashCode yJ6_hashCode 6 := ⟨q1744, by decide, Or.inl ⟨_, _, rfl⟩⟩
theorem in_J6_hashCode : Cond.initialized yJ6_hashCode.cls ∈ lw_all := q119
theorem hy_J6_hashCode : yJ6_hashCode.cls ≠ "java/lang/invoke/MethodHandle" ∧ yJ6_hashCode.cls ≠ "java/lang/invoke/VarHandle" ∧ (parseMethodDescriptor yJ6_hashCode.desc).map (fun d => d.parameters.length) = some 4 := by decide +kernel
abbrev kc_J6_hashCode_2 : Cond := .code yJ6_hashCode_2 cJ6_hashCode_2 6 (Option.some Jvm.ClassFile.FieldType.int)
theorem cd_J6_hashCode_2 : kt_cd kc_J6_hashCode_2 yJ6_hashCode_2 6 := ⟨q1747, by decide, Or.inl ⟨_, _, rfl⟩⟩
theorem in_J6_hashCode_2 : Cond.initialized yJ6_hashCode_2.cls ∈ lw_all := q119
theorem hy_J6_hashCode_2 : yJ6_hashCode_2.cls ≠ "java/lang/invoke/MethodHandle" ∧ yJ6_hashCode_2.cls ≠ "java/lang/invoke/VarHandle" ∧ (parseMethodDescriptor yJ6_hashCode_2.desc).map (fun d => d.parameters.length) = some 4 := by decide +kernel
abbrev kc_J6_hashCode_3 : Cond := .code yJ6_hashCode_3 cJ6_hashCode_3 6 (Option.some Jvm.ClassFile.FieldType.int)
theorem cd_J6_hashCode_3 : kt_cd kc_J6_hashCode_3 yJ6_hashCode_3 6 := ⟨q1751, by decide, Or.inl ⟨_, _, rfl⟩⟩
theorem in_J6_hashCode_3 : Cond.initialized yJ6_hashCode_3.cls ∈ lw_all := q119
theorem hy_J6_hashCode_3 : yJ6_hashCode_3.cls ≠ "java/lang/invoke/MethodHandle" ∧ yJ6_hashCode_3.cls ≠ "java/lang/invoke/VarHandle" ∧ (parseMethodDescriptor yJ6_hashCode_3.desc).map (fun d => d.parameters.length) = some 4 := by decide +kernel
abbrev kc_J6_hashCode_4 : Cond := .code yJ6_hashCode_4 cJ6_hashCode_4 6 (Option.some Jvm.ClassFile.FieldType.int)
theorem cd_J6_hashCode_4 : kt_cd kc_J6_hashCode_4 yJ6_hashCode_4 6 := ⟨q1755, by decide, Or.inl ⟨_, _, rfl⟩⟩
theorem in_J6_hashCode_4 : Cond.initialized yJ6_hashCode_4.cls ∈ lw_all := q119
theorem hy_J6_hashCode_4 : yJ6_hashCode_4.cls ≠ "java/lang/invoke/MethodHandle" ∧ yJ6_hashCode_4.cls ≠ "java/lang/invoke/VarHandle" ∧ (parseMethodDescriptor yJ6_hashCode_4.desc).map (fun d => d.parameters.length) = some 4 := by decide +kernel
abbrev kc_J6_hugeLength : Cond := .code yJ6_hugeLength cJ6_hugeLength 3 (Option.some Jvm.ClassFile.FieldType.int)
theorem cd_J6_hugeLength : kt_cd kc_J6_hugeLength yJ6_hugeLength 3 := ⟨q372, by decide, Or.inl ⟨_, _, rfl⟩⟩
theorem in_J6_hugeLength : Cond.initialized yJ6_hugeLength.cls ∈ lw_all := q119
theorem hy_J6_hugeLength : yJ6_hugeLength.cls ≠ "java/lang/invoke/MethodHandle" ∧ yJ6_hugeLength.cls ≠ "java/lang/invoke/VarHandle" ∧ (parseMethodDescriptor yJ6_hugeLength.desc).map (fun d => d.parameters.length) = some 2 := by decide +kernel
abbrev kc_J6_newLength : Cond := .code yJ6_newLength cJ6_newLength 4 (Option.some Jvm.ClassFile.FieldType.int)
theorem cd_J6_newLength : kt_cd kc_J6_newLength yJ6_newLength 4 := ⟨q365, by decide, Or.inl ⟨_, _, rfl⟩⟩
theorem in_J6_newLength : Cond.initialized yJ6_newLength.cls ∈ lw_all := q119
theorem hy_J6_newLength : yJ6_newLength.cls ≠ "java/lang/invoke/MethodHandle" ∧ yJ6_newLength.cls ≠ "java/lang/invoke/VarHandle" ∧ (parseMethodDescriptor yJ6_newLength.desc).map (fun d => d.parameters.length) = some 3 := by decide +kernel
abbrev kc_J6_signedHashCode : Cond := .code yJ6_signedHashCode cJ6_signedHashCode 6 (Option.some Jvm.ClassFile.FieldType.int)
theorem cd_J6_signedHashCode : kt_cd kc_J6_signedHashCode yJ6_signedHashCode 6 := ⟨q1724, by decide, Or.inl ⟨_, _, rfl⟩⟩
theorem in_J6_signedHashCode : Cond.initialized yJ6_signedHashCode.cls ∈ lw_all := q119
theorem hy_J6_signedHashCode : yJ6_signedHashCode.cls ≠ "java/lang/invoke/MethodHandle" ∧ yJ6_signedHashCode.cls ≠ "java/lang/invoke/VarHandle" ∧ (parseMethodDescriptor yJ6_signedHashCode.desc).map (fun d => d.parameters.length) = some 4 := by decide +kernel
abbrev kc_J6_utf16hashCode : Cond := .code yJ6_utf16hashCode cJ6_utf16hashCode 6 (Option.some Jvm.ClassFile.FieldType.int)
theorem cd_J6_utf16hashCode : kt_cd kc_J6_utf16hashCode yJ6_utf16hashCode 6 := ⟨q1727, by decide, Or.inl ⟨_, _, rfl⟩⟩
theorem in_J6_utf16hashCode : Cond.initialized yJ6_utf16hashCode.cls ∈ lw_all := q119
theorem hy_J6_utf16hashCode : yJ6_utf16hashCode.cls ≠ "java/lang/invoke/MethodHandle" ∧ yJ6_utf16hashCode.cls ≠ "java/lang/invoke/VarHandle" ∧ (parseMethodDescriptor yJ6_utf16hashCode.desc).map (fun d => d.parameters.length) = some 4 := by decide +kernel
abbrev kc_J6_vectorizedHashCode : Cond := .code yJ6_vectorizedHashCode cJ6_vectorizedHashCode 5 (Option.some Jvm.ClassFile.FieldType.int)
theorem cd_J6_vectorizedHashCode : kt_cd kc_J6_vectorizedHashCode yJ6_vectorizedHashCode 5 := ⟨q1720, by decide, Or.inl ⟨_, _, rfl⟩⟩
theorem in_J6_vectorizedHashCode : Cond.initialized yJ6_vectorizedHashCode.cls ∈ lw_all := q119
theorem hy_J6_vectorizedHashCode : yJ6_vectorizedHashCode.cls ≠ "java/lang/invoke/MethodHandle" ∧ yJ6_vectorizedHashCode.cls ≠ "java/lang/invoke/VarHandle" ∧ (parseMethodDescriptor yJ6_vectorizedHashCode.desc).map (fun d => d.parameters.length) = some 5 := by decide +kernel
abbrev kc_J7_max : Cond := .code yJ7_max cJ7_max 2 (Option.some Jvm.ClassFile.FieldType.int)
theorem cd_J7_max : kt_cd kc_J7_max yJ7_max 2 := ⟨q368, by decide, Or.inl ⟨_, _, rfl⟩⟩
theorem in_J7_max : Cond.initialized yJ7_max.cls ∈ lw_all := q120
theorem hy_J7_max : yJ7_max.cls ≠ "java/lang/invoke/MethodHandle" ∧ yJ7_max.cls ≠ "java/lang/invoke/VarHandle" ∧ (parseMethodDescriptor yJ7_max.desc).map (fun d => d.parameters.length) = some 2 := by decide +kernel
abbrev kc_J7_min : Cond := .code yJ7_min cJ7_min 2 (Option.some Jvm.ClassFile.FieldType.int)
theorem cd_J7_min : kt_cd kc_J7_min yJ7_min 2 := ⟨q420, by decide, Or.inl ⟨_, _, rfl⟩⟩
theorem in_J7_min : Cond.initialized yJ7_min.cls ∈ lw_all := q120
theorem hy_J7_min : yJ7_min.cls ≠ "java/lang/invoke/MethodHandle" ∧ yJ7_min.cls ≠ "java/lang/invoke/VarHandle" ∧ (parseMethodDescriptor yJ7_min.desc).map (fun d => d.parameters.length) = some 2 := by decide +kernel
abbrev kc_J7_min_2 : Cond := .code yJ7_min_2 cJ7_min_2 4 (Option.some Jvm.ClassFile.FieldType.long)
theorem cd_J7_min_2 : kt_cd kc_J7_min_2 yJ7_min_2 4 := ⟨q2934, by decide, Or.inl ⟨_, _, rfl⟩⟩
theorem in_J7_min_2 : Cond.initialized yJ7_min_2.cls ∈ lw_all := q120
theorem hy_J7_min_2 : yJ7_min_2.cls ≠ "java/lang/invoke/MethodHandle" ∧ yJ7_min_2.cls ≠ "java/lang/invoke/VarHandle" ∧ (parseMethodDescriptor yJ7_min_2.desc).map (fun d => d.parameters.length) = some 2 := by decide +kernel
abbrev kc_J8_checkLength : Cond := .code yJ8_checkLength cJ8_checkLength 2 (Option.none : Option Jvm.ClassFile.FieldType)
theorem cd_J8_checkLength : kt_cd kc_J8_checkLength yJ8_checkLength 2 := ⟨q1212, by decide, Or.inl ⟨_, _, rfl⟩⟩
theorem in_J8_checkLength : Cond.initialized yJ8_checkLength.cls ∈ lw_all := q121
theorem hy_J8_checkLength : yJ8_checkLength.cls ≠ "java/lang/invoke/MethodHandle" ∧ yJ8_checkLength.cls ≠ "java/lang/invoke/VarHandle" ∧ (parseMethodDescriptor yJ8_checkLength.desc).map (fun d => d.parameters.length) = some 2 := by decide +kernel
abbrev kc_J8_copyOf : Cond := .code yJ8_copyOf cJ8_copyOf 2 (Option.some (Jvm.ClassFile.FieldType.array (Jvm.ClassFile.FieldType.object "java/lang/Object")))
theorem cd_J8_copyOf : kt_cd kc_J8_copyOf yJ8_copyOf 2 := ⟨q375, by decide, Or.inl ⟨_, _, rfl⟩⟩
theorem in_J8_copyOf : Cond.initialized yJ8_copyOf.cls ∈ lw_all := q121
theorem hy_J8_copyOf : yJ8_copyOf.cls ≠ "java/lang/invoke/MethodHandle" ∧ yJ8_copyOf.cls ≠ "java/lang/invoke/VarHandle" ∧ (parseMethodDescriptor yJ8_copyOf.desc).map (fun d => d.parameters.length) = some 2 := by decide +kernel
abbrev kc_J8_copyOfRange : Cond := .code yJ8_copyOfRange cJ8_copyOfRange 3 (Option.some (Jvm.ClassFile.FieldType.array Jvm.ClassFile.FieldType.byte))
theorem cd_J8_copyOfRange : kt_cd kc_J8_copyOfRange yJ8_copyOfRange 3 := ⟨q1206, by decide, Or.inl ⟨_, _, rfl⟩⟩
theorem in_J8_copyOfRange : Cond.initialized yJ8_copyOfRange.cls ∈ lw_all := q121
theorem hy_J8_copyOfRange : yJ8_copyOfRange.cls ≠ "java/lang/invoke/MethodHandle" ∧ yJ8_copyOfRange.cls ≠ "java/lang/invoke/VarHandle" ∧ (parseMethodDescriptor yJ8_copyOfRange.desc).map (fun d => d.parameters.length) = some 3 := by decide +kernel
abbrev kc_J8_copyOfRangeByte : Cond := .code yJ8_copyOfRangeByte cJ8_copyOfRangeByte 5 (Option.some (Jvm.ClassFile.FieldType.array Jvm.ClassFile.FieldType.byte))
theorem cd_J8_copyOfRangeByte : kt_cd kc_J8_copyOfRangeByte yJ8_copyOfRangeByte 5 := ⟨q1209, by decide, Or.inl ⟨_, _, rfl⟩⟩
theorem in_J8_copyOfRangeByte : Cond.initialized yJ8_copyOfRangeByte.cls ∈ lw_all := q121
theorem hy_J8_copyOfRangeByte : yJ8_copyOfRangeByte.cls ≠ "java/lang/invoke/MethodHandle" ∧ yJ8_copyOfRangeByte.cls ≠ "java/lang/invoke/VarHandle" ∧ (parseMethodDescriptor yJ8_copyOfRangeByte.desc).map (fun d => d.parameters.length) = some 3 := by decide +kernel
abbrev kc_J8_copyOf_2 : Cond := .code yJ8_copyOf_2 cJ8_copyOf_2 4 (Option.some (Jvm.ClassFile.FieldType.array (Jvm.ClassFile.FieldType.object "java/lang/Object")))
theorem cd_J8_copyOf_2 : kt_cd kc_J8_copyOf_2 yJ8_copyOf_2 4 := ⟨q415, by decide, Or.inl ⟨_, _, rfl⟩⟩
theorem in_J8_copyOf_2 : Cond.initialized yJ8_copyOf_2.cls ∈ lw_all := q121
theorem hy_J8_copyOf_2 : yJ8_copyOf_2.cls ≠ "java/lang/invoke/MethodHandle" ∧ yJ8_copyOf_2.cls ≠ "java/lang/invoke/VarHandle" ∧ (parseMethodDescriptor yJ8_copyOf_2.desc).map (fun d => d.parameters.length) = some 3 := by decide +kernel
abbrev kc_J8_copyOf_3 : Cond := .code yJ8_copyOf_3 cJ8_copyOf_3 3 (Option.some (Jvm.ClassFile.FieldType.array Jvm.ClassFile.FieldType.long))
theorem cd_J8_copyOf_3 : kt_cd kc_J8_copyOf_3 yJ8_copyOf_3 3 := ⟨q800, by decide, Or.inl ⟨_, _, rfl⟩⟩
theorem in_J8_copyOf_3 : Cond.initialized yJ8_copyOf_3.cls ∈ lw_all := q121
theorem hy_J8_copyOf_3 : yJ8_copyOf_3.cls ≠ "java/lang/invoke/MethodHandle" ∧ yJ8_copyOf_3.cls ≠ "java/lang/invoke/VarHandle" ∧ (parseMethodDescriptor yJ8_copyOf_3.desc).map (fun d => d.parameters.length) = some 2 := by decide +kernel
abbrev kc_J8_copyOf_4 : Cond := .code yJ8_copyOf_4 cJ8_copyOf_4 3 (Option.some (Jvm.ClassFile.FieldType.array Jvm.ClassFile.FieldType.byte))
theorem cd_J8_copyOf_4 : kt_cd kc_J8_copyOf_4 yJ8_copyOf_4 3 := ⟨q1096, by decide, Or.inl ⟨_, _, rfl⟩⟩
theorem in_J8_copyOf_4 : Cond.initialized yJ8_copyOf_4.cls ∈ lw_all := q121
theorem hy_J8_copyOf_4 : yJ8_copyOf_4.cls ≠ "java/lang/invoke/MethodHandle" ∧ yJ8_copyOf_4.cls ≠ "java/lang/invoke/VarHandle" ∧ (parseMethodDescriptor yJ8_copyOf_4.desc).map (fun d => d.parameters.length) = some 2 := by decide +kernel
abbrev kc_J8_fill : Cond := .code yJ8_fill cJ8_fill 5 (Option.none : Option Jvm.ClassFile.FieldType)
theorem cd_J8_fill : kt_cd kc_J8_fill yJ8_fill 5 := ⟨q1537, by decide, Or.inl ⟨_, _, rfl⟩⟩
theorem in_J8_fill : Cond.initialized yJ8_fill.cls ∈ lw_all := q121
theorem hy_J8_fill : yJ8_fill.cls ≠ "java/lang/invoke/MethodHandle" ∧ yJ8_fill.cls ≠ "java/lang/invoke/VarHandle" ∧ (parseMethodDescriptor yJ8_fill.desc).map (fun d => d.parameters.length) = some 4 := by decide +kernel
abbrev kc_J8_rangeCheck : Cond := .code yJ8_rangeCheck cJ8_rangeCheck 3 (Option.none : Option Jvm.ClassFile.FieldType)
theorem cd_J8_rangeCheck : kt_cd kc_J8_rangeCheck yJ8_rangeCheck 3 := ⟨q1540, by decide, Or.inl ⟨_, _, rfl⟩⟩
theorem in_J8_rangeCheck : Cond.initialized yJ8_rangeCheck.cls ∈ lw_all := q121
theorem hy_J8_rangeCheck : yJ8_rangeCheck.cls ≠ "java/lang/invoke/MethodHandle" ∧ yJ8_rangeCheck.cls ≠ "java/lang/invoke/VarHandle" ∧ (parseMethodDescriptor yJ8_rangeCheck.desc).map (fun d => d.parameters.length) = some 3 := by decide +kernel
abbrev kc_J9_getLocalizedMessage : Cond := .code yJ9_getLocalizedMessage cJ9_getLocalizedMessage 1 (Option.some (Jvm.ClassFile.FieldType.object "java/lang/String"))
theorem cd_J9_getLocalizedMessage : kt_cd kc_J9_getLocalizedMessage yJ9_getLocalizedMessage 1 := ⟨q1033, by decide, Or.inl ⟨_, _, rfl⟩⟩
theorem in_J9_getLocalizedMessage : Cond.initialized yJ9_getLocalizedMessage.cls ∈ lw_all := q124
theorem hy_J9_getLocalizedMessage : yJ9_getLocalizedMessage.cls ≠ "java/lang/invoke/MethodHandle" ∧ yJ9_getLocalizedMessage.cls ≠ "java/lang/invoke/VarHandle" ∧ (parseMethodDescriptor yJ9_getLocalizedMessage.desc).map (fun d => d.parameters.length) = some 0 := by decide +kernel
abbrev kc_J9_getMessage : Cond := .code yJ9_getMessage cJ9_getMessage 1 (Option.some (Jvm.ClassFile.FieldType.object "java/lang/String"))
theorem cd_J9_getMessage : kt_cd kc_J9_getMessage yJ9_getMessage 1 := ⟨q1040, by decide, Or.inl ⟨_, _, rfl⟩⟩
theorem in_J9_getMessage : Cond.initialized yJ9_getMessage.cls ∈ lw_all := q124
theorem hy_J9_getMessage : yJ9_getMessage.cls ≠ "java/lang/invoke/MethodHandle" ∧ yJ9_getMessage.cls ≠ "java/lang/invoke/VarHandle" ∧ (parseMethodDescriptor yJ9_getMessage.desc).map (fun d => d.parameters.length) = some 0 := by decide +kernel
abbrev kc_J9_init : Cond := .code yJ9_init cJ9_init 1 (Option.none : Option Jvm.ClassFile.FieldType)
theorem cd_J9_init : kt_cd kc_J9_init yJ9_init 1 := ⟨q675, by decide, Or.inl ⟨_, _, rfl⟩⟩
theorem in_J9_init : Cond.initialized yJ9_init.cls ∈ lw_all := q124
theorem hy_J9_init : yJ9_init.cls ≠ "java/lang/invoke/MethodHandle" ∧ yJ9_init.cls ≠ "java/lang/invoke/VarHandle" ∧ (parseMethodDescriptor yJ9_init.desc).map (fun d => d.parameters.length) = some 0 := by decide +kernel
theorem hi_J9_init : yJ9_init.name = "<init>" ∧ yJ9_init.cls ≠ "java/lang/invoke/MethodHandle" ∧ yJ9_init.cls ≠ "java/lang/invoke/VarHandle" ∧ (parseMethodDescriptor yJ9_init.desc).map (fun d => d.parameters.length) = some 0 := ⟨rfl, hy_J9_init⟩
abbrev kc_J9_init_2 : Cond := .code yJ9_init_2 cJ9_init_2 2 (Option.none : Option Jvm.ClassFile.FieldType)
theorem cd_J9_init_2 : kt_cd kc_J9_init_2 yJ9_init_2 2 := ⟨q1018, by decide, Or.inl ⟨_, _, rfl⟩⟩
theorem in_J9_init_2 : Cond.initialized yJ9_init_2.cls ∈ lw_all := q124
theorem hy_J9_init_2 : yJ9_init_2.cls ≠ "java/lang/invoke/MethodHandle" ∧ yJ9_init_2.cls ≠ "java/lang/invoke/VarHandle" ∧ (parseMethodDescriptor yJ9_init_2.desc).map (fun d => d.parameters.length) = some 1 := by decide +kernel
theorem hi_J9_init_2 : yJ9_init_2.name = "<init>" ∧ yJ9_init_2.cls ≠ "java/lang/invoke/MethodHandle" ∧ yJ9_init_2.cls ≠ "java/lang/invoke/VarHandle" ∧ (parseMethodDescriptor yJ9_init_2.desc).map (fun d => d.parameters.length) = some 1 := ⟨rfl, hy_J9_init_2⟩
abbrev kc_J9_init_3 : Cond := .code yJ9_init_3 cJ9_init_3 2 (Option.none : Option Jvm.ClassFile.FieldType)
theorem cd_J9_init_3 : kt_cd kc_J9_init_3 yJ9_init_3 2 := ⟨q1263, by decide, Or.inl ⟨_, _, rfl⟩⟩
theorem in_J9_init_3 : Cond.initialized yJ9_init_3.cls ∈ lw_all := q124
theorem hy_J9_init_3 : yJ9_init_3.cls ≠ "java/lang/invoke/MethodHandle" ∧ yJ9_init_3.cls ≠ "java/lang/invoke/VarHandle" ∧ (parseMethodDescriptor yJ9_init_3.desc).map (fun d => d.parameters.length) = some 1 := by decide +kernel
theorem hi_J9_init_3 : yJ9_init_3.name = "<init>" ∧ yJ9_init_3.cls ≠ "java/lang/invoke/MethodHandle" ∧ yJ9_init_3.cls ≠ "java/lang/invoke/VarHandle" ∧ (parseMethodDescriptor yJ9_init_3.desc).map (fun d => d.parameters.length) = some 1 := ⟨rfl, hy_J9_init_3⟩
abbrev kc_J9_init_4 : Cond := .code yJ9_init_4 cJ9_init_4 5 (Option.none : Option Jvm.ClassFile.FieldType)
theorem cd_J9_init_4 : kt_cd kc_J9_init_4 yJ9_init_4 5 := ⟨q1665, by decide, Or.inl ⟨_, _, rfl⟩⟩
theorem in_J9_init_4 : Cond.initialized yJ9_init_4.cls ∈ lw_all := q124
theorem hy_J9_init_4 : yJ9_init_4.cls ≠ "java/lang/invoke/MethodHandle" ∧ yJ9_init_4.cls ≠ "java/lang/invoke/VarHandle" ∧ (parseMethodDescriptor yJ9_init_4.desc).map (fun d => d.parameters.length) = some 4 := by decide +kernel
theorem hi_J9_init_4 : yJ9_init_4.name = "<init>" ∧ yJ9_init_4.cls ≠ "java/lang/invoke/MethodHandle" ∧ yJ9_init_4.cls ≠ "java/lang/invoke/VarHandle" ∧ (parseMethodDescriptor yJ9_init_4.desc).map (fun d => d.parameters.length) = some 4 := ⟨rfl, hy_J9_init_4⟩
abbrev kc_J9_toString : Cond := .code yJ9_toString cJ9_toString 3 (Option.some (Jvm.ClassFile.FieldType.object "java/lang/String"))
theorem cd_J9_toString : kt_cd kc_J9_toString yJ9_toString 3 := ⟨q1025, by decide, Or.inl ⟨_, _, rfl⟩⟩
theorem in_J9_toString : Cond.initialized yJ9_toString.cls ∈ lw_all := q124
theorem hy_J9_toString : yJ9_toString.cls ≠ "java/lang/invoke/MethodHandle" ∧ yJ9_toString.cls ≠ "java/lang/invoke/VarHandle" ∧ (parseMethodDescriptor yJ9_toString.desc).map (fun d => d.parameters.length) = some 0 := by decide +kernel
abbrev kc_X0_ask : Cond := .codeWith yX0_ask cX0_ask 4 (Option.some Jvm.ClassFile.FieldType.int) [((0 : Nat), (9 : Nat), (12 : Nat), (18 : Nat))]
theorem cd_X0_ask : kt_cd kc_X0_ask yX0_ask 4 := ⟨q2103, by decide, Or.inr ⟨_, _, _, rfl⟩⟩
theorem in_X0_ask : Cond.initialized yX0_ask.cls ∈ lw_all := q108
theorem hy_X0_ask : yX0_ask.cls ≠ "java/lang/invoke/MethodHandle" ∧ yX0_ask.cls ≠ "java/lang/invoke/VarHandle" ∧ (parseMethodDescriptor yX0_ask.desc).map (fun d => d.parameters.length) = some 3 := by decide +kernel
abbrev kc_X0_canUse : Cond := .codeWith yX0_canUse cX0_canUse 5 (Option.some Jvm.ClassFile.FieldType.int) [((0 : Nat), (17 : Nat), (20 : Nat), (18 : Nat))]
theorem cd_X0_canUse : kt_cd kc_X0_canUse yX0_canUse 5 := ⟨q1929, by decide, Or.inr ⟨_, _, _, rfl⟩⟩
theorem in_X0_canUse : Cond.initialized yX0_canUse.cls ∈ lw_all := q108
theorem hy_X0_canUse : yX0_canUse.cls ≠ "java/lang/invoke/MethodHandle" ∧ yX0_canUse.cls ≠ "java/lang/invoke/VarHandle" ∧ (parseMethodDescriptor yX0_canUse.desc).map (fun d => d.parameters.length) = some 4 := by decide +kernel
abbrev kc_X0_client : Cond := .codeWith yX0_client cX0_client 5 (Option.some Jvm.ClassFile.FieldType.int) [((0 : Nat), (10 : Nat), (13 : Nat), (18 : Nat))]
theorem cd_X0_client : kt_cd kc_X0_client yX0_client 5 := ⟨q1909, by decide, Or.inr ⟨_, _, _, rfl⟩⟩
theorem in_X0_client : Cond.initialized yX0_client.cls ∈ lw_all := q108
theorem hy_X0_client : yX0_client.cls ≠ "java/lang/invoke/MethodHandle" ∧ yX0_client.cls ≠ "java/lang/invoke/VarHandle" ∧ (parseMethodDescriptor yX0_client.desc).map (fun d => d.parameters.length) = some 4 := by decide +kernel
abbrev kc_X0_couldRead : Cond := .codeWith yX0_couldRead cX0_couldRead 5 (Option.some Jvm.ClassFile.FieldType.int) [((0 : Nat), (10 : Nat), (13 : Nat), (18 : Nat))]
theorem cd_X0_couldRead : kt_cd kc_X0_couldRead yX0_couldRead 5 := ⟨q1945, by decide, Or.inr ⟨_, _, _, rfl⟩⟩
theorem in_X0_couldRead : Cond.initialized yX0_couldRead.cls ∈ lw_all := q108
theorem hy_X0_couldRead : yX0_couldRead.cls ≠ "java/lang/invoke/MethodHandle" ∧ yX0_couldRead.cls ≠ "java/lang/invoke/VarHandle" ∧ (parseMethodDescriptor yX0_couldRead.desc).map (fun d => d.parameters.length) = some 4 := by decide +kernel
abbrev kc_X0_damage : Cond := .codeWith yX0_damage cX0_damage 4 (Option.some Jvm.ClassFile.FieldType.int) [((0 : Nat), (9 : Nat), (12 : Nat), (18 : Nat))]
theorem cd_X0_damage : kt_cd kc_X0_damage yX0_damage 4 := ⟨q2025, by decide, Or.inr ⟨_, _, _, rfl⟩⟩
theorem in_X0_damage : Cond.initialized yX0_damage.cls ∈ lw_all := q108
theorem hy_X0_damage : yX0_damage.cls ≠ "java/lang/invoke/MethodHandle" ∧ yX0_damage.cls ≠ "java/lang/invoke/VarHandle" ∧ (parseMethodDescriptor yX0_damage.desc).map (fun d => d.parameters.length) = some 3 := by decide +kernel
abbrev kc_X0_dark : Cond := .codeWith yX0_dark cX0_dark 5 (Option.some Jvm.ClassFile.FieldType.int) [((0 : Nat), (10 : Nat), (13 : Nat), (18 : Nat)), ((0 : Nat), (10 : Nat), (17 : Nat), (13 : Nat))]
theorem cd_X0_dark : kt_cd kc_X0_dark yX0_dark 5 := ⟨q1994, by decide, Or.inr ⟨_, _, _, rfl⟩⟩
theorem in_X0_dark : Cond.initialized yX0_dark.cls ∈ lw_all := q108
theorem hy_X0_dark : yX0_dark.cls ≠ "java/lang/invoke/MethodHandle" ∧ yX0_dark.cls ≠ "java/lang/invoke/VarHandle" ∧ (parseMethodDescriptor yX0_dark.desc).map (fun d => d.parameters.length) = some 4 := by decide +kernel
abbrev kc_X0_drop : Cond := .codeWith yX0_drop cX0_drop 4 (Option.some Jvm.ClassFile.FieldType.int) [((0 : Nat), (9 : Nat), (12 : Nat), (18 : Nat))]
theorem cd_X0_drop : kt_cd kc_X0_drop yX0_drop 4 := ⟨q2096, by decide, Or.inr ⟨_, _, _, rfl⟩⟩
theorem in_X0_drop : Cond.initialized yX0_drop.cls ∈ lw_all := q108
theorem hy_X0_drop : yX0_drop.cls ≠ "java/lang/invoke/MethodHandle" ∧ yX0_drop.cls ≠ "java/lang/invoke/VarHandle" ∧ (parseMethodDescriptor yX0_drop.desc).map (fun d => d.parameters.length) = some 3 := by decide +kernel
abbrev kc_X0_format : Cond := .codeWith yX0_format cX0_format 4 (Option.some Jvm.ClassFile.FieldType.int) [((0 : Nat), (9 : Nat), (12 : Nat), (18 : Nat))]
theorem cd_X0_format : kt_cd kc_X0_format yX0_format 4 := ⟨q2126, by decide, Or.inr ⟨_, _, _, rfl⟩⟩
theorem in_X0_format : Cond.initialized yX0_format.cls ∈ lw_all := q108
theorem hy_X0_format : yX0_format.cls ≠ "java/lang/invoke/MethodHandle" ∧ yX0_format.cls ≠ "java/lang/invoke/VarHandle" ∧ (parseMethodDescriptor yX0_format.desc).map (fun d => d.parameters.length) = some 3 := by decide +kernel
abbrev kc_X0_leastBatch : Cond := .codeWith yX0_leastBatch cX0_leastBatch 4 (Option.some Jvm.ClassFile.FieldType.int) [((0 : Nat), (9 : Nat), (12 : Nat), (13 : Nat))]
theorem cd_X0_leastBatch : kt_cd kc_X0_leastBatch yX0_leastBatch 4 := ⟨q2018, by decide, Or.inr ⟨_, _, _, rfl⟩⟩
theorem in_X0_leastBatch : Cond.initialized yX0_leastBatch.cls ∈ lw_all := q108
theorem hy_X0_leastBatch : yX0_leastBatch.cls ≠ "java/lang/invoke/MethodHandle" ∧ yX0_leastBatch.cls ≠ "java/lang/invoke/VarHandle" ∧ (parseMethodDescriptor yX0_leastBatch.desc).map (fun d => d.parameters.length) = some 3 := by decide +kernel
abbrev kc_X0_load : Cond := .codeWith yX0_load cX0_load 4 (Option.some Jvm.ClassFile.FieldType.int) [((0 : Nat), (9 : Nat), (12 : Nat), (13 : Nat))]
theorem cd_X0_load : kt_cd kc_X0_load yX0_load 4 := ⟨q1484, by decide, Or.inr ⟨_, _, _, rfl⟩⟩
theorem in_X0_load : Cond.initialized yX0_load.cls ∈ lw_all := q108
theorem hy_X0_load : yX0_load.cls ≠ "java/lang/invoke/MethodHandle" ∧ yX0_load.cls ≠ "java/lang/invoke/VarHandle" ∧ (parseMethodDescriptor yX0_load.desc).map (fun d => d.parameters.length) = some 3 := by decide +kernel
abbrev kc_X0_nextAsk : Cond := .codeWith yX0_nextAsk cX0_nextAsk 4 (Option.some Jvm.ClassFile.FieldType.int) [((0 : Nat), (9 : Nat), (12 : Nat), (18 : Nat))]
theorem cd_X0_nextAsk : kt_cd kc_X0_nextAsk yX0_nextAsk 4 := ⟨q1958, by decide, Or.inr ⟨_, _, _, rfl⟩⟩
theorem in_X0_nextAsk : Cond.initialized yX0_nextAsk.cls ∈ lw_all := q108
theorem hy_X0_nextAsk : yX0_nextAsk.cls ≠ "java/lang/invoke/MethodHandle" ∧ yX0_nextAsk.cls ≠ "java/lang/invoke/VarHandle" ∧ (parseMethodDescriptor yX0_nextAsk.desc).map (fun d => d.parameters.length) = some 3 := by decide +kernel
abbrev kc_X0_pass : Cond := .codeWith yX0_pass cX0_pass 4 (Option.some Jvm.ClassFile.FieldType.int) [((0 : Nat), (9 : Nat), (12 : Nat), (13 : Nat))]
theorem cd_X0_pass : kt_cd kc_X0_pass yX0_pass 4 := ⟨q2066, by decide, Or.inr ⟨_, _, _, rfl⟩⟩
theorem in_X0_pass : Cond.initialized yX0_pass.cls ∈ lw_all := q108
theorem hy_X0_pass : yX0_pass.cls ≠ "java/lang/invoke/MethodHandle" ∧ yX0_pass.cls ≠ "java/lang/invoke/VarHandle" ∧ (parseMethodDescriptor yX0_pass.desc).map (fun d => d.parameters.length) = some 3 := by decide +kernel
abbrev kc_X0_query : Cond := .codeWith yX0_query cX0_query 4 (Option.some Jvm.ClassFile.FieldType.int) [((0 : Nat), (9 : Nat), (12 : Nat), (13 : Nat))]
theorem cd_X0_query : kt_cd kc_X0_query yX0_query 4 := ⟨q2141, by decide, Or.inr ⟨_, _, _, rfl⟩⟩
theorem in_X0_query : Cond.initialized yX0_query.cls ∈ lw_all := q108
theorem hy_X0_query : yX0_query.cls ≠ "java/lang/invoke/MethodHandle" ∧ yX0_query.cls ≠ "java/lang/invoke/VarHandle" ∧ (parseMethodDescriptor yX0_query.desc).map (fun d => d.parameters.length) = some 3 := by decide +kernel
abbrev kc_X0_read : Cond := .codeWith yX0_read cX0_read 5 (Option.some Jvm.ClassFile.FieldType.int) [((0 : Nat), (10 : Nat), (13 : Nat), (18 : Nat))]
theorem cd_X0_read : kt_cd kc_X0_read yX0_read 5 := ⟨q2111, by decide, Or.inr ⟨_, _, _, rfl⟩⟩
theorem in_X0_read : Cond.initialized yX0_read.cls ∈ lw_all := q108
theorem hy_X0_read : yX0_read.cls ≠ "java/lang/invoke/MethodHandle" ∧ yX0_read.cls ≠ "java/lang/invoke/VarHandle" ∧ (parseMethodDescriptor yX0_read.desc).map (fun d => d.parameters.length) = some 4 := by decide +kernel
abbrev kc_X0_readersBehind : Cond := .codeWith yX0_readersBehind cX0_readersBehind 5 (Option.some Jvm.ClassFile.FieldType.int) [((0 : Nat), (10 : Nat), (13 : Nat), (18 : Nat)), ((0 : Nat), (10 : Nat), (17 : Nat), (13 : Nat))]
theorem cd_X0_readersBehind : kt_cd kc_X0_readersBehind yX0_readersBehind 5 := ⟨q1969, by decide, Or.inr ⟨_, _, _, rfl⟩⟩
theorem in_X0_readersBehind : Cond.initialized yX0_readersBehind.cls ∈ lw_all := q108
theorem hy_X0_readersBehind : yX0_readersBehind.cls ≠ "java/lang/invoke/MethodHandle" ∧ yX0_readersBehind.cls ≠ "java/lang/invoke/VarHandle" ∧ (parseMethodDescriptor yX0_readersBehind.desc).map (fun d => d.parameters.length) = some 4 := by decide +kernel
abbrev kc_X0_readsBy : Cond := .codeWith yX0_readsBy cX0_readsBy 5 (Option.some Jvm.ClassFile.FieldType.int) [((0 : Nat), (10 : Nat), (13 : Nat), (18 : Nat))]
theorem cd_X0_readsBy : kt_cd kc_X0_readsBy yX0_readsBy 5 := ⟨q1937, by decide, Or.inr ⟨_, _, _, rfl⟩⟩
theorem in_X0_readsBy : Cond.initialized yX0_readsBy.cls ∈ lw_all := q108
theorem hy_X0_readsBy : yX0_readsBy.cls ≠ "java/lang/invoke/MethodHandle" ∧ yX0_readsBy.cls ≠ "java/lang/invoke/VarHandle" ∧ (parseMethodDescriptor yX0_readsBy.desc).map (fun d => d.parameters.length) = some 4 := by decide +kernel
abbrev kc_X0_record : Cond := .codeWith yX0_record cX0_record 5 (Option.some Jvm.ClassFile.FieldType.int) [((0 : Nat), (10 : Nat), (13 : Nat), (18 : Nat))]
theorem cd_X0_record : kt_cd kc_X0_record yX0_record 5 := ⟨q1888, by decide, Or.inr ⟨_, _, _, rfl⟩⟩
theorem in_X0_record : Cond.initialized yX0_record.cls ∈ lw_all := q108
theorem hy_X0_record : yX0_record.cls ≠ "java/lang/invoke/MethodHandle" ∧ yX0_record.cls ≠ "java/lang/invoke/VarHandle" ∧ (parseMethodDescriptor yX0_record.desc).map (fun d => d.parameters.length) = some 4 := by decide +kernel
abbrev kc_X0_setBatch : Cond := .codeWith yX0_setBatch cX0_setBatch 4 (Option.some Jvm.ClassFile.FieldType.int) [((0 : Nat), (9 : Nat), (12 : Nat), (13 : Nat))]
theorem cd_X0_setBatch : kt_cd kc_X0_setBatch yX0_setBatch 4 := ⟨q2118, by decide, Or.inr ⟨_, _, _, rfl⟩⟩
theorem in_X0_setBatch : Cond.initialized yX0_setBatch.cls ∈ lw_all := q108
theorem hy_X0_setBatch : yX0_setBatch.cls ≠ "java/lang/invoke/MethodHandle" ∧ yX0_setBatch.cls ≠ "java/lang/invoke/VarHandle" ∧ (parseMethodDescriptor yX0_setBatch.desc).map (fun d => d.parameters.length) = some 3 := by decide +kernel
abbrev kc_X0_size : Cond := .codeWith yX0_size cX0_size 4 (Option.some Jvm.ClassFile.FieldType.int) [((0 : Nat), (9 : Nat), (12 : Nat), (18 : Nat))]
theorem cd_X0_size : kt_cd kc_X0_size yX0_size 4 := ⟨q1795, by decide, Or.inr ⟨_, _, _, rfl⟩⟩
theorem in_X0_size : Cond.initialized yX0_size.cls ∈ lw_all := q108
theorem hy_X0_size : yX0_size.cls ≠ "java/lang/invoke/MethodHandle" ∧ yX0_size.cls ≠ "java/lang/invoke/VarHandle" ∧ (parseMethodDescriptor yX0_size.desc).map (fun d => d.parameters.length) = some 3 := by decide +kernel
abbrev kc_X0_version : Cond := .codeWith yX0_version cX0_version 5 (Option.some Jvm.ClassFile.FieldType.int) [((0 : Nat), (10 : Nat), (13 : Nat), (18 : Nat))]
theorem cd_X0_version : kt_cd kc_X0_version yX0_version 5 := ⟨q1825, by decide, Or.inr ⟨_, _, _, rfl⟩⟩
theorem in_X0_version : Cond.initialized yX0_version.cls ∈ lw_all := q108
theorem hy_X0_version : yX0_version.cls ≠ "java/lang/invoke/MethodHandle" ∧ yX0_version.cls ≠ "java/lang/invoke/VarHandle" ∧ (parseMethodDescriptor yX0_version.desc).map (fun d => d.parameters.length) = some 4 := by decide +kernel
abbrev kc_X0_withdraw : Cond := .codeWith yX0_withdraw cX0_withdraw 4 (Option.some Jvm.ClassFile.FieldType.int) [((0 : Nat), (9 : Nat), (12 : Nat), (18 : Nat))]
theorem cd_X0_withdraw : kt_cd kc_X0_withdraw yX0_withdraw 4 := ⟨q2089, by decide, Or.inr ⟨_, _, _, rfl⟩⟩
theorem in_X0_withdraw : Cond.initialized yX0_withdraw.cls ∈ lw_all := q108
theorem hy_X0_withdraw : yX0_withdraw.cls ≠ "java/lang/invoke/MethodHandle" ∧ yX0_withdraw.cls ≠ "java/lang/invoke/VarHandle" ∧ (parseMethodDescriptor yX0_withdraw.desc).map (fun d => d.parameters.length) = some 3 := by decide +kernel
abbrev kc_X1_append : Cond := .code yX1_append cX1_append 3 (Option.none : Option Jvm.ClassFile.FieldType)
theorem cd_X1_append : kt_cd kc_X1_append yX1_append 3 := ⟨q456, by decide, Or.inl ⟨_, _, rfl⟩⟩
theorem in_X1_append : Cond.initialized yX1_append.cls ∈ lw_all := q109
theorem hy_X1_append : yX1_append.cls ≠ "java/lang/invoke/MethodHandle" ∧ yX1_append.cls ≠ "java/lang/invoke/VarHandle" ∧ (parseMethodDescriptor yX1_append.desc).map (fun d => d.parameters.length) = some 1 := by decide +kernel
abbrev kc_X1_asInt : Cond := .code yX1_asInt cX1_asInt 1 (Option.some Jvm.ClassFile.FieldType.int)
theorem cd_X1_asInt : kt_cd kc_X1_asInt yX1_asInt 1 := ⟨q575, by decide, Or.inl ⟨_, _, rfl⟩⟩
theorem in_X1_asInt : Cond.initialized yX1_asInt.cls ∈ lw_all := q109
theorem hy_X1_asInt : yX1_asInt.cls ≠ "java/lang/invoke/MethodHandle" ∧ yX1_asInt.cls ≠ "java/lang/invoke/VarHandle" ∧ (parseMethodDescriptor yX1_asInt.desc).map (fun d => d.parameters.length) = some 1 := by decide +kernel
abbrev kc_X1_ask : Cond := .code yX1_ask cX1_ask 4 (Option.some Jvm.ClassFile.FieldType.int)
theorem cd_X1_ask : kt_cd kc_X1_ask yX1_ask 4 := ⟨q2107, by decide, Or.inl ⟨_, _, rfl⟩⟩
theorem in_X1_ask : Cond.initialized yX1_ask.cls ∈ lw_all := q109
theorem hy_X1_ask : yX1_ask.cls ≠ "java/lang/invoke/MethodHandle" ∧ yX1_ask.cls ≠ "java/lang/invoke/VarHandle" ∧ (parseMethodDescriptor yX1_ask.desc).map (fun d => d.parameters.length) = some 1 := by decide +kernel
abbrev kc_X1_begun : Cond := .code yX1_begun cX1_begun 5 (Option.some (Jvm.ClassFile.FieldType.object "KeyTurns$State"))
theorem cd_X1_begun : kt_cd kc_X1_begun yX1_begun 5 := ⟨q199, by decide, Or.inl ⟨_, _, rfl⟩⟩
theorem in_X1_begun : Cond.initialized yX1_begun.cls ∈ lw_all := q109
theorem hy_X1_begun : yX1_begun.cls ≠ "java/lang/invoke/MethodHandle" ∧ yX1_begun.cls ≠ "java/lang/invoke/VarHandle" ∧ (parseMethodDescriptor yX1_begun.desc).map (fun d => d.parameters.length) = some 4 := by decide +kernel
abbrev kc_X1_behind : Cond := .code yX1_behind cX1_behind 4 (Option.some (Jvm.ClassFile.FieldType.object "KeyTurns$State"))
theorem cd_X1_behind : kt_cd kc_X1_behind yX1_behind 4 := ⟨q1978, by decide, Or.inl ⟨_, _, rfl⟩⟩
theorem in_X1_behind : Cond.initialized yX1_behind.cls ∈ lw_all := q109
theorem hy_X1_behind : yX1_behind.cls ≠ "java/lang/invoke/MethodHandle" ∧ yX1_behind.cls ≠ "java/lang/invoke/VarHandle" ∧ (parseMethodDescriptor yX1_behind.desc).map (fun d => d.parameters.length) = some 1 := by decide +kernel
abbrev kc_X1_canUse : Cond := .code yX1_canUse cX1_canUse 5 (Option.some Jvm.ClassFile.FieldType.boolean)
theorem cd_X1_canUse : kt_cd kc_X1_canUse yX1_canUse 5 := ⟨q1933, by decide, Or.inl ⟨_, _, rfl⟩⟩
theorem in_X1_canUse : Cond.initialized yX1_canUse.cls ∈ lw_all := q109
theorem hy_X1_canUse : yX1_canUse.cls ≠ "java/lang/invoke/MethodHandle" ∧ yX1_canUse.cls ≠ "java/lang/invoke/VarHandle" ∧ (parseMethodDescriptor yX1_canUse.desc).map (fun d => d.parameters.length) = some 2 := by decide +kernel
abbrev kc_X1_client : Cond := .code yX1_client cX1_client 4 (Option.some Jvm.ClassFile.FieldType.int)
theorem cd_X1_client : kt_cd kc_X1_client yX1_client 4 := ⟨q1913, by decide, Or.inl ⟨_, _, rfl⟩⟩
theorem in_X1_client : Cond.initialized yX1_client.cls ∈ lw_all := q109
theorem hy_X1_client : yX1_client.cls ≠ "java/lang/invoke/MethodHandle" ∧ yX1_client.cls ≠ "java/lang/invoke/VarHandle" ∧ (parseMethodDescriptor yX1_client.desc).map (fun d => d.parameters.length) = some 2 := by decide +kernel
abbrev kc_X1_clientOf : Cond := .code yX1_clientOf cX1_clientOf 2 (Option.some (Jvm.ClassFile.FieldType.object "KeyTurns$Client"))
theorem cd_X1_clientOf : kt_cd kc_X1_clientOf yX1_clientOf 2 := ⟨q1917, by decide, Or.inl ⟨_, _, rfl⟩⟩
theorem in_X1_clientOf : Cond.initialized yX1_clientOf.cls ∈ lw_all := q109
theorem hy_X1_clientOf : yX1_clientOf.cls ≠ "java/lang/invoke/MethodHandle" ∧ yX1_clientOf.cls ≠ "java/lang/invoke/VarHandle" ∧ (parseMethodDescriptor yX1_clientOf.desc).map (fun d => d.parameters.length) = some 1 := by decide +kernel
abbrev kc_X1_couldRead : Cond := .code yX1_couldRead cX1_couldRead 3 (Option.some Jvm.ClassFile.FieldType.int)
theorem cd_X1_couldRead : kt_cd kc_X1_couldRead yX1_couldRead 3 := ⟨q1949, by decide, Or.inl ⟨_, _, rfl⟩⟩
theorem in_X1_couldRead : Cond.initialized yX1_couldRead.cls ∈ lw_all := q109
theorem hy_X1_couldRead : yX1_couldRead.cls ≠ "java/lang/invoke/MethodHandle" ∧ yX1_couldRead.cls ≠ "java/lang/invoke/VarHandle" ∧ (parseMethodDescriptor yX1_couldRead.desc).map (fun d => d.parameters.length) = some 2 := by decide +kernel
abbrev kc_X1_damage : Cond := .code yX1_damage cX1_damage 3 (Option.some Jvm.ClassFile.FieldType.int)
theorem cd_X1_damage : kt_cd kc_X1_damage yX1_damage 3 := ⟨q2029, by decide, Or.inl ⟨_, _, rfl⟩⟩
theorem in_X1_damage : Cond.initialized yX1_damage.cls ∈ lw_all := q109
theorem hy_X1_damage : yX1_damage.cls ≠ "java/lang/invoke/MethodHandle" ∧ yX1_damage.cls ≠ "java/lang/invoke/VarHandle" ∧ (parseMethodDescriptor yX1_damage.desc).map (fun d => d.parameters.length) = some 1 := by decide +kernel
abbrev kc_X1_dark : Cond := .code yX1_dark cX1_dark 8 (Option.some Jvm.ClassFile.FieldType.int)
theorem cd_X1_dark : kt_cd kc_X1_dark yX1_dark 8 := ⟨q1998, by decide, Or.inl ⟨_, _, rfl⟩⟩
theorem in_X1_dark : Cond.initialized yX1_dark.cls ∈ lw_all := q109
theorem hy_X1_dark : yX1_dark.cls ≠ "java/lang/invoke/MethodHandle" ∧ yX1_dark.cls ≠ "java/lang/invoke/VarHandle" ∧ (parseMethodDescriptor yX1_dark.desc).map (fun d => d.parameters.length) = some 2 := by decide +kernel
abbrev kc_X1_drop : Cond := .code yX1_drop cX1_drop 3 (Option.some Jvm.ClassFile.FieldType.int)
theorem cd_X1_drop : kt_cd kc_X1_drop yX1_drop 3 := ⟨q2100, by decide, Or.inl ⟨_, _, rfl⟩⟩
theorem in_X1_drop : Cond.initialized yX1_drop.cls ∈ lw_all := q109
theorem hy_X1_drop : yX1_drop.cls ≠ "java/lang/invoke/MethodHandle" ∧ yX1_drop.cls ≠ "java/lang/invoke/VarHandle" ∧ (parseMethodDescriptor yX1_drop.desc).map (fun d => d.parameters.length) = some 1 := by decide +kernel
abbrev kc_X1_errorPosition : Cond := .code yX1_errorPosition cX1_errorPosition 1 (Option.some Jvm.ClassFile.FieldType.int)
theorem cd_X1_errorPosition : kt_cd kc_X1_errorPosition yX1_errorPosition 1 := ⟨q460, by decide, Or.inl ⟨_, _, rfl⟩⟩
theorem in_X1_errorPosition : Cond.initialized yX1_errorPosition.cls ∈ lw_all := q109
theorem hy_X1_errorPosition : yX1_errorPosition.cls ≠ "java/lang/invoke/MethodHandle" ∧ yX1_errorPosition.cls ≠ "java/lang/invoke/VarHandle" ∧ (parseMethodDescriptor yX1_errorPosition.desc).map (fun d => d.parameters.length) = some 0 := by decide +kernel
abbrev kc_X1_failed : Cond := .code yX1_failed cX1_failed 3 (Option.some Jvm.ClassFile.FieldType.int)
theorem cd_X1_failed : kt_cd kc_X1_failed yX1_failed 3 := ⟨q1792, by decide, Or.inl ⟨_, _, rfl⟩⟩
theorem in_X1_failed : Cond.initialized yX1_failed.cls ∈ lw_all := q109
theorem hy_X1_failed : yX1_failed.cls ≠ "java/lang/invoke/MethodHandle" ∧ yX1_failed.cls ≠ "java/lang/invoke/VarHandle" ∧ (parseMethodDescriptor yX1_failed.desc).map (fun d => d.parameters.length) = some 2 := by decide +kernel
abbrev kc_X1_feed : Cond := .code yX1_feed cX1_feed 6 (Option.some Jvm.ClassFile.FieldType.int)
theorem cd_X1_feed : kt_cd kc_X1_feed yX1_feed 6 := ⟨q452, by decide, Or.inl ⟨_, _, rfl⟩⟩
theorem in_X1_feed : Cond.initialized yX1_feed.cls ∈ lw_all := q109
theorem hy_X1_feed : yX1_feed.cls ≠ "java/lang/invoke/MethodHandle" ∧ yX1_feed.cls ≠ "java/lang/invoke/VarHandle" ∧ (parseMethodDescriptor yX1_feed.desc).map (fun d => d.parameters.length) = some 5 := by decide +kernel
abbrev kc_X1_format : Cond := .code yX1_format cX1_format 6 (Option.some Jvm.ClassFile.FieldType.int)
theorem cd_X1_format : kt_cd kc_X1_format yX1_format 6 := ⟨q2130, by decide, Or.inl ⟨_, _, rfl⟩⟩
theorem in_X1_format : Cond.initialized yX1_format.cls ∈ lw_all := q109
theorem hy_X1_format : yX1_format.cls ≠ "java/lang/invoke/MethodHandle" ∧ yX1_format.cls ≠ "java/lang/invoke/VarHandle" ∧ (parseMethodDescriptor yX1_format.desc).map (fun d => d.parameters.length) = some 1 := by decide +kernel
abbrev kc_X1_formattedByte : Cond := .code yX1_formattedByte cX1_formattedByte 2 (Option.some Jvm.ClassFile.FieldType.int)
theorem cd_X1_formattedByte : kt_cd kc_X1_formattedByte yX1_formattedByte 2 := ⟨q1457, by decide, Or.inl ⟨_, _, rfl⟩⟩
theorem in_X1_formattedByte : Cond.initialized yX1_formattedByte.cls ∈ lw_all := q109
theorem hy_X1_formattedByte : yX1_formattedByte.cls ≠ "java/lang/invoke/MethodHandle" ∧ yX1_formattedByte.cls ≠ "java/lang/invoke/VarHandle" ∧ (parseMethodDescriptor yX1_formattedByte.desc).map (fun d => d.parameters.length) = some 1 := by decide +kernel
abbrev kc_X1_has : Cond := .code yX1_has cX1_has 2 (Option.some Jvm.ClassFile.FieldType.boolean)
theorem cd_X1_has : kt_cd kc_X1_has yX1_has 2 := ⟨q615, by decide, Or.inl ⟨_, _, rfl⟩⟩
theorem in_X1_has : Cond.initialized yX1_has.cls ∈ lw_all := q109
theorem hy_X1_has : yX1_has.cls ≠ "java/lang/invoke/MethodHandle" ∧ yX1_has.cls ≠ "java/lang/invoke/VarHandle" ∧ (parseMethodDescriptor yX1_has.desc).map (fun d => d.parameters.length) = some 2 := by decide +kernel
abbrev kc_X1_init : Cond := .code yX1_init cX1_init 1 (Option.none : Option Jvm.ClassFile.FieldType)
theorem cd_X1_init : kt_cd kc_X1_init yX1_init 1 := ⟨q171, by decide, Or.inl ⟨_, _, rfl⟩⟩
theorem in_X1_init : Cond.initialized yX1_init.cls ∈ lw_all := q109
theorem hy_X1_init : yX1_init.cls ≠ "java/lang/invoke/MethodHandle" ∧ yX1_init.cls ≠ "java/lang/invoke/VarHandle" ∧ (parseMethodDescriptor yX1_init.desc).map (fun d => d.parameters.length) = some 0 := by decide +kernel
theorem hi_X1_init : yX1_init.name = "<init>" ∧ yX1_init.cls ≠ "java/lang/invoke/MethodHandle" ∧ yX1_init.cls ≠ "java/lang/invoke/VarHandle" ∧ (parseMethodDescriptor yX1_init.desc).map (fun d => d.parameters.length) = some 0 := ⟨rfl, hy_X1_init⟩
abbrev kc_X1_isIn : Cond := .code yX1_isIn cX1_isIn 6 (Option.some Jvm.ClassFile.FieldType.boolean)
theorem cd_X1_isIn : kt_cd kc_X1_isIn yX1_isIn 6 := ⟨q511, by decide, Or.inl ⟨_, _, rfl⟩⟩
theorem in_X1_isIn : Cond.initialized yX1_isIn.cls ∈ lw_all := q109
theorem hy_X1_isIn : yX1_isIn.cls ≠ "java/lang/invoke/MethodHandle" ∧ yX1_isIn.cls ≠ "java/lang/invoke/VarHandle" ∧ (parseMethodDescriptor yX1_isIn.desc).map (fun d => d.parameters.length) = some 3 := by decide +kernel
abbrev kc_X1_isStuck : Cond := .code yX1_isStuck cX1_isStuck 2 (Option.some Jvm.ClassFile.FieldType.boolean)
theorem cd_X1_isStuck : kt_cd kc_X1_isStuck yX1_isStuck 2 := ⟨q2037, by decide, Or.inl ⟨_, _, rfl⟩⟩
theorem in_X1_isStuck : Cond.initialized yX1_isStuck.cls ∈ lw_all := q109
theorem hy_X1_isStuck : yX1_isStuck.cls ≠ "java/lang/invoke/MethodHandle" ∧ yX1_isStuck.cls ≠ "java/lang/invoke/VarHandle" ∧ (parseMethodDescriptor yX1_isStuck.desc).map (fun d => d.parameters.length) = some 1 := by decide +kernel
abbrev kc_X1_keeping : Cond := .code yX1_keeping cX1_keeping 1 (Option.some (Jvm.ClassFile.FieldType.object "KeyTurns$State"))
theorem cd_X1_keeping : kt_cd kc_X1_keeping yX1_keeping 1 := ⟨q629, by decide, Or.inl ⟨_, _, rfl⟩⟩
theorem in_X1_keeping : Cond.initialized yX1_keeping.cls ∈ lw_all := q109
theorem hy_X1_keeping : yX1_keeping.cls ≠ "java/lang/invoke/MethodHandle" ∧ yX1_keeping.cls ≠ "java/lang/invoke/VarHandle" ∧ (parseMethodDescriptor yX1_keeping.desc).map (fun d => d.parameters.length) = some 0 := by decide +kernel
abbrev kc_X1_leastBatch : Cond := .code yX1_leastBatch cX1_leastBatch 5 (Option.some Jvm.ClassFile.FieldType.int)
theorem cd_X1_leastBatch : kt_cd kc_X1_leastBatch yX1_leastBatch 5 := ⟨q2022, by decide, Or.inl ⟨_, _, rfl⟩⟩
theorem in_X1_leastBatch : Cond.initialized yX1_leastBatch.cls ∈ lw_all := q109
theorem hy_X1_leastBatch : yX1_leastBatch.cls ≠ "java/lang/invoke/MethodHandle" ∧ yX1_leastBatch.cls ≠ "java/lang/invoke/VarHandle" ∧ (parseMethodDescriptor yX1_leastBatch.desc).map (fun d => d.parameters.length) = some 1 := by decide +kernel
abbrev kc_X1_load : Cond := .codeWith yX1_load cX1_load 3 (Option.some Jvm.ClassFile.FieldType.int) [((8 : Nat), (24 : Nat), (27 : Nat), (159 : Nat))]
theorem cd_X1_load : kt_cd kc_X1_load yX1_load 3 := ⟨q1489, by decide, Or.inr ⟨_, _, _, rfl⟩⟩
theorem in_X1_load : Cond.initialized yX1_load.cls ∈ lw_all := q109
theorem hy_X1_load : yX1_load.cls ≠ "java/lang/invoke/MethodHandle" ∧ yX1_load.cls ≠ "java/lang/invoke/VarHandle" ∧ (parseMethodDescriptor yX1_load.desc).map (fun d => d.parameters.length) = some 1 := by decide +kernel
abbrev kc_X1_make : Cond := .code yX1_make cX1_make 2 (Option.some Jvm.ClassFile.FieldType.int)
theorem cd_X1_make : kt_cd kc_X1_make yX1_make 2 := ⟨q1410, by decide, Or.inl ⟨_, _, rfl⟩⟩
theorem in_X1_make : Cond.initialized yX1_make.cls ∈ lw_all := q109
theorem hy_X1_make : yX1_make.cls ≠ "java/lang/invoke/MethodHandle" ∧ yX1_make.cls ≠ "java/lang/invoke/VarHandle" ∧ (parseMethodDescriptor yX1_make.desc).map (fun d => d.parameters.length) = some 0 := by decide +kernel
abbrev kc_X1_meanWraps : Cond := .code yX1_meanWraps cX1_meanWraps 2 (Option.some Jvm.ClassFile.FieldType.double)
theorem cd_X1_meanWraps : kt_cd kc_X1_meanWraps yX1_meanWraps 2 := ⟨q568, by decide, Or.inl ⟨_, _, rfl⟩⟩
theorem in_X1_meanWraps : Cond.initialized yX1_meanWraps.cls ∈ lw_all := q109
theorem hy_X1_meanWraps : yX1_meanWraps.cls ≠ "java/lang/invoke/MethodHandle" ∧ yX1_meanWraps.cls ≠ "java/lang/invoke/VarHandle" ∧ (parseMethodDescriptor yX1_meanWraps.desc).map (fun d => d.parameters.length) = some 0 := by decide +kernel
abbrev kc_X1_nextAsk : Cond := .code yX1_nextAsk cX1_nextAsk 4 (Option.some Jvm.ClassFile.FieldType.int)
theorem cd_X1_nextAsk : kt_cd kc_X1_nextAsk yX1_nextAsk 4 := ⟨q1962, by decide, Or.inl ⟨_, _, rfl⟩⟩
theorem in_X1_nextAsk : Cond.initialized yX1_nextAsk.cls ∈ lw_all := q109
theorem hy_X1_nextAsk : yX1_nextAsk.cls ≠ "java/lang/invoke/MethodHandle" ∧ yX1_nextAsk.cls ≠ "java/lang/invoke/VarHandle" ∧ (parseMethodDescriptor yX1_nextAsk.desc).map (fun d => d.parameters.length) = some 1 := by decide +kernel
abbrev kc_X1_nextIssue : Cond := .code yX1_nextIssue cX1_nextIssue 2 (Option.some Jvm.ClassFile.FieldType.int)
theorem cd_X1_nextIssue : kt_cd kc_X1_nextIssue yX1_nextIssue 2 := ⟨q552, by decide, Or.inl ⟨_, _, rfl⟩⟩
theorem in_X1_nextIssue : Cond.initialized yX1_nextIssue.cls ∈ lw_all := q109
theorem hy_X1_nextIssue : yX1_nextIssue.cls ≠ "java/lang/invoke/MethodHandle" ∧ yX1_nextIssue.cls ≠ "java/lang/invoke/VarHandle" ∧ (parseMethodDescriptor yX1_nextIssue.desc).map (fun d => d.parameters.length) = some 0 := by decide +kernel
abbrev kc_X1_of : Cond := .code yX1_of cX1_of 4 (Option.some Jvm.ClassFile.FieldType.int)
theorem cd_X1_of : kt_cd kc_X1_of yX1_of 4 := ⟨q2420, by decide, Or.inl ⟨_, _, rfl⟩⟩
theorem in_X1_of : Cond.initialized yX1_of.cls ∈ lw_all := q109
theorem hy_X1_of : yX1_of.cls ≠ "java/lang/invoke/MethodHandle" ∧ yX1_of.cls ≠ "java/lang/invoke/VarHandle" ∧ (parseMethodDescriptor yX1_of.desc).map (fun d => d.parameters.length) = some 3 := by decide +kernel
abbrev kc_X1_pass : Cond := .code yX1_pass cX1_pass 5 (Option.some Jvm.ClassFile.FieldType.int)
theorem cd_X1_pass : kt_cd kc_X1_pass yX1_pass 5 := ⟨q2070, by decide, Or.inl ⟨_, _, rfl⟩⟩
theorem in_X1_pass : Cond.initialized yX1_pass.cls ∈ lw_all := q109
theorem hy_X1_pass : yX1_pass.cls ≠ "java/lang/invoke/MethodHandle" ∧ yX1_pass.cls ≠ "java/lang/invoke/VarHandle" ∧ (parseMethodDescriptor yX1_pass.desc).map (fun d => d.parameters.length) = some 1 := by decide +kernel
abbrev kc_X1_propertyCode : Cond := .code yX1_propertyCode cX1_propertyCode 2 (Option.some Jvm.ClassFile.FieldType.int)
theorem cd_X1_propertyCode : kt_cd kc_X1_propertyCode yX1_propertyCode 2 := ⟨q2239, by decide, Or.inl ⟨_, _, rfl⟩⟩
theorem in_X1_propertyCode : Cond.initialized yX1_propertyCode.cls ∈ lw_all := q109
theorem hy_X1_propertyCode : yX1_propertyCode.cls ≠ "java/lang/invoke/MethodHandle" ∧ yX1_propertyCode.cls ≠ "java/lang/invoke/VarHandle" ∧ (parseMethodDescriptor yX1_propertyCode.desc).map (fun d => d.parameters.length) = some 1 := by decide +kernel
abbrev kc_X1_query : Cond := .codeWith yX1_query cX1_query 6 (Option.some Jvm.ClassFile.FieldType.int) [((18 : Nat), (23 : Nat), (26 : Nat), (159 : Nat))]
theorem cd_X1_query : kt_cd kc_X1_query yX1_query 6 := ⟨q2145, by decide, Or.inr ⟨_, _, _, rfl⟩⟩
theorem in_X1_query : Cond.initialized yX1_query.cls ∈ lw_all := q109
theorem hy_X1_query : yX1_query.cls ≠ "java/lang/invoke/MethodHandle" ∧ yX1_query.cls ≠ "java/lang/invoke/VarHandle" ∧ (parseMethodDescriptor yX1_query.desc).map (fun d => d.parameters.length) = some 1 := by decide +kernel
abbrev kc_X1_read : Cond := .code yX1_read cX1_read 6 (Option.some Jvm.ClassFile.FieldType.int)
theorem cd_X1_read : kt_cd kc_X1_read yX1_read 6 := ⟨q2115, by decide, Or.inl ⟨_, _, rfl⟩⟩
theorem in_X1_read : Cond.initialized yX1_read.cls ∈ lw_all := q109
theorem hy_X1_read : yX1_read.cls ≠ "java/lang/invoke/MethodHandle" ∧ yX1_read.cls ≠ "java/lang/invoke/VarHandle" ∧ (parseMethodDescriptor yX1_read.desc).map (fun d => d.parameters.length) = some 2 := by decide +kernel
abbrev kc_X1_readable : Cond := .code yX1_readable cX1_readable 4 (Option.some Jvm.ClassFile.FieldType.float)
theorem cd_X1_readable : kt_cd kc_X1_readable yX1_readable 4 := ⟨q593, by decide, Or.inl ⟨_, _, rfl⟩⟩
theorem in_X1_readable : Cond.initialized yX1_readable.cls ∈ lw_all := q109
theorem hy_X1_readable : yX1_readable.cls ≠ "java/lang/invoke/MethodHandle" ∧ yX1_readable.cls ≠ "java/lang/invoke/VarHandle" ∧ (parseMethodDescriptor yX1_readable.desc).map (fun d => d.parameters.length) = some 0 := by decide +kernel
abbrev kc_X1_readersBehind : Cond := .code yX1_readersBehind cX1_readersBehind 4 (Option.some Jvm.ClassFile.FieldType.int)
theorem cd_X1_readersBehind : kt_cd kc_X1_readersBehind yX1_readersBehind 4 := ⟨q1973, by decide, Or.inl ⟨_, _, rfl⟩⟩
theorem in_X1_readersBehind : Cond.initialized yX1_readersBehind.cls ∈ lw_all := q109
theorem hy_X1_readersBehind : yX1_readersBehind.cls ≠ "java/lang/invoke/MethodHandle" ∧ yX1_readersBehind.cls ≠ "java/lang/invoke/VarHandle" ∧ (parseMethodDescriptor yX1_readersBehind.desc).map (fun d => d.parameters.length) = some 2 := by decide +kernel
abbrev kc_X1_readsBy : Cond := .code yX1_readsBy cX1_readsBy 5 (Option.some Jvm.ClassFile.FieldType.int)
theorem cd_X1_readsBy : kt_cd kc_X1_readsBy yX1_readsBy 5 := ⟨q1941, by decide, Or.inl ⟨_, _, rfl⟩⟩
theorem in_X1_readsBy : Cond.initialized yX1_readsBy.cls ∈ lw_all := q109
theorem hy_X1_readsBy : yX1_readsBy.cls ≠ "java/lang/invoke/MethodHandle" ∧ yX1_readsBy.cls ≠ "java/lang/invoke/VarHandle" ∧ (parseMethodDescriptor yX1_readsBy.desc).map (fun d => d.parameters.length) = some 2 := by decide +kernel
abbrev kc_X1_record : Cond := .code yX1_record cX1_record 4 (Option.some Jvm.ClassFile.FieldType.int)
theorem cd_X1_record : kt_cd kc_X1_record yX1_record 4 := ⟨q1892, by decide, Or.inl ⟨_, _, rfl⟩⟩
theorem in_X1_record : Cond.initialized yX1_record.cls ∈ lw_all := q109
theorem hy_X1_record : yX1_record.cls ≠ "java/lang/invoke/MethodHandle" ∧ yX1_record.cls ≠ "java/lang/invoke/VarHandle" ∧ (parseMethodDescriptor yX1_record.desc).map (fun d => d.parameters.length) = some 2 := by decide +kernel
abbrev kc_X1_recordOf : Cond := .code yX1_recordOf cX1_recordOf 2 (Option.some (Jvm.ClassFile.FieldType.object "KeyTurns$Sealed"))
theorem cd_X1_recordOf : kt_cd kc_X1_recordOf yX1_recordOf 2 := ⟨q1896, by decide, Or.inl ⟨_, _, rfl⟩⟩
theorem in_X1_recordOf : Cond.initialized yX1_recordOf.cls ∈ lw_all := q109
theorem hy_X1_recordOf : yX1_recordOf.cls ≠ "java/lang/invoke/MethodHandle" ∧ yX1_recordOf.cls ≠ "java/lang/invoke/VarHandle" ∧ (parseMethodDescriptor yX1_recordOf.desc).map (fun d => d.parameters.length) = some 1 := by decide +kernel
abbrev kc_X1_requireArgument : Cond := .code yX1_requireArgument cX1_requireArgument 1 (Option.none : Option Jvm.ClassFile.FieldType)
theorem cd_X1_requireArgument : kt_cd kc_X1_requireArgument yX1_requireArgument 1 := ⟨q1498, by decide, Or.inl ⟨_, _, rfl⟩⟩
theorem in_X1_requireArgument : Cond.initialized yX1_requireArgument.cls ∈ lw_all := q109
theorem hy_X1_requireArgument : yX1_requireArgument.cls ≠ "java/lang/invoke/MethodHandle" ∧ yX1_requireArgument.cls ≠ "java/lang/invoke/VarHandle" ∧ (parseMethodDescriptor yX1_requireArgument.desc).map (fun d => d.parameters.length) = some 1 := by decide +kernel
abbrev kc_X1_requireElement : Cond := .code yX1_requireElement cX1_requireElement 1 (Option.none : Option Jvm.ClassFile.FieldType)
theorem cd_X1_requireElement : kt_cd kc_X1_requireElement yX1_requireElement 1 := ⟨q1804, by decide, Or.inl ⟨_, _, rfl⟩⟩
theorem in_X1_requireElement : Cond.initialized yX1_requireElement.cls ∈ lw_all := q109
theorem hy_X1_requireElement : yX1_requireElement.cls ≠ "java/lang/invoke/MethodHandle" ∧ yX1_requireElement.cls ≠ "java/lang/invoke/VarHandle" ∧ (parseMethodDescriptor yX1_requireElement.desc).map (fun d => d.parameters.length) = some 1 := by decide +kernel
abbrev kc_X1_restoreSnapshot : Cond := .code yX1_restoreSnapshot cX1_restoreSnapshot 1 (Option.some Jvm.ClassFile.FieldType.boolean)
theorem cd_X1_restoreSnapshot : kt_cd kc_X1_restoreSnapshot yX1_restoreSnapshot 1 := ⟨q1446, by decide, Or.inl ⟨_, _, rfl⟩⟩
theorem in_X1_restoreSnapshot : Cond.initialized yX1_restoreSnapshot.cls ∈ lw_all := q109
theorem hy_X1_restoreSnapshot : yX1_restoreSnapshot.cls ≠ "java/lang/invoke/MethodHandle" ∧ yX1_restoreSnapshot.cls ≠ "java/lang/invoke/VarHandle" ∧ (parseMethodDescriptor yX1_restoreSnapshot.desc).map (fun d => d.parameters.length) = some 0 := by decide +kernel
abbrev kc_X1_rotate : Cond := .code yX1_rotate cX1_rotate 2 (Option.some Jvm.ClassFile.FieldType.int)
theorem cd_X1_rotate : kt_cd kc_X1_rotate yX1_rotate 2 := ⟨q624, by decide, Or.inl ⟨_, _, rfl⟩⟩
theorem in_X1_rotate : Cond.initialized yX1_rotate.cls ∈ lw_all := q109
theorem hy_X1_rotate : yX1_rotate.cls ≠ "java/lang/invoke/MethodHandle" ∧ yX1_rotate.cls ≠ "java/lang/invoke/VarHandle" ∧ (parseMethodDescriptor yX1_rotate.desc).map (fun d => d.parameters.length) = some 0 := by decide +kernel
abbrev kc_X1_saveSnapshot : Cond := .code yX1_saveSnapshot cX1_saveSnapshot 1 (Option.none : Option Jvm.ClassFile.FieldType)
theorem cd_X1_saveSnapshot : kt_cd kc_X1_saveSnapshot yX1_saveSnapshot 1 := ⟨q1442, by decide, Or.inl ⟨_, _, rfl⟩⟩
theorem in_X1_saveSnapshot : Cond.initialized yX1_saveSnapshot.cls ∈ lw_all := q109
theorem hy_X1_saveSnapshot : yX1_saveSnapshot.cls ≠ "java/lang/invoke/MethodHandle" ∧ yX1_saveSnapshot.cls ≠ "java/lang/invoke/VarHandle" ∧ (parseMethodDescriptor yX1_saveSnapshot.desc).map (fun d => d.parameters.length) = some 0 := by decide +kernel
abbrev kc_X1_setBatch : Cond := .code yX1_setBatch cX1_setBatch 3 (Option.some Jvm.ClassFile.FieldType.int)
theorem cd_X1_setBatch : kt_cd kc_X1_setBatch yX1_setBatch 3 := ⟨q2122, by decide, Or.inl ⟨_, _, rfl⟩⟩
theorem in_X1_setBatch : Cond.initialized yX1_setBatch.cls ∈ lw_all := q109
theorem hy_X1_setBatch : yX1_setBatch.cls ≠ "java/lang/invoke/MethodHandle" ∧ yX1_setBatch.cls ≠ "java/lang/invoke/VarHandle" ∧ (parseMethodDescriptor yX1_setBatch.desc).map (fun d => d.parameters.length) = some 1 := by decide +kernel
abbrev kc_X1_size : Cond := .code yX1_size cX1_size 2 (Option.some Jvm.ClassFile.FieldType.int)
theorem cd_X1_size : kt_cd kc_X1_size yX1_size 2 := ⟨q1800, by decide, Or.inl ⟨_, _, rfl⟩⟩
theorem in_X1_size : Cond.initialized yX1_size.cls ∈ lw_all := q109
theorem hy_X1_size : yX1_size.cls ≠ "java/lang/invoke/MethodHandle" ∧ yX1_size.cls ≠ "java/lang/invoke/VarHandle" ∧ (parseMethodDescriptor yX1_size.desc).map (fun d => d.parameters.length) = some 1 := by decide +kernel
abbrev kc_X1_startReading : Cond := .code yX1_startReading cX1_startReading 3 (Option.none : Option Jvm.ClassFile.FieldType)
theorem cd_X1_startReading : kt_cd kc_X1_startReading yX1_startReading 3 := ⟨q1494, by decide, Or.inl ⟨_, _, rfl⟩⟩
theorem in_X1_startReading : Cond.initialized yX1_startReading.cls ∈ lw_all := q109
theorem hy_X1_startReading : yX1_startReading.cls ≠ "java/lang/invoke/MethodHandle" ∧ yX1_startReading.cls ≠ "java/lang/invoke/VarHandle" ∧ (parseMethodDescriptor yX1_startReading.desc).map (fun d => d.parameters.length) = some 2 := by decide +kernel
abbrev kc_X1_sweepAt : Cond := .code yX1_sweepAt cX1_sweepAt 2 (Option.some Jvm.ClassFile.FieldType.int)
theorem cd_X1_sweepAt : kt_cd kc_X1_sweepAt yX1_sweepAt 2 := ⟨q464, by decide, Or.inl ⟨_, _, rfl⟩⟩
theorem in_X1_sweepAt : Cond.initialized yX1_sweepAt.cls ∈ lw_all := q109
theorem hy_X1_sweepAt : yX1_sweepAt.cls ≠ "java/lang/invoke/MethodHandle" ∧ yX1_sweepAt.cls ≠ "java/lang/invoke/VarHandle" ∧ (parseMethodDescriptor yX1_sweepAt.desc).map (fun d => d.parameters.length) = some 1 := by decide +kernel
abbrev kc_X1_undo : Cond := .code yX1_undo cX1_undo 1 (Option.some Jvm.ClassFile.FieldType.int)
theorem cd_X1_undo : kt_cd kc_X1_undo yX1_undo 1 := ⟨q1423, by decide, Or.inl ⟨_, _, rfl⟩⟩
theorem in_X1_undo : Cond.initialized yX1_undo.cls ∈ lw_all := q109
theorem hy_X1_undo : yX1_undo.cls ≠ "java/lang/invoke/MethodHandle" ∧ yX1_undo.cls ≠ "java/lang/invoke/VarHandle" ∧ (parseMethodDescriptor yX1_undo.desc).map (fun d => d.parameters.length) = some 0 := by decide +kernel
abbrev kc_X1_undoCount : Cond := .code yX1_undoCount cX1_undoCount 1 (Option.some Jvm.ClassFile.FieldType.int)
theorem cd_X1_undoCount : kt_cd kc_X1_undoCount yX1_undoCount 1 := ⟨q1419, by decide, Or.inl ⟨_, _, rfl⟩⟩
theorem in_X1_undoCount : Cond.initialized yX1_undoCount.cls ∈ lw_all := q109
theorem hy_X1_undoCount : yX1_undoCount.cls ≠ "java/lang/invoke/MethodHandle" ∧ yX1_undoCount.cls ≠ "java/lang/invoke/VarHandle" ∧ (parseMethodDescriptor yX1_undoCount.desc).map (fun d => d.parameters.length) = some 0 := by decide +kernel
abbrev kc_X1_version : Cond := .code yX1_version cX1_version 4 (Option.some Jvm.ClassFile.FieldType.int)
theorem cd_X1_version : kt_cd kc_X1_version yX1_version 4 := ⟨q1829, by decide, Or.inl ⟨_, _, rfl⟩⟩
theorem in_X1_version : Cond.initialized yX1_version.cls ∈ lw_all := q109
theorem hy_X1_version : yX1_version.cls ≠ "java/lang/invoke/MethodHandle" ∧ yX1_version.cls ≠ "java/lang/invoke/VarHandle" ∧ (parseMethodDescriptor yX1_version.desc).map (fun d => d.parameters.length) = some 2 := by decide +kernel
abbrev kc_X1_versionOf : Cond := .code yX1_versionOf cX1_versionOf 2 (Option.some (Jvm.ClassFile.FieldType.object "KeyTurns$Version"))
theorem cd_X1_versionOf : kt_cd kc_X1_versionOf yX1_versionOf 2 := ⟨q1833, by decide, Or.inl ⟨_, _, rfl⟩⟩
theorem in_X1_versionOf : Cond.initialized yX1_versionOf.cls ∈ lw_all := q109
theorem hy_X1_versionOf : yX1_versionOf.cls ≠ "java/lang/invoke/MethodHandle" ∧ yX1_versionOf.cls ≠ "java/lang/invoke/VarHandle" ∧ (parseMethodDescriptor yX1_versionOf.desc).map (fun d => d.parameters.length) = some 1 := by decide +kernel
abbrev kc_X1_withdraw : Cond := .code yX1_withdraw cX1_withdraw 3 (Option.some Jvm.ClassFile.FieldType.int)
theorem cd_X1_withdraw : kt_cd kc_X1_withdraw yX1_withdraw 3 := ⟨q2093, by decide, Or.inl ⟨_, _, rfl⟩⟩
theorem in_X1_withdraw : Cond.initialized yX1_withdraw.cls ∈ lw_all := q109
theorem hy_X1_withdraw : yX1_withdraw.cls ≠ "java/lang/invoke/MethodHandle" ∧ yX1_withdraw.cls ≠ "java/lang/invoke/VarHandle" ∧ (parseMethodDescriptor yX1_withdraw.desc).map (fun d => d.parameters.length) = some 1 := by decide +kernel
abbrev kc_X1_withdrawnAt : Cond := .code yX1_withdrawnAt cX1_withdrawnAt 2 (Option.some Jvm.ClassFile.FieldType.int)
theorem cd_X1_withdrawnAt : kt_cd kc_X1_withdrawnAt yX1_withdrawnAt 2 := ⟨q1839, by decide, Or.inl ⟨_, _, rfl⟩⟩
theorem in_X1_withdrawnAt : Cond.initialized yX1_withdrawnAt.cls ∈ lw_all := q109
theorem hy_X1_withdrawnAt : yX1_withdrawnAt.cls ≠ "java/lang/invoke/MethodHandle" ∧ yX1_withdrawnAt.cls ≠ "java/lang/invoke/VarHandle" ∧ (parseMethodDescriptor yX1_withdrawnAt.desc).map (fun d => d.parameters.length) = some 1 := by decide +kernel
abbrev kc_X10_copy : Cond := .code yX10_copy cX10_copy 2 (Option.some (Jvm.ClassFile.FieldType.object "KeyTurns$Sealed"))
theorem cd_X10_copy : kt_cd kc_X10_copy yX10_copy 2 := ⟨q741, by decide, Or.inl ⟨_, _, rfl⟩⟩
theorem in_X10_copy : Cond.initialized yX10_copy.cls ∈ lw_all := q142
theorem hy_X10_copy : yX10_copy.cls ≠ "java/lang/invoke/MethodHandle" ∧ yX10_copy.cls ≠ "java/lang/invoke/VarHandle" ∧ (parseMethodDescriptor yX10_copy.desc).map (fun d => d.parameters.length) = some 0 := by decide +kernel
abbrev kc_X10_init : Cond := .code yX10_init cX10_init 2 (Option.none : Option Jvm.ClassFile.FieldType)
theorem cd_X10_init : kt_cd kc_X10_init yX10_init 2 := ⟨q746, by decide, Or.inl ⟨_, _, rfl⟩⟩
theorem in_X10_init : Cond.initialized yX10_init.cls ∈ lw_all := q142
theorem hy_X10_init : yX10_init.cls ≠ "java/lang/invoke/MethodHandle" ∧ yX10_init.cls ≠ "java/lang/invoke/VarHandle" ∧ (parseMethodDescriptor yX10_init.desc).map (fun d => d.parameters.length) = some 1 := by decide +kernel
theorem hi_X10_init : yX10_init.name = "<init>" ∧ yX10_init.cls ≠ "java/lang/invoke/MethodHandle" ∧ yX10_init.cls ≠ "java/lang/invoke/VarHandle" ∧ (parseMethodDescriptor yX10_init.desc).map (fun d => d.parameters.length) = some 1 := ⟨rfl, hy_X10_init⟩
abbrev kc_X10_set : Cond := .code yX10_set cX10_set 3 (Option.some Jvm.ClassFile.FieldType.int)
theorem cd_X10_set : kt_cd kc_X10_set yX10_set 3 := ⟨q607, by decide, Or.inl ⟨_, _, rfl⟩⟩
theorem in_X10_set : Cond.initialized yX10_set.cls ∈ lw_all := q142
theorem hy_X10_set : yX10_set.cls ≠ "java/lang/invoke/MethodHandle" ∧ yX10_set.cls ≠ "java/lang/invoke/VarHandle" ∧ (parseMethodDescriptor yX10_set.desc).map (fun d => d.parameters.length) = some 0 := by decide +kernel
abbrev kc_X11_of : Cond := .code yX11_of cX11_of 7 (Option.some Jvm.ClassFile.FieldType.int)
theorem cd_X11_of : kt_cd kc_X11_of yX11_of 7 := ⟨q1843, by decide, Or.inl ⟨_, _, rfl⟩⟩
theorem in_X11_of : Cond.initialized yX11_of.cls ∈ lw_all := q147
theorem hy_X11_of : yX11_of.cls ≠ "java/lang/invoke/MethodHandle" ∧ yX11_of.cls ≠ "java/lang/invoke/VarHandle" ∧ (parseMethodDescriptor yX11_of.desc).map (fun d => d.parameters.length) = some 2 := by decide +kernel
abbrev kc_X11_values : Cond := .code yX11_values cX11_values 0 (Option.some (Jvm.ClassFile.FieldType.array (Jvm.ClassFile.FieldType.object "KeyTurns$Standing")))
theorem cd_X11_values : kt_cd kc_X11_values yX11_values 0 := ⟨q1846, by decide, Or.inl ⟨_, _, rfl⟩⟩
theorem in_X11_values : Cond.initialized yX11_values.cls ∈ lw_all := q147
theorem hy_X11_values : yX11_values.cls ≠ "java/lang/invoke/MethodHandle" ∧ yX11_values.cls ≠ "java/lang/invoke/VarHandle" ∧ (parseMethodDescriptor yX11_values.desc).map (fun d => d.parameters.length) = some 0 := by decide +kernel
abbrev kc_X12_init : Cond := .code yX12_init cX12_init 3 (Option.none : Option Jvm.ClassFile.FieldType)
theorem cd_X12_init : kt_cd kc_X12_init yX12_init 3 := ⟨q1366, by decide, Or.inl ⟨_, _, rfl⟩⟩
theorem in_X12_init : Cond.initialized yX12_init.cls ∈ lw_all := q154
theorem hy_X12_init : yX12_init.cls ≠ "java/lang/invoke/MethodHandle" ∧ yX12_init.cls ≠ "java/lang/invoke/VarHandle" ∧ (parseMethodDescriptor yX12_init.desc).map (fun d => d.parameters.length) = some 2 := by decide +kernel
theorem hi_X12_init : yX12_init.name = "<init>" ∧ yX12_init.cls ≠ "java/lang/invoke/MethodHandle" ∧ yX12_init.cls ≠ "java/lang/invoke/VarHandle" ∧ (parseMethodDescriptor yX12_init.desc).map (fun d => d.parameters.length) = some 2 := ⟨rfl, hy_X12_init⟩
abbrev kc_X13_conjunction : Cond := .code yX13_conjunction cX13_conjunction 2 (Option.some (Jvm.ClassFile.FieldType.object "KeyTurns$Test"))
theorem cd_X13_conjunction : kt_cd kc_X13_conjunction yX13_conjunction 2 := ⟨q2192, by decide, Or.inl ⟨_, _, rfl⟩⟩
theorem in_X13_conjunction : Cond.initialized yX13_conjunction.cls ∈ lw_all := q156
theorem hy_X13_conjunction : yX13_conjunction.cls ≠ "java/lang/invoke/MethodHandle" ∧ yX13_conjunction.cls ≠ "java/lang/invoke/VarHandle" ∧ (parseMethodDescriptor yX13_conjunction.desc).map (fun d => d.parameters.length) = some 0 := by decide +kernel
abbrev kc_X13_enter : Cond := .code yX13_enter cX13_enter 1 (Option.none : Option Jvm.ClassFile.FieldType)
theorem cd_X13_enter : kt_cd kc_X13_enter yX13_enter 1 := ⟨q2205, by decide, Or.inl ⟨_, _, rfl⟩⟩
theorem in_X13_enter : Cond.initialized yX13_enter.cls ∈ lw_all := q156
theorem hy_X13_enter : yX13_enter.cls ≠ "java/lang/invoke/MethodHandle" ∧ yX13_enter.cls ≠ "java/lang/invoke/VarHandle" ∧ (parseMethodDescriptor yX13_enter.desc).map (fun d => d.parameters.length) = some 0 := by decide +kernel
abbrev kc_X13_factor : Cond := .code yX13_factor cX13_factor 3 (Option.some (Jvm.ClassFile.FieldType.object "KeyTurns$Test"))
theorem cd_X13_factor : kt_cd kc_X13_factor yX13_factor 3 := ⟨q2196, by decide, Or.inl ⟨_, _, rfl⟩⟩
theorem in_X13_factor : Cond.initialized yX13_factor.cls ∈ lw_all := q156
theorem hy_X13_factor : yX13_factor.cls ≠ "java/lang/invoke/MethodHandle" ∧ yX13_factor.cls ≠ "java/lang/invoke/VarHandle" ∧ (parseMethodDescriptor yX13_factor.desc).map (fun d => d.parameters.length) = some 0 := by decide +kernel
abbrev kc_X13_init : Cond := .code yX13_init cX13_init 3 (Option.none : Option Jvm.ClassFile.FieldType)
theorem cd_X13_init : kt_cd kc_X13_init yX13_init 3 := ⟨q2150, by decide, Or.inl ⟨_, _, rfl⟩⟩
theorem in_X13_init : Cond.initialized yX13_init.cls ∈ lw_all := q156
theorem hy_X13_init : yX13_init.cls ≠ "java/lang/invoke/MethodHandle" ∧ yX13_init.cls ≠ "java/lang/invoke/VarHandle" ∧ (parseMethodDescriptor yX13_init.desc).map (fun d => d.parameters.length) = some 2 := by decide +kernel
theorem hi_X13_init : yX13_init.name = "<init>" ∧ yX13_init.cls ≠ "java/lang/invoke/MethodHandle" ∧ yX13_init.cls ≠ "java/lang/invoke/VarHandle" ∧ (parseMethodDescriptor yX13_init.desc).map (fun d => d.parameters.length) = some 2 := ⟨rfl, hy_X13_init⟩
abbrev kc_X13_operand : Cond := .code yX13_operand cX13_operand 2 (Option.some Jvm.ClassFile.FieldType.int)
theorem cd_X13_operand : kt_cd kc_X13_operand yX13_operand 2 := ⟨q2232, by decide, Or.inl ⟨_, _, rfl⟩⟩
theorem in_X13_operand : Cond.initialized yX13_operand.cls ∈ lw_all := q156
theorem hy_X13_operand : yX13_operand.cls ≠ "java/lang/invoke/MethodHandle" ∧ yX13_operand.cls ≠ "java/lang/invoke/VarHandle" ∧ (parseMethodDescriptor yX13_operand.desc).map (fun d => d.parameters.length) = some 0 := by decide +kernel
abbrev kc_X13_parse : Cond := .code yX13_parse cX13_parse 2 (Option.some (Jvm.ClassFile.FieldType.object "KeyTurns$Test"))
theorem cd_X13_parse : kt_cd kc_X13_parse yX13_parse 2 := ⟨q2174, by decide, Or.inl ⟨_, _, rfl⟩⟩
theorem in_X13_parse : Cond.initialized yX13_parse.cls ∈ lw_all := q156
theorem hy_X13_parse : yX13_parse.cls ≠ "java/lang/invoke/MethodHandle" ∧ yX13_parse.cls ≠ "java/lang/invoke/VarHandle" ∧ (parseMethodDescriptor yX13_parse.desc).map (fun d => d.parameters.length) = some 0 := by decide +kernel
abbrev kc_X13_test : Cond := .code yX13_test cX13_test 2 (Option.some (Jvm.ClassFile.FieldType.object "KeyTurns$Test"))
theorem cd_X13_test : kt_cd kc_X13_test yX13_test 2 := ⟨q2186, by decide, Or.inl ⟨_, _, rfl⟩⟩
theorem in_X13_test : Cond.initialized yX13_test.cls ∈ lw_all := q156
theorem hy_X13_test : yX13_test.cls ≠ "java/lang/invoke/MethodHandle" ∧ yX13_test.cls ≠ "java/lang/invoke/VarHandle" ∧ (parseMethodDescriptor yX13_test.desc).map (fun d => d.parameters.length) = some 0 := by decide +kernel
abbrev kc_X14_init : Cond := .code yX14_init cX14_init 1 (Option.none : Option Jvm.ClassFile.FieldType)
theorem cd_X14_init : kt_cd kc_X14_init yX14_init 1 := ⟨q2216, by decide, Or.inl ⟨_, _, rfl⟩⟩
theorem in_X14_init : Cond.initialized yX14_init.cls ∈ lw_all := q157
theorem hy_X14_init : yX14_init.cls ≠ "java/lang/invoke/MethodHandle" ∧ yX14_init.cls ≠ "java/lang/invoke/VarHandle" ∧ (parseMethodDescriptor yX14_init.desc).map (fun d => d.parameters.length) = some 0 := by decide +kernel
theorem hi_X14_init : yX14_init.name = "<init>" ∧ yX14_init.cls ≠ "java/lang/invoke/MethodHandle" ∧ yX14_init.cls ≠ "java/lang/invoke/VarHandle" ∧ (parseMethodDescriptor yX14_init.desc).map (fun d => d.parameters.length) = some 0 := ⟨rfl, hy_X14_init⟩
abbrev kc_X15_holds : Cond := .code yX15_holds cX15_holds 3 (Option.some Jvm.ClassFile.FieldType.boolean)
theorem cd_X15_holds : kt_cd kc_X15_holds yX15_holds 3 := ⟨q2440, by decide, Or.inl ⟨_, _, rfl⟩⟩
theorem in_X15_holds : Cond.initialized yX15_holds.cls ∈ lw_all := q158
theorem hy_X15_holds : yX15_holds.cls ≠ "java/lang/invoke/MethodHandle" ∧ yX15_holds.cls ≠ "java/lang/invoke/VarHandle" ∧ (parseMethodDescriptor yX15_holds.desc).map (fun d => d.parameters.length) = some 2 := by decide +kernel
abbrev kc_X15_init : Cond := .code yX15_init cX15_init 2 (Option.none : Option Jvm.ClassFile.FieldType)
theorem cd_X15_init : kt_cd kc_X15_init yX15_init 2 := ⟨q2213, by decide, Or.inl ⟨_, _, rfl⟩⟩
theorem in_X15_init : Cond.initialized yX15_init.cls ∈ lw_all := q158
theorem hy_X15_init : yX15_init.cls ≠ "java/lang/invoke/MethodHandle" ∧ yX15_init.cls ≠ "java/lang/invoke/VarHandle" ∧ (parseMethodDescriptor yX15_init.desc).map (fun d => d.parameters.length) = some 1 := by decide +kernel
theorem hi_X15_init : yX15_init.name = "<init>" ∧ yX15_init.cls ≠ "java/lang/invoke/MethodHandle" ∧ yX15_init.cls ≠ "java/lang/invoke/VarHandle" ∧ (parseMethodDescriptor yX15_init.desc).map (fun d => d.parameters.length) = some 1 := ⟨rfl, hy_X15_init⟩
abbrev kc_X16_holds : Cond := .code yX16_holds cX16_holds 5 (Option.some Jvm.ClassFile.FieldType.boolean)
theorem cd_X16_holds : kt_cd kc_X16_holds yX16_holds 5 := ⟨q2414, by decide, Or.inl ⟨_, _, rfl⟩⟩
theorem in_X16_holds : Cond.initialized yX16_holds.cls ∈ lw_all := q165
theorem hy_X16_holds : yX16_holds.cls ≠ "java/lang/invoke/MethodHandle" ∧ yX16_holds.cls ≠ "java/lang/invoke/VarHandle" ∧ (parseMethodDescriptor yX16_holds.desc).map (fun d => d.parameters.length) = some 2 := by decide +kernel
abbrev kc_X16_init : Cond := .code yX16_init cX16_init 4 (Option.none : Option Jvm.ClassFile.FieldType)
theorem cd_X16_init : kt_cd kc_X16_init yX16_init 4 := ⟨q2379, by decide, Or.inl ⟨_, _, rfl⟩⟩
theorem in_X16_init : Cond.initialized yX16_init.cls ∈ lw_all := q165
theorem hy_X16_init : yX16_init.cls ≠ "java/lang/invoke/MethodHandle" ∧ yX16_init.cls ≠ "java/lang/invoke/VarHandle" ∧ (parseMethodDescriptor yX16_init.desc).map (fun d => d.parameters.length) = some 3 := by decide +kernel
theorem hi_X16_init : yX16_init.name = "<init>" ∧ yX16_init.cls ≠ "java/lang/invoke/MethodHandle" ∧ yX16_init.cls ≠ "java/lang/invoke/VarHandle" ∧ (parseMethodDescriptor yX16_init.desc).map (fun d => d.parameters.length) = some 3 := ⟨rfl, hy_X16_init⟩
abbrev kc_X16_value : Cond := .code yX16_value cX16_value 3 (Option.some Jvm.ClassFile.FieldType.int)
theorem cd_X16_value : kt_cd kc_X16_value yX16_value 3 := ⟨q2417, by decide, Or.inl ⟨_, _, rfl⟩⟩
theorem in_X16_value : Cond.initialized yX16_value.cls ∈ lw_all := q165
theorem hy_X16_value : yX16_value.cls ≠ "java/lang/invoke/MethodHandle" ∧ yX16_value.cls ≠ "java/lang/invoke/VarHandle" ∧ (parseMethodDescriptor yX16_value.desc).map (fun d => d.parameters.length) = some 3 := by decide +kernel
abbrev kc_X17_holds : Cond := .code yX17_holds cX17_holds 4 (Option.some Jvm.ClassFile.FieldType.boolean)
theorem cd_X17_holds : kt_cd kc_X17_holds yX17_holds 4 := ⟨q2434, by decide, Or.inl ⟨_, _, rfl⟩⟩
theorem in_X17_holds : Cond.initialized yX17_holds.cls ∈ lw_all := q166
theorem hy_X17_holds : yX17_holds.cls ≠ "java/lang/invoke/MethodHandle" ∧ yX17_holds.cls ≠ "java/lang/invoke/VarHandle" ∧ (parseMethodDescriptor yX17_holds.desc).map (fun d => d.parameters.length) = some 2 := by decide +kernel
abbrev kc_X17_init : Cond := .code yX17_init cX17_init 3 (Option.none : Option Jvm.ClassFile.FieldType)
theorem cd_X17_init : kt_cd kc_X17_init yX17_init 3 := ⟨q2397, by decide, Or.inl ⟨_, _, rfl⟩⟩
theorem in_X17_init : Cond.initialized yX17_init.cls ∈ lw_all := q166
theorem hy_X17_init : yX17_init.cls ≠ "java/lang/invoke/MethodHandle" ∧ yX17_init.cls ≠ "java/lang/invoke/VarHandle" ∧ (parseMethodDescriptor yX17_init.desc).map (fun d => d.parameters.length) = some 2 := by decide +kernel
theorem hi_X17_init : yX17_init.name = "<init>" ∧ yX17_init.cls ≠ "java/lang/invoke/MethodHandle" ∧ yX17_init.cls ≠ "java/lang/invoke/VarHandle" ∧ (parseMethodDescriptor yX17_init.desc).map (fun d => d.parameters.length) = some 2 := ⟨rfl, hy_X17_init⟩
abbrev kc_X18_fits : Cond := .code yX18_fits cX18_fits 3 (Option.some Jvm.ClassFile.FieldType.boolean)
theorem cd_X18_fits : kt_cd kc_X18_fits yX18_fits 3 := ⟨q1860, by decide, Or.inl ⟨_, _, rfl⟩⟩
theorem hy_X18_fits : yX18_fits.cls ≠ "java/lang/invoke/MethodHandle" ∧ yX18_fits.cls ≠ "java/lang/invoke/VarHandle" ∧ (parseMethodDescriptor yX18_fits.desc).map (fun d => d.parameters.length) = some 2 := by decide +kernel
abbrev kc_X19_fits : Cond := .code yX19_fits cX19_fits 3 (Option.some Jvm.ClassFile.FieldType.boolean)
theorem cd_X19_fits : kt_cd kc_X19_fits yX19_fits 3 := ⟨q1863, by decide, Or.inl ⟨_, _, rfl⟩⟩
theorem hy_X19_fits : yX19_fits.cls ≠ "java/lang/invoke/MethodHandle" ∧ yX19_fits.cls ≠ "java/lang/invoke/VarHandle" ∧ (parseMethodDescriptor yX19_fits.desc).map (fun d => d.parameters.length) = some 2 := by decide +kernel
abbrev kc_X2_ask : Cond := .code yX2_ask cX2_ask 4 (Option.some Jvm.ClassFile.FieldType.int)
theorem cd_X2_ask : kt_cd kc_X2_ask yX2_ask 4 := ⟨q1788, by decide, Or.inl ⟨_, _, rfl⟩⟩
theorem in_X2_ask : Cond.initialized yX2_ask.cls ∈ lw_all := q112
theorem hy_X2_ask : yX2_ask.cls ≠ "java/lang/invoke/MethodHandle" ∧ yX2_ask.cls ≠ "java/lang/invoke/VarHandle" ∧ (parseMethodDescriptor yX2_ask.desc).map (fun d => d.parameters.length) = some 1 := by decide +kernel
abbrev kc_X2_canWithdraw : Cond := .code yX2_canWithdraw cX2_canWithdraw 3 (Option.some Jvm.ClassFile.FieldType.boolean)
theorem cd_X2_canWithdraw : kt_cd kc_X2_canWithdraw yX2_canWithdraw 3 := ⟨q2033, by decide, Or.inl ⟨_, _, rfl⟩⟩
theorem in_X2_canWithdraw : Cond.initialized yX2_canWithdraw.cls ∈ lw_all := q112
theorem hy_X2_canWithdraw : yX2_canWithdraw.cls ≠ "java/lang/invoke/MethodHandle" ∧ yX2_canWithdraw.cls ≠ "java/lang/invoke/VarHandle" ∧ (parseMethodDescriptor yX2_canWithdraw.desc).map (fun d => d.parameters.length) = some 1 := by decide +kernel
abbrev kc_X2_clean : Cond := .code yX2_clean cX2_clean 3 (Option.some Jvm.ClassFile.FieldType.int)
theorem cd_X2_clean : kt_cd kc_X2_clean yX2_clean 3 := ⟨q1380, by decide, Or.inl ⟨_, _, rfl⟩⟩
theorem in_X2_clean : Cond.initialized yX2_clean.cls ∈ lw_all := q112
theorem hy_X2_clean : yX2_clean.cls ≠ "java/lang/invoke/MethodHandle" ∧ yX2_clean.cls ≠ "java/lang/invoke/VarHandle" ∧ (parseMethodDescriptor yX2_clean.desc).map (fun d => d.parameters.length) = some 0 := by decide +kernel
abbrev kc_X2_cleans : Cond := .code yX2_cleans cX2_cleans 5 (Option.some Jvm.ClassFile.FieldType.boolean)
theorem cd_X2_cleans : kt_cd kc_X2_cleans yX2_cleans 5 := ⟨q1384, by decide, Or.inl ⟨_, _, rfl⟩⟩
theorem in_X2_cleans : Cond.initialized yX2_cleans.cls ∈ lw_all := q112
theorem hy_X2_cleans : yX2_cleans.cls ≠ "java/lang/invoke/MethodHandle" ∧ yX2_cleans.cls ≠ "java/lang/invoke/VarHandle" ∧ (parseMethodDescriptor yX2_cleans.desc).map (fun d => d.parameters.length) = some 1 := by decide +kernel
abbrev kc_X2_copy : Cond := .code yX2_copy cX2_copy 6 (Option.some (Jvm.ClassFile.FieldType.object "KeyTurns$State"))
theorem cd_X2_copy : kt_cd kc_X2_copy yX2_copy 6 := ⟨q734, by decide, Or.inl ⟨_, _, rfl⟩⟩
theorem in_X2_copy : Cond.initialized yX2_copy.cls ∈ lw_all := q112
theorem hy_X2_copy : yX2_copy.cls ≠ "java/lang/invoke/MethodHandle" ∧ yX2_copy.cls ≠ "java/lang/invoke/VarHandle" ∧ (parseMethodDescriptor yX2_copy.desc).map (fun d => d.parameters.length) = some 2 := by decide +kernel
abbrev kc_X2_could : Cond := .code yX2_could cX2_could 4 (Option.some Jvm.ClassFile.FieldType.int)
theorem cd_X2_could : kt_cd kc_X2_could yX2_could 4 := ⟨q1953, by decide, Or.inl ⟨_, _, rfl⟩⟩
theorem in_X2_could : Cond.initialized yX2_could.cls ∈ lw_all := q112
theorem hy_X2_could : yX2_could.cls ≠ "java/lang/invoke/MethodHandle" ∧ yX2_could.cls ≠ "java/lang/invoke/VarHandle" ∧ (parseMethodDescriptor yX2_could.desc).map (fun d => d.parameters.length) = some 2 := by decide +kernel
abbrev kc_X2_count : Cond := .code yX2_count cX2_count 4 (Option.some Jvm.ClassFile.FieldType.int)
theorem cd_X2_count : kt_cd kc_X2_count yX2_count 4 := ⟨q1818, by decide, Or.inl ⟨_, _, rfl⟩⟩
theorem in_X2_count : Cond.initialized yX2_count.cls ∈ lw_all := q112
theorem hy_X2_count : yX2_count.cls ≠ "java/lang/invoke/MethodHandle" ∧ yX2_count.cls ≠ "java/lang/invoke/VarHandle" ∧ (parseMethodDescriptor yX2_count.desc).map (fun d => d.parameters.length) = some 1 := by decide +kernel
abbrev kc_X2_dueAt : Cond := .code yX2_dueAt cX2_dueAt 2 (Option.some Jvm.ClassFile.FieldType.int)
theorem cd_X2_dueAt : kt_cd kc_X2_dueAt yX2_dueAt 2 := ⟨q468, by decide, Or.inl ⟨_, _, rfl⟩⟩
theorem in_X2_dueAt : Cond.initialized yX2_dueAt.cls ∈ lw_all := q112
theorem hy_X2_dueAt : yX2_dueAt.cls ≠ "java/lang/invoke/MethodHandle" ∧ yX2_dueAt.cls ≠ "java/lang/invoke/VarHandle" ∧ (parseMethodDescriptor yX2_dueAt.desc).map (fun d => d.parameters.length) = some 1 := by decide +kernel
abbrev kc_X2_dueFirst : Cond := .code yX2_dueFirst cX2_dueFirst 2 (Option.some Jvm.ClassFile.FieldType.int)
theorem cd_X2_dueFirst : kt_cd kc_X2_dueFirst yX2_dueFirst 2 := ⟨q564, by decide, Or.inl ⟨_, _, rfl⟩⟩
theorem in_X2_dueFirst : Cond.initialized yX2_dueFirst.cls ∈ lw_all := q112
theorem hy_X2_dueFirst : yX2_dueFirst.cls ≠ "java/lang/invoke/MethodHandle" ∧ yX2_dueFirst.cls ≠ "java/lang/invoke/VarHandle" ∧ (parseMethodDescriptor yX2_dueFirst.desc).map (fun d => d.parameters.length) = some 1 := by decide +kernel
abbrev kc_X2_endOf : Cond := .code yX2_endOf cX2_endOf 4 (Option.some Jvm.ClassFile.FieldType.int)
theorem cd_X2_endOf : kt_cd kc_X2_endOf yX2_endOf 4 := ⟨q535, by decide, Or.inl ⟨_, _, rfl⟩⟩
theorem in_X2_endOf : Cond.initialized yX2_endOf.cls ∈ lw_all := q112
theorem hy_X2_endOf : yX2_endOf.cls ≠ "java/lang/invoke/MethodHandle" ∧ yX2_endOf.cls ≠ "java/lang/invoke/VarHandle" ∧ (parseMethodDescriptor yX2_endOf.desc).map (fun d => d.parameters.length) = some 1 := by decide +kernel
abbrev kc_X2_greatest : Cond := .code yX2_greatest cX2_greatest 3 (Option.some Jvm.ClassFile.FieldType.int)
theorem cd_X2_greatest : kt_cd kc_X2_greatest yX2_greatest 3 := ⟨q2054, by decide, Or.inl ⟨_, _, rfl⟩⟩
theorem in_X2_greatest : Cond.initialized yX2_greatest.cls ∈ lw_all := q112
theorem hy_X2_greatest : yX2_greatest.cls ≠ "java/lang/invoke/MethodHandle" ∧ yX2_greatest.cls ≠ "java/lang/invoke/VarHandle" ∧ (parseMethodDescriptor yX2_greatest.desc).map (fun d => d.parameters.length) = some 1 := by decide +kernel
abbrev kc_X2_inForce : Cond := .code yX2_inForce cX2_inForce 1 (Option.some Jvm.ClassFile.FieldType.int)
theorem cd_X2_inForce : kt_cd kc_X2_inForce yX2_inForce 1 := ⟨q1811, by decide, Or.inl ⟨_, _, rfl⟩⟩
theorem in_X2_inForce : Cond.initialized yX2_inForce.cls ∈ lw_all := q112
theorem hy_X2_inForce : yX2_inForce.cls ≠ "java/lang/invoke/MethodHandle" ∧ yX2_inForce.cls ≠ "java/lang/invoke/VarHandle" ∧ (parseMethodDescriptor yX2_inForce.desc).map (fun d => d.parameters.length) = some 0 := by decide +kernel
abbrev kc_X2_init : Cond := .code yX2_init cX2_init 5 (Option.none : Option Jvm.ClassFile.FieldType)
theorem cd_X2_init : kt_cd kc_X2_init yX2_init 5 := ⟨q204, by decide, Or.inl ⟨_, _, rfl⟩⟩
theorem in_X2_init : Cond.initialized yX2_init.cls ∈ lw_all := q112
theorem hy_X2_init : yX2_init.cls ≠ "java/lang/invoke/MethodHandle" ∧ yX2_init.cls ≠ "java/lang/invoke/VarHandle" ∧ (parseMethodDescriptor yX2_init.desc).map (fun d => d.parameters.length) = some 4 := by decide +kernel
theorem hi_X2_init : yX2_init.name = "<init>" ∧ yX2_init.cls ≠ "java/lang/invoke/MethodHandle" ∧ yX2_init.cls ≠ "java/lang/invoke/VarHandle" ∧ (parseMethodDescriptor yX2_init.desc).map (fun d => d.parameters.length) = some 4 := ⟨rfl, hy_X2_init⟩
abbrev kc_X2_isAlone : Cond := .code yX2_isAlone cX2_isAlone 2 (Option.some Jvm.ClassFile.FieldType.boolean)
theorem cd_X2_isAlone : kt_cd kc_X2_isAlone yX2_isAlone 2 := ⟨q2041, by decide, Or.inl ⟨_, _, rfl⟩⟩
theorem in_X2_isAlone : Cond.initialized yX2_isAlone.cls ∈ lw_all := q112
theorem hy_X2_isAlone : yX2_isAlone.cls ≠ "java/lang/invoke/MethodHandle" ∧ yX2_isAlone.cls ≠ "java/lang/invoke/VarHandle" ∧ (parseMethodDescriptor yX2_isAlone.desc).map (fun d => d.parameters.length) = some 1 := by decide +kernel
abbrev kc_X2_isDue : Cond := .code yX2_isDue cX2_isDue 2 (Option.some Jvm.ClassFile.FieldType.boolean)
theorem cd_X2_isDue : kt_cd kc_X2_isDue yX2_isDue 2 := ⟨q556, by decide, Or.inl ⟨_, _, rfl⟩⟩
theorem in_X2_isDue : Cond.initialized yX2_isDue.cls ∈ lw_all := q112
theorem hy_X2_isDue : yX2_isDue.cls ≠ "java/lang/invoke/MethodHandle" ∧ yX2_isDue.cls ≠ "java/lang/invoke/VarHandle" ∧ (parseMethodDescriptor yX2_isDue.desc).map (fun d => d.parameters.length) = some 1 := by decide +kernel
abbrev kc_X2_isThere : Cond := .code yX2_isThere cX2_isThere 2 (Option.some Jvm.ClassFile.FieldType.boolean)
theorem cd_X2_isThere : kt_cd kc_X2_isThere yX2_isThere 2 := ⟨q515, by decide, Or.inl ⟨_, _, rfl⟩⟩
theorem in_X2_isThere : Cond.initialized yX2_isThere.cls ∈ lw_all := q112
theorem hy_X2_isThere : yX2_isThere.cls ≠ "java/lang/invoke/MethodHandle" ∧ yX2_isThere.cls ≠ "java/lang/invoke/VarHandle" ∧ (parseMethodDescriptor yX2_isThere.desc).map (fun d => d.parameters.length) = some 1 := by decide +kernel
abbrev kc_X2_isWriting : Cond := .code yX2_isWriting cX2_isWriting 2 (Option.some Jvm.ClassFile.FieldType.boolean)
theorem cd_X2_isWriting : kt_cd kc_X2_isWriting yX2_isWriting 2 := ⟨q1814, by decide, Or.inl ⟨_, _, rfl⟩⟩
theorem in_X2_isWriting : Cond.initialized yX2_isWriting.cls ∈ lw_all := q112
theorem hy_X2_isWriting : yX2_isWriting.cls ≠ "java/lang/invoke/MethodHandle" ∧ yX2_isWriting.cls ≠ "java/lang/invoke/VarHandle" ∧ (parseMethodDescriptor yX2_isWriting.desc).map (fun d => d.parameters.length) = some 1 := by decide +kernel
abbrev kc_X2_issue : Cond := .code yX2_issue cX2_issue 7 (Option.some Jvm.ClassFile.FieldType.int)
theorem cd_X2_issue : kt_cd kc_X2_issue yX2_issue 7 := ⟨q1349, by decide, Or.inl ⟨_, _, rfl⟩⟩
theorem in_X2_issue : Cond.initialized yX2_issue.cls ∈ lw_all := q112
theorem hy_X2_issue : yX2_issue.cls ≠ "java/lang/invoke/MethodHandle" ∧ yX2_issue.cls ≠ "java/lang/invoke/VarHandle" ∧ (parseMethodDescriptor yX2_issue.desc).map (fun d => d.parameters.length) = some 1 := by decide +kernel
abbrev kc_X2_keep : Cond := .code yX2_keep cX2_keep 3 (Option.none : Option Jvm.ClassFile.FieldType)
theorem cd_X2_keep : kt_cd kc_X2_keep yX2_keep 3 := ⟨q2075, by decide, Or.inl ⟨_, _, rfl⟩⟩
theorem in_X2_keep : Cond.initialized yX2_keep.cls ∈ lw_all := q112
theorem hy_X2_keep : yX2_keep.cls ≠ "java/lang/invoke/MethodHandle" ∧ yX2_keep.cls ≠ "java/lang/invoke/VarHandle" ∧ (parseMethodDescriptor yX2_keep.desc).map (fun d => d.parameters.length) = some 0 := by decide +kernel
abbrev kc_X2_lambda_isAlone_0 : Cond := .code yX2_lambda_isAlone_0 cX2_lambda_isAlone_0 3 (Option.some Jvm.ClassFile.FieldType.boolean)
theorem cd_X2_lambda_isAlone_0 : kt_cd kc_X2_lambda_isAlone_0 yX2_lambda_isAlone_0 3 := ⟨q2044, by decide, Or.inl ⟨_, _, rfl⟩⟩
theorem in_X2_lambda_isAlone_0 : Cond.initialized yX2_lambda_isAlone_0.cls ∈ lw_all := q112
theorem hy_X2_lambda_isAlone_0 : yX2_lambda_isAlone_0.cls ≠ "java/lang/invoke/MethodHandle" ∧ yX2_lambda_isAlone_0.cls ≠ "java/lang/invoke/VarHandle" ∧ (parseMethodDescriptor yX2_lambda_isAlone_0.desc).map (fun d => d.parameters.length) = some 2 := by decide +kernel
abbrev kc_X2_lambda_withdraw_1 : Cond := .code yX2_lambda_withdraw_1 cX2_lambda_withdraw_1 1 (Option.some Jvm.ClassFile.FieldType.boolean)
theorem cd_X2_lambda_withdraw_1 : kt_cd kc_X2_lambda_withdraw_1 yX2_lambda_withdraw_1 1 := ⟨q2050, by decide, Or.inl ⟨_, _, rfl⟩⟩
theorem in_X2_lambda_withdraw_1 : Cond.initialized yX2_lambda_withdraw_1.cls ∈ lw_all := q112
theorem hy_X2_lambda_withdraw_1 : yX2_lambda_withdraw_1.cls ≠ "java/lang/invoke/MethodHandle" ∧ yX2_lambda_withdraw_1.cls ≠ "java/lang/invoke/VarHandle" ∧ (parseMethodDescriptor yX2_lambda_withdraw_1.desc).map (fun d => d.parameters.length) = some 1 := by decide +kernel
abbrev kc_X2_lambda_withdraw_2 : Cond := .code yX2_lambda_withdraw_2 cX2_lambda_withdraw_2 2 (Option.some Jvm.ClassFile.FieldType.boolean)
theorem cd_X2_lambda_withdraw_2 : kt_cd kc_X2_lambda_withdraw_2 yX2_lambda_withdraw_2 2 := ⟨q2063, by decide, Or.inl ⟨_, _, rfl⟩⟩
theorem in_X2_lambda_withdraw_2 : Cond.initialized yX2_lambda_withdraw_2.cls ∈ lw_all := q112
theorem hy_X2_lambda_withdraw_2 : yX2_lambda_withdraw_2.cls ≠ "java/lang/invoke/MethodHandle" ∧ yX2_lambda_withdraw_2.cls ≠ "java/lang/invoke/VarHandle" ∧ (parseMethodDescriptor yX2_lambda_withdraw_2.desc).map (fun d => d.parameters.length) = some 1 := by decide +kernel
abbrev kc_X2_latest : Cond := .code yX2_latest cX2_latest 1 (Option.some (Jvm.ClassFile.FieldType.object "KeyTurns$Version"))
theorem cd_X2_latest : kt_cd kc_X2_latest yX2_latest 1 := ⟨q560, by decide, Or.inl ⟨_, _, rfl⟩⟩
theorem in_X2_latest : Cond.initialized yX2_latest.cls ∈ lw_all := q112
theorem hy_X2_latest : yX2_latest.cls ≠ "java/lang/invoke/MethodHandle" ∧ yX2_latest.cls ≠ "java/lang/invoke/VarHandle" ∧ (parseMethodDescriptor yX2_latest.desc).map (fun d => d.parameters.length) = some 0 := by decide +kernel
abbrev kc_X2_layDue : Cond := .code yX2_layDue cX2_layDue 4 (Option.none : Option Jvm.ClassFile.FieldType)
theorem cd_X2_layDue : kt_cd kc_X2_layDue yX2_layDue 4 := ⟨q472, by decide, Or.inl ⟨_, _, rfl⟩⟩
theorem in_X2_layDue : Cond.initialized yX2_layDue.cls ∈ lw_all := q112
theorem hy_X2_layDue : yX2_layDue.cls ≠ "java/lang/invoke/MethodHandle" ∧ yX2_layDue.cls ≠ "java/lang/invoke/VarHandle" ∧ (parseMethodDescriptor yX2_layDue.desc).map (fun d => d.parameters.length) = some 0 := by decide +kernel
abbrev kc_X2_make : Cond := .code yX2_make cX2_make 2 (Option.some (Jvm.ClassFile.FieldType.object "KeyTurns$Sealed"))
theorem cd_X2_make : kt_cd kc_X2_make yX2_make 2 := ⟨q1414, by decide, Or.inl ⟨_, _, rfl⟩⟩
theorem in_X2_make : Cond.initialized yX2_make.cls ∈ lw_all := q112
theorem hy_X2_make : yX2_make.cls ≠ "java/lang/invoke/MethodHandle" ∧ yX2_make.cls ≠ "java/lang/invoke/VarHandle" ∧ (parseMethodDescriptor yX2_make.desc).map (fun d => d.parameters.length) = some 0 := by decide +kernel
abbrev kc_X2_pass : Cond := .code yX2_pass cX2_pass 3 (Option.none : Option Jvm.ClassFile.FieldType)
theorem cd_X2_pass : kt_cd kc_X2_pass yX2_pass 3 := ⟨q1982, by decide, Or.inl ⟨_, _, rfl⟩⟩
theorem in_X2_pass : Cond.initialized yX2_pass.cls ∈ lw_all := q112
theorem hy_X2_pass : yX2_pass.cls ≠ "java/lang/invoke/MethodHandle" ∧ yX2_pass.cls ≠ "java/lang/invoke/VarHandle" ∧ (parseMethodDescriptor yX2_pass.desc).map (fun d => d.parameters.length) = some 0 := by decide +kernel
abbrev kc_X2_readable : Cond := .code yX2_readable cX2_readable 4 (Option.some Jvm.ClassFile.FieldType.int)
theorem cd_X2_readable : kt_cd kc_X2_readable yX2_readable 4 := ⟨q598, by decide, Or.inl ⟨_, _, rfl⟩⟩
theorem in_X2_readable : Cond.initialized yX2_readable.cls ∈ lw_all := q112
theorem hy_X2_readable : yX2_readable.cls ≠ "java/lang/invoke/MethodHandle" ∧ yX2_readable.cls ≠ "java/lang/invoke/VarHandle" ∧ (parseMethodDescriptor yX2_readable.desc).map (fun d => d.parameters.length) = some 1 := by decide +kernel
abbrev kc_X2_readers : Cond := .code yX2_readers cX2_readers 4 (Option.some Jvm.ClassFile.FieldType.int)
theorem cd_X2_readers : kt_cd kc_X2_readers yX2_readers 4 := ⟨q1906, by decide, Or.inl ⟨_, _, rfl⟩⟩
theorem in_X2_readers : Cond.initialized yX2_readers.cls ∈ lw_all := q112
theorem hy_X2_readers : yX2_readers.cls ≠ "java/lang/invoke/MethodHandle" ∧ yX2_readers.cls ≠ "java/lang/invoke/VarHandle" ∧ (parseMethodDescriptor yX2_readers.desc).map (fun d => d.parameters.length) = some 1 := by decide +kernel
abbrev kc_X2_readsBy : Cond := .code yX2_readsBy cX2_readsBy 3 (Option.some Jvm.ClassFile.FieldType.int)
theorem cd_X2_readsBy : kt_cd kc_X2_readsBy yX2_readsBy 3 := ⟨q602, by decide, Or.inl ⟨_, _, rfl⟩⟩
theorem in_X2_readsBy : Cond.initialized yX2_readsBy.cls ∈ lw_all := q112
theorem hy_X2_readsBy : yX2_readsBy.cls ≠ "java/lang/invoke/MethodHandle" ∧ yX2_readsBy.cls ≠ "java/lang/invoke/VarHandle" ∧ (parseMethodDescriptor yX2_readsBy.desc).map (fun d => d.parameters.length) = some 2 := by decide +kernel
abbrev kc_X2_recordCount : Cond := .code yX2_recordCount cX2_recordCount 3 (Option.some Jvm.ClassFile.FieldType.int)
theorem cd_X2_recordCount : kt_cd kc_X2_recordCount yX2_recordCount 3 := ⟨q572, by decide, Or.inl ⟨_, _, rfl⟩⟩
theorem in_X2_recordCount : Cond.initialized yX2_recordCount.cls ∈ lw_all := q112
theorem hy_X2_recordCount : yX2_recordCount.cls ≠ "java/lang/invoke/MethodHandle" ∧ yX2_recordCount.cls ≠ "java/lang/invoke/VarHandle" ∧ (parseMethodDescriptor yX2_recordCount.desc).map (fun d => d.parameters.length) = some 0 := by decide +kernel
abbrev kc_X2_share : Cond := .code yX2_share cX2_share 3 (Option.some Jvm.ClassFile.FieldType.float)
theorem cd_X2_share : kt_cd kc_X2_share yX2_share 3 := ⟨q2012, by decide, Or.inl ⟨_, _, rfl⟩⟩
theorem in_X2_share : Cond.initialized yX2_share.cls ∈ lw_all := q112
theorem hy_X2_share : yX2_share.cls ≠ "java/lang/invoke/MethodHandle" ∧ yX2_share.cls ≠ "java/lang/invoke/VarHandle" ∧ (parseMethodDescriptor yX2_share.desc).map (fun d => d.parameters.length) = some 1 := by decide +kernel
abbrev kc_X2_sweep : Cond := .code yX2_sweep cX2_sweep 3 (Option.none : Option Jvm.ClassFile.FieldType)
theorem cd_X2_sweep : kt_cd kc_X2_sweep yX2_sweep 3 := ⟨q1989, by decide, Or.inl ⟨_, _, rfl⟩⟩
theorem in_X2_sweep : Cond.initialized yX2_sweep.cls ∈ lw_all := q112
theorem hy_X2_sweep : yX2_sweep.cls ≠ "java/lang/invoke/MethodHandle" ∧ yX2_sweep.cls ≠ "java/lang/invoke/VarHandle" ∧ (parseMethodDescriptor yX2_sweep.desc).map (fun d => d.parameters.length) = some 0 := by decide +kernel
abbrev kc_X2_withdraw : Cond := .code yX2_withdraw cX2_withdraw 6 (Option.some Jvm.ClassFile.FieldType.int)
theorem cd_X2_withdraw : kt_cd kc_X2_withdraw yX2_withdraw 6 := ⟨q2048, by decide, Or.inl ⟨_, _, rfl⟩⟩
theorem in_X2_withdraw : Cond.initialized yX2_withdraw.cls ∈ lw_all := q112
theorem hy_X2_withdraw : yX2_withdraw.cls ≠ "java/lang/invoke/MethodHandle" ∧ yX2_withdraw.cls ≠ "java/lang/invoke/VarHandle" ∧ (parseMethodDescriptor yX2_withdraw.desc).map (fun d => d.parameters.length) = some 1 := by decide +kernel
abbrev kc_X2_wrapCount : Cond := .code yX2_wrapCount cX2_wrapCount 3 (Option.some Jvm.ClassFile.FieldType.int)
theorem cd_X2_wrapCount : kt_cd kc_X2_wrapCount yX2_wrapCount 3 := ⟨q579, by decide, Or.inl ⟨_, _, rfl⟩⟩
theorem in_X2_wrapCount : Cond.initialized yX2_wrapCount.cls ∈ lw_all := q112
theorem hy_X2_wrapCount : yX2_wrapCount.cls ≠ "java/lang/invoke/MethodHandle" ∧ yX2_wrapCount.cls ≠ "java/lang/invoke/VarHandle" ∧ (parseMethodDescriptor yX2_wrapCount.desc).map (fun d => d.parameters.length) = some 0 := by decide +kernel
abbrev kc_X2_wrappedBy : Cond := .code yX2_wrappedBy cX2_wrappedBy 4 (Option.some Jvm.ClassFile.FieldType.int)
theorem cd_X2_wrappedBy : kt_cd kc_X2_wrappedBy yX2_wrappedBy 4 := ⟨q1885, by decide, Or.inl ⟨_, _, rfl⟩⟩
theorem in_X2_wrappedBy : Cond.initialized yX2_wrappedBy.cls ∈ lw_all := q112
theorem hy_X2_wrappedBy : yX2_wrappedBy.cls ≠ "java/lang/invoke/MethodHandle" ∧ yX2_wrappedBy.cls ≠ "java/lang/invoke/VarHandle" ∧ (parseMethodDescriptor yX2_wrappedBy.desc).map (fun d => d.parameters.length) = some 1 := by decide +kernel
abbrev kc_X2_writing : Cond := .code yX2_writing cX2_writing 2 (Option.some Jvm.ClassFile.FieldType.int)
theorem cd_X2_writing : kt_cd kc_X2_writing yX2_writing 2 := ⟨q476, by decide, Or.inl ⟨_, _, rfl⟩⟩
theorem in_X2_writing : Cond.initialized yX2_writing.cls ∈ lw_all := q112
theorem hy_X2_writing : yX2_writing.cls ≠ "java/lang/invoke/MethodHandle" ∧ yX2_writing.cls ≠ "java/lang/invoke/VarHandle" ∧ (parseMethodDescriptor yX2_writing.desc).map (fun d => d.parameters.length) = some 0 := by decide +kernel
abbrev kc_X20_fits : Cond := .code yX20_fits cX20_fits 3 (Option.some Jvm.ClassFile.FieldType.boolean)
theorem cd_X20_fits : kt_cd kc_X20_fits yX20_fits 3 := ⟨q1867, by decide, Or.inl ⟨_, _, rfl⟩⟩
theorem hy_X20_fits : yX20_fits.cls ≠ "java/lang/invoke/MethodHandle" ∧ yX20_fits.cls ≠ "java/lang/invoke/VarHandle" ∧ (parseMethodDescriptor yX20_fits.desc).map (fun d => d.parameters.length) = some 2 := by decide +kernel
abbrev kc_X21_fits : Cond := .code yX21_fits cX21_fits 3 (Option.some Jvm.ClassFile.FieldType.boolean)
theorem cd_X21_fits : kt_cd kc_X21_fits yX21_fits 3 := ⟨q1871, by decide, Or.inl ⟨_, _, rfl⟩⟩
theorem hy_X21_fits : yX21_fits.cls ≠ "java/lang/invoke/MethodHandle" ∧ yX21_fits.cls ≠ "java/lang/invoke/VarHandle" ∧ (parseMethodDescriptor yX21_fits.desc).map (fun d => d.parameters.length) = some 2 := by decide +kernel
abbrev kc_X3_hasEnded : Cond := .code yX3_hasEnded cX3_hasEnded 2 (Option.some Jvm.ClassFile.FieldType.boolean)
theorem cd_X3_hasEnded : kt_cd kc_X3_hasEnded yX3_hasEnded 2 := ⟨q1390, by decide, Or.inl ⟨_, _, rfl⟩⟩
theorem in_X3_hasEnded : Cond.initialized yX3_hasEnded.cls ∈ lw_all := q117
theorem hy_X3_hasEnded : yX3_hasEnded.cls ≠ "java/lang/invoke/MethodHandle" ∧ yX3_hasEnded.cls ≠ "java/lang/invoke/VarHandle" ∧ (parseMethodDescriptor yX3_hasEnded.desc).map (fun d => d.parameters.length) = some 1 := by decide +kernel
abbrev kc_X3_init : Cond := .code yX3_init cX3_init 4 (Option.none : Option Jvm.ClassFile.FieldType)
theorem cd_X3_init : kt_cd kc_X3_init yX3_init 4 := ⟨q320, by decide, Or.inl ⟨_, _, rfl⟩⟩
theorem in_X3_init : Cond.initialized yX3_init.cls ∈ lw_all := q117
theorem hy_X3_init : yX3_init.cls ≠ "java/lang/invoke/MethodHandle" ∧ yX3_init.cls ≠ "java/lang/invoke/VarHandle" ∧ (parseMethodDescriptor yX3_init.desc).map (fun d => d.parameters.length) = some 3 := by decide +kernel
theorem hi_X3_init : yX3_init.name = "<init>" ∧ yX3_init.cls ≠ "java/lang/invoke/MethodHandle" ∧ yX3_init.cls ≠ "java/lang/invoke/VarHandle" ∧ (parseMethodDescriptor yX3_init.desc).map (fun d => d.parameters.length) = some 3 := ⟨rfl, hy_X3_init⟩
abbrev kc_X3_isInForce : Cond := .code yX3_isInForce cX3_isInForce 2 (Option.some Jvm.ClassFile.FieldType.boolean)
theorem cd_X3_isInForce : kt_cd kc_X3_isInForce yX3_isInForce 2 := ⟨q501, by decide, Or.inl ⟨_, _, rfl⟩⟩
theorem in_X3_isInForce : Cond.initialized yX3_isInForce.cls ∈ lw_all := q117
theorem hy_X3_isInForce : yX3_isInForce.cls ≠ "java/lang/invoke/MethodHandle" ∧ yX3_isInForce.cls ≠ "java/lang/invoke/VarHandle" ∧ (parseMethodDescriptor yX3_isInForce.desc).map (fun d => d.parameters.length) = some 1 := by decide +kernel
abbrev kc_X3_spans : Cond := .code yX3_spans cX3_spans 2 (Option.some Jvm.ClassFile.FieldType.boolean)
theorem cd_X3_spans : kt_cd kc_X3_spans yX3_spans 2 := ⟨q508, by decide, Or.inl ⟨_, _, rfl⟩⟩
theorem in_X3_spans : Cond.initialized yX3_spans.cls ∈ lw_all := q117
theorem hy_X3_spans : yX3_spans.cls ≠ "java/lang/invoke/MethodHandle" ∧ yX3_spans.cls ≠ "java/lang/invoke/VarHandle" ∧ (parseMethodDescriptor yX3_spans.desc).map (fun d => d.parameters.length) = some 1 := by decide +kernel
abbrev kc_X4_endingAt : Cond := .code yX4_endingAt cX4_endingAt 2 (Option.some (Jvm.ClassFile.FieldType.object "KeyTurns$Issued"))
theorem cd_X4_endingAt : kt_cd kc_X4_endingAt yX4_endingAt 2 := ⟨q1354, by decide, Or.inl ⟨_, _, rfl⟩⟩
theorem in_X4_endingAt : Cond.initialized yX4_endingAt.cls ∈ lw_all := q118
theorem hy_X4_endingAt : yX4_endingAt.cls ≠ "java/lang/invoke/MethodHandle" ∧ yX4_endingAt.cls ≠ "java/lang/invoke/VarHandle" ∧ (parseMethodDescriptor yX4_endingAt.desc).map (fun d => d.parameters.length) = some 1 := by decide +kernel
abbrev kc_X4_init : Cond := .code yX4_init cX4_init 4 (Option.none : Option Jvm.ClassFile.FieldType)
theorem cd_X4_init : kt_cd kc_X4_init yX4_init 4 := ⟨q317, by decide, Or.inl ⟨_, _, rfl⟩⟩
theorem in_X4_init : Cond.initialized yX4_init.cls ∈ lw_all := q118
theorem hy_X4_init : yX4_init.cls ≠ "java/lang/invoke/MethodHandle" ∧ yX4_init.cls ≠ "java/lang/invoke/VarHandle" ∧ (parseMethodDescriptor yX4_init.desc).map (fun d => d.parameters.length) = some 3 := by decide +kernel
theorem hi_X4_init : yX4_init.name = "<init>" ∧ yX4_init.cls ≠ "java/lang/invoke/MethodHandle" ∧ yX4_init.cls ≠ "java/lang/invoke/VarHandle" ∧ (parseMethodDescriptor yX4_init.desc).map (fun d => d.parameters.length) = some 3 := ⟨rfl, hy_X4_init⟩
abbrev kc_X4_withdrawn : Cond := .code yX4_withdrawn cX4_withdrawn 2 (Option.some (Jvm.ClassFile.FieldType.object "KeyTurns$Withdrawn"))
theorem cd_X4_withdrawn : kt_cd kc_X4_withdrawn yX4_withdrawn 2 := ⟨q2058, by decide, Or.inl ⟨_, _, rfl⟩⟩
theorem in_X4_withdrawn : Cond.initialized yX4_withdrawn.cls ∈ lw_all := q118
theorem hy_X4_withdrawn : yX4_withdrawn.cls ≠ "java/lang/invoke/MethodHandle" ∧ yX4_withdrawn.cls ≠ "java/lang/invoke/VarHandle" ∧ (parseMethodDescriptor yX4_withdrawn.desc).map (fun d => d.parameters.length) = some 1 := by decide +kernel
abbrev kc_X5_accept : Cond := .code yX5_accept cX5_accept 3 (Option.some Jvm.ClassFile.FieldType.boolean)
theorem cd_X5_accept : kt_cd kc_X5_accept yX5_accept 3 := ⟨q2992, by decide, Or.inl ⟨_, _, rfl⟩⟩
theorem in_X5_accept : Cond.initialized yX5_accept.cls ∈ lw_all := q123
theorem hy_X5_accept : yX5_accept.cls ≠ "java/lang/invoke/MethodHandle" ∧ yX5_accept.cls ≠ "java/lang/invoke/VarHandle" ∧ (parseMethodDescriptor yX5_accept.desc).map (fun d => d.parameters.length) = some 1 := by decide +kernel
abbrev kc_X5_advance : Cond := .code yX5_advance cX5_advance 1 (Option.none : Option Jvm.ClassFile.FieldType)
theorem cd_X5_advance : kt_cd kc_X5_advance yX5_advance 1 := ⟨q2920, by decide, Or.inl ⟨_, _, rfl⟩⟩
theorem in_X5_advance : Cond.initialized yX5_advance.cls ∈ lw_all := q123
theorem hy_X5_advance : yX5_advance.cls ≠ "java/lang/invoke/MethodHandle" ∧ yX5_advance.cls ≠ "java/lang/invoke/VarHandle" ∧ (parseMethodDescriptor yX5_advance.desc).map (fun d => d.parameters.length) = some 0 := by decide +kernel
abbrev kc_X5_allWraps : Cond := .code yX5_allWraps cX5_allWraps 3 (Option.some Jvm.ClassFile.FieldType.int)
theorem cd_X5_allWraps : kt_cd kc_X5_allWraps yX5_allWraps 3 := ⟨q2596, by decide, Or.inl ⟨_, _, rfl⟩⟩
theorem in_X5_allWraps : Cond.initialized yX5_allWraps.cls ∈ lw_all := q123
theorem hy_X5_allWraps : yX5_allWraps.cls ≠ "java/lang/invoke/MethodHandle" ∧ yX5_allWraps.cls ≠ "java/lang/invoke/VarHandle" ∧ (parseMethodDescriptor yX5_allWraps.desc).map (fun d => d.parameters.length) = some 0 := by decide +kernel
abbrev kc_X5_ask : Cond := .code yX5_ask cX5_ask 2 (Option.some Jvm.ClassFile.FieldType.int)
theorem cd_X5_ask : kt_cd kc_X5_ask yX5_ask 2 := ⟨q2821, by decide, Or.inl ⟨_, _, rfl⟩⟩
theorem in_X5_ask : Cond.initialized yX5_ask.cls ∈ lw_all := q123
theorem hy_X5_ask : yX5_ask.cls ≠ "java/lang/invoke/MethodHandle" ∧ yX5_ask.cls ≠ "java/lang/invoke/VarHandle" ∧ (parseMethodDescriptor yX5_ask.desc).map (fun d => d.parameters.length) = some 1 := by decide +kernel
abbrev kc_X5_begin : Cond := .code yX5_begin cX5_begin 1 (Option.none : Option Jvm.ClassFile.FieldType)
theorem cd_X5_begin : kt_cd kc_X5_begin yX5_begin 1 := ⟨q2718, by decide, Or.inl ⟨_, _, rfl⟩⟩
theorem in_X5_begin : Cond.initialized yX5_begin.cls ∈ lw_all := q123
theorem hy_X5_begin : yX5_begin.cls ≠ "java/lang/invoke/MethodHandle" ∧ yX5_begin.cls ≠ "java/lang/invoke/VarHandle" ∧ (parseMethodDescriptor yX5_begin.desc).map (fun d => d.parameters.length) = some 0 := by decide +kernel
abbrev kc_X5_byteAt : Cond := .code yX5_byteAt cX5_byteAt 2 (Option.some Jvm.ClassFile.FieldType.int)
theorem cd_X5_byteAt : kt_cd kc_X5_byteAt yX5_byteAt 2 := ⟨q2885, by decide, Or.inl ⟨_, _, rfl⟩⟩
theorem in_X5_byteAt : Cond.initialized yX5_byteAt.cls ∈ lw_all := q123
theorem hy_X5_byteAt : yX5_byteAt.cls ≠ "java/lang/invoke/MethodHandle" ∧ yX5_byteAt.cls ≠ "java/lang/invoke/VarHandle" ∧ (parseMethodDescriptor yX5_byteAt.desc).map (fun d => d.parameters.length) = some 1 := by decide +kernel
abbrev kc_X5_canUse : Cond := .code yX5_canUse cX5_canUse 3 (Option.some Jvm.ClassFile.FieldType.boolean)
theorem cd_X5_canUse : kt_cd kc_X5_canUse yX5_canUse 3 := ⟨q2679, by decide, Or.inl ⟨_, _, rfl⟩⟩
theorem in_X5_canUse : Cond.initialized yX5_canUse.cls ∈ lw_all := q123
theorem hy_X5_canUse : yX5_canUse.cls ≠ "java/lang/invoke/MethodHandle" ∧ yX5_canUse.cls ≠ "java/lang/invoke/VarHandle" ∧ (parseMethodDescriptor yX5_canUse.desc).map (fun d => d.parameters.length) = some 2 := by decide +kernel
abbrev kc_X5_check : Cond := .code yX5_check cX5_check 3 (Option.none : Option Jvm.ClassFile.FieldType)
theorem cd_X5_check : kt_cd kc_X5_check yX5_check 3 := ⟨q2912, by decide, Or.inl ⟨_, _, rfl⟩⟩
theorem in_X5_check : Cond.initialized yX5_check.cls ∈ lw_all := q123
theorem hy_X5_check : yX5_check.cls ≠ "java/lang/invoke/MethodHandle" ∧ yX5_check.cls ≠ "java/lang/invoke/VarHandle" ∧ (parseMethodDescriptor yX5_check.desc).map (fun d => d.parameters.length) = some 2 := by decide +kernel
abbrev kc_X5_clean : Cond := .code yX5_clean cX5_clean 5 (Option.some Jvm.ClassFile.FieldType.int)
theorem cd_X5_clean : kt_cd kc_X5_clean yX5_clean 5 := ⟨q2737, by decide, Or.inl ⟨_, _, rfl⟩⟩
theorem in_X5_clean : Cond.initialized yX5_clean.cls ∈ lw_all := q123
theorem hy_X5_clean : yX5_clean.cls ≠ "java/lang/invoke/MethodHandle" ∧ yX5_clean.cls ≠ "java/lang/invoke/VarHandle" ∧ (parseMethodDescriptor yX5_clean.desc).map (fun d => d.parameters.length) = some 0 := by decide +kernel
abbrev kc_X5_clear : Cond := .code yX5_clear cX5_clear 6 (Option.none : Option Jvm.ClassFile.FieldType)
theorem cd_X5_clear : kt_cd kc_X5_clear yX5_clear 6 := ⟨q2462, by decide, Or.inl ⟨_, _, rfl⟩⟩
theorem in_X5_clear : Cond.initialized yX5_clear.cls ∈ lw_all := q123
theorem hy_X5_clear : yX5_clear.cls ≠ "java/lang/invoke/MethodHandle" ∧ yX5_clear.cls ≠ "java/lang/invoke/VarHandle" ∧ (parseMethodDescriptor yX5_clear.desc).map (fun d => d.parameters.length) = some 4 := by decide +kernel
abbrev kc_X5_client : Cond := .code yX5_client cX5_client 3 (Option.some Jvm.ClassFile.FieldType.int)
theorem cd_X5_client : kt_cd kc_X5_client yX5_client 3 := ⟨q2664, by decide, Or.inl ⟨_, _, rfl⟩⟩
theorem in_X5_client : Cond.initialized yX5_client.cls ∈ lw_all := q123
theorem hy_X5_client : yX5_client.cls ≠ "java/lang/invoke/MethodHandle" ∧ yX5_client.cls ≠ "java/lang/invoke/VarHandle" ∧ (parseMethodDescriptor yX5_client.desc).map (fun d => d.parameters.length) = some 2 := by decide +kernel
abbrev kc_X5_clientAt : Cond := .code yX5_clientAt cX5_clientAt 2 (Option.some Jvm.ClassFile.FieldType.int)
theorem cd_X5_clientAt : kt_cd kc_X5_clientAt yX5_clientAt 2 := ⟨q2656, by decide, Or.inl ⟨_, _, rfl⟩⟩
theorem in_X5_clientAt : Cond.initialized yX5_clientAt.cls ∈ lw_all := q123
theorem hy_X5_clientAt : yX5_clientAt.cls ≠ "java/lang/invoke/MethodHandle" ∧ yX5_clientAt.cls ≠ "java/lang/invoke/VarHandle" ∧ (parseMethodDescriptor yX5_clientAt.desc).map (fun d => d.parameters.length) = some 2 := by decide +kernel
abbrev kc_X5_compileConjunction : Cond := .code yX5_compileConjunction cX5_compileConjunction 1 (Option.none : Option Jvm.ClassFile.FieldType)
theorem cd_X5_compileConjunction : kt_cd kc_X5_compileConjunction yX5_compileConjunction 1 := ⟨q2970, by decide, Or.inl ⟨_, _, rfl⟩⟩
theorem in_X5_compileConjunction : Cond.initialized yX5_compileConjunction.cls ∈ lw_all := q123
theorem hy_X5_compileConjunction : yX5_compileConjunction.cls ≠ "java/lang/invoke/MethodHandle" ∧ yX5_compileConjunction.cls ≠ "java/lang/invoke/VarHandle" ∧ (parseMethodDescriptor yX5_compileConjunction.desc).map (fun d => d.parameters.length) = some 0 := by decide +kernel
abbrev kc_X5_compileFactor : Cond := .code yX5_compileFactor cX5_compileFactor 2 (Option.none : Option Jvm.ClassFile.FieldType)
theorem cd_X5_compileFactor : kt_cd kc_X5_compileFactor yX5_compileFactor 2 := ⟨q2974, by decide, Or.inl ⟨_, _, rfl⟩⟩
theorem in_X5_compileFactor : Cond.initialized yX5_compileFactor.cls ∈ lw_all := q123
theorem hy_X5_compileFactor : yX5_compileFactor.cls ≠ "java/lang/invoke/MethodHandle" ∧ yX5_compileFactor.cls ≠ "java/lang/invoke/VarHandle" ∧ (parseMethodDescriptor yX5_compileFactor.desc).map (fun d => d.parameters.length) = some 0 := by decide +kernel
abbrev kc_X5_compileTest : Cond := .code yX5_compileTest cX5_compileTest 1 (Option.none : Option Jvm.ClassFile.FieldType)
theorem cd_X5_compileTest : kt_cd kc_X5_compileTest yX5_compileTest 1 := ⟨q2966, by decide, Or.inl ⟨_, _, rfl⟩⟩
theorem in_X5_compileTest : Cond.initialized yX5_compileTest.cls ∈ lw_all := q123
theorem hy_X5_compileTest : yX5_compileTest.cls ≠ "java/lang/invoke/MethodHandle" ∧ yX5_compileTest.cls ≠ "java/lang/invoke/VarHandle" ∧ (parseMethodDescriptor yX5_compileTest.desc).map (fun d => d.parameters.length) = some 0 := by decide +kernel
abbrev kc_X5_compileValue : Cond := .code yX5_compileValue cX5_compileValue 2 (Option.none : Option Jvm.ClassFile.FieldType)
theorem cd_X5_compileValue : kt_cd kc_X5_compileValue yX5_compileValue 2 := ⟨q2987, by decide, Or.inl ⟨_, _, rfl⟩⟩
theorem in_X5_compileValue : Cond.initialized yX5_compileValue.cls ∈ lw_all := q123
theorem hy_X5_compileValue : yX5_compileValue.cls ≠ "java/lang/invoke/MethodHandle" ∧ yX5_compileValue.cls ≠ "java/lang/invoke/VarHandle" ∧ (parseMethodDescriptor yX5_compileValue.desc).map (fun d => d.parameters.length) = some 0 := by decide +kernel
abbrev kc_X5_copy : Cond := .code yX5_copy cX5_copy 5 (Option.none : Option Jvm.ClassFile.FieldType)
theorem cd_X5_copy : kt_cd kc_X5_copy yX5_copy 5 := ⟨q2721, by decide, Or.inl ⟨_, _, rfl⟩⟩
theorem in_X5_copy : Cond.initialized yX5_copy.cls ∈ lw_all := q123
theorem hy_X5_copy : yX5_copy.cls ≠ "java/lang/invoke/MethodHandle" ∧ yX5_copy.cls ≠ "java/lang/invoke/VarHandle" ∧ (parseMethodDescriptor yX5_copy.desc).map (fun d => d.parameters.length) = some 4 := by decide +kernel
abbrev kc_X5_couldRead : Cond := .code yX5_couldRead cX5_couldRead 3 (Option.some Jvm.ClassFile.FieldType.int)
theorem cd_X5_couldRead : kt_cd kc_X5_couldRead yX5_couldRead 3 := ⟨q2691, by decide, Or.inl ⟨_, _, rfl⟩⟩
theorem in_X5_couldRead : Cond.initialized yX5_couldRead.cls ∈ lw_all := q123
theorem hy_X5_couldRead : yX5_couldRead.cls ≠ "java/lang/invoke/MethodHandle" ∧ yX5_couldRead.cls ≠ "java/lang/invoke/VarHandle" ∧ (parseMethodDescriptor yX5_couldRead.desc).map (fun d => d.parameters.length) = some 2 := by decide +kernel
abbrev kc_X5_damage : Cond := .code yX5_damage cX5_damage 3 (Option.some Jvm.ClassFile.FieldType.int)
theorem cd_X5_damage : kt_cd kc_X5_damage yX5_damage 3 := ⟨q2765, by decide, Or.inl ⟨_, _, rfl⟩⟩
theorem in_X5_damage : Cond.initialized yX5_damage.cls ∈ lw_all := q123
theorem hy_X5_damage : yX5_damage.cls ≠ "java/lang/invoke/MethodHandle" ∧ yX5_damage.cls ≠ "java/lang/invoke/VarHandle" ∧ (parseMethodDescriptor yX5_damage.desc).map (fun d => d.parameters.length) = some 1 := by decide +kernel
abbrev kc_X5_dark : Cond := .code yX5_dark cX5_dark 6 (Option.some Jvm.ClassFile.FieldType.int)
theorem cd_X5_dark : kt_cd kc_X5_dark yX5_dark 6 := ⟨q2757, by decide, Or.inl ⟨_, _, rfl⟩⟩
theorem in_X5_dark : Cond.initialized yX5_dark.cls ∈ lw_all := q123
theorem hy_X5_dark : yX5_dark.cls ≠ "java/lang/invoke/MethodHandle" ∧ yX5_dark.cls ≠ "java/lang/invoke/VarHandle" ∧ (parseMethodDescriptor yX5_dark.desc).map (fun d => d.parameters.length) = some 2 := by decide +kernel
abbrev kc_X5_drop : Cond := .code yX5_drop cX5_drop 2 (Option.some Jvm.ClassFile.FieldType.int)
theorem cd_X5_drop : kt_cd kc_X5_drop yX5_drop 2 := ⟨q2817, by decide, Or.inl ⟨_, _, rfl⟩⟩
theorem in_X5_drop : Cond.initialized yX5_drop.cls ∈ lw_all := q123
theorem hy_X5_drop : yX5_drop.cls ≠ "java/lang/invoke/MethodHandle" ∧ yX5_drop.cls ≠ "java/lang/invoke/VarHandle" ∧ (parseMethodDescriptor yX5_drop.desc).map (fun d => d.parameters.length) = some 1 := by decide +kernel
abbrev kc_X5_emit : Cond := .code yX5_emit cX5_emit 2 (Option.none : Option Jvm.ClassFile.FieldType)
theorem cd_X5_emit : kt_cd kc_X5_emit yX5_emit 2 := ⟨q2983, by decide, Or.inl ⟨_, _, rfl⟩⟩
theorem in_X5_emit : Cond.initialized yX5_emit.cls ∈ lw_all := q123
theorem hy_X5_emit : yX5_emit.cls ≠ "java/lang/invoke/MethodHandle" ∧ yX5_emit.cls ≠ "java/lang/invoke/VarHandle" ∧ (parseMethodDescriptor yX5_emit.desc).map (fun d => d.parameters.length) = some 1 := by decide +kernel
abbrev kc_X5_end : Cond := .code yX5_end cX5_end 1 (Option.none : Option Jvm.ClassFile.FieldType)
theorem cd_X5_end : kt_cd kc_X5_end yX5_end 1 := ⟨q2753, by decide, Or.inl ⟨_, _, rfl⟩⟩
theorem in_X5_end : Cond.initialized yX5_end.cls ∈ lw_all := q123
theorem hy_X5_end : yX5_end.cls ≠ "java/lang/invoke/MethodHandle" ∧ yX5_end.cls ≠ "java/lang/invoke/VarHandle" ∧ (parseMethodDescriptor yX5_end.desc).map (fun d => d.parameters.length) = some 0 := by decide +kernel
abbrev kc_X5_endOf : Cond := .code yX5_endOf cX5_endOf 4 (Option.some Jvm.ClassFile.FieldType.int)
theorem cd_X5_endOf : kt_cd kc_X5_endOf yX5_endOf 4 := ⟨q2636, by decide, Or.inl ⟨_, _, rfl⟩⟩
theorem in_X5_endOf : Cond.initialized yX5_endOf.cls ∈ lw_all := q123
theorem hy_X5_endOf : yX5_endOf.cls ≠ "java/lang/invoke/MethodHandle" ∧ yX5_endOf.cls ≠ "java/lang/invoke/VarHandle" ∧ (parseMethodDescriptor yX5_endOf.desc).map (fun d => d.parameters.length) = some 1 := by decide +kernel
abbrev kc_X5_enter : Cond := .code yX5_enter cX5_enter 1 (Option.none : Option Jvm.ClassFile.FieldType)
theorem cd_X5_enter : kt_cd kc_X5_enter yX5_enter 1 := ⟨q2979, by decide, Or.inl ⟨_, _, rfl⟩⟩
theorem in_X5_enter : Cond.initialized yX5_enter.cls ∈ lw_all := q123
theorem hy_X5_enter : yX5_enter.cls ≠ "java/lang/invoke/MethodHandle" ∧ yX5_enter.cls ≠ "java/lang/invoke/VarHandle" ∧ (parseMethodDescriptor yX5_enter.desc).map (fun d => d.parameters.length) = some 0 := by decide +kernel
abbrev kc_X5_errorPosition : Cond := .code yX5_errorPosition cX5_errorPosition 1 (Option.some Jvm.ClassFile.FieldType.int)
theorem cd_X5_errorPosition : kt_cd kc_X5_errorPosition yX5_errorPosition 1 := ⟨q2869, by decide, Or.inl ⟨_, _, rfl⟩⟩
theorem in_X5_errorPosition : Cond.initialized yX5_errorPosition.cls ∈ lw_all := q123
theorem hy_X5_errorPosition : yX5_errorPosition.cls ≠ "java/lang/invoke/MethodHandle" ∧ yX5_errorPosition.cls ≠ "java/lang/invoke/VarHandle" ∧ (parseMethodDescriptor yX5_errorPosition.desc).map (fun d => d.parameters.length) = some 0 := by decide +kernel
abbrev kc_X5_expect : Cond := .code yX5_expect cX5_expect 2 (Option.none : Option Jvm.ClassFile.FieldType)
theorem cd_X5_expect : kt_cd kc_X5_expect yX5_expect 2 := ⟨q2938, by decide, Or.inl ⟨_, _, rfl⟩⟩
theorem in_X5_expect : Cond.initialized yX5_expect.cls ∈ lw_all := q123
theorem hy_X5_expect : yX5_expect.cls ≠ "java/lang/invoke/MethodHandle" ∧ yX5_expect.cls ≠ "java/lang/invoke/VarHandle" ∧ (parseMethodDescriptor yX5_expect.desc).map (fun d => d.parameters.length) = some 1 := by decide +kernel
abbrev kc_X5_expectWord : Cond := .code yX5_expectWord cX5_expectWord 2 (Option.none : Option Jvm.ClassFile.FieldType)
theorem cd_X5_expectWord : kt_cd kc_X5_expectWord yX5_expectWord 2 := ⟨q2902, by decide, Or.inl ⟨_, _, rfl⟩⟩
theorem in_X5_expectWord : Cond.initialized yX5_expectWord.cls ∈ lw_all := q123
theorem hy_X5_expectWord : yX5_expectWord.cls ≠ "java/lang/invoke/MethodHandle" ∧ yX5_expectWord.cls ≠ "java/lang/invoke/VarHandle" ∧ (parseMethodDescriptor yX5_expectWord.desc).map (fun d => d.parameters.length) = some 1 := by decide +kernel
abbrev kc_X5_feed : Cond := .code yX5_feed cX5_feed 8 (Option.some Jvm.ClassFile.FieldType.int)
theorem cd_X5_feed : kt_cd kc_X5_feed yX5_feed 8 := ⟨q2865, by decide, Or.inl ⟨_, _, rfl⟩⟩
theorem in_X5_feed : Cond.initialized yX5_feed.cls ∈ lw_all := q123
theorem hy_X5_feed : yX5_feed.cls ≠ "java/lang/invoke/MethodHandle" ∧ yX5_feed.cls ≠ "java/lang/invoke/VarHandle" ∧ (parseMethodDescriptor yX5_feed.desc).map (fun d => d.parameters.length) = some 5 := by decide +kernel
abbrev kc_X5_finish : Cond := .code yX5_finish cX5_finish 1 (Option.some Jvm.ClassFile.FieldType.int)
theorem cd_X5_finish : kt_cd kc_X5_finish yX5_finish 1 := ⟨q2956, by decide, Or.inl ⟨_, _, rfl⟩⟩
theorem in_X5_finish : Cond.initialized yX5_finish.cls ∈ lw_all := q123
theorem hy_X5_finish : yX5_finish.cls ≠ "java/lang/invoke/MethodHandle" ∧ yX5_finish.cls ≠ "java/lang/invoke/VarHandle" ∧ (parseMethodDescriptor yX5_finish.desc).map (fun d => d.parameters.length) = some 0 := by decide +kernel
abbrev kc_X5_firstOfNext : Cond := .code yX5_firstOfNext cX5_firstOfNext 1 (Option.some Jvm.ClassFile.FieldType.int)
theorem cd_X5_firstOfNext : kt_cd kc_X5_firstOfNext yX5_firstOfNext 1 := ⟨q2733, by decide, Or.inl ⟨_, _, rfl⟩⟩
theorem in_X5_firstOfNext : Cond.initialized yX5_firstOfNext.cls ∈ lw_all := q123
theorem hy_X5_firstOfNext : yX5_firstOfNext.cls ≠ "java/lang/invoke/MethodHandle" ∧ yX5_firstOfNext.cls ≠ "java/lang/invoke/VarHandle" ∧ (parseMethodDescriptor yX5_firstOfNext.desc).map (fun d => d.parameters.length) = some 0 := by decide +kernel
abbrev kc_X5_flaw : Cond := .code yX5_flaw cX5_flaw 2 (Option.none : Option Jvm.ClassFile.FieldType)
theorem cd_X5_flaw : kt_cd kc_X5_flaw yX5_flaw 2 := ⟨q2916, by decide, Or.inl ⟨_, _, rfl⟩⟩
theorem in_X5_flaw : Cond.initialized yX5_flaw.cls ∈ lw_all := q123
theorem hy_X5_flaw : yX5_flaw.cls ≠ "java/lang/invoke/MethodHandle" ∧ yX5_flaw.cls ≠ "java/lang/invoke/VarHandle" ∧ (parseMethodDescriptor yX5_flaw.desc).map (fun d => d.parameters.length) = some 1 := by decide +kernel
abbrev kc_X5_format : Cond := .code yX5_format cX5_format 4 (Option.some Jvm.ClassFile.FieldType.int)
theorem cd_X5_format : kt_cd kc_X5_format yX5_format 4 := ⟨q2833, by decide, Or.inl ⟨_, _, rfl⟩⟩
theorem in_X5_format : Cond.initialized yX5_format.cls ∈ lw_all := q123
theorem hy_X5_format : yX5_format.cls ≠ "java/lang/invoke/MethodHandle" ∧ yX5_format.cls ≠ "java/lang/invoke/VarHandle" ∧ (parseMethodDescriptor yX5_format.desc).map (fun d => d.parameters.length) = some 1 := by decide +kernel
abbrev kc_X5_formattedByte : Cond := .code yX5_formattedByte cX5_formattedByte 2 (Option.some Jvm.ClassFile.FieldType.int)
theorem cd_X5_formattedByte : kt_cd kc_X5_formattedByte yX5_formattedByte 2 := ⟨q2845, by decide, Or.inl ⟨_, _, rfl⟩⟩
theorem in_X5_formattedByte : Cond.initialized yX5_formattedByte.cls ∈ lw_all := q123
theorem hy_X5_formattedByte : yX5_formattedByte.cls ≠ "java/lang/invoke/MethodHandle" ∧ yX5_formattedByte.cls ≠ "java/lang/invoke/VarHandle" ∧ (parseMethodDescriptor yX5_formattedByte.desc).map (fun d => d.parameters.length) = some 1 := by decide +kernel
abbrev kc_X5_greatestLeft : Cond := .code yX5_greatestLeft cX5_greatestLeft 3 (Option.some Jvm.ClassFile.FieldType.int)
theorem cd_X5_greatestLeft : kt_cd kc_X5_greatestLeft yX5_greatestLeft 3 := ⟨q2777, by decide, Or.inl ⟨_, _, rfl⟩⟩
theorem in_X5_greatestLeft : Cond.initialized yX5_greatestLeft.cls ∈ lw_all := q123
theorem hy_X5_greatestLeft : yX5_greatestLeft.cls ≠ "java/lang/invoke/MethodHandle" ∧ yX5_greatestLeft.cls ≠ "java/lang/invoke/VarHandle" ∧ (parseMethodDescriptor yX5_greatestLeft.desc).map (fun d => d.parameters.length) = some 0 := by decide +kernel
abbrev kc_X5_greatestOf : Cond := .code yX5_greatestOf cX5_greatestOf 3 (Option.some Jvm.ClassFile.FieldType.int)
theorem cd_X5_greatestOf : kt_cd kc_X5_greatestOf yX5_greatestOf 3 := ⟨q2675, by decide, Or.inl ⟨_, _, rfl⟩⟩
theorem in_X5_greatestOf : Cond.initialized yX5_greatestOf.cls ∈ lw_all := q123
theorem hy_X5_greatestOf : yX5_greatestOf.cls ≠ "java/lang/invoke/MethodHandle" ∧ yX5_greatestOf.cls ≠ "java/lang/invoke/VarHandle" ∧ (parseMethodDescriptor yX5_greatestOf.desc).map (fun d => d.parameters.length) = some 1 := by decide +kernel
abbrev kc_X5_greatestOpen : Cond := .code yX5_greatestOpen cX5_greatestOpen 3 (Option.some Jvm.ClassFile.FieldType.int)
theorem cd_X5_greatestOpen : kt_cd kc_X5_greatestOpen yX5_greatestOpen 3 := ⟨q2781, by decide, Or.inl ⟨_, _, rfl⟩⟩
theorem in_X5_greatestOpen : Cond.initialized yX5_greatestOpen.cls ∈ lw_all := q123
theorem hy_X5_greatestOpen : yX5_greatestOpen.cls ≠ "java/lang/invoke/MethodHandle" ∧ yX5_greatestOpen.cls ≠ "java/lang/invoke/VarHandle" ∧ (parseMethodDescriptor yX5_greatestOpen.desc).map (fun d => d.parameters.length) = some 0 := by decide +kernel
abbrev kc_X5_has : Cond := .code yX5_has cX5_has 2 (Option.some Jvm.ClassFile.FieldType.boolean)
theorem cd_X5_has : kt_cd kc_X5_has yX5_has 2 := ⟨q2628, by decide, Or.inl ⟨_, _, rfl⟩⟩
theorem in_X5_has : Cond.initialized yX5_has.cls ∈ lw_all := q123
theorem hy_X5_has : yX5_has.cls ≠ "java/lang/invoke/MethodHandle" ∧ yX5_has.cls ≠ "java/lang/invoke/VarHandle" ∧ (parseMethodDescriptor yX5_has.desc).map (fun d => d.parameters.length) = some 2 := by decide +kernel
abbrev kc_X5_holdsFor : Cond := .code yX5_holdsFor cX5_holdsFor 5 (Option.some Jvm.ClassFile.FieldType.boolean)
theorem cd_X5_holdsFor : kt_cd kc_X5_holdsFor yX5_holdsFor 5 := ⟨q2998, by decide, Or.inl ⟨_, _, rfl⟩⟩
theorem in_X5_holdsFor : Cond.initialized yX5_holdsFor.cls ∈ lw_all := q123
theorem hy_X5_holdsFor : yX5_holdsFor.cls ≠ "java/lang/invoke/MethodHandle" ∧ yX5_holdsFor.cls ≠ "java/lang/invoke/VarHandle" ∧ (parseMethodDescriptor yX5_holdsFor.desc).map (fun d => d.parameters.length) = some 1 := by decide +kernel
abbrev kc_X5_hour : Cond := .code yX5_hour cX5_hour 1 (Option.some Jvm.ClassFile.FieldType.int)
theorem cd_X5_hour : kt_cd kc_X5_hour yX5_hour 1 := ⟨q2585, by decide, Or.inl ⟨_, _, rfl⟩⟩
theorem in_X5_hour : Cond.initialized yX5_hour.cls ∈ lw_all := q123
theorem hy_X5_hour : yX5_hour.cls ≠ "java/lang/invoke/MethodHandle" ∧ yX5_hour.cls ≠ "java/lang/invoke/VarHandle" ∧ (parseMethodDescriptor yX5_hour.desc).map (fun d => d.parameters.length) = some 0 := by decide +kernel
abbrev kc_X5_inForce : Cond := .code yX5_inForce cX5_inForce 3 (Option.some Jvm.ClassFile.FieldType.int)
theorem cd_X5_inForce : kt_cd kc_X5_inForce yX5_inForce 3 := ⟨q2592, by decide, Or.inl ⟨_, _, rfl⟩⟩
theorem in_X5_inForce : Cond.initialized yX5_inForce.cls ∈ lw_all := q123
theorem hy_X5_inForce : yX5_inForce.cls ≠ "java/lang/invoke/MethodHandle" ∧ yX5_inForce.cls ≠ "java/lang/invoke/VarHandle" ∧ (parseMethodDescriptor yX5_inForce.desc).map (fun d => d.parameters.length) = some 0 := by decide +kernel
abbrev kc_X5_inRange : Cond := .code yX5_inRange cX5_inRange 3 (Option.some Jvm.ClassFile.FieldType.boolean)
theorem cd_X5_inRange : kt_cd kc_X5_inRange yX5_inRange 3 := ⟨q2588, by decide, Or.inl ⟨_, _, rfl⟩⟩
theorem in_X5_inRange : Cond.initialized yX5_inRange.cls ∈ lw_all := q123
theorem hy_X5_inRange : yX5_inRange.cls ≠ "java/lang/invoke/MethodHandle" ∧ yX5_inRange.cls ≠ "java/lang/invoke/VarHandle" ∧ (parseMethodDescriptor yX5_inRange.desc).map (fun d => d.parameters.length) = some 3 := by decide +kernel
abbrev kc_X5_init : Cond := .code yX5_init cX5_init 1 (Option.none : Option Jvm.ClassFile.FieldType)
theorem cd_X5_init : kt_cd kc_X5_init yX5_init 1 := ⟨q2447, by decide, Or.inl ⟨_, _, rfl⟩⟩
theorem in_X5_init : Cond.initialized yX5_init.cls ∈ lw_all := q123
theorem hy_X5_init : yX5_init.cls ≠ "java/lang/invoke/MethodHandle" ∧ yX5_init.cls ≠ "java/lang/invoke/VarHandle" ∧ (parseMethodDescriptor yX5_init.desc).map (fun d => d.parameters.length) = some 0 := by decide +kernel
theorem hi_X5_init : yX5_init.name = "<init>" ∧ yX5_init.cls ≠ "java/lang/invoke/MethodHandle" ∧ yX5_init.cls ≠ "java/lang/invoke/VarHandle" ∧ (parseMethodDescriptor yX5_init.desc).map (fun d => d.parameters.length) = some 0 := ⟨rfl, hy_X5_init⟩
abbrev kc_X5_isClient : Cond := .code yX5_isClient cX5_isClient 2 (Option.some Jvm.ClassFile.FieldType.boolean)
theorem cd_X5_isClient : kt_cd kc_X5_isClient yX5_isClient 2 := ⟨q2668, by decide, Or.inl ⟨_, _, rfl⟩⟩
theorem in_X5_isClient : Cond.initialized yX5_isClient.cls ∈ lw_all := q123
theorem hy_X5_isClient : yX5_isClient.cls ≠ "java/lang/invoke/MethodHandle" ∧ yX5_isClient.cls ≠ "java/lang/invoke/VarHandle" ∧ (parseMethodDescriptor yX5_isClient.desc).map (fun d => d.parameters.length) = some 1 := by decide +kernel
abbrev kc_X5_isDigit : Cond := .code yX5_isDigit cX5_isDigit 2 (Option.some Jvm.ClassFile.FieldType.boolean)
theorem cd_X5_isDigit : kt_cd kc_X5_isDigit yX5_isDigit 2 := ⟨q2893, by decide, Or.inl ⟨_, _, rfl⟩⟩
theorem in_X5_isDigit : Cond.initialized yX5_isDigit.cls ∈ lw_all := q123
theorem hy_X5_isDigit : yX5_isDigit.cls ≠ "java/lang/invoke/MethodHandle" ∧ yX5_isDigit.cls ≠ "java/lang/invoke/VarHandle" ∧ (parseMethodDescriptor yX5_isDigit.desc).map (fun d => d.parameters.length) = some 1 := by decide +kernel
abbrev kc_X5_isForced : Cond := .code yX5_isForced cX5_isForced 2 (Option.some Jvm.ClassFile.FieldType.boolean)
theorem cd_X5_isForced : kt_cd kc_X5_isForced yX5_isForced 2 := ⟨q2577, by decide, Or.inl ⟨_, _, rfl⟩⟩
theorem in_X5_isForced : Cond.initialized yX5_isForced.cls ∈ lw_all := q123
theorem hy_X5_isForced : yX5_isForced.cls ≠ "java/lang/invoke/MethodHandle" ∧ yX5_isForced.cls ≠ "java/lang/invoke/VarHandle" ∧ (parseMethodDescriptor yX5_isForced.desc).map (fun d => d.parameters.length) = some 1 := by decide +kernel
abbrev kc_X5_isGone : Cond := .code yX5_isGone cX5_isGone 2 (Option.some Jvm.ClassFile.FieldType.boolean)
theorem cd_X5_isGone : kt_cd kc_X5_isGone yX5_isGone 2 := ⟨q2581, by decide, Or.inl ⟨_, _, rfl⟩⟩
theorem in_X5_isGone : Cond.initialized yX5_isGone.cls ∈ lw_all := q123
theorem hy_X5_isGone : yX5_isGone.cls ≠ "java/lang/invoke/MethodHandle" ∧ yX5_isGone.cls ≠ "java/lang/invoke/VarHandle" ∧ (parseMethodDescriptor yX5_isGone.desc).map (fun d => d.parameters.length) = some 1 := by decide +kernel
abbrev kc_X5_isLetter : Cond := .code yX5_isLetter cX5_isLetter 2 (Option.some Jvm.ClassFile.FieldType.boolean)
theorem cd_X5_isLetter : kt_cd kc_X5_isLetter yX5_isLetter 2 := ⟨q2889, by decide, Or.inl ⟨_, _, rfl⟩⟩
theorem in_X5_isLetter : Cond.initialized yX5_isLetter.cls ∈ lw_all := q123
theorem hy_X5_isLetter : yX5_isLetter.cls ≠ "java/lang/invoke/MethodHandle" ∧ yX5_isLetter.cls ≠ "java/lang/invoke/VarHandle" ∧ (parseMethodDescriptor yX5_isLetter.desc).map (fun d => d.parameters.length) = some 1 := by decide +kernel
abbrev kc_X5_isMade : Cond := .code yX5_isMade cX5_isMade 2 (Option.some Jvm.ClassFile.FieldType.boolean)
theorem cd_X5_isMade : kt_cd kc_X5_isMade yX5_isMade 2 := ⟨q2604, by decide, Or.inl ⟨_, _, rfl⟩⟩
theorem in_X5_isMade : Cond.initialized yX5_isMade.cls ∈ lw_all := q123
theorem hy_X5_isMade : yX5_isMade.cls ≠ "java/lang/invoke/MethodHandle" ∧ yX5_isMade.cls ≠ "java/lang/invoke/VarHandle" ∧ (parseMethodDescriptor yX5_isMade.desc).map (fun d => d.parameters.length) = some 1 := by decide +kernel
abbrev kc_X5_isRecord : Cond := .code yX5_isRecord cX5_isRecord 2 (Option.some Jvm.ClassFile.FieldType.boolean)
theorem cd_X5_isRecord : kt_cd kc_X5_isRecord yX5_isRecord 2 := ⟨q2600, by decide, Or.inl ⟨_, _, rfl⟩⟩
theorem in_X5_isRecord : Cond.initialized yX5_isRecord.cls ∈ lw_all := q123
theorem hy_X5_isRecord : yX5_isRecord.cls ≠ "java/lang/invoke/MethodHandle" ∧ yX5_isRecord.cls ≠ "java/lang/invoke/VarHandle" ∧ (parseMethodDescriptor yX5_isRecord.desc).map (fun d => d.parameters.length) = some 1 := by decide +kernel
abbrev kc_X5_isSymbol : Cond := .code yX5_isSymbol cX5_isSymbol 2 (Option.some Jvm.ClassFile.FieldType.boolean)
theorem cd_X5_isSymbol : kt_cd kc_X5_isSymbol yX5_isSymbol 2 := ⟨q2942, by decide, Or.inl ⟨_, _, rfl⟩⟩
theorem in_X5_isSymbol : Cond.initialized yX5_isSymbol.cls ∈ lw_all := q123
theorem hy_X5_isSymbol : yX5_isSymbol.cls ≠ "java/lang/invoke/MethodHandle" ∧ yX5_isSymbol.cls ≠ "java/lang/invoke/VarHandle" ∧ (parseMethodDescriptor yX5_isSymbol.desc).map (fun d => d.parameters.length) = some 1 := by decide +kernel
abbrev kc_X5_isUsable : Cond := .code yX5_isUsable cX5_isUsable 4 (Option.some Jvm.ClassFile.FieldType.boolean)
theorem cd_X5_isUsable : kt_cd kc_X5_isUsable yX5_isUsable 4 := ⟨q2649, by decide, Or.inl ⟨_, _, rfl⟩⟩
theorem in_X5_isUsable : Cond.initialized yX5_isUsable.cls ∈ lw_all := q123
theorem hy_X5_isUsable : yX5_isUsable.cls ≠ "java/lang/invoke/MethodHandle" ∧ yX5_isUsable.cls ≠ "java/lang/invoke/VarHandle" ∧ (parseMethodDescriptor yX5_isUsable.desc).map (fun d => d.parameters.length) = some 2 := by decide +kernel
abbrev kc_X5_isVersion : Cond := .code yX5_isVersion cX5_isVersion 2 (Option.some Jvm.ClassFile.FieldType.boolean)
theorem cd_X5_isVersion : kt_cd kc_X5_isVersion yX5_isVersion 2 := ⟨q2617, by decide, Or.inl ⟨_, _, rfl⟩⟩
theorem in_X5_isVersion : Cond.initialized yX5_isVersion.cls ∈ lw_all := q123
theorem hy_X5_isVersion : yX5_isVersion.cls ≠ "java/lang/invoke/MethodHandle" ∧ yX5_isVersion.cls ≠ "java/lang/invoke/VarHandle" ∧ (parseMethodDescriptor yX5_isVersion.desc).map (fun d => d.parameters.length) = some 1 := by decide +kernel
abbrev kc_X5_isWord : Cond := .code yX5_isWord cX5_isWord 4 (Option.some Jvm.ClassFile.FieldType.boolean)
theorem cd_X5_isWord : kt_cd kc_X5_isWord yX5_isWord 4 := ⟨q2906, by decide, Or.inl ⟨_, _, rfl⟩⟩
theorem in_X5_isWord : Cond.initialized yX5_isWord.cls ∈ lw_all := q123
theorem hy_X5_isWord : yX5_isWord.cls ≠ "java/lang/invoke/MethodHandle" ∧ yX5_isWord.cls ≠ "java/lang/invoke/VarHandle" ∧ (parseMethodDescriptor yX5_isWord.desc).map (fun d => d.parameters.length) = some 1 := by decide +kernel
abbrev kc_X5_issue : Cond := .code yX5_issue cX5_issue 5 (Option.none : Option Jvm.ClassFile.FieldType)
theorem cd_X5_issue : kt_cd kc_X5_issue yX5_issue 5 := ⟨q2466, by decide, Or.inl ⟨_, _, rfl⟩⟩
theorem in_X5_issue : Cond.initialized yX5_issue.cls ∈ lw_all := q123
theorem hy_X5_issue : yX5_issue.cls ≠ "java/lang/invoke/MethodHandle" ∧ yX5_issue.cls ≠ "java/lang/invoke/VarHandle" ∧ (parseMethodDescriptor yX5_issue.desc).map (fun d => d.parameters.length) = some 1 := by decide +kernel
abbrev kc_X5_keep : Cond := .code yX5_keep cX5_keep 2 (Option.none : Option Jvm.ClassFile.FieldType)
theorem cd_X5_keep : kt_cd kc_X5_keep yX5_keep 2 := ⟨q2797, by decide, Or.inl ⟨_, _, rfl⟩⟩
theorem in_X5_keep : Cond.initialized yX5_keep.cls ∈ lw_all := q123
theorem hy_X5_keep : yX5_keep.cls ≠ "java/lang/invoke/MethodHandle" ∧ yX5_keep.cls ≠ "java/lang/invoke/VarHandle" ∧ (parseMethodDescriptor yX5_keep.desc).map (fun d => d.parameters.length) = some 0 := by decide +kernel
abbrev kc_X5_knownAt : Cond := .code yX5_knownAt cX5_knownAt 3 (Option.some Jvm.ClassFile.FieldType.int)
theorem cd_X5_knownAt : kt_cd kc_X5_knownAt yX5_knownAt 3 := ⟨q2660, by decide, Or.inl ⟨_, _, rfl⟩⟩
theorem in_X5_knownAt : Cond.initialized yX5_knownAt.cls ∈ lw_all := q123
theorem hy_X5_knownAt : yX5_knownAt.cls ≠ "java/lang/invoke/MethodHandle" ∧ yX5_knownAt.cls ≠ "java/lang/invoke/VarHandle" ∧ (parseMethodDescriptor yX5_knownAt.desc).map (fun d => d.parameters.length) = some 2 := by decide +kernel
abbrev kc_X5_learn : Cond := .code yX5_learn cX5_learn 5 (Option.some Jvm.ClassFile.FieldType.int)
theorem cd_X5_learn : kt_cd kc_X5_learn yX5_learn 5 := ⟨q2749, by decide, Or.inl ⟨_, _, rfl⟩⟩
theorem in_X5_learn : Cond.initialized yX5_learn.cls ∈ lw_all := q123
theorem hy_X5_learn : yX5_learn.cls ≠ "java/lang/invoke/MethodHandle" ∧ yX5_learn.cls ≠ "java/lang/invoke/VarHandle" ∧ (parseMethodDescriptor yX5_learn.desc).map (fun d => d.parameters.length) = some 1 := by decide +kernel
abbrev kc_X5_leastBatch : Cond := .code yX5_leastBatch cX5_leastBatch 6 (Option.some Jvm.ClassFile.FieldType.int)
theorem cd_X5_leastBatch : kt_cd kc_X5_leastBatch yX5_leastBatch 6 := ⟨q2761, by decide, Or.inl ⟨_, _, rfl⟩⟩
theorem in_X5_leastBatch : Cond.initialized yX5_leastBatch.cls ∈ lw_all := q123
theorem hy_X5_leastBatch : yX5_leastBatch.cls ≠ "java/lang/invoke/MethodHandle" ∧ yX5_leastBatch.cls ≠ "java/lang/invoke/VarHandle" ∧ (parseMethodDescriptor yX5_leastBatch.desc).map (fun d => d.parameters.length) = some 1 := by decide +kernel
abbrev kc_X5_load : Cond := .code yX5_load cX5_load 2 (Option.some Jvm.ClassFile.FieldType.int)
theorem cd_X5_load : kt_cd kc_X5_load yX5_load 2 := ⟨q2873, by decide, Or.inl ⟨_, _, rfl⟩⟩
theorem in_X5_load : Cond.initialized yX5_load.cls ∈ lw_all := q123
theorem hy_X5_load : yX5_load.cls ≠ "java/lang/invoke/MethodHandle" ∧ yX5_load.cls ≠ "java/lang/invoke/VarHandle" ∧ (parseMethodDescriptor yX5_load.desc).map (fun d => d.parameters.length) = some 1 := by decide +kernel
abbrev kc_X5_make : Cond := .code yX5_make cX5_make 1 (Option.some Jvm.ClassFile.FieldType.int)
theorem cd_X5_make : kt_cd kc_X5_make yX5_make 1 := ⟨q2809, by decide, Or.inl ⟨_, _, rfl⟩⟩
theorem in_X5_make : Cond.initialized yX5_make.cls ∈ lw_all := q123
theorem hy_X5_make : yX5_make.cls ≠ "java/lang/invoke/MethodHandle" ∧ yX5_make.cls ≠ "java/lang/invoke/VarHandle" ∧ (parseMethodDescriptor yX5_make.desc).map (fun d => d.parameters.length) = some 0 := by decide +kernel
abbrev kc_X5_makeRecord : Cond := .code yX5_makeRecord cX5_makeRecord 3 (Option.none : Option Jvm.ClassFile.FieldType)
theorem cd_X5_makeRecord : kt_cd kc_X5_makeRecord yX5_makeRecord 3 := ⟨q2813, by decide, Or.inl ⟨_, _, rfl⟩⟩
theorem in_X5_makeRecord : Cond.initialized yX5_makeRecord.cls ∈ lw_all := q123
theorem hy_X5_makeRecord : yX5_makeRecord.cls ≠ "java/lang/invoke/MethodHandle" ∧ yX5_makeRecord.cls ≠ "java/lang/invoke/VarHandle" ∧ (parseMethodDescriptor yX5_makeRecord.desc).map (fun d => d.parameters.length) = some 0 := by decide +kernel
abbrev kc_X5_meanWraps : Cond := .code yX5_meanWraps cX5_meanWraps 1 (Option.some Jvm.ClassFile.FieldType.double)
theorem cd_X5_meanWraps : kt_cd kc_X5_meanWraps yX5_meanWraps 1 := ⟨q2785, by decide, Or.inl ⟨_, _, rfl⟩⟩
theorem in_X5_meanWraps : Cond.initialized yX5_meanWraps.cls ∈ lw_all := q123
theorem hy_X5_meanWraps : yX5_meanWraps.cls ≠ "java/lang/invoke/MethodHandle" ∧ yX5_meanWraps.cls ≠ "java/lang/invoke/VarHandle" ∧ (parseMethodDescriptor yX5_meanWraps.desc).map (fun d => d.parameters.length) = some 0 := by decide +kernel
abbrev kc_X5_mustIssue : Cond := .code yX5_mustIssue cX5_mustIssue 3 (Option.some Jvm.ClassFile.FieldType.boolean)
theorem cd_X5_mustIssue : kt_cd kc_X5_mustIssue yX5_mustIssue 3 := ⟨q2729, by decide, Or.inl ⟨_, _, rfl⟩⟩
theorem in_X5_mustIssue : Cond.initialized yX5_mustIssue.cls ∈ lw_all := q123
theorem hy_X5_mustIssue : yX5_mustIssue.cls ≠ "java/lang/invoke/MethodHandle" ∧ yX5_mustIssue.cls ≠ "java/lang/invoke/VarHandle" ∧ (parseMethodDescriptor yX5_mustIssue.desc).map (fun d => d.parameters.length) = some 0 := by decide +kernel
abbrev kc_X5_nextAsk : Cond := .code yX5_nextAsk cX5_nextAsk 3 (Option.some Jvm.ClassFile.FieldType.int)
theorem cd_X5_nextAsk : kt_cd kc_X5_nextAsk yX5_nextAsk 3 := ⟨q2710, by decide, Or.inl ⟨_, _, rfl⟩⟩
theorem in_X5_nextAsk : Cond.initialized yX5_nextAsk.cls ∈ lw_all := q123
theorem hy_X5_nextAsk : yX5_nextAsk.cls ≠ "java/lang/invoke/MethodHandle" ∧ yX5_nextAsk.cls ≠ "java/lang/invoke/VarHandle" ∧ (parseMethodDescriptor yX5_nextAsk.desc).map (fun d => d.parameters.length) = some 1 := by decide +kernel
abbrev kc_X5_nextIssue : Cond := .code yX5_nextIssue cX5_nextIssue 4 (Option.some Jvm.ClassFile.FieldType.int)
theorem cd_X5_nextIssue : kt_cd kc_X5_nextIssue yX5_nextIssue 4 := ⟨q2706, by decide, Or.inl ⟨_, _, rfl⟩⟩
theorem in_X5_nextIssue : Cond.initialized yX5_nextIssue.cls ∈ lw_all := q123
theorem hy_X5_nextIssue : yX5_nextIssue.cls ≠ "java/lang/invoke/MethodHandle" ∧ yX5_nextIssue.cls ≠ "java/lang/invoke/VarHandle" ∧ (parseMethodDescriptor yX5_nextIssue.desc).map (fun d => d.parameters.length) = some 0 := by decide +kernel
abbrev kc_X5_nextSwept : Cond := .code yX5_nextSwept cX5_nextSwept 6 (Option.some Jvm.ClassFile.FieldType.int)
theorem cd_X5_nextSwept : kt_cd kc_X5_nextSwept yX5_nextSwept 6 := ⟨q2702, by decide, Or.inl ⟨_, _, rfl⟩⟩
theorem in_X5_nextSwept : Cond.initialized yX5_nextSwept.cls ∈ lw_all := q123
theorem hy_X5_nextSwept : yX5_nextSwept.cls ≠ "java/lang/invoke/MethodHandle" ∧ yX5_nextSwept.cls ≠ "java/lang/invoke/VarHandle" ∧ (parseMethodDescriptor yX5_nextSwept.desc).map (fun d => d.parameters.length) = some 1 := by decide +kernel
abbrev kc_X5_ofClient : Cond := .code yX5_ofClient cX5_ofClient 3 (Option.some Jvm.ClassFile.FieldType.int)
theorem cd_X5_ofClient : kt_cd kc_X5_ofClient yX5_ofClient 3 := ⟨q2653, by decide, Or.inl ⟨_, _, rfl⟩⟩
theorem in_X5_ofClient : Cond.initialized yX5_ofClient.cls ∈ lw_all := q123
theorem hy_X5_ofClient : yX5_ofClient.cls ≠ "java/lang/invoke/MethodHandle" ∧ yX5_ofClient.cls ≠ "java/lang/invoke/VarHandle" ∧ (parseMethodDescriptor yX5_ofClient.desc).map (fun d => d.parameters.length) = some 2 := by decide +kernel
abbrev kc_X5_ofRecord : Cond := .code yX5_ofRecord cX5_ofRecord 3 (Option.some Jvm.ClassFile.FieldType.int)
theorem cd_X5_ofRecord : kt_cd kc_X5_ofRecord yX5_ofRecord 3 := ⟨q2566, by decide, Or.inl ⟨_, _, rfl⟩⟩
theorem in_X5_ofRecord : Cond.initialized yX5_ofRecord.cls ∈ lw_all := q123
theorem hy_X5_ofRecord : yX5_ofRecord.cls ≠ "java/lang/invoke/MethodHandle" ∧ yX5_ofRecord.cls ≠ "java/lang/invoke/VarHandle" ∧ (parseMethodDescriptor yX5_ofRecord.desc).map (fun d => d.parameters.length) = some 2 := by decide +kernel
abbrev kc_X5_ofVersion : Cond := .code yX5_ofVersion cX5_ofVersion 3 (Option.some Jvm.ClassFile.FieldType.int)
theorem cd_X5_ofVersion : kt_cd kc_X5_ofVersion yX5_ofVersion 3 := ⟨q2473, by decide, Or.inl ⟨_, _, rfl⟩⟩
theorem in_X5_ofVersion : Cond.initialized yX5_ofVersion.cls ∈ lw_all := q123
theorem hy_X5_ofVersion : yX5_ofVersion.cls ≠ "java/lang/invoke/MethodHandle" ∧ yX5_ofVersion.cls ≠ "java/lang/invoke/VarHandle" ∧ (parseMethodDescriptor yX5_ofVersion.desc).map (fun d => d.parameters.length) = some 2 := by decide +kernel
abbrev kc_X5_operate : Cond := .code yX5_operate cX5_operate 5 (Option.some Jvm.ClassFile.FieldType.long)
theorem cd_X5_operate : kt_cd kc_X5_operate yX5_operate 5 := ⟨q3005, by decide, Or.inl ⟨_, _, rfl⟩⟩
theorem in_X5_operate : Cond.initialized yX5_operate.cls ∈ lw_all := q123
theorem hy_X5_operate : yX5_operate.cls ≠ "java/lang/invoke/MethodHandle" ∧ yX5_operate.cls ≠ "java/lang/invoke/VarHandle" ∧ (parseMethodDescriptor yX5_operate.desc).map (fun d => d.parameters.length) = some 3 := by decide +kernel
abbrev kc_X5_pass : Cond := .code yX5_pass cX5_pass 4 (Option.some Jvm.ClassFile.FieldType.int)
theorem cd_X5_pass : kt_cd kc_X5_pass yX5_pass 4 := ⟨q2793, by decide, Or.inl ⟨_, _, rfl⟩⟩
theorem in_X5_pass : Cond.initialized yX5_pass.cls ∈ lw_all := q123
theorem hy_X5_pass : yX5_pass.cls ≠ "java/lang/invoke/MethodHandle" ∧ yX5_pass.cls ≠ "java/lang/invoke/VarHandle" ∧ (parseMethodDescriptor yX5_pass.desc).map (fun d => d.parameters.length) = some 1 := by decide +kernel
abbrev kc_X5_passHour : Cond := .code yX5_passHour cX5_passHour 3 (Option.some Jvm.ClassFile.FieldType.int)
theorem cd_X5_passHour : kt_cd kc_X5_passHour yX5_passHour 3 := ⟨q2725, by decide, Or.inl ⟨_, _, rfl⟩⟩
theorem in_X5_passHour : Cond.initialized yX5_passHour.cls ∈ lw_all := q123
theorem hy_X5_passHour : yX5_passHour.cls ≠ "java/lang/invoke/MethodHandle" ∧ yX5_passHour.cls ≠ "java/lang/invoke/VarHandle" ∧ (parseMethodDescriptor yX5_passHour.desc).map (fun d => d.parameters.length) = some 0 := by decide +kernel
abbrev kc_X5_present : Cond := .code yX5_present cX5_present 3 (Option.some Jvm.ClassFile.FieldType.int)
theorem cd_X5_present : kt_cd kc_X5_present yX5_present 3 := ⟨q2562, by decide, Or.inl ⟨_, _, rfl⟩⟩
theorem in_X5_present : Cond.initialized yX5_present.cls ∈ lw_all := q123
theorem hy_X5_present : yX5_present.cls ≠ "java/lang/invoke/MethodHandle" ∧ yX5_present.cls ≠ "java/lang/invoke/VarHandle" ∧ (parseMethodDescriptor yX5_present.desc).map (fun d => d.parameters.length) = some 0 := by decide +kernel
abbrev kc_X5_property : Cond := .code yX5_property cX5_property 3 (Option.some Jvm.ClassFile.FieldType.int)
theorem cd_X5_property : kt_cd kc_X5_property yX5_property 3 := ⟨q3002, by decide, Or.inl ⟨_, _, rfl⟩⟩
theorem in_X5_property : Cond.initialized yX5_property.cls ∈ lw_all := q123
theorem hy_X5_property : yX5_property.cls ≠ "java/lang/invoke/MethodHandle" ∧ yX5_property.cls ≠ "java/lang/invoke/VarHandle" ∧ (parseMethodDescriptor yX5_property.desc).map (fun d => d.parameters.length) = some 2 := by decide +kernel
abbrev kc_X5_put : Cond := .code yX5_put cX5_put 2 (Option.none : Option Jvm.ClassFile.FieldType)
theorem cd_X5_put : kt_cd kc_X5_put yX5_put 2 := ⟨q2841, by decide, Or.inl ⟨_, _, rfl⟩⟩
theorem in_X5_put : Cond.initialized yX5_put.cls ∈ lw_all := q123
theorem hy_X5_put : yX5_put.cls ≠ "java/lang/invoke/MethodHandle" ∧ yX5_put.cls ≠ "java/lang/invoke/VarHandle" ∧ (parseMethodDescriptor yX5_put.desc).map (fun d => d.parameters.length) = some 1 := by decide +kernel
abbrev kc_X5_putVersion : Cond := .code yX5_putVersion cX5_putVersion 2 (Option.none : Option Jvm.ClassFile.FieldType)
theorem cd_X5_putVersion : kt_cd kc_X5_putVersion yX5_putVersion 2 := ⟨q2837, by decide, Or.inl ⟨_, _, rfl⟩⟩
theorem in_X5_putVersion : Cond.initialized yX5_putVersion.cls ∈ lw_all := q123
theorem hy_X5_putVersion : yX5_putVersion.cls ≠ "java/lang/invoke/MethodHandle" ∧ yX5_putVersion.cls ≠ "java/lang/invoke/VarHandle" ∧ (parseMethodDescriptor yX5_putVersion.desc).map (fun d => d.parameters.length) = some 1 := by decide +kernel
abbrev kc_X5_query : Cond := .code yX5_query cX5_query 5 (Option.some Jvm.ClassFile.FieldType.int)
theorem cd_X5_query : kt_cd kc_X5_query yX5_query 5 := ⟨q2960, by decide, Or.inl ⟨_, _, rfl⟩⟩
theorem in_X5_query : Cond.initialized yX5_query.cls ∈ lw_all := q123
theorem hy_X5_query : yX5_query.cls ≠ "java/lang/invoke/MethodHandle" ∧ yX5_query.cls ≠ "java/lang/invoke/VarHandle" ∧ (parseMethodDescriptor yX5_query.desc).map (fun d => d.parameters.length) = some 1 := by decide +kernel
abbrev kc_X5_raise : Cond := .code yX5_raise cX5_raise 2 (Option.some Jvm.ClassFile.FieldType.int)
theorem cd_X5_raise : kt_cd kc_X5_raise yX5_raise 2 := ⟨q2609, by decide, Or.inl ⟨_, _, rfl⟩⟩
theorem in_X5_raise : Cond.initialized yX5_raise.cls ∈ lw_all := q123
theorem hy_X5_raise : yX5_raise.cls ≠ "java/lang/invoke/MethodHandle" ∧ yX5_raise.cls ≠ "java/lang/invoke/VarHandle" ∧ (parseMethodDescriptor yX5_raise.desc).map (fun d => d.parameters.length) = some 1 := by decide +kernel
abbrev kc_X5_read : Cond := .code yX5_read cX5_read 4 (Option.some Jvm.ClassFile.FieldType.int)
theorem cd_X5_read : kt_cd kc_X5_read yX5_read 4 := ⟨q2825, by decide, Or.inl ⟨_, _, rfl⟩⟩
theorem in_X5_read : Cond.initialized yX5_read.cls ∈ lw_all := q123
theorem hy_X5_read : yX5_read.cls ≠ "java/lang/invoke/MethodHandle" ∧ yX5_read.cls ≠ "java/lang/invoke/VarHandle" ∧ (parseMethodDescriptor yX5_read.desc).map (fun d => d.parameters.length) = some 2 := by decide +kernel
abbrev kc_X5_readAll : Cond := .code yX5_readAll cX5_readAll 5 (Option.none : Option Jvm.ClassFile.FieldType)
theorem cd_X5_readAll : kt_cd kc_X5_readAll yX5_readAll 5 := ⟨q2897, by decide, Or.inl ⟨_, _, rfl⟩⟩
theorem in_X5_readAll : Cond.initialized yX5_readAll.cls ∈ lw_all := q123
theorem hy_X5_readAll : yX5_readAll.cls ≠ "java/lang/invoke/MethodHandle" ∧ yX5_readAll.cls ≠ "java/lang/invoke/VarHandle" ∧ (parseMethodDescriptor yX5_readAll.desc).map (fun d => d.parameters.length) = some 0 := by decide +kernel
abbrev kc_X5_readClient : Cond := .code yX5_readClient cX5_readClient 5 (Option.none : Option Jvm.ClassFile.FieldType)
theorem cd_X5_readClient : kt_cd kc_X5_readClient yX5_readClient 5 := ⟨q2947, by decide, Or.inl ⟨_, _, rfl⟩⟩
theorem in_X5_readClient : Cond.initialized yX5_readClient.cls ∈ lw_all := q123
theorem hy_X5_readClient : yX5_readClient.cls ≠ "java/lang/invoke/MethodHandle" ∧ yX5_readClient.cls ≠ "java/lang/invoke/VarHandle" ∧ (parseMethodDescriptor yX5_readClient.desc).map (fun d => d.parameters.length) = some 0 := by decide +kernel
abbrev kc_X5_readNumber : Cond := .code yX5_readNumber cX5_readNumber 4 (Option.some Jvm.ClassFile.FieldType.int)
theorem cd_X5_readNumber : kt_cd kc_X5_readNumber yX5_readNumber 4 := ⟨q2924, by decide, Or.inl ⟨_, _, rfl⟩⟩
theorem in_X5_readNumber : Cond.initialized yX5_readNumber.cls ∈ lw_all := q123
theorem hy_X5_readNumber : yX5_readNumber.cls ≠ "java/lang/invoke/MethodHandle" ∧ yX5_readNumber.cls ≠ "java/lang/invoke/VarHandle" ∧ (parseMethodDescriptor yX5_readNumber.desc).map (fun d => d.parameters.length) = some 2 := by decide +kernel
abbrev kc_X5_readRecords : Cond := .code yX5_readRecords cX5_readRecords 3 (Option.none : Option Jvm.ClassFile.FieldType)
theorem cd_X5_readRecords : kt_cd kc_X5_readRecords yX5_readRecords 3 := ⟨q2952, by decide, Or.inl ⟨_, _, rfl⟩⟩
theorem in_X5_readRecords : Cond.initialized yX5_readRecords.cls ∈ lw_all := q123
theorem hy_X5_readRecords : yX5_readRecords.cls ≠ "java/lang/invoke/MethodHandle" ∧ yX5_readRecords.cls ≠ "java/lang/invoke/VarHandle" ∧ (parseMethodDescriptor yX5_readRecords.desc).map (fun d => d.parameters.length) = some 0 := by decide +kernel
abbrev kc_X5_readWith : Cond := .code yX5_readWith cX5_readWith 3 (Option.some Jvm.ClassFile.FieldType.int)
theorem cd_X5_readWith : kt_cd kc_X5_readWith yX5_readWith 3 := ⟨q2687, by decide, Or.inl ⟨_, _, rfl⟩⟩
theorem in_X5_readWith : Cond.initialized yX5_readWith.cls ∈ lw_all := q123
theorem hy_X5_readWith : yX5_readWith.cls ≠ "java/lang/invoke/MethodHandle" ∧ yX5_readWith.cls ≠ "java/lang/invoke/VarHandle" ∧ (parseMethodDescriptor yX5_readWith.desc).map (fun d => d.parameters.length) = some 2 := by decide +kernel
abbrev kc_X5_readable : Cond := .code yX5_readable cX5_readable 3 (Option.some Jvm.ClassFile.FieldType.float)
theorem cd_X5_readable : kt_cd kc_X5_readable yX5_readable 3 := ⟨q2789, by decide, Or.inl ⟨_, _, rfl⟩⟩
theorem in_X5_readable : Cond.initialized yX5_readable.cls ∈ lw_all := q123
theorem hy_X5_readable : yX5_readable.cls ≠ "java/lang/invoke/MethodHandle" ∧ yX5_readable.cls ≠ "java/lang/invoke/VarHandle" ∧ (parseMethodDescriptor yX5_readable.desc).map (fun d => d.parameters.length) = some 0 := by decide +kernel
abbrev kc_X5_readableBy : Cond := .code yX5_readableBy cX5_readableBy 5 (Option.some Jvm.ClassFile.FieldType.int)
theorem cd_X5_readableBy : kt_cd kc_X5_readableBy yX5_readableBy 5 := ⟨q2672, by decide, Or.inl ⟨_, _, rfl⟩⟩
theorem in_X5_readableBy : Cond.initialized yX5_readableBy.cls ∈ lw_all := q123
theorem hy_X5_readableBy : yX5_readableBy.cls ≠ "java/lang/invoke/MethodHandle" ∧ yX5_readableBy.cls ≠ "java/lang/invoke/VarHandle" ∧ (parseMethodDescriptor yX5_readableBy.desc).map (fun d => d.parameters.length) = some 1 := by decide +kernel
abbrev kc_X5_readers : Cond := .code yX5_readers cX5_readers 4 (Option.some Jvm.ClassFile.FieldType.int)
theorem cd_X5_readers : kt_cd kc_X5_readers yX5_readers 4 := ⟨q2641, by decide, Or.inl ⟨_, _, rfl⟩⟩
theorem in_X5_readers : Cond.initialized yX5_readers.cls ∈ lw_all := q123
theorem hy_X5_readers : yX5_readers.cls ≠ "java/lang/invoke/MethodHandle" ∧ yX5_readers.cls ≠ "java/lang/invoke/VarHandle" ∧ (parseMethodDescriptor yX5_readers.desc).map (fun d => d.parameters.length) = some 1 := by decide +kernel
abbrev kc_X5_readersBehind : Cond := .code yX5_readersBehind cX5_readersBehind 5 (Option.some Jvm.ClassFile.FieldType.int)
theorem cd_X5_readersBehind : kt_cd kc_X5_readersBehind yX5_readersBehind 5 := ⟨q2714, by decide, Or.inl ⟨_, _, rfl⟩⟩
theorem in_X5_readersBehind : Cond.initialized yX5_readersBehind.cls ∈ lw_all := q123
theorem hy_X5_readersBehind : yX5_readersBehind.cls ≠ "java/lang/invoke/MethodHandle" ∧ yX5_readersBehind.cls ≠ "java/lang/invoke/VarHandle" ∧ (parseMethodDescriptor yX5_readersBehind.desc).map (fun d => d.parameters.length) = some 2 := by decide +kernel
abbrev kc_X5_readsBy : Cond := .code yX5_readsBy cX5_readsBy 3 (Option.some Jvm.ClassFile.FieldType.int)
theorem cd_X5_readsBy : kt_cd kc_X5_readsBy yX5_readsBy 3 := ⟨q2683, by decide, Or.inl ⟨_, _, rfl⟩⟩
theorem in_X5_readsBy : Cond.initialized yX5_readsBy.cls ∈ lw_all := q123
theorem hy_X5_readsBy : yX5_readsBy.cls ≠ "java/lang/invoke/MethodHandle" ∧ yX5_readsBy.cls ≠ "java/lang/invoke/VarHandle" ∧ (parseMethodDescriptor yX5_readsBy.desc).map (fun d => d.parameters.length) = some 2 := by decide +kernel
abbrev kc_X5_record : Cond := .code yX5_record cX5_record 3 (Option.some Jvm.ClassFile.FieldType.int)
theorem cd_X5_record : kt_cd kc_X5_record yX5_record 3 := ⟨q2632, by decide, Or.inl ⟨_, _, rfl⟩⟩
theorem in_X5_record : Cond.initialized yX5_record.cls ∈ lw_all := q123
theorem hy_X5_record : yX5_record.cls ≠ "java/lang/invoke/MethodHandle" ∧ yX5_record.cls ≠ "java/lang/invoke/VarHandle" ∧ (parseMethodDescriptor yX5_record.desc).map (fun d => d.parameters.length) = some 2 := by decide +kernel
abbrev kc_X5_recordAt : Cond := .code yX5_recordAt cX5_recordAt 2 (Option.some Jvm.ClassFile.FieldType.int)
theorem cd_X5_recordAt : kt_cd kc_X5_recordAt yX5_recordAt 2 := ⟨q2569, by decide, Or.inl ⟨_, _, rfl⟩⟩
theorem in_X5_recordAt : Cond.initialized yX5_recordAt.cls ∈ lw_all := q123
theorem hy_X5_recordAt : yX5_recordAt.cls ≠ "java/lang/invoke/MethodHandle" ∧ yX5_recordAt.cls ≠ "java/lang/invoke/VarHandle" ∧ (parseMethodDescriptor yX5_recordAt.desc).map (fun d => d.parameters.length) = some 2 := by decide +kernel
abbrev kc_X5_restoreSnapshot : Cond := .code yX5_restoreSnapshot cX5_restoreSnapshot 1 (Option.some Jvm.ClassFile.FieldType.boolean)
theorem cd_X5_restoreSnapshot : kt_cd kc_X5_restoreSnapshot yX5_restoreSnapshot 1 := ⟨q2861, by decide, Or.inl ⟨_, _, rfl⟩⟩
theorem in_X5_restoreSnapshot : Cond.initialized yX5_restoreSnapshot.cls ∈ lw_all := q123
theorem hy_X5_restoreSnapshot : yX5_restoreSnapshot.cls ≠ "java/lang/invoke/MethodHandle" ∧ yX5_restoreSnapshot.cls ≠ "java/lang/invoke/VarHandle" ∧ (parseMethodDescriptor yX5_restoreSnapshot.desc).map (fun d => d.parameters.length) = some 0 := by decide +kernel
abbrev kc_X5_rotate : Cond := .code yX5_rotate cX5_rotate 2 (Option.some Jvm.ClassFile.FieldType.int)
theorem cd_X5_rotate : kt_cd kc_X5_rotate yX5_rotate 2 := ⟨q2801, by decide, Or.inl ⟨_, _, rfl⟩⟩
theorem in_X5_rotate : Cond.initialized yX5_rotate.cls ∈ lw_all := q123
theorem hy_X5_rotate : yX5_rotate.cls ≠ "java/lang/invoke/MethodHandle" ∧ yX5_rotate.cls ≠ "java/lang/invoke/VarHandle" ∧ (parseMethodDescriptor yX5_rotate.desc).map (fun d => d.parameters.length) = some 0 := by decide +kernel
abbrev kc_X5_saveSnapshot : Cond := .code yX5_saveSnapshot cX5_saveSnapshot 1 (Option.none : Option Jvm.ClassFile.FieldType)
theorem cd_X5_saveSnapshot : kt_cd kc_X5_saveSnapshot yX5_saveSnapshot 1 := ⟨q2857, by decide, Or.inl ⟨_, _, rfl⟩⟩
theorem in_X5_saveSnapshot : Cond.initialized yX5_saveSnapshot.cls ∈ lw_all := q123
theorem hy_X5_saveSnapshot : yX5_saveSnapshot.cls ≠ "java/lang/invoke/MethodHandle" ∧ yX5_saveSnapshot.cls ≠ "java/lang/invoke/VarHandle" ∧ (parseMethodDescriptor yX5_saveSnapshot.desc).map (fun d => d.parameters.length) = some 0 := by decide +kernel
abbrev kc_X5_scan : Cond := .code yX5_scan cX5_scan 1 (Option.none : Option Jvm.ClassFile.FieldType)
theorem cd_X5_scan : kt_cd kc_X5_scan yX5_scan 1 := ⟨q2881, by decide, Or.inl ⟨_, _, rfl⟩⟩
theorem in_X5_scan : Cond.initialized yX5_scan.cls ∈ lw_all := q123
theorem hy_X5_scan : yX5_scan.cls ≠ "java/lang/invoke/MethodHandle" ∧ yX5_scan.cls ≠ "java/lang/invoke/VarHandle" ∧ (parseMethodDescriptor yX5_scan.desc).map (fun d => d.parameters.length) = some 0 := by decide +kernel
abbrev kc_X5_seenAt : Cond := .code yX5_seenAt cX5_seenAt 2 (Option.some Jvm.ClassFile.FieldType.int)
theorem cd_X5_seenAt : kt_cd kc_X5_seenAt yX5_seenAt 2 := ⟨q2694, by decide, Or.inl ⟨_, _, rfl⟩⟩
theorem in_X5_seenAt : Cond.initialized yX5_seenAt.cls ∈ lw_all := q123
theorem hy_X5_seenAt : yX5_seenAt.cls ≠ "java/lang/invoke/MethodHandle" ∧ yX5_seenAt.cls ≠ "java/lang/invoke/VarHandle" ∧ (parseMethodDescriptor yX5_seenAt.desc).map (fun d => d.parameters.length) = some 2 := by decide +kernel
abbrev kc_X5_setBatch : Cond := .code yX5_setBatch cX5_setBatch 3 (Option.some Jvm.ClassFile.FieldType.int)
theorem cd_X5_setBatch : kt_cd kc_X5_setBatch yX5_setBatch 3 := ⟨q2829, by decide, Or.inl ⟨_, _, rfl⟩⟩
theorem in_X5_setBatch : Cond.initialized yX5_setBatch.cls ∈ lw_all := q123
theorem hy_X5_setBatch : yX5_setBatch.cls ≠ "java/lang/invoke/MethodHandle" ∧ yX5_setBatch.cls ≠ "java/lang/invoke/VarHandle" ∧ (parseMethodDescriptor yX5_setBatch.desc).map (fun d => d.parameters.length) = some 1 := by decide +kernel
abbrev kc_X5_size : Cond := .code yX5_size cX5_size 2 (Option.some Jvm.ClassFile.FieldType.int)
theorem cd_X5_size : kt_cd kc_X5_size yX5_size 2 := ⟨q2558, by decide, Or.inl ⟨_, _, rfl⟩⟩
theorem in_X5_size : Cond.initialized yX5_size.cls ∈ lw_all := q123
theorem hy_X5_size : yX5_size.cls ≠ "java/lang/invoke/MethodHandle" ∧ yX5_size.cls ≠ "java/lang/invoke/VarHandle" ∧ (parseMethodDescriptor yX5_size.desc).map (fun d => d.parameters.length) = some 1 := by decide +kernel
abbrev kc_X5_startText : Cond := .code yX5_startText cX5_startText 2 (Option.none : Option Jvm.ClassFile.FieldType)
theorem cd_X5_startText : kt_cd kc_X5_startText yX5_startText 2 := ⟨q2877, by decide, Or.inl ⟨_, _, rfl⟩⟩
theorem in_X5_startText : Cond.initialized yX5_startText.cls ∈ lw_all := q123
theorem hy_X5_startText : yX5_startText.cls ≠ "java/lang/invoke/MethodHandle" ∧ yX5_startText.cls ≠ "java/lang/invoke/VarHandle" ∧ (parseMethodDescriptor yX5_startText.desc).map (fun d => d.parameters.length) = some 1 := by decide +kernel
abbrev kc_X5_stateOf : Cond := .code yX5_stateOf cX5_stateOf 2 (Option.some Jvm.ClassFile.FieldType.int)
theorem cd_X5_stateOf : kt_cd kc_X5_stateOf yX5_stateOf 2 := ⟨q2621, by decide, Or.inl ⟨_, _, rfl⟩⟩
theorem in_X5_stateOf : Cond.initialized yX5_stateOf.cls ∈ lw_all := q123
theorem hy_X5_stateOf : yX5_stateOf.cls ≠ "java/lang/invoke/MethodHandle" ∧ yX5_stateOf.cls ≠ "java/lang/invoke/VarHandle" ∧ (parseMethodDescriptor yX5_stateOf.desc).map (fun d => d.parameters.length) = some 1 := by decide +kernel
abbrev kc_X5_sweep : Cond := .code yX5_sweep cX5_sweep 4 (Option.none : Option Jvm.ClassFile.FieldType)
theorem cd_X5_sweep : kt_cd kc_X5_sweep yX5_sweep 4 := ⟨q2745, by decide, Or.inl ⟨_, _, rfl⟩⟩
theorem in_X5_sweep : Cond.initialized yX5_sweep.cls ∈ lw_all := q123
theorem hy_X5_sweep : yX5_sweep.cls ≠ "java/lang/invoke/MethodHandle" ∧ yX5_sweep.cls ≠ "java/lang/invoke/VarHandle" ∧ (parseMethodDescriptor yX5_sweep.desc).map (fun d => d.parameters.length) = some 0 := by decide +kernel
abbrev kc_X5_sweepAt : Cond := .code yX5_sweepAt cX5_sweepAt 5 (Option.some Jvm.ClassFile.FieldType.int)
theorem cd_X5_sweepAt : kt_cd kc_X5_sweepAt yX5_sweepAt 5 := ⟨q2698, by decide, Or.inl ⟨_, _, rfl⟩⟩
theorem in_X5_sweepAt : Cond.initialized yX5_sweepAt.cls ∈ lw_all := q123
theorem hy_X5_sweepAt : yX5_sweepAt.cls ≠ "java/lang/invoke/MethodHandle" ∧ yX5_sweepAt.cls ≠ "java/lang/invoke/VarHandle" ∧ (parseMethodDescriptor yX5_sweepAt.desc).map (fun d => d.parameters.length) = some 1 := by decide +kernel
abbrev kc_X5_takeBack : Cond := .code yX5_takeBack cX5_takeBack 4 (Option.some Jvm.ClassFile.FieldType.boolean)
theorem cd_X5_takeBack : kt_cd kc_X5_takeBack yX5_takeBack 4 := ⟨q2773, by decide, Or.inl ⟨_, _, rfl⟩⟩
theorem in_X5_takeBack : Cond.initialized yX5_takeBack.cls ∈ lw_all := q123
theorem hy_X5_takeBack : yX5_takeBack.cls ≠ "java/lang/invoke/MethodHandle" ∧ yX5_takeBack.cls ≠ "java/lang/invoke/VarHandle" ∧ (parseMethodDescriptor yX5_takeBack.desc).map (fun d => d.parameters.length) = some 1 := by decide +kernel
abbrev kc_X5_thrown : Cond := .code yX5_thrown cX5_thrown 1 (Option.some Jvm.ClassFile.FieldType.int)
theorem cd_X5_thrown : kt_cd kc_X5_thrown yX5_thrown 1 := ⟨q2554, by decide, Or.inl ⟨_, _, rfl⟩⟩
theorem in_X5_thrown : Cond.initialized yX5_thrown.cls ∈ lw_all := q123
theorem hy_X5_thrown : yX5_thrown.cls ≠ "java/lang/invoke/MethodHandle" ∧ yX5_thrown.cls ≠ "java/lang/invoke/VarHandle" ∧ (parseMethodDescriptor yX5_thrown.desc).map (fun d => d.parameters.length) = some 0 := by decide +kernel
abbrev kc_X5_undo : Cond := .code yX5_undo cX5_undo 1 (Option.some Jvm.ClassFile.FieldType.int)
theorem cd_X5_undo : kt_cd kc_X5_undo yX5_undo 1 := ⟨q2853, by decide, Or.inl ⟨_, _, rfl⟩⟩
theorem in_X5_undo : Cond.initialized yX5_undo.cls ∈ lw_all := q123
theorem hy_X5_undo : yX5_undo.cls ≠ "java/lang/invoke/MethodHandle" ∧ yX5_undo.cls ≠ "java/lang/invoke/VarHandle" ∧ (parseMethodDescriptor yX5_undo.desc).map (fun d => d.parameters.length) = some 0 := by decide +kernel
abbrev kc_X5_undoCount : Cond := .code yX5_undoCount cX5_undoCount 1 (Option.some Jvm.ClassFile.FieldType.int)
theorem cd_X5_undoCount : kt_cd kc_X5_undoCount yX5_undoCount 1 := ⟨q2849, by decide, Or.inl ⟨_, _, rfl⟩⟩
theorem in_X5_undoCount : Cond.initialized yX5_undoCount.cls ∈ lw_all := q123
theorem hy_X5_undoCount : yX5_undoCount.cls ≠ "java/lang/invoke/MethodHandle" ∧ yX5_undoCount.cls ≠ "java/lang/invoke/VarHandle" ∧ (parseMethodDescriptor yX5_undoCount.desc).map (fun d => d.parameters.length) = some 0 := by decide +kernel
abbrev kc_X5_usable : Cond := .code yX5_usable cX5_usable 4 (Option.some Jvm.ClassFile.FieldType.int)
theorem cd_X5_usable : kt_cd kc_X5_usable yX5_usable 4 := ⟨q2645, by decide, Or.inl ⟨_, _, rfl⟩⟩
theorem in_X5_usable : Cond.initialized yX5_usable.cls ∈ lw_all := q123
theorem hy_X5_usable : yX5_usable.cls ≠ "java/lang/invoke/MethodHandle" ∧ yX5_usable.cls ≠ "java/lang/invoke/VarHandle" ∧ (parseMethodDescriptor yX5_usable.desc).map (fun d => d.parameters.length) = some 1 := by decide +kernel
abbrev kc_X5_value : Cond := .code yX5_value cX5_value 3 (Option.some Jvm.ClassFile.FieldType.int)
theorem cd_X5_value : kt_cd kc_X5_value yX5_value 3 := ⟨q2928, by decide, Or.inl ⟨_, _, rfl⟩⟩
theorem in_X5_value : Cond.initialized yX5_value.cls ∈ lw_all := q123
theorem hy_X5_value : yX5_value.cls ≠ "java/lang/invoke/MethodHandle" ∧ yX5_value.cls ≠ "java/lang/invoke/VarHandle" ∧ (parseMethodDescriptor yX5_value.desc).map (fun d => d.parameters.length) = some 0 := by decide +kernel
abbrev kc_X5_version : Cond := .code yX5_version cX5_version 3 (Option.some Jvm.ClassFile.FieldType.int)
theorem cd_X5_version : kt_cd kc_X5_version yX5_version 3 := ⟨q2613, by decide, Or.inl ⟨_, _, rfl⟩⟩
theorem in_X5_version : Cond.initialized yX5_version.cls ∈ lw_all := q123
theorem hy_X5_version : yX5_version.cls ≠ "java/lang/invoke/MethodHandle" ∧ yX5_version.cls ≠ "java/lang/invoke/VarHandle" ∧ (parseMethodDescriptor yX5_version.desc).map (fun d => d.parameters.length) = some 2 := by decide +kernel
abbrev kc_X5_versionAt : Cond := .code yX5_versionAt cX5_versionAt 2 (Option.some Jvm.ClassFile.FieldType.int)
theorem cd_X5_versionAt : kt_cd kc_X5_versionAt yX5_versionAt 2 := ⟨q2469, by decide, Or.inl ⟨_, _, rfl⟩⟩
theorem in_X5_versionAt : Cond.initialized yX5_versionAt.cls ∈ lw_all := q123
theorem hy_X5_versionAt : yX5_versionAt.cls ≠ "java/lang/invoke/MethodHandle" ∧ yX5_versionAt.cls ≠ "java/lang/invoke/VarHandle" ∧ (parseMethodDescriptor yX5_versionAt.desc).map (fun d => d.parameters.length) = some 2 := by decide +kernel
abbrev kc_X5_withdraw : Cond := .code yX5_withdraw cX5_withdraw 3 (Option.some Jvm.ClassFile.FieldType.int)
theorem cd_X5_withdraw : kt_cd kc_X5_withdraw yX5_withdraw 3 := ⟨q2805, by decide, Or.inl ⟨_, _, rfl⟩⟩
theorem in_X5_withdraw : Cond.initialized yX5_withdraw.cls ∈ lw_all := q123
theorem hy_X5_withdraw : yX5_withdraw.cls ≠ "java/lang/invoke/MethodHandle" ∧ yX5_withdraw.cls ≠ "java/lang/invoke/VarHandle" ∧ (parseMethodDescriptor yX5_withdraw.desc).map (fun d => d.parameters.length) = some 1 := by decide +kernel
abbrev kc_X5_withdrawNow : Cond := .code yX5_withdrawNow cX5_withdrawNow 3 (Option.some Jvm.ClassFile.FieldType.int)
theorem cd_X5_withdrawNow : kt_cd kc_X5_withdrawNow yX5_withdrawNow 3 := ⟨q2769, by decide, Or.inl ⟨_, _, rfl⟩⟩
theorem in_X5_withdrawNow : Cond.initialized yX5_withdrawNow.cls ∈ lw_all := q123
theorem hy_X5_withdrawNow : yX5_withdrawNow.cls ≠ "java/lang/invoke/MethodHandle" ∧ yX5_withdrawNow.cls ≠ "java/lang/invoke/VarHandle" ∧ (parseMethodDescriptor yX5_withdrawNow.desc).map (fun d => d.parameters.length) = some 1 := by decide +kernel
abbrev kc_X5_wrap : Cond := .code yX5_wrap cX5_wrap 3 (Option.none : Option Jvm.ClassFile.FieldType)
theorem cd_X5_wrap : kt_cd kc_X5_wrap yX5_wrap 3 := ⟨q2741, by decide, Or.inl ⟨_, _, rfl⟩⟩
theorem in_X5_wrap : Cond.initialized yX5_wrap.cls ∈ lw_all := q123
theorem hy_X5_wrap : yX5_wrap.cls ≠ "java/lang/invoke/MethodHandle" ∧ yX5_wrap.cls ≠ "java/lang/invoke/VarHandle" ∧ (parseMethodDescriptor yX5_wrap.desc).map (fun d => d.parameters.length) = some 2 := by decide +kernel
abbrev kc_X5_wrappedBy : Cond := .code yX5_wrappedBy cX5_wrappedBy 4 (Option.some Jvm.ClassFile.FieldType.int)
theorem cd_X5_wrappedBy : kt_cd kc_X5_wrappedBy yX5_wrappedBy 4 := ⟨q2625, by decide, Or.inl ⟨_, _, rfl⟩⟩
theorem in_X5_wrappedBy : Cond.initialized yX5_wrappedBy.cls ∈ lw_all := q123
theorem hy_X5_wrappedBy : yX5_wrappedBy.cls ≠ "java/lang/invoke/MethodHandle" ∧ yX5_wrappedBy.cls ≠ "java/lang/invoke/VarHandle" ∧ (parseMethodDescriptor yX5_wrappedBy.desc).map (fun d => d.parameters.length) = some 1 := by decide +kernel
abbrev kc_X5_writing : Cond := .code yX5_writing cX5_writing 3 (Option.some Jvm.ClassFile.FieldType.int)
theorem cd_X5_writing : kt_cd kc_X5_writing yX5_writing 3 := ⟨q2573, by decide, Or.inl ⟨_, _, rfl⟩⟩
theorem in_X5_writing : Cond.initialized yX5_writing.cls ∈ lw_all := q123
theorem hy_X5_writing : yX5_writing.cls ≠ "java/lang/invoke/MethodHandle" ∧ yX5_writing.cls ≠ "java/lang/invoke/VarHandle" ∧ (parseMethodDescriptor yX5_writing.desc).map (fun d => d.parameters.length) = some 0 := by decide +kernel
abbrev kc_X6_accept : Cond := .code yX6_accept cX6_accept 3 (Option.some Jvm.ClassFile.FieldType.boolean)
theorem cd_X6_accept : kt_cd kc_X6_accept yX6_accept 3 := ⟨q1625, by decide, Or.inl ⟨_, _, rfl⟩⟩
theorem in_X6_accept : Cond.initialized yX6_accept.cls ∈ lw_all := q128
theorem hy_X6_accept : yX6_accept.cls ≠ "java/lang/invoke/MethodHandle" ∧ yX6_accept.cls ≠ "java/lang/invoke/VarHandle" ∧ (parseMethodDescriptor yX6_accept.desc).map (fun d => d.parameters.length) = some 1 := by decide +kernel
abbrev kc_X6_byteAt : Cond := .code yX6_byteAt cX6_byteAt 2 (Option.some Jvm.ClassFile.FieldType.int)
theorem cd_X6_byteAt : kt_cd kc_X6_byteAt yX6_byteAt 2 := ⟨q1524, by decide, Or.inl ⟨_, _, rfl⟩⟩
theorem in_X6_byteAt : Cond.initialized yX6_byteAt.cls ∈ lw_all := q128
theorem hy_X6_byteAt : yX6_byteAt.cls ≠ "java/lang/invoke/MethodHandle" ∧ yX6_byteAt.cls ≠ "java/lang/invoke/VarHandle" ∧ (parseMethodDescriptor yX6_byteAt.desc).map (fun d => d.parameters.length) = some 1 := by decide +kernel
abbrev kc_X6_check : Cond := .code yX6_check cX6_check 3 (Option.none : Option Jvm.ClassFile.FieldType)
theorem cd_X6_check : kt_cd kc_X6_check yX6_check 3 := ⟨q1647, by decide, Or.inl ⟨_, _, rfl⟩⟩
theorem in_X6_check : Cond.initialized yX6_check.cls ∈ lw_all := q128
theorem hy_X6_check : yX6_check.cls ≠ "java/lang/invoke/MethodHandle" ∧ yX6_check.cls ≠ "java/lang/invoke/VarHandle" ∧ (parseMethodDescriptor yX6_check.desc).map (fun d => d.parameters.length) = some 2 := by decide +kernel
abbrev kc_X6_expectSign : Cond := .code yX6_expectSign cX6_expectSign 2 (Option.none : Option Jvm.ClassFile.FieldType)
theorem cd_X6_expectSign : kt_cd kc_X6_expectSign yX6_expectSign 2 := ⟨q1695, by decide, Or.inl ⟨_, _, rfl⟩⟩
theorem in_X6_expectSign : Cond.initialized yX6_expectSign.cls ∈ lw_all := q128
theorem hy_X6_expectSign : yX6_expectSign.cls ≠ "java/lang/invoke/MethodHandle" ∧ yX6_expectSign.cls ≠ "java/lang/invoke/VarHandle" ∧ (parseMethodDescriptor yX6_expectSign.desc).map (fun d => d.parameters.length) = some 1 := by decide +kernel
abbrev kc_X6_init : Cond := .code yX6_init cX6_init 3 (Option.none : Option Jvm.ClassFile.FieldType)
theorem cd_X6_init : kt_cd kc_X6_init yX6_init 3 := ⟨q1511, by decide, Or.inl ⟨_, _, rfl⟩⟩
theorem in_X6_init : Cond.initialized yX6_init.cls ∈ lw_all := q128
theorem hy_X6_init : yX6_init.cls ≠ "java/lang/invoke/MethodHandle" ∧ yX6_init.cls ≠ "java/lang/invoke/VarHandle" ∧ (parseMethodDescriptor yX6_init.desc).map (fun d => d.parameters.length) = some 2 := by decide +kernel
theorem hi_X6_init : yX6_init.name = "<init>" ∧ yX6_init.cls ≠ "java/lang/invoke/MethodHandle" ∧ yX6_init.cls ≠ "java/lang/invoke/VarHandle" ∧ (parseMethodDescriptor yX6_init.desc).map (fun d => d.parameters.length) = some 2 := ⟨rfl, hy_X6_init⟩
abbrev kc_X6_isDigit : Cond := .code yX6_isDigit cX6_isDigit 1 (Option.some Jvm.ClassFile.FieldType.boolean)
theorem cd_X6_isDigit : kt_cd kc_X6_isDigit yX6_isDigit 1 := ⟨q1570, by decide, Or.inl ⟨_, _, rfl⟩⟩
theorem in_X6_isDigit : Cond.initialized yX6_isDigit.cls ∈ lw_all := q128
theorem hy_X6_isDigit : yX6_isDigit.cls ≠ "java/lang/invoke/MethodHandle" ∧ yX6_isDigit.cls ≠ "java/lang/invoke/VarHandle" ∧ (parseMethodDescriptor yX6_isDigit.desc).map (fun d => d.parameters.length) = some 1 := by decide +kernel
abbrev kc_X6_isLetter : Cond := .code yX6_isLetter cX6_isLetter 1 (Option.some Jvm.ClassFile.FieldType.boolean)
theorem cd_X6_isLetter : kt_cd kc_X6_isLetter yX6_isLetter 1 := ⟨q1552, by decide, Or.inl ⟨_, _, rfl⟩⟩
theorem in_X6_isLetter : Cond.initialized yX6_isLetter.cls ∈ lw_all := q128
theorem hy_X6_isLetter : yX6_isLetter.cls ≠ "java/lang/invoke/MethodHandle" ∧ yX6_isLetter.cls ≠ "java/lang/invoke/VarHandle" ∧ (parseMethodDescriptor yX6_isLetter.desc).map (fun d => d.parameters.length) = some 1 := by decide +kernel
abbrev kc_X6_isSign : Cond := .code yX6_isSign cX6_isSign 2 (Option.some Jvm.ClassFile.FieldType.boolean)
theorem cd_X6_isSign : kt_cd kc_X6_isSign yX6_isSign 2 := ⟨q1701, by decide, Or.inl ⟨_, _, rfl⟩⟩
theorem in_X6_isSign : Cond.initialized yX6_isSign.cls ∈ lw_all := q128
theorem hy_X6_isSign : yX6_isSign.cls ≠ "java/lang/invoke/MethodHandle" ∧ yX6_isSign.cls ≠ "java/lang/invoke/VarHandle" ∧ (parseMethodDescriptor yX6_isSign.desc).map (fun d => d.parameters.length) = some 1 := by decide +kernel
abbrev kc_X6_keyword : Cond := .code yX6_keyword cX6_keyword 1 (Option.some (Jvm.ClassFile.FieldType.object "java/lang/String"))
theorem cd_X6_keyword : kt_cd kc_X6_keyword yX6_keyword 1 := ⟨q1631, by decide, Or.inl ⟨_, _, rfl⟩⟩
theorem in_X6_keyword : Cond.initialized yX6_keyword.cls ∈ lw_all := q128
theorem hy_X6_keyword : yX6_keyword.cls ≠ "java/lang/invoke/MethodHandle" ∧ yX6_keyword.cls ≠ "java/lang/invoke/VarHandle" ∧ (parseMethodDescriptor yX6_keyword.desc).map (fun d => d.parameters.length) = some 0 := by decide +kernel
abbrev kc_X6_next : Cond := .code yX6_next cX6_next 2 (Option.none : Option Jvm.ClassFile.FieldType)
theorem cd_X6_next : kt_cd kc_X6_next yX6_next 2 := ⟨q1520, by decide, Or.inl ⟨_, _, rfl⟩⟩
theorem in_X6_next : Cond.initialized yX6_next.cls ∈ lw_all := q128
theorem hy_X6_next : yX6_next.cls ≠ "java/lang/invoke/MethodHandle" ∧ yX6_next.cls ≠ "java/lang/invoke/VarHandle" ∧ (parseMethodDescriptor yX6_next.desc).map (fun d => d.parameters.length) = some 0 := by decide +kernel
abbrev kc_X6_number : Cond := .code yX6_number cX6_number 4 (Option.some Jvm.ClassFile.FieldType.int)
theorem cd_X6_number : kt_cd kc_X6_number yX6_number 4 := ⟨q1681, by decide, Or.inl ⟨_, _, rfl⟩⟩
theorem in_X6_number : Cond.initialized yX6_number.cls ∈ lw_all := q128
theorem hy_X6_number : yX6_number.cls ≠ "java/lang/invoke/MethodHandle" ∧ yX6_number.cls ≠ "java/lang/invoke/VarHandle" ∧ (parseMethodDescriptor yX6_number.desc).map (fun d => d.parameters.length) = some 2 := by decide +kernel
abbrev kc_X6_peek : Cond := .code yX6_peek cX6_peek 3 (Option.some Jvm.ClassFile.FieldType.int)
theorem cd_X6_peek : kt_cd kc_X6_peek yX6_peek 3 := ⟨q1687, by decide, Or.inl ⟨_, _, rfl⟩⟩
theorem in_X6_peek : Cond.initialized yX6_peek.cls ∈ lw_all := q128
theorem hy_X6_peek : yX6_peek.cls ≠ "java/lang/invoke/MethodHandle" ∧ yX6_peek.cls ≠ "java/lang/invoke/VarHandle" ∧ (parseMethodDescriptor yX6_peek.desc).map (fun d => d.parameters.length) = some 2 := by decide +kernel
abbrev kc_X6_relationSign : Cond := .code yX6_relationSign cX6_relationSign 2 (Option.some Jvm.ClassFile.FieldType.int)
theorem cd_X6_relationSign : kt_cd kc_X6_relationSign yX6_relationSign 2 := ⟨q2374, by decide, Or.inl ⟨_, _, rfl⟩⟩
theorem in_X6_relationSign : Cond.initialized yX6_relationSign.cls ∈ lw_all := q128
theorem hy_X6_relationSign : yX6_relationSign.cls ≠ "java/lang/invoke/MethodHandle" ∧ yX6_relationSign.cls ≠ "java/lang/invoke/VarHandle" ∧ (parseMethodDescriptor yX6_relationSign.desc).map (fun d => d.parameters.length) = some 0 := by decide +kernel
abbrev kc_X7_clause : Cond := .code yX7_clause cX7_clause 6 (Option.none : Option Jvm.ClassFile.FieldType)
theorem cd_X7_clause : kt_cd kc_X7_clause yX7_clause 6 := ⟨q1710, by decide, Or.inl ⟨_, _, rfl⟩⟩
theorem in_X7_clause : Cond.initialized yX7_clause.cls ∈ lw_all := q129
theorem hy_X7_clause : yX7_clause.cls ≠ "java/lang/invoke/MethodHandle" ∧ yX7_clause.cls ≠ "java/lang/invoke/VarHandle" ∧ (parseMethodDescriptor yX7_clause.desc).map (fun d => d.parameters.length) = some 1 := by decide +kernel
abbrev kc_X7_init : Cond := .code yX7_init cX7_init 3 (Option.none : Option Jvm.ClassFile.FieldType)
theorem cd_X7_init : kt_cd kc_X7_init yX7_init 3 := ⟨q1508, by decide, Or.inl ⟨_, _, rfl⟩⟩
theorem in_X7_init : Cond.initialized yX7_init.cls ∈ lw_all := q129
theorem hy_X7_init : yX7_init.cls ≠ "java/lang/invoke/MethodHandle" ∧ yX7_init.cls ≠ "java/lang/invoke/VarHandle" ∧ (parseMethodDescriptor yX7_init.desc).map (fun d => d.parameters.length) = some 2 := by decide +kernel
theorem hi_X7_init : yX7_init.name = "<init>" ∧ yX7_init.cls ≠ "java/lang/invoke/MethodHandle" ∧ yX7_init.cls ≠ "java/lang/invoke/VarHandle" ∧ (parseMethodDescriptor yX7_init.desc).map (fun d => d.parameters.length) = some 2 := ⟨rfl, hy_X7_init⟩
abbrev kc_X7_parse : Cond := .code yX7_parse cX7_parse 5 (Option.some (Jvm.ClassFile.FieldType.object "KeyTurns$State"))
theorem cd_X7_parse : kt_cd kc_X7_parse yX7_parse 5 := ⟨q1618, by decide, Or.inl ⟨_, _, rfl⟩⟩
theorem in_X7_parse : Cond.initialized yX7_parse.cls ∈ lw_all := q129
theorem hy_X7_parse : yX7_parse.cls ≠ "java/lang/invoke/MethodHandle" ∧ yX7_parse.cls ≠ "java/lang/invoke/VarHandle" ∧ (parseMethodDescriptor yX7_parse.desc).map (fun d => d.parameters.length) = some 0 := by decide +kernel
abbrev kc_X8_init : Cond := .code yX8_init cX8_init 4 (Option.none : Option Jvm.ClassFile.FieldType)
theorem cd_X8_init : kt_cd kc_X8_init yX8_init 4 := ⟨q1659, by decide, Or.inl ⟨_, _, rfl⟩⟩
theorem in_X8_init : Cond.initialized yX8_init.cls ∈ lw_all := q140
theorem hy_X8_init : yX8_init.cls ≠ "java/lang/invoke/MethodHandle" ∧ yX8_init.cls ≠ "java/lang/invoke/VarHandle" ∧ (parseMethodDescriptor yX8_init.desc).map (fun d => d.parameters.length) = some 3 := by decide +kernel
theorem hi_X8_init : yX8_init.name = "<init>" ∧ yX8_init.cls ≠ "java/lang/invoke/MethodHandle" ∧ yX8_init.cls ≠ "java/lang/invoke/VarHandle" ∧ (parseMethodDescriptor yX8_init.desc).map (fun d => d.parameters.length) = some 3 := ⟨rfl, hy_X8_init⟩
abbrev kc_X9_canUse : Cond := .code yX9_canUse cX9_canUse 3 (Option.some Jvm.ClassFile.FieldType.boolean)
theorem cd_X9_canUse : kt_cd kc_X9_canUse yX9_canUse 3 := ⟨q619, by decide, Or.inl ⟨_, _, rfl⟩⟩
theorem in_X9_canUse : Cond.initialized yX9_canUse.cls ∈ lw_all := q141
theorem hy_X9_canUse : yX9_canUse.cls ≠ "java/lang/invoke/MethodHandle" ∧ yX9_canUse.cls ≠ "java/lang/invoke/VarHandle" ∧ (parseMethodDescriptor yX9_canUse.desc).map (fun d => d.parameters.length) = some 2 := by decide +kernel
abbrev kc_X9_copy : Cond := .code yX9_copy cX9_copy 2 (Option.some (Jvm.ClassFile.FieldType.object "KeyTurns$Client"))
theorem cd_X9_copy : kt_cd kc_X9_copy yX9_copy 2 := ⟨q812, by decide, Or.inl ⟨_, _, rfl⟩⟩
theorem in_X9_copy : Cond.initialized yX9_copy.cls ∈ lw_all := q141
theorem hy_X9_copy : yX9_copy.cls ≠ "java/lang/invoke/MethodHandle" ∧ yX9_copy.cls ≠ "java/lang/invoke/VarHandle" ∧ (parseMethodDescriptor yX9_copy.desc).map (fun d => d.parameters.length) = some 0 := by decide +kernel
abbrev kc_X9_greatest : Cond := .code yX9_greatest cX9_greatest 4 (Option.some Jvm.ClassFile.FieldType.int)
theorem cd_X9_greatest : kt_cd kc_X9_greatest yX9_greatest 4 := ⟨q612, by decide, Or.inl ⟨_, _, rfl⟩⟩
theorem in_X9_greatest : Cond.initialized yX9_greatest.cls ∈ lw_all := q141
theorem hy_X9_greatest : yX9_greatest.cls ≠ "java/lang/invoke/MethodHandle" ∧ yX9_greatest.cls ≠ "java/lang/invoke/VarHandle" ∧ (parseMethodDescriptor yX9_greatest.desc).map (fun d => d.parameters.length) = some 2 := by decide +kernel
abbrev kc_X9_init : Cond := .code yX9_init cX9_init 5 (Option.none : Option Jvm.ClassFile.FieldType)
theorem cd_X9_init : kt_cd kc_X9_init yX9_init 5 := ⟨q822, by decide, Or.inl ⟨_, _, rfl⟩⟩
theorem in_X9_init : Cond.initialized yX9_init.cls ∈ lw_all := q141
theorem hy_X9_init : yX9_init.cls ≠ "java/lang/invoke/MethodHandle" ∧ yX9_init.cls ≠ "java/lang/invoke/VarHandle" ∧ (parseMethodDescriptor yX9_init.desc).map (fun d => d.parameters.length) = some 4 := by decide +kernel
theorem hi_X9_init : yX9_init.name = "<init>" ∧ yX9_init.cls ≠ "java/lang/invoke/MethodHandle" ∧ yX9_init.cls ≠ "java/lang/invoke/VarHandle" ∧ (parseMethodDescriptor yX9_init.desc).map (fun d => d.parameters.length) = some 4 := ⟨rfl, hy_X9_init⟩
abbrev kc_X9_isHour : Cond := .code yX9_isHour cX9_isHour 2 (Option.some Jvm.ClassFile.FieldType.boolean)
theorem cd_X9_isHour : kt_cd kc_X9_isHour yX9_isHour 2 := ⟨q1966, by decide, Or.inl ⟨_, _, rfl⟩⟩
theorem in_X9_isHour : Cond.initialized yX9_isHour.cls ∈ lw_all := q141
theorem hy_X9_isHour : yX9_isHour.cls ≠ "java/lang/invoke/MethodHandle" ∧ yX9_isHour.cls ≠ "java/lang/invoke/VarHandle" ∧ (parseMethodDescriptor yX9_isHour.desc).map (fun d => d.parameters.length) = some 1 := by decide +kernel
theorem fs_X1_15 : kt_FL "KeyTurns" 15 10 := Or.inr ⟨_, _, q265, Or.inl rfl⟩
theorem fs_X1_58 : kt_FL "KeyTurns" 58 11 := Or.inr ⟨_, _, q267, Or.inl rfl⟩
theorem fs_X1_67 : kt_FL "KeyTurns" 67 25 := Or.inr ⟨_, _, q769, Or.inl rfl⟩
theorem fs_X1_70 : kt_FL "KeyTurns" 70 26 := Or.inr ⟨_, _, q771, Or.inl rfl⟩
theorem fs_X1_104 : kt_FL "KeyTurns" 104 27 := Or.inr ⟨_, _, q774, Or.inl rfl⟩
theorem fs_X1_112 : kt_FL "KeyTurns" 112 2 := Or.inl ⟨_, q428, Or.inl rfl⟩
theorem fs_X1_116 : kt_FL "KeyTurns" 116 3 := Or.inl ⟨_, q430, Or.inl rfl⟩
theorem fs_X1_120 : kt_FL "KeyTurns" 120 5 := Or.inl ⟨_, q432, Or.inl rfl⟩
theorem fs_X1_125 : kt_FL "KeyTurns" 125 6 := Or.inl ⟨_, q433, Or.inl rfl⟩
theorem fs_X1_133 : kt_FL "KeyTurns" 133 0 := Or.inl ⟨_, q426, Or.inl rfl⟩
theorem fs_X1_137 : kt_FL "KeyTurns" 137 4 := Or.inl ⟨_, q431, Or.inl rfl⟩
theorem fs_X1_158 : kt_FL "KeyTurns" 158 44 := Or.inr ⟨_, _, q1669, Or.inl rfl⟩
theorem fs_X1_163 : kt_FL "KeyTurns" 163 43 := Or.inr ⟨_, _, q1667, Or.inl rfl⟩
theorem fs_X1_186 : kt_FL "KeyTurns" 186 1 := Or.inl ⟨_, q427, Or.inl rfl⟩
theorem fs_X1_197 : kt_FL "KeyTurns" 197 14 := Or.inr ⟨_, _, q273, Or.inl rfl⟩
theorem fs_X1_203 : kt_FL "KeyTurns" 203 12 := Or.inr ⟨_, _, q270, Or.inl rfl⟩
theorem fs_X1_206 : kt_FL "KeyTurns" 206 7 := Or.inr ⟨_, _, q259, Or.inl rfl⟩
theorem fs_X1_209 : kt_FL "KeyTurns" 209 8 := Or.inr ⟨_, _, q261, Or.inl rfl⟩
theorem fs_X1_212 : kt_FL "KeyTurns" 212 9 := Or.inr ⟨_, _, q263, Or.inl rfl⟩
theorem fs_X1_215 : kt_FL "KeyTurns" 215 15 := Or.inr ⟨_, _, q275, Or.inl rfl⟩
theorem fs_X1_224 : kt_FL "KeyTurns" 224 16 := Or.inr ⟨_, _, q277, Or.inl rfl⟩
theorem fs_X1_225 : kt_FL "KeyTurns" 225 17 := Or.inr ⟨_, _, q279, Or.inl rfl⟩
theorem fs_X1_237 : kt_FL "KeyTurns" 237 24 := Or.inr ⟨_, _, q1370, Or.inl rfl⟩
theorem fs_X1_246 : kt_FL "KeyTurns" 246 22 := Or.inl ⟨_, q335, Or.inl rfl⟩
theorem fs_X1_249 : kt_FL "KeyTurns" 249 23 := Or.inl ⟨_, q339, Or.inl rfl⟩
theorem fs_X1_279 : kt_FL "KeyTurns" 279 29 := Or.inr ⟨_, _, q825, Or.inl rfl⟩
theorem fs_X1_282 : kt_FL "KeyTurns" 282 30 := Or.inr ⟨_, _, q827, Or.inl rfl⟩
theorem fs_X1_285 : kt_FL "KeyTurns" 285 31 := Or.inr ⟨_, _, q829, Or.inl rfl⟩
theorem fs_X1_288 : kt_FL "KeyTurns" 288 33 := Or.inr ⟨_, _, q834, Or.inl rfl⟩
theorem fs_X1_291 : kt_FL "KeyTurns" 291 34 := Or.inr ⟨_, _, q837, Or.inl rfl⟩
theorem fs_X1_297 : kt_FL "KeyTurns" 297 32 := Or.inr ⟨_, _, q832, Or.inl rfl⟩
theorem fs_X1_388 : kt_FL "KeyTurns" 388 28 := Or.inr ⟨_, _, q778, Or.inl rfl⟩
theorem fs_X1_445 : kt_FL "KeyTurns" 445 56 := Or.inr ⟨_, _, q2153, Or.inl rfl⟩
theorem fs_X9_9 : kt_FL "KeyTurns$Client" 9 29 := Or.inl ⟨_, q824, Or.inl rfl⟩
theorem fs_X9_15 : kt_FL "KeyTurns$Client" 15 30 := Or.inl ⟨_, q826, Or.inl rfl⟩
theorem fs_X9_18 : kt_FL "KeyTurns$Client" 18 35 := Or.inl ⟨_, q839, Or.inl rfl⟩
theorem fs_X9_22 : kt_FL "KeyTurns$Client" 22 36 := Or.inl ⟨_, q841, Or.inl rfl⟩
theorem fs_X9_33 : kt_FL "KeyTurns$Client" 33 31 := Or.inl ⟨_, q828, Or.inl rfl⟩
theorem fs_X9_36 : kt_FL "KeyTurns$Client" 36 32 := Or.inl ⟨_, q831, Or.inl rfl⟩
theorem fs_X9_39 : kt_FL "KeyTurns$Client" 39 33 := Or.inl ⟨_, q833, Or.inl rfl⟩
theorem fs_X9_42 : kt_FL "KeyTurns$Client" 42 34 := Or.inl ⟨_, q836, Or.inl rfl⟩
theorem fs_X16_7 : kt_FL "KeyTurns$Comparison" 7 60 := Or.inl ⟨_, q2381, Or.inl rfl⟩
theorem fs_X16_13 : kt_FL "KeyTurns$Comparison" 13 61 := Or.inl ⟨_, q2382, Or.inl rfl⟩
theorem fs_X16_16 : kt_FL "KeyTurns$Comparison" 16 62 := Or.inl ⟨_, q2383, Or.inl rfl⟩
theorem fs_X4_9 : kt_FL "KeyTurns$Issued" 9 21 := Or.inl ⟨_, q324, Or.inr q325⟩
theorem fs_X4_13 : kt_FL "KeyTurns$Issued" 13 22 := Or.inl ⟨_, q330, Or.inr q331⟩
theorem fs_X17_7 : kt_FL "KeyTurns$Joined" 7 63 := Or.inl ⟨_, q2399, Or.inl rfl⟩
theorem fs_X17_13 : kt_FL "KeyTurns$Joined" 13 64 := Or.inl ⟨_, q2400, Or.inl rfl⟩
theorem fs_X7_3 : kt_FL "KeyTurns$KeysParser" 3 55 := Or.inl ⟨_, q1579, Or.inl rfl⟩
theorem fs_X7_33 : kt_FL "KeyTurns$KeysParser" 33 53 := Or.inl ⟨_, q1577, Or.inl rfl⟩
theorem fs_X7_41 : kt_FL "KeyTurns$KeysParser" 41 51 := Or.inl ⟨_, q1588, Or.inr q1589⟩
theorem fs_X7_58 : kt_FL "KeyTurns$KeysParser" 58 54 := Or.inl ⟨_, q1578, Or.inl rfl⟩
theorem fs_X7_68 : kt_FL "KeyTurns$KeysParser" 68 12 := Or.inr ⟨_, _, q269, Or.inl rfl⟩
theorem fs_X15_7 : kt_FL "KeyTurns$Not" 7 59 := Or.inl ⟨_, q2218, Or.inl rfl⟩
theorem fs_X13_3 : kt_FL "KeyTurns$QueryParser" 3 58 := Or.inl ⟨_, q2155, Or.inl rfl⟩
theorem fs_X13_21 : kt_FL "KeyTurns$QueryParser" 21 56 := Or.inl ⟨_, q2152, Or.inl rfl⟩
theorem fs_X13_35 : kt_FL "KeyTurns$QueryParser" 35 51 := Or.inl ⟨_, q1586, Or.inr q1587⟩
theorem fs_X13_68 : kt_FL "KeyTurns$QueryParser" 68 57 := Or.inl ⟨_, q2154, Or.inl rfl⟩
theorem fs_X6_3 : kt_FL "KeyTurns$Scanner" 3 52 := Or.inl ⟨_, q1591, Or.inl rfl⟩
theorem fs_X6_18 : kt_FL "KeyTurns$Scanner" 18 45 := Or.inl ⟨_, q1580, Or.inl rfl⟩
theorem fs_X6_22 : kt_FL "KeyTurns$Scanner" 22 46 := Or.inl ⟨_, q1581, Or.inl rfl⟩
theorem fs_X6_29 : kt_FL "KeyTurns$Scanner" 29 3 := Or.inr ⟨_, _, q429, Or.inl rfl⟩
theorem fs_X6_33 : kt_FL "KeyTurns$Scanner" 33 47 := Or.inl ⟨_, q1582, Or.inl rfl⟩
theorem fs_X6_40 : kt_FL "KeyTurns$Scanner" 40 48 := Or.inl ⟨_, q1583, Or.inl rfl⟩
theorem fs_X6_53 : kt_FL "KeyTurns$Scanner" 53 51 := Or.inl ⟨_, q1590, Or.inl rfl⟩
theorem fs_X6_70 : kt_FL "KeyTurns$Scanner" 70 49 := Or.inl ⟨_, q1584, Or.inl rfl⟩
theorem fs_X6_83 : kt_FL "KeyTurns$Scanner" 83 50 := Or.inl ⟨_, q1585, Or.inl rfl⟩
theorem fs_X10_14 : kt_FL "KeyTurns$Sealed" 14 26 := Or.inl ⟨_, q770, Or.inl rfl⟩
theorem fs_X10_20 : kt_FL "KeyTurns$Sealed" 20 25 := Or.inl ⟨_, q768, Or.inl rfl⟩
theorem fs_X10_29 : kt_FL "KeyTurns$Sealed" 29 27 := Or.inl ⟨_, q773, Or.inl rfl⟩
theorem fs_X10_32 : kt_FL "KeyTurns$Sealed" 32 28 := Or.inl ⟨_, q776, Or.inl rfl⟩
theorem fs_X18_7 : kt_FL "KeyTurns$Standing$1" 7 22 := Or.inl ⟨_, q329, Or.inl rfl⟩
theorem fs_X2_12 : kt_FL "KeyTurns$State" 12 10 := Or.inl ⟨_, q264, Or.inl rfl⟩
theorem fs_X2_18 : kt_FL "KeyTurns$State" 18 11 := Or.inl ⟨_, q266, Or.inl rfl⟩
theorem fs_X2_21 : kt_FL "KeyTurns$State" 21 12 := Or.inl ⟨_, q268, Or.inl rfl⟩
theorem fs_X2_27 : kt_FL "KeyTurns$State" 27 13 := Or.inl ⟨_, q271, Or.inl rfl⟩
theorem fs_X2_31 : kt_FL "KeyTurns$State" 31 18 := Or.inl ⟨_, q280, Or.inl rfl⟩
theorem fs_X2_35 : kt_FL "KeyTurns$State" 35 19 := Or.inl ⟨_, q281, Or.inl rfl⟩
theorem fs_X2_38 : kt_FL "KeyTurns$State" 38 7 := Or.inl ⟨_, q258, Or.inl rfl⟩
theorem fs_X2_42 : kt_FL "KeyTurns$State" 42 8 := Or.inl ⟨_, q260, Or.inl rfl⟩
theorem fs_X2_45 : kt_FL "KeyTurns$State" 45 9 := Or.inl ⟨_, q262, Or.inl rfl⟩
theorem fs_X2_48 : kt_FL "KeyTurns$State" 48 15 := Or.inl ⟨_, q274, Or.inl rfl⟩
theorem fs_X2_98 : kt_FL "KeyTurns$State" 98 14 := Or.inl ⟨_, q272, Or.inl rfl⟩
theorem fs_X2_101 : kt_FL "KeyTurns$State" 101 16 := Or.inl ⟨_, q276, Or.inl rfl⟩
theorem fs_X2_104 : kt_FL "KeyTurns$State" 104 17 := Or.inl ⟨_, q278, Or.inl rfl⟩
theorem fs_X2_128 : kt_FL "KeyTurns$State" 128 23 := Or.inl ⟨_, q338, Or.inl rfl⟩
theorem fs_X2_143 : kt_FL "KeyTurns$State" 143 22 := Or.inl ⟨_, q332, Or.inr q333⟩
theorem fs_X2_149 : kt_FL "KeyTurns$State" 149 24 := Or.inr ⟨_, _, q1369, Or.inl rfl⟩
theorem fs_X2_159 : kt_FL "KeyTurns$State" 159 22 := Or.inl ⟨_, q334, Or.inl rfl⟩
theorem fs_X2_199 : kt_FL "KeyTurns$State" 199 26 := Or.inr ⟨_, _, q772, Or.inl rfl⟩
theorem fs_X2_211 : kt_FL "KeyTurns$State" 211 28 := Or.inr ⟨_, _, q777, Or.inl rfl⟩
theorem fs_X2_228 : kt_FL "KeyTurns$State" 228 27 := Or.inr ⟨_, _, q775, Or.inl rfl⟩
theorem fs_X2_229 : kt_FL "KeyTurns$State" 229 20 := Or.inl ⟨_, q282, Or.inl rfl⟩
theorem fs_X2_244 : kt_FL "KeyTurns$State" 244 33 := Or.inr ⟨_, _, q835, Or.inl rfl⟩
theorem fs_X2_247 : kt_FL "KeyTurns$State" 247 31 := Or.inr ⟨_, _, q830, Or.inl rfl⟩
theorem fs_X2_250 : kt_FL "KeyTurns$State" 250 34 := Or.inr ⟨_, _, q838, Or.inl rfl⟩
theorem fs_X2_253 : kt_FL "KeyTurns$State" 253 35 := Or.inr ⟨_, _, q840, Or.inl rfl⟩
theorem fs_X2_256 : kt_FL "KeyTurns$State" 256 36 := Or.inr ⟨_, _, q842, Or.inl rfl⟩
theorem fs_X2_293 : kt_FL "KeyTurns$State" 293 21 := Or.inl ⟨_, q326, Or.inl rfl⟩
theorem fs_X8_7 : kt_FL "KeyTurns$TextError" 7 43 := Or.inl ⟨_, q1666, Or.inl rfl⟩
theorem fs_X8_13 : kt_FL "KeyTurns$TextError" 13 44 := Or.inl ⟨_, q1668, Or.inl rfl⟩
theorem fs_X3_7 : kt_FL "KeyTurns$Version" 7 21 := Or.inl ⟨_, q323, Or.inl rfl⟩
theorem fs_X3_13 : kt_FL "KeyTurns$Version" 13 22 := Or.inl ⟨_, q328, Or.inl rfl⟩
theorem fs_X3_16 : kt_FL "KeyTurns$Version" 16 23 := Or.inl ⟨_, q337, Or.inl rfl⟩
theorem fs_X12_1 : kt_FL "KeyTurns$Withdrawn" 1 21 := Or.inl ⟨_, q322, Or.inl rfl⟩
theorem fs_X12_7 : kt_FL "KeyTurns$Withdrawn" 7 22 := Or.inl ⟨_, q327, Or.inl rfl⟩
theorem fs_X12_10 : kt_FL "KeyTurns$Withdrawn" 10 23 := Or.inl ⟨_, q336, Or.inl rfl⟩
theorem fs_X12_17 : kt_FL "KeyTurns$Withdrawn" 17 24 := Or.inl ⟨_, q1368, Or.inl rfl⟩
theorem fs_X5_9 : kt_FL "KeyTurnsModel" 9 65 := Or.inl ⟨_, q2475, Or.inl rfl⟩
theorem fs_X5_13 : kt_FL "KeyTurnsModel" 13 66 := Or.inl ⟨_, q2476, Or.inl rfl⟩
theorem fs_X5_16 : kt_FL "KeyTurnsModel" 16 67 := Or.inl ⟨_, q2477, Or.inl rfl⟩
theorem fs_X5_19 : kt_FL "KeyTurnsModel" 19 68 := Or.inl ⟨_, q2478, Or.inl rfl⟩
theorem fs_X5_22 : kt_FL "KeyTurnsModel" 22 69 := Or.inl ⟨_, q2479, Or.inl rfl⟩
theorem fs_X5_25 : kt_FL "KeyTurnsModel" 25 73 := Or.inl ⟨_, q2483, Or.inl rfl⟩
theorem fs_X5_28 : kt_FL "KeyTurnsModel" 28 74 := Or.inl ⟨_, q2484, Or.inl rfl⟩
theorem fs_X5_31 : kt_FL "KeyTurnsModel" 31 76 := Or.inl ⟨_, q2486, Or.inl rfl⟩
theorem fs_X5_34 : kt_FL "KeyTurnsModel" 34 84 := Or.inl ⟨_, q2494, Or.inl rfl⟩
theorem fs_X5_56 : kt_FL "KeyTurnsModel" 56 86 := Or.inl ⟨_, q2496, Or.inl rfl⟩
theorem fs_X5_60 : kt_FL "KeyTurnsModel" 60 87 := Or.inl ⟨_, q2497, Or.inl rfl⟩
theorem fs_X5_63 : kt_FL "KeyTurnsModel" 63 88 := Or.inl ⟨_, q2498, Or.inl rfl⟩
theorem fs_X5_71 : kt_FL "KeyTurnsModel" 71 71 := Or.inl ⟨_, q2481, Or.inl rfl⟩
theorem fs_X5_242 : kt_FL "KeyTurnsModel" 242 75 := Or.inl ⟨_, q2485, Or.inl rfl⟩
theorem fs_X5_251 : kt_FL "KeyTurnsModel" 251 70 := Or.inl ⟨_, q2480, Or.inl rfl⟩
theorem fs_X5_254 : kt_FL "KeyTurnsModel" 254 72 := Or.inl ⟨_, q2482, Or.inl rfl⟩
theorem fs_X5_258 : kt_FL "KeyTurnsModel" 258 77 := Or.inl ⟨_, q2487, Or.inl rfl⟩
theorem fs_X5_261 : kt_FL "KeyTurnsModel" 261 78 := Or.inl ⟨_, q2488, Or.inl rfl⟩
theorem fs_X5_267 : kt_FL "KeyTurnsModel" 267 79 := Or.inl ⟨_, q2489, Or.inl rfl⟩
theorem fs_X5_270 : kt_FL "KeyTurnsModel" 270 80 := Or.inl ⟨_, q2490, Or.inl rfl⟩
theorem fs_X5_273 : kt_FL "KeyTurnsModel" 273 81 := Or.inl ⟨_, q2491, Or.inl rfl⟩
theorem fs_X5_282 : kt_FL "KeyTurnsModel" 282 82 := Or.inl ⟨_, q2492, Or.inl rfl⟩
theorem fs_X5_285 : kt_FL "KeyTurnsModel" 285 85 := Or.inl ⟨_, q2495, Or.inl rfl⟩
theorem fs_X5_291 : kt_FL "KeyTurnsModel" 291 83 := Or.inl ⟨_, q2493, Or.inl rfl⟩
theorem fs_X5_360 : kt_FL "KeyTurnsModel" 360 89 := Or.inl ⟨_, q2499, Or.inl rfl⟩
theorem fs_J13_15 : kt_FL "java/lang/AbstractStringBuilder" 15 110 := Or.inl ⟨_, q1059, Or.inl rfl⟩
theorem fs_J13_22 : kt_FL "java/lang/AbstractStringBuilder" 22 111 := Or.inl ⟨_, q1060, Or.inl rfl⟩
theorem fs_J13_73 : kt_FL "java/lang/AbstractStringBuilder" 73 112 := Or.inl ⟨_, q1061, Or.inl rfl⟩
theorem fs_J13_79 : kt_FL "java/lang/AbstractStringBuilder" 79 113 := Or.inl ⟨_, q1063, Or.inl rfl⟩
theorem fs_J15_9 : kt_FL "java/lang/String" 9 114 := Or.inl ⟨_, q1279, Or.inl rfl⟩
theorem fs_J15_15 : kt_FL "java/lang/String" 15 115 := Or.inl ⟨_, q1280, Or.inl rfl⟩
theorem fs_J15_19 : kt_FL "java/lang/String" 19 116 := Or.inl ⟨_, q1281, Or.inl rfl⟩
theorem fs_J15_23 : kt_FL "java/lang/String" 23 117 := Or.inl ⟨_, q1282, Or.inl rfl⟩
theorem fs_J15_1048 : kt_FL "java/lang/String" 1048 112 := Or.inl ⟨_, q1062, Or.inl rfl⟩
theorem fs_J9_7 : kt_FL "java/lang/Throwable" 7 37 := Or.inl ⟨_, q704, Or.inl rfl⟩
theorem fs_J9_17 : kt_FL "java/lang/Throwable" 17 38 := Or.inl ⟨_, q705, Or.inl rfl⟩
theorem fs_J9_24 : kt_FL "java/lang/Throwable" 24 39 := Or.inl ⟨_, q706, Or.inl rfl⟩
theorem fs_J9_31 : kt_FL "java/lang/Throwable" 31 40 := Or.inl ⟨_, q703, Or.inl rfl⟩
theorem fs_J9_198 : kt_FL "java/lang/Throwable" 198 41 := Or.inl ⟨_, q702, Or.inl rfl⟩
theorem fs_J2_7 : kt_FL "java/util/AbstractList" 7 90 := Or.inl ⟨_, q221, Or.inl rfl⟩
theorem fs_J25_20 : kt_FL "java/util/AbstractList$Itr" 20 90 := Or.inl ⟨_, q226, Or.inl rfl⟩
theorem fs_J1_3 : kt_FL "java/util/ArrayDeque" 3 104 := Or.inl ⟨_, q186, Or.inl rfl⟩
theorem fs_J1_20 : kt_FL "java/util/ArrayDeque" 20 106 := Or.inl ⟨_, q188, Or.inl rfl⟩
theorem fs_J1_24 : kt_FL "java/util/ArrayDeque" 24 105 := Or.inl ⟨_, q187, Or.inl rfl⟩
theorem fs_J3_9 : kt_FL "java/util/ArrayList" 9 91 := Or.inl ⟨_, q217, Or.inl rfl⟩
theorem fs_J3_48 : kt_FL "java/util/ArrayList" 48 92 := Or.inl ⟨_, q220, Or.inl rfl⟩
theorem fs_J3_63 : kt_FL "java/util/ArrayList" 63 90 := Or.inl ⟨_, q228, Or.inr q225⟩
theorem fs_J26_17 : kt_FL "java/util/ArrayList$Itr" 17 90 := Or.inl ⟨_, q224, Or.inr q225⟩
theorem fs_J26_28 : kt_FL "java/util/ArrayList$Itr" 28 92 := Or.inr ⟨_, _, q219, Or.inl rfl⟩
theorem fs_J26_37 : kt_FL "java/util/ArrayList$Itr" 37 91 := Or.inl ⟨_, q218, Or.inl rfl⟩
theorem fs_J21_7 : kt_FL "java/util/BitSet" 7 108 := Or.inl ⟨_, q758, Or.inl rfl⟩
theorem fs_J21_11 : kt_FL "java/util/BitSet" 11 107 := Or.inl ⟨_, q757, Or.inl rfl⟩
theorem fs_J21_24 : kt_FL "java/util/BitSet" 24 109 := Or.inl ⟨_, q759, Or.inl rfl⟩
theorem fs_J36_7 : kt_FL "java/util/ImmutableCollections$ListN" 7 118 := Or.inl ⟨_, q2295, Or.inl rfl⟩
theorem fs_J36_13 : kt_FL "java/util/ImmutableCollections$ListN" 13 119 := Or.inl ⟨_, q2296, Or.inl rfl⟩
theorem fs_J5_7 : kt_FL "java/util/LinkedList" 7 93 := Or.inl ⟨_, q246, Or.inl rfl⟩
theorem fs_J5_18 : kt_FL "java/util/LinkedList" 18 94 := Or.inl ⟨_, q248, Or.inl rfl⟩
theorem fs_J5_27 : kt_FL "java/util/LinkedList" 27 95 := Or.inl ⟨_, q249, Or.inl rfl⟩
theorem fs_J5_30 : kt_FL "java/util/LinkedList" 30 98 := Or.inl ⟨_, q1338, Or.inl rfl⟩
theorem fs_J5_33 : kt_FL "java/util/LinkedList" 33 90 := Or.inl ⟨_, q227, Or.inr q223⟩
theorem fs_J5_36 : kt_FL "java/util/LinkedList" 36 97 := Or.inl ⟨_, q1336, Or.inl rfl⟩
theorem fs_J5_39 : kt_FL "java/util/LinkedList" 39 96 := Or.inl ⟨_, q1333, Or.inl rfl⟩
theorem fs_J28_1 : kt_FL "java/util/LinkedList$ListItr" 1 103 := Or.inl ⟨_, q934, Or.inl rfl⟩
theorem fs_J28_13 : kt_FL "java/util/LinkedList$ListItr" 13 90 := Or.inl ⟨_, q222, Or.inr q223⟩
theorem fs_J28_19 : kt_FL "java/util/LinkedList$ListItr" 19 102 := Or.inl ⟨_, q933, Or.inl rfl⟩
theorem fs_J28_22 : kt_FL "java/util/LinkedList$ListItr" 22 93 := Or.inl ⟨_, q247, Or.inl rfl⟩
theorem fs_J28_29 : kt_FL "java/util/LinkedList$ListItr" 29 100 := Or.inl ⟨_, q931, Or.inl rfl⟩
theorem fs_J28_33 : kt_FL "java/util/LinkedList$ListItr" 33 101 := Or.inl ⟨_, q932, Or.inl rfl⟩
theorem fs_J28_46 : kt_FL "java/util/LinkedList$ListItr" 46 99 := Or.inl ⟨_, q930, Or.inl rfl⟩
theorem fs_J28_49 : kt_FL "java/util/LinkedList$ListItr" 49 97 := Or.inl ⟨_, q1335, Or.inl rfl⟩
theorem fs_J28_52 : kt_FL "java/util/LinkedList$ListItr" 52 96 := Or.inl ⟨_, q1332, Or.inl rfl⟩
theorem fs_J29_7 : kt_FL "java/util/LinkedList$Node" 7 96 := Or.inl ⟨_, q1331, Or.inl rfl⟩
theorem fs_J29_13 : kt_FL "java/util/LinkedList$Node" 13 97 := Or.inl ⟨_, q1334, Or.inl rfl⟩
theorem fs_J29_17 : kt_FL "java/util/LinkedList$Node" 17 98 := Or.inl ⟨_, q1337, Or.inl rfl⟩
theorem st_X1_32 : ("KeyTurns", 32, "record", 33) ∈ kt_strT := List.mem_of_getElem? (i := 14) rfl
theorem st_X1_34 : ("KeyTurns", 34, "made", 34) ∈ kt_strT := List.mem_of_getElem? (i := 15) rfl
theorem st_X1_36 : ("KeyTurns", 36, "wraps", 35) ∈ kt_strT := List.mem_of_getElem? (i := 16) rfl
theorem st_X1_38 : ("KeyTurns", 38, "newest", 36) ∈ kt_strT := List.mem_of_getElem? (i := 17) rfl
theorem st_X1_40 : ("KeyTurns", 40, "end", 37) ∈ kt_strT := List.mem_of_getElem? (i := 18) rfl
theorem st_X1_42 : ("KeyTurns", 42, "current", 38) ∈ kt_strT := List.mem_of_getElem? (i := 19) rfl
theorem st_X1_44 : ("KeyTurns", 44, "readers", 39) ∈ kt_strT := List.mem_of_getElem? (i := 20) rfl
theorem st_X1_46 : ("KeyTurns", 46, "forced", 40) ∈ kt_strT := List.mem_of_getElem? (i := 21) rfl
theorem st_X1_123 : ("KeyTurns", 123, "", 20) ∈ kt_strT := List.mem_of_getElem? (i := 0) rfl
theorem st_X7_15 : ("KeyTurns$KeysParser", 15, "keys", 26) ∈ kt_strT := List.mem_of_getElem? (i := 6) rfl
theorem st_X7_93 : ("KeyTurns$KeysParser", 93, "client", 28) ∈ kt_strT := List.mem_of_getElem? (i := 9) rfl
theorem st_X7_99 : ("KeyTurns$KeysParser", 99, "records", 29) ∈ kt_strT := List.mem_of_getElem? (i := 10) rfl
theorem st_X13_15 : ("KeyTurns$QueryParser", 15, "first", 30) ∈ kt_strT := List.mem_of_getElem? (i := 11) rfl
theorem st_X13_25 : ("KeyTurns$QueryParser", 25, "many", 31) ∈ kt_strT := List.mem_of_getElem? (i := 12) rfl
theorem st_X13_56 : ("KeyTurns$QueryParser", 56, "or", 42) ∈ kt_strT := List.mem_of_getElem? (i := 23) rfl
theorem st_X13_66 : ("KeyTurns$QueryParser", 66, "and", 41) ∈ kt_strT := List.mem_of_getElem? (i := 22) rfl
theorem st_X13_79 : ("KeyTurns$QueryParser", 79, "not", 32) ∈ kt_strT := List.mem_of_getElem? (i := 13) rfl
theorem st_X6_98 : ("KeyTurns$Scanner", 98, "", 20) ∈ kt_strT := List.mem_of_getElem? (i := 7) rfl
theorem st_X5_40 : ("KeyTurnsModel", 40, "record", 33) ∈ kt_strT := List.mem_of_getElem? (i := 24) rfl
theorem st_X5_42 : ("KeyTurnsModel", 42, "made", 34) ∈ kt_strT := List.mem_of_getElem? (i := 25) rfl
theorem st_X5_44 : ("KeyTurnsModel", 44, "wraps", 35) ∈ kt_strT := List.mem_of_getElem? (i := 26) rfl
theorem st_X5_46 : ("KeyTurnsModel", 46, "newest", 36) ∈ kt_strT := List.mem_of_getElem? (i := 27) rfl
theorem st_X5_48 : ("KeyTurnsModel", 48, "end", 37) ∈ kt_strT := List.mem_of_getElem? (i := 28) rfl
theorem st_X5_50 : ("KeyTurnsModel", 50, "current", 38) ∈ kt_strT := List.mem_of_getElem? (i := 29) rfl
theorem st_X5_52 : ("KeyTurnsModel", 52, "readers", 39) ∈ kt_strT := List.mem_of_getElem? (i := 30) rfl
theorem st_X5_54 : ("KeyTurnsModel", 54, "forced", 40) ∈ kt_strT := List.mem_of_getElem? (i := 31) rfl
theorem st_X5_333 : ("KeyTurnsModel", 333, "keys", 26) ∈ kt_strT := List.mem_of_getElem? (i := 32) rfl
theorem st_X5_341 : ("KeyTurnsModel", 341, "client", 28) ∈ kt_strT := List.mem_of_getElem? (i := 33) rfl
theorem st_X5_346 : ("KeyTurnsModel", 346, "records", 29) ∈ kt_strT := List.mem_of_getElem? (i := 34) rfl
theorem st_X5_366 : ("KeyTurnsModel", 366, "not", 32) ∈ kt_strT := List.mem_of_getElem? (i := 37) rfl
theorem st_X5_380 : ("KeyTurnsModel", 380, "and", 41) ∈ kt_strT := List.mem_of_getElem? (i := 38) rfl
theorem st_X5_388 : ("KeyTurnsModel", 388, "or", 42) ∈ kt_strT := List.mem_of_getElem? (i := 39) rfl
theorem st_X5_397 : ("KeyTurnsModel", 397, "first", 30) ∈ kt_strT := List.mem_of_getElem? (i := 35) rfl
theorem st_X5_399 : ("KeyTurnsModel", 399, "many", 31) ∈ kt_strT := List.mem_of_getElem? (i := 36) rfl
theorem st_J9_81 : ("java/lang/Throwable", 81, ": ", 21) ∈ kt_strT := List.mem_of_getElem? (i := 1) rfl
theorem st_J8_48 : ("java/util/Arrays", 48, "fromIndex(", 23) ∈ kt_strT := List.mem_of_getElem? (i := 3) rfl
theorem st_J8_57 : ("java/util/Arrays", 57, ") > toIndex(", 24) ∈ kt_strT := List.mem_of_getElem? (i := 4) rfl
theorem st_J8_59 : ("java/util/Arrays", 59, ")", 25) ∈ kt_strT := List.mem_of_getElem? (i := 5) rfl
theorem st_J8_337 : ("java/util/Arrays", 337, " > ", 22) ∈ kt_strT := List.mem_of_getElem? (i := 2) rfl
theorem st_J6_92 : ("jdk/internal/util/ArraysSupport", 92, "unrecognized basic type: ", 27) ∈ kt_strT := List.mem_of_getElem? (i := 8) rfl
