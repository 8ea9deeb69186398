set_option maxRecDepth 100000
/-! ===== THE LAYER: memory as a function of addresses ===== -/
def kt_cl : List vw_C := [(RX1, TX1, 7), (RX2, TX2, 14), (RX4, TX4, 3), (RX12, TX12, 4), (RX10, TX10, 4), (RX9, TX9, 8), (RX8, TX8, 8), (RX7, TX7, 11), (RX13, TX13, 11), (RX15, TX15, 1), (RX16, TX16, 3), (RX17, TX17, 2), (RX5, TX5, 25), (RJ3, TJ3, 3), (RJ5, TJ5, 4), (RJ29, TJ29, 3), (RJ28, TJ28, 5), (RJ1, TJ1, 3), (RJ21, TJ21, 3), (RJ14, TJ14, 4), (RJ15, TJ15, 4), (RJ36, TJ36, 2)]
/-- the fields by number: class that declares it, name, descriptor -/
def kt_fT (f : Nat) : String × String × String := match f with
  | 0 => ("KeyTurns", "now", "LKeyTurns$State;")
  | 1 => ("KeyTurns", "snapshot", "LKeyTurns$State;")
  | 2 => ("KeyTurns", "history", "Ljava/util/ArrayDeque;")
  | 3 => ("KeyTurns", "buffer", "[B")
  | 4 => ("KeyTurns", "buffered", "I")
  | 5 => ("KeyTurns", "errorAt", "I")
  | 6 => ("KeyTurns", "formatted", "Ljava/lang/String;")
  | 7 => ("KeyTurns$State", "span", "I")
  | 8 => ("KeyTurns$State", "overlap", "I")
  | 9 => ("KeyTurns$State", "lead", "I")
  | 10 => ("KeyTurns$State", "versions", "Ljava/util/ArrayList;")
  | 11 => ("KeyTurns$State", "records", "Ljava/util/ArrayList;")
  | 12 => ("KeyTurns$State", "clients", "Ljava/util/ArrayList;")
  | 13 => ("KeyTurns$State", "past", "Ljava/util/LinkedList;")
  | 14 => ("KeyTurns$State", "hour", "I")
  | 15 => ("KeyTurns$State", "batch", "I")
  | 16 => ("KeyTurns$State", "forced", "I")
  | 17 => ("KeyTurns$State", "swept", "I")
  | 18 => ("KeyTurns$State", "due", "[I")
  | 19 => ("KeyTurns$State", "ends", "[I")
  | 20 => ("KeyTurns$State", "dueMany", "I")
  | 21 => ("KeyTurns$Version", "number", "I")
  | 22 => ("KeyTurns$Version", "first", "I")
  | 23 => ("KeyTurns$Version", "last", "I")
  | 24 => ("KeyTurns$Withdrawn", "at", "I")
  | 25 => ("KeyTurns$Sealed", "made", "I")
  | 26 => ("KeyTurns$Sealed", "wraps", "Ljava/util/BitSet;")
  | 27 => ("KeyTurns$Sealed", "forced", "I")
  | 28 => ("KeyTurns$Sealed", "dropped", "Z")
  | 29 => ("KeyTurns$Client", "period", "I")
  | 30 => ("KeyTurns$Client", "offset", "I")
  | 31 => ("KeyTurns$Client", "asked", "I")
  | 32 => ("KeyTurns$Client", "reads", "I")
  | 33 => ("KeyTurns$Client", "learned", "I")
  | 34 => ("KeyTurns$Client", "gone", "I")
  | 35 => ("KeyTurns$Client", "firsts", "[I")
  | 36 => ("KeyTurns$Client", "lasts", "[I")
  | 37 => ("java/lang/Throwable", "cause", "Ljava/lang/Throwable;")
  | 38 => ("java/lang/Throwable", "stackTrace", "[Ljava/lang/StackTraceElement;")
  | 39 => ("java/lang/Throwable", "suppressedExceptions", "Ljava/util/List;")
  | 40 => ("java/lang/Throwable", "detailMessage", "Ljava/lang/String;")
  | 41 => ("java/lang/Throwable", "backtrace", "Ljava/lang/Object;")
  | 42 => ("java/lang/Throwable", "depth", "I")
  | 43 => ("KeyTurns$TextError", "code", "I")
  | 44 => ("KeyTurns$TextError", "position", "I")
  | 45 => ("KeyTurns$Scanner", "word", "Ljava/lang/StringBuilder;")
  | 46 => ("KeyTurns$Scanner", "end", "I")
  | 47 => ("KeyTurns$Scanner", "at", "I")
  | 48 => ("KeyTurns$Scanner", "begin", "I")
  | 49 => ("KeyTurns$Scanner", "value", "I")
  | 50 => ("KeyTurns$Scanner", "sign", "I")
  | 51 => ("KeyTurns$Scanner", "token", "LKeyTurns$Token;")
  | 52 => ("KeyTurns$Scanner", "this$0", "LKeyTurns;")
  | 53 => ("KeyTurns$KeysParser", "made", "LKeyTurns$State;")
  | 54 => ("KeyTurns$KeysParser", "records", "I")
  | 55 => ("KeyTurns$KeysParser", "this$0", "LKeyTurns;")
  | 56 => ("KeyTurns$QueryParser", "isFirst", "Z")
  | 57 => ("KeyTurns$QueryParser", "open", "I")
  | 58 => ("KeyTurns$QueryParser", "this$0", "LKeyTurns;")
  | 59 => ("KeyTurns$Not", "operand", "LKeyTurns$Test;")
  | 60 => ("KeyTurns$Comparison", "left", "I")
  | 61 => ("KeyTurns$Comparison", "sign", "I")
  | 62 => ("KeyTurns$Comparison", "right", "I")
  | 63 => ("KeyTurns$Joined", "operands", "Ljava/util/ArrayList;")
  | 64 => ("KeyTurns$Joined", "isAny", "Z")
  | 65 => ("KeyTurnsModel", "now", "[I")
  | 66 => ("KeyTurnsModel", "draft", "[I")
  | 67 => ("KeyTurnsModel", "aside", "[I")
  | 68 => ("KeyTurnsModel", "snapshot", "[I")
  | 69 => ("KeyTurnsModel", "history", "[I")
  | 70 => ("KeyTurnsModel", "undoCount", "I")
  | 71 => ("KeyTurnsModel", "thrown", "I")
  | 72 => ("KeyTurnsModel", "hasSnapshot", "Z")
  | 73 => ("KeyTurnsModel", "keys", "[I")
  | 74 => ("KeyTurnsModel", "formatted", "[I")
  | 75 => ("KeyTurnsModel", "formattedLength", "I")
  | 76 => ("KeyTurnsModel", "buffer", "[I")
  | 77 => ("KeyTurnsModel", "bufferLength", "I")
  | 78 => ("KeyTurnsModel", "limit", "I")
  | 79 => ("KeyTurnsModel", "next", "I")
  | 80 => ("KeyTurnsModel", "beginsAt", "I")
  | 81 => ("KeyTurnsModel", "token", "I")
  | 82 => ("KeyTurnsModel", "error", "I")
  | 83 => ("KeyTurnsModel", "errorAt", "I")
  | 84 => ("KeyTurnsModel", "errorPosition", "I")
  | 85 => ("KeyTurnsModel", "nested", "I")
  | 86 => ("KeyTurnsModel", "names", "[Ljava/lang/String;")
  | 87 => ("KeyTurnsModel", "codes", "[I")
  | 88 => ("KeyTurnsModel", "stack", "[J")
  | 89 => ("KeyTurnsModel", "codeCount", "I")
  | 90 => ("java/util/AbstractList", "modCount", "I")
  | 91 => ("java/util/ArrayList", "elementData", "[Ljava/lang/Object;")
  | 92 => ("java/util/ArrayList", "size", "I")
  | 93 => ("java/util/LinkedList", "size", "I")
  | 94 => ("java/util/LinkedList", "first", "Ljava/util/LinkedList$Node;")
  | 95 => ("java/util/LinkedList", "last", "Ljava/util/LinkedList$Node;")
  | 96 => ("java/util/LinkedList$Node", "item", "Ljava/lang/Object;")
  | 97 => ("java/util/LinkedList$Node", "next", "Ljava/util/LinkedList$Node;")
  | 98 => ("java/util/LinkedList$Node", "prev", "Ljava/util/LinkedList$Node;")
  | 99 => ("java/util/LinkedList$ListItr", "lastReturned", "Ljava/util/LinkedList$Node;")
  | 100 => ("java/util/LinkedList$ListItr", "next", "Ljava/util/LinkedList$Node;")
  | 101 => ("java/util/LinkedList$ListItr", "nextIndex", "I")
  | 102 => ("java/util/LinkedList$ListItr", "expectedModCount", "I")
  | 103 => ("java/util/LinkedList$ListItr", "this$0", "Ljava/util/LinkedList;")
  | 104 => ("java/util/ArrayDeque", "elements", "[Ljava/lang/Object;")
  | 105 => ("java/util/ArrayDeque", "head", "I")
  | 106 => ("java/util/ArrayDeque", "tail", "I")
  | 107 => ("java/util/BitSet", "words", "[J")
  | 108 => ("java/util/BitSet", "wordsInUse", "I")
  | 109 => ("java/util/BitSet", "sizeIsSticky", "Z")
  | 110 => ("java/lang/AbstractStringBuilder", "value", "[B")
  | 111 => ("java/lang/AbstractStringBuilder", "coder", "B")
  | 112 => ("java/lang/AbstractStringBuilder", "maybeLatin1", "Z")
  | 113 => ("java/lang/AbstractStringBuilder", "count", "I")
  | 114 => ("java/lang/String", "value", "[B")
  | 115 => ("java/lang/String", "coder", "B")
  | 116 => ("java/lang/String", "hash", "I")
  | 117 => ("java/lang/String", "hashIsZero", "Z")
  | 118 => ("java/util/ImmutableCollections$ListN", "elements", "[Ljava/lang/Object;")
  | _ => ("java/util/ImmutableCollections$ListN", "allowNulls", "Z")
/-- its type; whether it is final -/
def kt_fty (f : Nat) : FieldType := match f with
  | 0 => .object "KeyTurns$State"
  | 1 => .object "KeyTurns$State"
  | 2 => .object "java/util/ArrayDeque"
  | 3 => .array .byte
  | 4 => .int
  | 5 => .int
  | 6 => .object "java/lang/String"
  | 7 => .int
  | 8 => .int
  | 9 => .int
  | 10 => .object "java/util/ArrayList"
  | 11 => .object "java/util/ArrayList"
  | 12 => .object "java/util/ArrayList"
  | 13 => .object "java/util/LinkedList"
  | 14 => .int
  | 15 => .int
  | 16 => .int
  | 17 => .int
  | 18 => .array .int
  | 19 => .array .int
  | 20 => .int
  | 21 => .int
  | 22 => .int
  | 23 => .int
  | 24 => .int
  | 25 => .int
  | 26 => .object "java/util/BitSet"
  | 27 => .int
  | 28 => .boolean
  | 29 => .int
  | 30 => .int
  | 31 => .int
  | 32 => .int
  | 33 => .int
  | 34 => .int
  | 35 => .array .int
  | 36 => .array .int
  | 37 => .object "java/lang/Throwable"
  | 38 => .array (.object "java/lang/StackTraceElement")
  | 39 => .object "java/util/List"
  | 40 => .object "java/lang/String"
  | 41 => .object "java/lang/Object"
  | 42 => .int
  | 43 => .int
  | 44 => .int
  | 45 => .object "java/lang/StringBuilder"
  | 46 => .int
  | 47 => .int
  | 48 => .int
  | 49 => .int
  | 50 => .int
  | 51 => .object "KeyTurns$Token"
  | 52 => .object "KeyTurns"
  | 53 => .object "KeyTurns$State"
  | 54 => .int
  | 55 => .object "KeyTurns"
  | 56 => .boolean
  | 57 => .int
  | 58 => .object "KeyTurns"
  | 59 => .object "KeyTurns$Test"
  | 60 => .int
  | 61 => .int
  | 62 => .int
  | 63 => .object "java/util/ArrayList"
  | 64 => .boolean
  | 65 => .array .int
  | 66 => .array .int
  | 67 => .array .int
  | 68 => .array .int
  | 69 => .array .int
  | 70 => .int
  | 71 => .int
  | 72 => .boolean
  | 73 => .array .int
  | 74 => .array .int
  | 75 => .int
  | 76 => .array .int
  | 77 => .int
  | 78 => .int
  | 79 => .int
  | 80 => .int
  | 81 => .int
  | 82 => .int
  | 83 => .int
  | 84 => .int
  | 85 => .int
  | 86 => .array (.object "java/lang/String")
  | 87 => .array .int
  | 88 => .array .long
  | 89 => .int
  | 90 => .int
  | 91 => .array (.object "java/lang/Object")
  | 92 => .int
  | 93 => .int
  | 94 => .object "java/util/LinkedList$Node"
  | 95 => .object "java/util/LinkedList$Node"
  | 96 => .object "java/lang/Object"
  | 97 => .object "java/util/LinkedList$Node"
  | 98 => .object "java/util/LinkedList$Node"
  | 99 => .object "java/util/LinkedList$Node"
  | 100 => .object "java/util/LinkedList$Node"
  | 101 => .int
  | 102 => .int
  | 103 => .object "java/util/LinkedList"
  | 104 => .array (.object "java/lang/Object")
  | 105 => .int
  | 106 => .int
  | 107 => .array .long
  | 108 => .int
  | 109 => .boolean
  | 110 => .array .byte
  | 111 => .byte
  | 112 => .boolean
  | 113 => .int
  | 114 => .array .byte
  | 115 => .byte
  | 116 => .int
  | 117 => .boolean
  | 118 => .array (.object "java/lang/Object")
  | _ => .boolean
def kt_ffin (f : Nat) : Bool := match f with
  | 0 => false
  | 1 => false
  | 2 => true
  | 3 => true
  | 4 => false
  | 5 => false
  | 6 => false
  | 7 => true
  | 8 => true
  | 9 => true
  | 10 => true
  | 11 => true
  | 12 => true
  | 13 => true
  | 14 => false
  | 15 => false
  | 16 => false
  | 17 => false
  | 18 => true
  | 19 => true
  | 20 => false
  | 21 => true
  | 22 => true
  | 23 => true
  | 24 => true
  | 25 => true
  | 26 => false
  | 27 => false
  | 28 => false
  | 29 => true
  | 30 => true
  | 31 => false
  | 32 => false
  | 33 => false
  | 34 => false
  | 35 => true
  | 36 => true
  | 37 => false
  | 38 => false
  | 39 => false
  | 40 => false
  | 41 => false
  | 42 => false
  | 43 => true
  | 44 => true
  | 45 => true
  | 46 => true
  | 47 => false
  | 48 => false
  | 49 => false
  | 50 => false
  | 51 => false
  | 52 => true
  | 53 => false
  | 54 => false
  | 55 => true
  | 56 => false
  | 57 => false
  | 58 => true
  | 59 => true
  | 60 => true
  | 61 => true
  | 62 => true
  | 63 => true
  | 64 => true
  | 65 => true
  | 66 => true
  | 67 => true
  | 68 => true
  | 69 => true
  | 70 => false
  | 71 => false
  | 72 => false
  | 73 => false
  | 74 => true
  | 75 => false
  | 76 => true
  | 77 => false
  | 78 => false
  | 79 => false
  | 80 => false
  | 81 => false
  | 82 => false
  | 83 => false
  | 84 => false
  | 85 => false
  | 86 => true
  | 87 => true
  | 88 => true
  | 89 => false
  | 90 => false
  | 91 => false
  | 92 => false
  | 93 => false
  | 94 => false
  | 95 => false
  | 96 => false
  | 97 => false
  | 98 => false
  | 99 => false
  | 100 => false
  | 101 => false
  | 102 => false
  | 103 => true
  | 104 => false
  | 105 => false
  | 106 => false
  | 107 => false
  | 108 => false
  | 109 => false
  | 110 => false
  | 111 => false
  | 112 => false
  | 113 => false
  | 114 => true
  | 115 => true
  | 116 => false
  | 117 => false
  | 118 => true
  | _ => true
theorem kt_fty_ok : ∀ f, f < 120 → parseFieldDescriptor (kt_fT f).2.2 = some (kt_fty f) := by decide +kernel
/-- a class's fields, in the order of its cells -/
def kt_fl (c : Nat) : List Nat := match c with
  | 0 => [0, 1, 2, 3, 4, 5, 6]
  | 1 => [7, 8, 9, 10, 11, 12, 13, 14, 15, 16, 17, 18, 19, 20]
  | 2 => [21, 22, 23]
  | 3 => [21, 22, 23, 24]
  | 4 => [25, 26, 27, 28]
  | 5 => [29, 30, 31, 32, 33, 34, 35, 36]
  | 6 => [37, 38, 39, 40, 41, 42, 43, 44]
  | 7 => [45, 46, 47, 48, 49, 50, 51, 52, 53, 54, 55]
  | 8 => [45, 46, 47, 48, 49, 50, 51, 52, 56, 57, 58]
  | 9 => [59]
  | 10 => [60, 61, 62]
  | 11 => [63, 64]
  | 12 => [65, 66, 67, 68, 69, 70, 71, 72, 73, 74, 75, 76, 77, 78, 79, 80, 81, 82, 83, 84, 85, 86, 87, 88, 89]
  | 13 => [90, 91, 92]
  | 14 => [90, 93, 94, 95]
  | 15 => [96, 97, 98]
  | 16 => [99, 100, 101, 102, 103]
  | 17 => [104, 105, 106]
  | 18 => [107, 108, 109]
  | 19 => [110, 111, 112, 113]
  | 20 => [114, 115, 116, 117]
  | 21 => [118, 119]
  | _ => []
theorem kt_fl_ok : ∀ c, c < 22 → ∀ k, k < (kt_fl c).length → ((kt_cl.getD c default).2.1 k).1 = (kt_fT ((kt_fl c).getD k 0)).1 ∧ ((kt_cl.getD c default).2.1 k).2.1 = (kt_fT ((kt_fl c).getD k 0)).2.1 ∧ ((kt_cl.getD c default).2.1 k).2.2.1 = (kt_fT ((kt_fl c).getD k 0)).2.2 ∧ ((kt_cl.getD c default).2.1 k).2.2.2 = kt_ffin ((kt_fl c).getD k 0) ∧ (kt_fl c).getD k 0 < 120 := by decide +kernel
theorem kt_fl_len : ∀ c, c < 22 → (kt_fl c).length = (kt_cl.getD c default).2.2 := by decide +kernel
theorem kt_in (c : Nat) (r : vw_C) (h : kt_cl[c]? = some r) : ∀ v ∈ u_ws r.1 r.2.1 r.2.2, v ∈ lw_all := by
  match c, h with
  | 0, h => cases h; exact in_X1
  | 1, h => cases h; exact in_X2
  | 2, h => cases h; exact in_X4
  | 3, h => cases h; exact in_X12
  | 4, h => cases h; exact in_X10
  | 5, h => cases h; exact in_X9
  | 6, h => cases h; exact in_X8
  | 7, h => cases h; exact in_X7
  | 8, h => cases h; exact in_X13
  | 9, h => cases h; exact in_X15
  | 10, h => cases h; exact in_X16
  | 11, h => cases h; exact in_X17
  | 12, h => cases h; exact in_X5
  | 13, h => cases h; exact in_J3
  | 14, h => cases h; exact in_J5
  | 15, h => cases h; exact in_J29
  | 16, h => cases h; exact in_J28
  | 17, h => cases h; exact in_J1
  | 18, h => cases h; exact in_J21
  | 19, h => cases h; exact in_J14
  | 20, h => cases h; exact in_J15
  | 21, h => cases h; exact in_J36
  | n + 22, h => exact absurd h (by simp [kt_cl])
theorem kt_nm (c : Nat) (r : vw_C) (h : kt_cl[c]? = some r) : ∀ a, a < r.2.2 → ∀ b, b < r.2.2 → a ≠ b → (r.2.1 a).2.1 ≠ (r.2.1 b).2.1 ∨ ((r.2.1 a).1 ≠ (r.2.1 b).1 ∧ (r.2.1 a).2.2.2 = true ∧ (r.2.1 b).2.2.2 = true) := by
  match c, h with
  | 0, h => cases h; exact fun a ha b hb n => Or.inl (nmX1 a ha b hb n)
  | 1, h => cases h; exact fun a ha b hb n => Or.inl (nmX2 a ha b hb n)
  | 2, h => cases h; exact fun a ha b hb n => Or.inl (nmX4 a ha b hb n)
  | 3, h => cases h; exact fun a ha b hb n => Or.inl (nmX12 a ha b hb n)
  | 4, h => cases h; exact fun a ha b hb n => Or.inl (nmX10 a ha b hb n)
  | 5, h => cases h; exact fun a ha b hb n => Or.inl (nmX9 a ha b hb n)
  | 6, h => cases h; exact fun a ha b hb n => Or.inl (nmX8 a ha b hb n)
  | 7, h => cases h; exact (by decide +kernel : ∀ a, a < 11 → ∀ b, b < 11 → a ≠ b → (TX7 a).2.1 ≠ (TX7 b).2.1 ∨ ((TX7 a).1 ≠ (TX7 b).1 ∧ (TX7 a).2.2.2 = true ∧ (TX7 b).2.2.2 = true))
  | 8, h => cases h; exact (by decide +kernel : ∀ a, a < 11 → ∀ b, b < 11 → a ≠ b → (TX13 a).2.1 ≠ (TX13 b).2.1 ∨ ((TX13 a).1 ≠ (TX13 b).1 ∧ (TX13 a).2.2.2 = true ∧ (TX13 b).2.2.2 = true))
  | 9, h => cases h; exact fun a ha b hb n => Or.inl (nmX15 a ha b hb n)
  | 10, h => cases h; exact fun a ha b hb n => Or.inl (nmX16 a ha b hb n)
  | 11, h => cases h; exact fun a ha b hb n => Or.inl (nmX17 a ha b hb n)
  | 12, h => cases h; exact fun a ha b hb n => Or.inl (nmX5 a ha b hb n)
  | 13, h => cases h; exact fun a ha b hb n => Or.inl (nmJ3 a ha b hb n)
  | 14, h => cases h; exact fun a ha b hb n => Or.inl (nmJ5 a ha b hb n)
  | 15, h => cases h; exact fun a ha b hb n => Or.inl (nmJ29 a ha b hb n)
  | 16, h => cases h; exact fun a ha b hb n => Or.inl (nmJ28 a ha b hb n)
  | 17, h => cases h; exact fun a ha b hb n => Or.inl (nmJ1 a ha b hb n)
  | 18, h => cases h; exact fun a ha b hb n => Or.inl (nmJ21 a ha b hb n)
  | 19, h => cases h; exact fun a ha b hb n => Or.inl (nmJ14 a ha b hb n)
  | 20, h => cases h; exact fun a ha b hb n => Or.inl (nmJ15 a ha b hb n)
  | 21, h => cases h; exact fun a ha b hb n => Or.inl (nmJ36 a ha b hb n)
  | n + 22, h => exact absurd h (by simp [kt_cl])
def kt_tys (c : Nat) (k : Nat) : FieldType := match c with
  | 0 => tyX1 k
  | 1 => tyX2 k
  | 2 => tyX4 k
  | 3 => tyX12 k
  | 4 => tyX10 k
  | 5 => tyX9 k
  | 6 => tyX8 k
  | 7 => tyX7 k
  | 8 => tyX13 k
  | 9 => tyX15 k
  | 10 => tyX16 k
  | 11 => tyX17 k
  | 12 => tyX5 k
  | 13 => tyJ3 k
  | 14 => tyJ5 k
  | 15 => tyJ29 k
  | 16 => tyJ28 k
  | 17 => tyJ1 k
  | 18 => tyJ21 k
  | 19 => tyJ14 k
  | 20 => tyJ15 k
  | 21 => tyJ36 k
  | _ => .int
theorem kt_ty_ok (c : Nat) (r : vw_C) (h : kt_cl[c]? = some r) : ∀ k, k < r.2.2 → parseFieldDescriptor (r.2.1 k).2.2.1 = some (kt_tys c k) := by
  match c, h with
  | 0, h => cases h; exact tyX1_ok
  | 1, h => cases h; exact tyX2_ok
  | 2, h => cases h; exact tyX4_ok
  | 3, h => cases h; exact tyX12_ok
  | 4, h => cases h; exact tyX10_ok
  | 5, h => cases h; exact tyX9_ok
  | 6, h => cases h; exact tyX8_ok
  | 7, h => cases h; exact tyX7_ok
  | 8, h => cases h; exact tyX13_ok
  | 9, h => cases h; exact tyX15_ok
  | 10, h => cases h; exact tyX16_ok
  | 11, h => cases h; exact tyX17_ok
  | 12, h => cases h; exact tyX5_ok
  | 13, h => cases h; exact tyJ3_ok
  | 14, h => cases h; exact tyJ5_ok
  | 15, h => cases h; exact tyJ29_ok
  | 16, h => cases h; exact tyJ28_ok
  | 17, h => cases h; exact tyJ1_ok
  | 18, h => cases h; exact tyJ21_ok
  | 19, h => cases h; exact tyJ14_ok
  | 20, h => cases h; exact tyJ15_ok
  | 21, h => cases h; exact tyJ36_ok
  | n + 22, h => exact absurd h (by simp [kt_cl])
/-! ===== cells, memory, world ===== -/
/-- a cell: its tag (0: nothing is said; 1: a constant; 2 and more: made by the run), an array (kind, length and contents) or an object (class, fields) -/
abbrev kt_C : Type := Nat × ((Nat × vp_A) ⊕ (Nat × List Value))
/-- memory: the heap's size, the slots in use since the law's entry, the cells -/
abbrev kt_M : Type := Nat × Nat × (Nat → kt_C)
/-- the world: the launch, the law's entry state, the numbers of classes and of their slots, of array classes; the constants' addresses -/
abbrev kt_W : Type := Launch × State × va_G × (Nat → ClassId) × (Nat → Nat)
abbrev kt_s0 (w : kt_W) : State := w.2.1
abbrev kt_D (w : kt_W) : va_G := w.2.2.1
abbrev kt_dA (w : kt_W) : Nat → ClassId := w.2.2.2.1
abbrev kt_cA (w : kt_W) : Nat → Nat := w.2.2.2.2
abbrev kt_N0 (w : kt_W) : Nat := w.2.1.heap.size
def kt_cN (w : kt_W) : Nat := kt_N0 w + 1200048
def kt_cS : Nat := 5501818
def kt_ss (n : Nat) (H : Heap) : Nat := ((H.toList.drop n).map (·.slots.size)).sum
/-- the kinds of arrays -/
def kt_ty (k : Nat) : FieldType := match k with
  | 0 => .int
  | 1 => .long
  | 2 => .byte
  | 3 => .object "java/lang/Object"
  | 4 => .object "KeyTurns$Standing"
  | _ => .object "java/lang/String"
def kt_tyl (w : kt_W) : List (ClassId × FieldType) := [(kt_dA w 0, kt_ty 0), (kt_dA w 1, kt_ty 1), (kt_dA w 2, kt_ty 2), (kt_dA w 3, kt_ty 3), (kt_dA w 4, kt_ty 4), (kt_dA w 5, kt_ty 5)]
theorem kt_tyl_at (w : kt_W) {k : Nat} (h : k < 6) : (kt_tyl w)[k]? = some (kt_dA w k, kt_ty k) := by
  rcases (show k = 0 ∨ k = 1 ∨ k = 2 ∨ k = 3 ∨ k = 4 ∨ k = 5 by omega) with rfl | rfl | rfl | rfl | rfl | rfl <;> rfl
/-- an element as a value -/
def kt_v (x : vp_A) (j : Nat) : Value := match x.2 with
  | .inl f => .int (f j)
  | .inr (.inl f) => .long (f j)
  | .inr (.inr (.inl f)) => .float (f j)
  | .inr (.inr (.inr (.inl f))) => .double (f j)
  | .inr (.inr (.inr (.inr f))) => va_rf (f j)
theorem kt_cell_v (cA : ClassId) (x : vp_A) : vp_cell cA x = arrV cA x.1 (kt_v x) := by
  obtain ⟨n, f | f | f | f | f⟩ := x <;> rfl
/-- an array's cell, weakly -/
def kt_wA (w : kt_W) (H : Heap) (a k : Nat) (x : vp_A) : Prop := ∃ cell : Cell, H[a]? = some cell ∧ (kt_s0 w).isArrayOf cell (kt_ty k) ∧ cell.vm ≠ .unknown ∧ cell.vm.isStatics = false ∧ x.1 ≤ cell.slots.size ∧ cell.slots.size.toInt32 = Int32.ofNat x.1 ∧ ∀ j, j < x.1 → cell.slots[j]? = some (kt_v x j)
/-- an object's cell, weakly (classes from 100 on: the lambdas' own) -/
def kt_wO (w : kt_W) (H : Heap) (a c : Nat) (fs : List Value) : Prop := ∃ cell : Cell, H[a]? = some cell ∧ cell.cls = (kt_D w).1 c ∧ cell.vm ≠ .unknown ∧ cell.vm.isStatics = false ∧ (c < 100 → c < kt_cl.length ∧ fs.length = (kt_fl c).length) ∧ ∀ k, k < fs.length → cell.slots[(kt_D w).2 c k]? = some (vp_V fs k)
/-- what a cell of memory says of the heap -/
def kt_at (w : kt_W) (H : Heap) (a : Nat) (c : kt_C) : Prop := match c with
  | (0, _) => True
  | (1, .inl (k, x)) => k < 6 ∧ kt_wA w H a k x ∧ a < kt_N0 w
  | (1, .inr (c, fs)) => kt_wO w H a c fs ∧ a < kt_N0 w
  | (_, .inl (k, x)) => k < 6 ∧ H[a]? = some (vp_cell (kt_dA w k) x) ∧ kt_N0 w ≤ a
  | (_, .inr (c, fs)) => (∃ cell : Cell, H[a]? = some cell ∧ cell.cls = (kt_D w).1 c ∧ cell.vm = .none ∧ (c < 100 → c < kt_cl.length ∧ fs.length = (kt_fl c).length) ∧ ∀ k, k < fs.length → cell.slots[(kt_D w).2 c k]? = some (vp_V fs k)) ∧ kt_N0 w ≤ a
/-- memory tells the heap -/
def kt_H (w : kt_W) (M : kt_M) (H : Heap) : Prop := H.size = M.1 ∧ kt_N0 w ≤ M.1 ∧ (∀ q, q < kt_N0 w → H[q]? = (kt_s0 w).heap[q]?) ∧ kt_ss (kt_N0 w) H = M.2.1 ∧ M.1 ≤ kt_cN w ∧ M.2.1 ≤ kt_cS ∧ ∀ a, kt_at w H a (M.2.2 a)
/-- which cells a method may write: by address and tag -/
abbrev kt_g : Type := Nat → Nat → Prop
/-- what every run keeps -/
def kt_le (g : kt_g) (M M' : kt_M) : Prop := M.1 ≤ M'.1 ∧ M.2.1 ≤ M'.2.1 ∧ ∀ a, a < M.1 → ¬ g a (M.2.2 a).1 → M'.2.2 a = M.2.2 a
theorem kt_le_rf (g : kt_g) (M : kt_M) : kt_le g M M := ⟨Nat.le_refl _, Nat.le_refl _, fun _ _ _ => rfl⟩
/-- a group within another, over what stood at a method's entry -/
def kt_sub (g' : kt_g) (gr : kt_g × kt_M) : Prop := ∀ a t, a < gr.2.1 → g' a t → gr.1 a t
theorem kt_le_tr {g g' : kt_g} {M M' M'' : kt_M} (h : kt_le g M M') (h' : kt_le g' M' M'') (hg : kt_sub g' (g, M)) : kt_le g M M'' :=
  ⟨Nat.le_trans h.1 h'.1, Nat.le_trans h.2.1 h'.2.1, fun a ha ht => by
    have e := h.2.2 a ha ht
    rw [h'.2.2 a (Nat.lt_of_lt_of_le ha h.1) (by rw [e]; exact fun h9 => ht (hg a _ ha h9)), e]⟩
/-- a cell that may be written: made by the run, and of the group or made since the method's entry -/
def kt_wr (gr : kt_g × kt_M) (M : kt_M) (a : Nat) : Prop := 2 ≤ (M.2.2 a).1 ∧ (a < gr.2.1 → gr.1 a (M.2.2 a).1)
/-! ===== the operations on memory ===== -/
def kt_gf (M : kt_M) (a f : Nat) : Option Value := match M.2.2 a with
  | (0, _) => none
  | (_, .inr (c, fs)) => ((kt_fl c).findIdx? (· == f)).bind fun k => fs[k]?
  | (_, .inl _) => none
/-- the class of the object at a -/
def kt_co (M : kt_M) (a : Nat) : Option Nat := match M.2.2 a with
  | (0, _) => none
  | (_, .inr (c, _)) => some c
  | (_, .inl _) => none
def kt_up (M : kt_M) (a : Nat) (c : kt_C) : kt_M := (M.1, M.2.1, va_up M.2.2 a c)
def kt_pf (M : kt_M) (a f : Nat) (v : Value) : kt_M := match M.2.2 a with
  | (t, .inr (c, fs)) => match (kt_fl c).findIdx? (· == f) with
    | some k => kt_up M a (t, .inr (c, fs.set k v))
    | none => M
  | (_, .inl _) => M
/-- an array's length -/
def kt_len (M : kt_M) (a : Nat) : Option Nat := match M.2.2 a with
  | (0, _) => none
  | (_, .inl (_, x)) => some x.1
  | (_, .inr _) => none
/-- an element of an array of kind k -/
def kt_el (k : Nat) (M : kt_M) (a : Nat) (i : Int32) : Option Value := match M.2.2 a with
  | (0, _) => none
  | (_, .inl (k', x)) => if k' = k then (if i < 0 ∨ x.1 ≤ i.toNatClampNeg then none else some (kt_v x i.toNatClampNeg)) else none
  | (_, .inr _) => none
def kt_si (M : kt_M) (a : Nat) (i : Int32) (v : Int32) : kt_M := match M.2.2 a with
  | (t, .inl (k, n, .inl f)) => kt_up M a (t, .inl (k, n, .inl (upd f i.toNatClampNeg v)))
  | _ => M
def kt_sl (M : kt_M) (a : Nat) (i : Int32) (v : Int64) : kt_M := match M.2.2 a with
  | (t, .inl (k, n, .inr (.inl f))) => kt_up M a (t, .inl (k, n, .inr (.inl (vp_updL f i.toNatClampNeg v))))
  | _ => M
def kt_sq (M : kt_M) (a : Nat) (i : Int32) (v : Option Nat) : kt_M := match M.2.2 a with
  | (t, .inl (k, n, .inr (.inr (.inr (.inr f))))) => kt_up M a (t, .inl (k, n, .inr (.inr (.inr (.inr (va_up f i.toNatClampNeg v))))))
  | _ => M
/-- a new cell of n slots -/
def kt_new (M : kt_M) (n : Nat) (c : kt_C) : kt_M := (M.1 + 1, M.2.1 + n, va_up M.2.2 M.1 c)
def kt_fits (w : kt_W) (M : kt_M) (n : Nat) : Prop := M.1 + 1 ≤ kt_cN w ∧ M.2.1 + n ≤ kt_cS
/-- the fields with which an object begins -/
def kt_f0 (c : Nat) : List Value := (List.range (kt_fl c).length).map fun k => defaultValue (kt_tys c k)
/-! ===== what holds of the world ===== -/
def kt_fr (w : kt_W) : Nat → Prop := fun q => kt_N0 w ≤ q
/-- statics that hold a known object: class, name, descriptor, the constant's number -/
def kt_stT : List (String × String × String × Nat) := [("KeyTurns$Token", "WORD", "LKeyTurns$Token;", 0), ("KeyTurns$Token", "NUMBER", "LKeyTurns$Token;", 1), ("KeyTurns$Token", "SIGN", "LKeyTurns$Token;", 2), ("KeyTurns$Token", "END", "LKeyTurns$Token;", 3), ("KeyTurns$Standing", "$VALUES", "[LKeyTurns$Standing;", 4), ("java/util/ArrayList", "DEFAULTCAPACITY_EMPTY_ELEMENTDATA", "[Ljava/lang/Object;", 9), ("java/lang/Integer", "DigitOnes", "[B", 10), ("java/lang/Integer", "DigitTens", "[B", 11)]
/-- statics that hold a known int -/
def kt_stI : List (String × String × String × Int32) := [("java/lang/String", "COMPACT_STRINGS", "Z", 1), ("java/util/BitSet", "$assertionsDisabled", "Z", 1), ("java/util/ImmutableCollections", "$assertionsDisabled", "Z", 1)]
/-- the String constants: own class, place, text, the constant's number -/
def kt_strT : List (String × Nat × String × Nat) := [("KeyTurns", 123, "", 20), ("java/lang/Throwable", 81, ": ", 21), ("java/util/Arrays", 337, " > ", 22), ("java/util/Arrays", 48, "fromIndex(", 23), ("java/util/Arrays", 57, ") > toIndex(", 24), ("java/util/Arrays", 59, ")", 25), ("KeyTurns$KeysParser", 15, "keys", 26), ("KeyTurns$Scanner", 98, "", 20), ("jdk/internal/util/ArraysSupport", 92, "unrecognized basic type: ", 27), ("KeyTurns$KeysParser", 93, "client", 28), ("KeyTurns$KeysParser", 99, "records", 29), ("KeyTurns$QueryParser", 15, "first", 30), ("KeyTurns$QueryParser", 25, "many", 31), ("KeyTurns$QueryParser", 79, "not", 32), ("KeyTurns", 32, "record", 33), ("KeyTurns", 34, "made", 34), ("KeyTurns", 36, "wraps", 35), ("KeyTurns", 38, "newest", 36), ("KeyTurns", 40, "end", 37), ("KeyTurns", 42, "current", 38), ("KeyTurns", 44, "readers", 39), ("KeyTurns", 46, "forced", 40), ("KeyTurns$QueryParser", 66, "and", 41), ("KeyTurns$QueryParser", 56, "or", 42), ("KeyTurnsModel", 40, "record", 33), ("KeyTurnsModel", 42, "made", 34), ("KeyTurnsModel", 44, "wraps", 35), ("KeyTurnsModel", 46, "newest", 36), ("KeyTurnsModel", 48, "end", 37), ("KeyTurnsModel", 50, "current", 38), ("KeyTurnsModel", 52, "readers", 39), ("KeyTurnsModel", 54, "forced", 40), ("KeyTurnsModel", 333, "keys", 26), ("KeyTurnsModel", 341, "client", 28), ("KeyTurnsModel", 346, "records", 29), ("KeyTurnsModel", 397, "first", 30), ("KeyTurnsModel", 399, "many", 31), ("KeyTurnsModel", 366, "not", 32), ("KeyTurnsModel", 380, "and", 41), ("KeyTurnsModel", 388, "or", 42)]
/-- the lambdas' sites: the method, pc, place -/
def kt_lamT : List (MethodName × Nat × Nat) := [(⟨"KeyTurns$State", "inForce", "()I"⟩, 2, 121), (⟨"KeyTurns$State", "isAlone", "(I)Z"⟩, 3, 173), (⟨"KeyTurns$State", "withdraw", "(I)I"⟩, 1, 176), (⟨"KeyTurns$State", "withdraw", "(I)I"⟩, 62, 186)]
def kt_lamS (k : Nat) : Lambda.Shape := match siteWords_1.getD k .tt with
  | .lambdaSite _ _ _ σ => σ
  | _ => { iface := "", name := "", sam := { parameters := [], returnType := none }, captured := [], kind := 0, implClass := "", implName := "", implDesc := { parameters := [], returnType := none }, implItf := false, inst := { parameters := [], returnType := none } }
/-- the lambdas' classes by their numbers 100 .. 103; that without captured values is one object, the constant 91; slots as they come -/
def kt_lam (w : kt_W) : Prop := ∀ k, k < 4 → (∀ i, (kt_D w).2 (100 + k) i = i) ∧ ∃ one : Option Addr, (kt_s0 w).lambdaAt? (kt_lamT.getD k (⟨"", "", ""⟩, 0, 0)).1 (kt_lamT.getD k (⟨"", "", ""⟩, 0, 0)).2.1 (kt_lamT.getD k (⟨"", "", ""⟩, 0, 0)).2.2 (kt_lamS k) = some ((kt_D w).1 (100 + k), one) ∧ ∀ b, one = some b → b = kt_cA w 91
/-- classes of which no object is of the other -/
def kt_ncT : List (String × String) := [("KeyTurns$Issued", "KeyTurns$Withdrawn"), ("KeyTurns$Withdrawn", "KeyTurns$Issued"), ("java/lang/IllegalArgumentException", "java/util/NoSuchElementException")]
/-- the values of the enum Standing: their array and themselves -/
def kt_vals (w : kt_W) : vp_A := (4, .inr (.inr (.inr (.inr fun j => some (kt_cA w (5 + j))))))
def kt_stn (i : Nat) : String := match i with
  | 0 => "KeyTurns$Standing$1"
  | 1 => "KeyTurns$Standing$2"
  | 2 => "KeyTurns$Standing$3"
  | _ => "KeyTurns$Standing$4"
def kt_en (w : kt_W) : Prop := (kt_s0 w).heap[kt_cA w 4]? = some (vp_cell (kt_dA w 4) (kt_vals w)) ∧ kt_cA w 4 < kt_N0 w ∧ ∀ i, i < 4 → va_O (kt_stn i) (kt_cA w (5 + i)) (kt_fr w) (kt_s0 w) (kt_s0 w).heap ∧ va_OF "java/lang/Enum" "ordinal" "I" (.int (Int32.ofNat i)) (kt_cA w (5 + i)) (kt_fr w) (kt_s0 w) (kt_s0 w).heap
def kt_G (w : kt_W) : Prop :=
  w.1.flags = flags0 ∧ va_K (kt_D w) kt_cl (kt_tyl w) (kt_s0 w) ∧ (∀ v ∈ lw_tbl, v.before #[.ref (kt_cA w 100)] (kt_s0 w) = true) ∧ (Jvm.Cond.and given_1 narrow_1).before #[.ref (kt_cA w 100)] (kt_s0 w) = true ∧
  (∀ q ∈ kt_stT, va_Z q.1 q.2.1 q.2.2.1 (.ref (kt_cA w q.2.2.2)) (kt_fr w) (kt_s0 w) (kt_s0 w).heap) ∧ (∀ q ∈ kt_stI, va_Z q.1 q.2.1 q.2.2.1 (.int q.2.2.2) (kt_fr w) (kt_s0 w) (kt_s0 w).heap) ∧
  (∀ q ∈ kt_strT, vk_R q.1 q.2.1 q.2.2.1 (kt_cA w q.2.2.2) (kt_s0 w)) ∧ va_Mi "[Ljava/lang/Object;" (kt_cA w 90) (kt_s0 w) ∧
  kx_Zq Bundle.tN "UNASSIGNED_STACK" Bundle.steD (kt_fr w) (kt_s0 w) (kt_s0 w).heap ∧ kx_Zq Bundle.tN "SUPPRESSED_SENTINEL" Bundle.listD (kt_fr w) (kt_s0 w) (kt_s0 w).heap ∧ (∀ q ∈ kt_ncT, va_Nc q.1 q.2 (kt_s0 w)) ∧ kt_en w ∧ kt_lam w
/-! ===== the judgements ===== -/
/-- where a walk stands: program, environment, group, depth, memory at entry, entry state, method .. -/
abbrev kt_X : Type := Program × Env × kt_g × Nat × kt_M × State × MethodId × Array Value × List Frame × Method × Code
def kt_rm (w : kt_W) (d : Nat) (M : kt_M) : Room := { frames := d, cells := kt_cN w - M.1, slots := kt_cS - M.2.1, locals := 100 * d }
def kt_S (w : kt_W) (x : kt_X) (nL : Nat) (Q : State → Prop) (M : kt_M) (pc : Nat) (L : List (Nat × Value)) (st : List Value) : Prop := match x with
  | (p, e, g, d, M0, s, m, args, below, meth, c) => ∀ (H : Heap) (locs : List Loc) (ls : Array Slot) (k n : Nat), kt_H w M H → kt_le g M0 M → (∀ z ∈ locs, kt_fr w z.base) → lv_has ls nL L →
    W p w.1 e (kt_rm w d M0) s m args below meth c H locs k n Q (F0 m pc ls st)
/-- q thrown over the frame -/
def kt_T (w : kt_W) (x : kt_X) (nL : Nat) (Q : State → Prop) (M : kt_M) (pc : Nat) (L : List (Nat × Value)) (E : String) (q : Nat) : Prop := match x with
  | (p, e, g, d, M0, s, m, args, below, meth, c) => ∀ (H : Heap) (locs : List Loc) (ls : Array Slot) (k n : Nat) (rest : List Value) (ce : Cell), kt_H w M H → kt_le g M0 M → (∀ z ∈ locs, kt_fr w z.base) → lv_has ls nL L → H[q]? = some ce → ce.vm = .none → s.vm.findClass E = some ce.cls →
    kx_W p w.1 e (kt_rm w d M0) s m args below meth c H locs k n Q (F0 m pc ls rest) q
def kt_O (w : kt_W) (x : kt_X) (gr : kt_g × kt_M) (dd : Nat) (cc : ByteArray) (own : String) (nL : Nat) (nm : String × String) (ret : Option FieldType) (hh : List (Nat × Nat × Nat × Nat)) : Prop := match x with
  | (p, e, g, d, M0, s, m, args, below, meth, c) => p.tables.exec = Jvm.exec ∧ c.code = cc ∧ c.maxLocals = nL ∧ s.vm.findClass own = some m.cls ∧ (∀ v ∈ lw_all, v.before args s = true) ∧ meth.locks = false ∧ (kt_s0 w).WarmedH s.vm ∧ kt_H w M0 s.heap ∧ (meth.name = nm.1 ∧ s.methodNamed? ⟨own, nm.1, nm.2⟩ = some m) ∧ meth.sig.returnType = ret ∧ c.exceptionTable.toList = tableOf hh ∧ kt_G w ∧ (g, M0) = gr ∧ d = dd
/-! ===== contracts ===== -/
def kt_Pc (w : kt_W) (M : kt_M) (av : List Value) : Array Value → State → Prop := fun v U => v = av.toArray ∧ (kt_s0 w).WarmedH U.vm ∧ kt_H w M U.heap
def kt_Qc (w : kt_W) (g : kt_g) (M : kt_M) (P : Option Value → kt_M → Prop) : Array Value → State → Outcome → State → Prop := fun _ _ o t => ∃ v M', o = .returned v ∧ kt_H w M' t.heap ∧ kt_le g M M' ∧ P v M'
def kt_XC (w : kt_W) (g : kt_g) (M : kt_M) (X : String → Nat → kt_M → Prop) : String → State → State → Addr → Prop := fun E _ t q => ∃ M', kt_H w M' t.heap ∧ kt_le g M M' ∧ X E q M'
/-- the method y (its code word cw) called at memory M: it returns with P, or throws with X -/
def kt_Sp (w : kt_W) (g : kt_g) (d : Nat) (y : MethodName) (cw : Cond) (av : List Value) (M : kt_M) (P : Option Value → kt_M → Prop) (X : String → Nat → kt_M → Prop) : Prop :=
  kt_G w → kx_Met w.1 y (cw :: lw_all) (kt_rm w d M) (kt_Pc w M av) (kt_Qc w g M P) (kt_XC w g M X) (kt_cN w - M.1) (kt_cS - M.2.1) (kt_fr w)
/-- what a body owes at its end -/
def kt_E (w : kt_W) (x : kt_X) (P : Option Value → kt_M → Prop) (X : String → Nat → kt_M → Prop) : State → Prop := match x with
  | (_, _, g, _, M0, s, _, args, below, _, _) => kx_MQ below (kt_Qc w g M0 P) (kt_XC w g M0 X) args s (kt_cN w - M0.1) (kt_cS - M0.2.1) (kt_fr w)
theorem kt_Pc_blind (w : kt_W) (M : kt_M) (av : List Value) : FrameBlind (kt_Pc w M av) := fun _ _ _ _ h => h
theorem kt_Sp.mono {w : kt_W} {g : kt_g} {d : Nat} {y : MethodName} {cw : Cond} {av : List Value} {M : kt_M} {P P' : Option Value → kt_M → Prop} {X X' : String → Nat → kt_M → Prop} (h : kt_Sp w g d y cw av M P X) (hP : ∀ v M', kt_le g M M' → P v M' → P' v M') (hX : ∀ E q M', kt_le g M M' → X E q M' → X' E q M') : kt_Sp w g d y cw av M P' X' := by
  intro G p e ha hc hk s m args below hf happ hp
  obtain ⟨k, o, h1, h2, h3, h4⟩ := h G p e ha hc hk s m args below hf happ hp
  refine ⟨k, o, h1, h2, h3, ?_⟩
  rcases h4 with ⟨⟨v, M', e1, e2, e3, e4⟩, hL⟩ | ⟨q, e1, E, ce, L, ⟨M', e2, e3, e4⟩, hr⟩
  · exact Or.inl ⟨⟨v, M', e1, e2, e3, hP v M' e3 e4⟩, hL⟩
  · exact Or.inr ⟨q, e1, E, ce, L, ⟨M', e2, e3, hX E q M' e3 e4⟩, hr⟩
/-! ===== the book of slots ===== -/
theorem kt_ss_congr {n : Nat} {H H1 : Heap} (hs : H1.size = H.size) (h : ∀ (q : Nat) (c c1 : Cell), H[q]? = some c → H1[q]? = some c1 → c1.slots.size = c.slots.size) : kt_ss n H1 = kt_ss n H := by
  have e : H1.toList.map (·.slots.size) = H.toList.map (·.slots.size) := by
    apply List.ext_getElem?
    intro i
    simp only [List.getElem?_map, Array.getElem?_toList]
    by_cases hi : i < H.size
    · have h1 : H[i]? = some H[i] := by simp [hi]
      have hi' : i < H1.size := by omega
      have h2 : H1[i]? = some H1[i] := by simp [hi']
      rw [h1, h2]
      simp only [Option.map_some, Option.some.injEq]
      exact h i _ _ h1 h2
    · rw [Array.getElem?_eq_none (by omega), Array.getElem?_eq_none (by omega)]
  unfold kt_ss
  rw [List.map_drop, List.map_drop, e]
theorem kt_ss_push {n h : Nat} {H H1 : Heap} {cell : Cell} (hh : H.size = h) (hn : n ≤ h) (h1 : H1[h]? = some cell) (hs : H1.size = h + 1) (hq : ∀ q, q < h → H1[q]? = H[q]?) : kt_ss n H1 = kt_ss n H + cell.slots.size := by
  have e : H1 = H.push cell := by
    apply Array.ext_getElem?
    intro i
    rw [Array.getElem?_push]
    split
    · rename_i hi
      rw [hi, hh]; exact h1
    · rename_i hi
      by_cases hl : i < h
      · exact hq i hl
      · rw [Array.getElem?_eq_none (by omega), Array.getElem?_eq_none (by omega)]
  subst e
  unfold kt_ss
  rw [Array.toList_push, List.drop_append_of_le_length (by simpa [hh] using hn)]
  simp
theorem kt_ss_split {n k : Nat} {H H1 : Heap} (hn : n ≤ k) (hk : H.size = k) (hs : k ≤ H1.size) (h : ∀ (q : Nat) (c c1 : Cell), H[q]? = some c → H1[q]? = some c1 → c1.slots.size = c.slots.size) : kt_ss n H1 = kt_ss n H + ((H1.toList.drop k).map (·.slots.size)).sum := by
  have e : (H1.toList.map (·.slots.size)).take k = H.toList.map (·.slots.size) := by
    apply List.ext_getElem?
    intro i
    rw [List.getElem?_take]
    simp only [List.getElem?_map, Array.getElem?_toList]
    by_cases hi : i < k
    · rw [if_pos hi]
      have hi1 : i < H.size := by omega
      have h1 : H[i]? = some H[i] := by simp [hi1]
      have hi' : i < H1.size := by omega
      have h2 : H1[i]? = some H1[i] := by simp [hi']
      rw [h1, h2]
      simp only [Option.map_some, Option.some.injEq]
      exact h i _ _ h1 h2
    · rw [if_neg hi, Array.getElem?_eq_none (by omega)]; rfl
  unfold kt_ss
  rw [List.map_drop, List.map_drop, List.map_drop, ← e]
  have e2 : (H1.toList.map (·.slots.size)).drop n = ((H1.toList.map (·.slots.size)).take k).drop n ++ (H1.toList.map (·.slots.size)).drop k := by
    conv => lhs; rw [← List.take_append_drop k (H1.toList.map (·.slots.size))]
    rw [List.drop_append_of_le_length]
    simp
    omega
  rw [e2, List.sum_append]
/-- exact counts -/
theorem kt_tight {p : Program} {l : Launch} {e : Env} {R : Room} {s : State} {m : MethodId} {args : Array Value} {below : List Frame} {meth : Method} {c : Code} {T : State} {locs : List Loc} {k n : Nat} (X : Stand p l e R s m args below meth c T locs k n) {N : Nat} (hN : N ≤ s.heap.size) :
    Stand p l e R s m args below meth c T locs (T.heap.size - s.heap.size) (kt_ss N T.heap - kt_ss N s.heap) ∧ s.heap.size ≤ T.heap.size ∧ kt_ss N s.heap ≤ kt_ss N T.heap := by
  obtain ⟨h1, h2, h3, h4, h5, h6⟩ := X.same
  have h2' : s.heap.size ≤ T.heap.size := h2
  have h6' : ∀ (q : Nat) (c c1 : Cell), s.heap[q]? = some c → T.heap[q]? = some c1 → c1.slots.size = c.slots.size := by
    intro q c0 c1 e0 e1
    obtain ⟨c', r1, r2, r3, -⟩ := h6 q c0 e0
    have r1' : T.heap[q]? = some c' := r1
    cases e1.symm.trans r1'
    exact r3
  have hsum := kt_ss_split (n := N) hN rfl h2' h6'
  refine ⟨{ X with same := ⟨h1, h2, ?_, h4, ?_, h6⟩ }, h2', by omega⟩
  · show T.heap.size ≤ _
    omega
  · show ((T.heap.toList.drop s.heap.size).map (·.slots.size)).sum ≤ _
    omega
theorem kt_Wt {p : Program} {l : Launch} {e : Env} {R : Room} {s : State} {m : MethodId} {args : Array Value} {below : List Frame} {meth : Method} {c : Code} {H : Heap} {locs : List Loc} {k n : Nat} {Q : State → Prop} {g : JFrame} {N : Nat} (hN : N ≤ s.heap.size)
    (h : s.heap.size ≤ H.size → kt_ss N s.heap ≤ kt_ss N H → W p l e R s m args below meth c H locs (H.size - s.heap.size) (kt_ss N H - kt_ss N s.heap) Q g) : W p l e R s m args below meth c H locs k n Q g := by
  intro T hT X
  obtain ⟨X', h1, h2⟩ := kt_tight X hN
  subst hT
  exact h h1 h2 T rfl X'
/-- a class's slots are apart -/
theorem kt_apart {s : State} {args : Array Value} {D : va_G} {tys : List (ClassId × FieldType)} {c : Nat} {r : vw_C} (hts : ∀ v ∈ lw_all, v.before args s = true) (hK : va_K D kt_cl tys s) (hc : kt_cl[c]? = some r) : ∀ a b, a < r.2.2 → b < r.2.2 → a ≠ b → D.2 c a ≠ D.2 c b := by
  intro a b ha hb hne
  have hin := kt_in c r hc
  obtain ⟨hS, -⟩ := hK.1 c _ hc
  obtain ⟨_, ka, _, fa, hia, ea⟩ := hS a ha
  obtain ⟨_, kb, _, fb, hib, eb⟩ := hS b hb
  rw [← ea, ← eb]
  rcases kt_nm c r hc a ha b hb hne with h | ⟨h, f1, f2⟩
  · refine u_apart (u_lays hts hin ha) (u_lays hts hin hb) hia hib ?_
    rw [(State.fieldFound?_type hia (kt_ty_ok c r hc a ha)).1, (State.fieldFound?_type hib (kt_ty_ok c r hc b hb)).1]
    exact h
  · have la := hts _ (hin _ (u_in_lay ha))
    have lb := hts _ (hin _ (u_in_lay hb))
    unfold u_lay at la lb
    rw [if_pos f1] at la
    rw [if_pos f2] at lb
    obtain ⟨c1, k1, c1', k1', i1, g1, p1, p2, p3, -, -, -, p4, -, d1, p5, p6, -⟩ := Cond.laysFinal_spec la
    obtain ⟨c2, k2, c2', k2', i2, g2, q1, q2, q3, -, -, -, q4, -, d2, q5, q6, -⟩ := Cond.laysFinal_spec lb
    cases p1.symm.trans q1
    cases hia.symm.trans p3
    cases hib.symm.trans q3
    intro hsl
    rw [hsl] at p5
    cases p5.symm.trans q5
    obtain ⟨k3, p7, p8⟩ := Vm.findClass_spec p4
    obtain ⟨k4, q7, q8⟩ := Vm.findClass_spec q4
    cases p7.symm.trans (State.fieldFound?_spec p3).1
    cases q7.symm.trans (State.fieldFound?_spec q3).1
    exact h (p8.symm.trans (p6.symm.trans (q6.trans q8)))
