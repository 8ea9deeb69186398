set_option maxRecDepth 100000
theorem kt_nrf (r : Option Nat) : (va_rf r).category = 1 := by cases r <;> rfl
/-- no wide value of the list lies just below i -/
def kt_nw (L : List (Nat × Value)) (i : Nat) : Bool := L.all fun q => !(q.1 + 1 == i && q.2.category == 2)
theorem kt_nw_filter {L : List (Nat × Value)} {i : Nat} (h : kt_nw L i = true) : L.filter (fun q => !(q.1 == i) && !(q.1 + 1 == i && q.2.category == 2)) = L.filter (fun q => !(q.1 == i)) := by
  apply List.filter_congr
  intro q hq
  have := List.all_eq_true.mp h q hq
  simp [this]
theorem kt_nw_filter2 {L : List (Nat × Value)} {i : Nat} (h : kt_nw L i = true) : L.filter (fun q => !(q.1 == i) && (!(q.1 == i + 1) && !(q.1 + 1 == i && q.2.category == 2))) = L.filter (fun q => !(q.1 == i) && !(q.1 == i + 1)) := by
  apply List.filter_congr
  intro q hq
  have := List.all_eq_true.mp h q hq
  simp [this]
section KR
variable {w : kt_W} {x : kt_X} {gr : kt_g × kt_M} {dd nL : Nat} {Q : State → Prop} {M : kt_M} {pc : Nat} {L : List (Nat × Value)} {st : List Value} {cc : ByteArray} {own : String} {nm : String × String} {ret : Option FieldType} {hh : List (Nat × Nat × Nat × Nat)}
/-- fewer listed locals -/
theorem kr_sub {L' : List (Nat × Value)} (ks : List Nat) (hl : lv_pick L ks = L') (k : kt_S w x nL Q M pc L' st) : kt_S w x nL Q M pc L st := by
  obtain ⟨p, e, g, d, M0, s, m, args, below, meth, c⟩ := x
  exact fun H locs ls k1 n1 hH hl1 hz hs => k H locs ls k1 n1 hH hl1 hz (lv_sub hs ks hl)
/-- names for what is on top -/
theorem kr_nmi {v : Int32} (k : ∀ y : Int32, y = v → kt_S w x nL Q M pc L (.int y :: st)) : kt_S w x nL Q M pc L (.int v :: st) := k v rfl
theorem kr_nml {v : Int64} (k : ∀ y : Int64, y = v → kt_S w x nL Q M pc L (.long y :: st)) : kt_S w x nL Q M pc L (.long v :: st) := k v rfl
theorem kr_eq {pc' : Nat} {L' : List (Nat × Value)} {st' : List Value} {M' : kt_M} (h1 : M = M') (h2 : pc = pc') (h3 : L = L') (h4 : st = st') (k : kt_S w x nL Q M' pc' L' st') : kt_S w x nL Q M pc L st := by subst h1 h2 h3 h4; exact k
theorem kr_iconst {n : Int} {v : Int32} (O : kt_O w x gr dd cc own nL nm ret hh) (hd : decode cc pc = .ok (.iconst n, 1)) (hv : Int32.ofInt n = v) (k : kt_S w x nL Q M (pc + 1) L (.int v :: st)) : kt_S w x nL Q M pc L (st) := by
  obtain ⟨p, e, g, d, M0, s, m, args, below, meth, c⟩ := x
  obtain ⟨hx, hb, hml, hown, hts, -⟩ := O
  exact fun H locs ls k1 n1 hH hl1 hz hs => lv_iconst hx hb hd hv (k H locs ls k1 n1 hH hl1 hz hs)
theorem kr_bipush {n : Int} {v : Int32} (O : kt_O w x gr dd cc own nL nm ret hh) (hd : decode cc pc = .ok (.bipush n, 2)) (hv : (Int8.ofInt n).toInt32 = v) (k : kt_S w x nL Q M (pc + 2) L (.int v :: st)) : kt_S w x nL Q M pc L (st) := by
  obtain ⟨p, e, g, d, M0, s, m, args, below, meth, c⟩ := x
  obtain ⟨hx, hb, hml, hown, hts, -⟩ := O
  exact fun H locs ls k1 n1 hH hl1 hz hs => lv_bipush hx hb hd hv (k H locs ls k1 n1 hH hl1 hz hs)
theorem kr_sipush {n : Int} {v : Int32} (O : kt_O w x gr dd cc own nL nm ret hh) (hd : decode cc pc = .ok (.sipush n, 3)) (hv : (Int16.ofInt n).toInt32 = v) (k : kt_S w x nL Q M (pc + 3) L (.int v :: st)) : kt_S w x nL Q M pc L (st) := by
  obtain ⟨p, e, g, d, M0, s, m, args, below, meth, c⟩ := x
  obtain ⟨hx, hb, hml, hown, hts, -⟩ := O
  exact fun H locs ls k1 n1 hH hl1 hz hs => lv_sipush hx hb hd hv (k H locs ls k1 n1 hH hl1 hz hs)
theorem kr_lconst {n : Fin 2} {v : Int64} (O : kt_O w x gr dd cc own nL nm ret hh) (hd : decode cc pc = .ok (.lconst n, 1)) (hv : Int64.ofNat (n : Nat) = v) (k : kt_S w x nL Q M (pc + 1) L (.long v :: st)) : kt_S w x nL Q M pc L (st) := by
  obtain ⟨p, e, g, d, M0, s, m, args, below, meth, c⟩ := x
  obtain ⟨hx, hb, hml, hown, hts, -⟩ := O
  exact fun H locs ls k1 n1 hH hl1 hz hs => lv_lconst hx hb hd hv (k H locs ls k1 n1 hH hl1 hz hs)
theorem kr_fconst1  (O : kt_O w x gr dd cc own nL nm ret hh) (hd : decode cc pc = .ok (.fconst 1, 1)) (k : kt_S w x nL Q M (pc + 1) L (.float FP.fconst1 :: st)) : kt_S w x nL Q M pc L (st) := by
  obtain ⟨p, e, g, d, M0, s, m, args, below, meth, c⟩ := x
  obtain ⟨hx, hb, hml, hown, hts, -⟩ := O
  exact fun H locs ls k1 n1 hH hl1 hz hs => lv_fconst1 hx hb hd (k H locs ls k1 n1 hH hl1 hz hs)
theorem kr_dconst0  (O : kt_O w x gr dd cc own nL nm ret hh) (hd : decode cc pc = .ok (.dconst 0, 1)) (k : kt_S w x nL Q M (pc + 1) L (.double FP.dconst0 :: st)) : kt_S w x nL Q M pc L (st) := by
  obtain ⟨p, e, g, d, M0, s, m, args, below, meth, c⟩ := x
  obtain ⟨hx, hb, hml, hown, hts, -⟩ := O
  exact fun H locs ls k1 n1 hH hl1 hz hs => lv_dconst0 hx hb hd (k H locs ls k1 n1 hH hl1 hz hs)
theorem kr_null  (O : kt_O w x gr dd cc own nL nm ret hh) (hd : decode cc pc = .ok (.aconst_null, 1)) (k : kt_S w x nL Q M (pc + 1) L (va_rf none :: st)) : kt_S w x nL Q M pc L (st) := by
  obtain ⟨p, e, g, d, M0, s, m, args, below, meth, c⟩ := x
  obtain ⟨hx, hb, hml, hown, hts, -⟩ := O
  exact fun H locs ls k1 n1 hH hl1 hz hs => lv_null hx hb hd (k H locs ls k1 n1 hH hl1 hz hs)
theorem kr_ldc {idx : Nat} {v : Int32} (O : kt_O w x gr dd cc own nL nm ret hh) (hd : decode cc pc = .ok (.ldc idx, 2)) (hq : Cond.constant own idx v ∈ lw_all) (k : kt_S w x nL Q M (pc + 2) L (.int v :: st)) : kt_S w x nL Q M pc L (st) := by
  obtain ⟨p, e, g, d, M0, s, m, args, below, meth, c⟩ := x
  obtain ⟨hx, hb, hml, hown, hts, -⟩ := O
  exact fun H locs ls k1 n1 hH hl1 hz hs => lv_ldc hx hb hown (hts _ hq) hd (k H locs ls k1 n1 hH hl1 hz hs)
theorem kr_ldcw {idx : Nat} {v : Int32} (O : kt_O w x gr dd cc own nL nm ret hh) (hd : decode cc pc = .ok (.ldc_w idx, 3)) (hq : Cond.constant own idx v ∈ lw_all) (k : kt_S w x nL Q M (pc + 3) L (.int v :: st)) : kt_S w x nL Q M pc L (st) := by
  obtain ⟨p, e, g, d, M0, s, m, args, below, meth, c⟩ := x
  obtain ⟨hx, hb, hml, hown, hts, -⟩ := O
  exact fun H locs ls k1 n1 hH hl1 hz hs => lv_ldcw hx hb hown (hts _ hq) hd (k H locs ls k1 n1 hH hl1 hz hs)
theorem kr_ldc2 {idx : Nat} {v : Int64} (O : kt_O w x gr dd cc own nL nm ret hh) (hd : decode cc pc = .ok (.ldc2_w idx, 3)) (hq : Cond.constantLong own idx v ∈ lw_all) (k : kt_S w x nL Q M (pc + 3) L (.long v :: st)) : kt_S w x nL Q M pc L (st) := by
  obtain ⟨p, e, g, d, M0, s, m, args, below, meth, c⟩ := x
  obtain ⟨hx, hb, hml, hown, hts, -⟩ := O
  exact fun H locs ls k1 n1 hH hl1 hz hs => lv_ldc2 hx hb hown (hts _ hq) hd (k H locs ls k1 n1 hH hl1 hz hs)
theorem kr_iload_n {k0 : Fin 4} {i : Nat} {v : Int32} (O : kt_O w x gr dd cc own nL nm ret hh) (hd : decode cc pc = .ok (.iload_n k0, 1)) (hi : (k0 : Nat) = i) (j : Nat) (hl : L[j]? = some (i, .int v)) (k : kt_S w x nL Q M (pc + 1) L (.int v :: st)) : kt_S w x nL Q M pc L (st) := by
  obtain ⟨p, e, g, d, M0, s, m, args, below, meth, c⟩ := x
  obtain ⟨hx, hb, hml, hown, hts, -⟩ := O
  exact fun H locs ls k1 n1 hH hl1 hz hs => lv_iload_n hx hb hd hi (lv_at hs j hl) (k H locs ls k1 n1 hH hl1 hz hs)
theorem kr_iload {i : Nat} {v : Int32} (O : kt_O w x gr dd cc own nL nm ret hh) (hd : decode cc pc = .ok (.iload i, 2)) (j : Nat) (hl : L[j]? = some (i, .int v)) (k : kt_S w x nL Q M (pc + 2) L (.int v :: st)) : kt_S w x nL Q M pc L (st) := by
  obtain ⟨p, e, g, d, M0, s, m, args, below, meth, c⟩ := x
  obtain ⟨hx, hb, hml, hown, hts, -⟩ := O
  exact fun H locs ls k1 n1 hH hl1 hz hs => lv_iload hx hb hd (lv_at hs j hl) (k H locs ls k1 n1 hH hl1 hz hs)
theorem kr_lload_n {k0 : Fin 4} {i : Nat} {v : Int64} (O : kt_O w x gr dd cc own nL nm ret hh) (hd : decode cc pc = .ok (.lload_n k0, 1)) (hi : (k0 : Nat) = i) (j : Nat) (hl : L[j]? = some (i, .long v)) (k : kt_S w x nL Q M (pc + 1) L (.long v :: st)) : kt_S w x nL Q M pc L (st) := by
  obtain ⟨p, e, g, d, M0, s, m, args, below, meth, c⟩ := x
  obtain ⟨hx, hb, hml, hown, hts, -⟩ := O
  exact fun H locs ls k1 n1 hH hl1 hz hs => lv_lload_n hx hb hd hi (lv_at hs j hl) (k H locs ls k1 n1 hH hl1 hz hs)
theorem kr_lload {i : Nat} {v : Int64} (O : kt_O w x gr dd cc own nL nm ret hh) (hd : decode cc pc = .ok (.lload i, 2)) (j : Nat) (hl : L[j]? = some (i, .long v)) (k : kt_S w x nL Q M (pc + 2) L (.long v :: st)) : kt_S w x nL Q M pc L (st) := by
  obtain ⟨p, e, g, d, M0, s, m, args, below, meth, c⟩ := x
  obtain ⟨hx, hb, hml, hown, hts, -⟩ := O
  exact fun H locs ls k1 n1 hH hl1 hz hs => lv_lload hx hb hd (lv_at hs j hl) (k H locs ls k1 n1 hH hl1 hz hs)
theorem kr_fload_n {k0 : Fin 4} {i : Nat} {v : UInt32} (O : kt_O w x gr dd cc own nL nm ret hh) (hd : decode cc pc = .ok (.fload_n k0, 1)) (hi : (k0 : Nat) = i) (j : Nat) (hl : L[j]? = some (i, .float v)) (k : kt_S w x nL Q M (pc + 1) L (.float v :: st)) : kt_S w x nL Q M pc L (st) := by
  obtain ⟨p, e, g, d, M0, s, m, args, below, meth, c⟩ := x
  obtain ⟨hx, hb, hml, hown, hts, -⟩ := O
  exact fun H locs ls k1 n1 hH hl1 hz hs => lv_fload_n hx hb hd hi (lv_at hs j hl) (k H locs ls k1 n1 hH hl1 hz hs)
theorem kr_fload {i : Nat} {v : UInt32} (O : kt_O w x gr dd cc own nL nm ret hh) (hd : decode cc pc = .ok (.fload i, 2)) (j : Nat) (hl : L[j]? = some (i, .float v)) (k : kt_S w x nL Q M (pc + 2) L (.float v :: st)) : kt_S w x nL Q M pc L (st) := by
  obtain ⟨p, e, g, d, M0, s, m, args, below, meth, c⟩ := x
  obtain ⟨hx, hb, hml, hown, hts, -⟩ := O
  exact fun H locs ls k1 n1 hH hl1 hz hs => lv_fload hx hb hd (lv_at hs j hl) (k H locs ls k1 n1 hH hl1 hz hs)
theorem kr_dload_n {k0 : Fin 4} {i : Nat} {v : UInt64} (O : kt_O w x gr dd cc own nL nm ret hh) (hd : decode cc pc = .ok (.dload_n k0, 1)) (hi : (k0 : Nat) = i) (j : Nat) (hl : L[j]? = some (i, .double v)) (k : kt_S w x nL Q M (pc + 1) L (.double v :: st)) : kt_S w x nL Q M pc L (st) := by
  obtain ⟨p, e, g, d, M0, s, m, args, below, meth, c⟩ := x
  obtain ⟨hx, hb, hml, hown, hts, -⟩ := O
  exact fun H locs ls k1 n1 hH hl1 hz hs => lv_dload_n hx hb hd hi (lv_at hs j hl) (k H locs ls k1 n1 hH hl1 hz hs)
theorem kr_dload {i : Nat} {v : UInt64} (O : kt_O w x gr dd cc own nL nm ret hh) (hd : decode cc pc = .ok (.dload i, 2)) (j : Nat) (hl : L[j]? = some (i, .double v)) (k : kt_S w x nL Q M (pc + 2) L (.double v :: st)) : kt_S w x nL Q M pc L (st) := by
  obtain ⟨p, e, g, d, M0, s, m, args, below, meth, c⟩ := x
  obtain ⟨hx, hb, hml, hown, hts, -⟩ := O
  exact fun H locs ls k1 n1 hH hl1 hz hs => lv_dload hx hb hd (lv_at hs j hl) (k H locs ls k1 n1 hH hl1 hz hs)
theorem kr_aload_n {k0 : Fin 4} {i : Nat} {r : Option Nat} (O : kt_O w x gr dd cc own nL nm ret hh) (hd : decode cc pc = .ok (.aload_n k0, 1)) (hi : (k0 : Nat) = i) (j : Nat) (hl : L[j]? = some (i, va_rf r)) (k : kt_S w x nL Q M (pc + 1) L (va_rf r :: st)) : kt_S w x nL Q M pc L (st) := by
  obtain ⟨p, e, g, d, M0, s, m, args, below, meth, c⟩ := x
  obtain ⟨hx, hb, hml, hown, hts, -⟩ := O
  cases r with
  | none => exact fun H locs ls k1 n1 hH hl1 hz hs => lv_aload_nN hx hb hd hi (lv_at hs j hl) (k H locs ls k1 n1 hH hl1 hz hs)
  | some a => exact fun H locs ls k1 n1 hH hl1 hz hs => lv_aload_n hx hb hd hi (lv_at hs j hl) (k H locs ls k1 n1 hH hl1 hz hs)
theorem kr_aload {i : Nat} {r : Option Nat} (O : kt_O w x gr dd cc own nL nm ret hh) (hd : decode cc pc = .ok (.aload i, 2)) (j : Nat) (hl : L[j]? = some (i, va_rf r)) (k : kt_S w x nL Q M (pc + 2) L (va_rf r :: st)) : kt_S w x nL Q M pc L (st) := by
  obtain ⟨p, e, g, d, M0, s, m, args, below, meth, c⟩ := x
  obtain ⟨hx, hb, hml, hown, hts, -⟩ := O
  cases r with
  | none => exact fun H locs ls k1 n1 hH hl1 hz hs => lv_aloadN hx hb hd (lv_at hs j hl) (k H locs ls k1 n1 hH hl1 hz hs)
  | some a => exact fun H locs ls k1 n1 hH hl1 hz hs => lv_aload hx hb hd (lv_at hs j hl) (k H locs ls k1 n1 hH hl1 hz hs)
theorem kr_istore_n {k0 : Fin 4} {i : Nat} {v : Int32} {L' : List (Nat × Value)} (O : kt_O w x gr dd cc own nL nm ret hh) (hd : decode cc pc = .ok (.istore_n k0, 1)) (hi : (k0 : Nat) = i) (hn : i < nL) (hw : kt_nw L i = true) (hl : (i, Value.int v) :: L.filter (fun q => !(q.1 == i)) = L') (k : kt_S w x nL Q M (pc + 1) L' (st)) : kt_S w x nL Q M pc L (.int v :: st) := by
  obtain ⟨p, e, g, d, M0, s, m, args, below, meth, c⟩ := x
  obtain ⟨hx, hb, hml, hown, hts, -⟩ := O
  exact fun H locs ls k1 n1 hH hl1 hz hs => lv_istore_n hx hb hd hi hs hn (by rw [kt_nw_filter hw]; exact hl) (fun ls2 hs2 => k H locs ls2 k1 n1 hH hl1 hz hs2)
theorem kr_istore {i : Nat} {v : Int32} {L' : List (Nat × Value)} (O : kt_O w x gr dd cc own nL nm ret hh) (hd : decode cc pc = .ok (.istore i, 2)) (hn : i < nL) (hw : kt_nw L i = true) (hl : (i, Value.int v) :: L.filter (fun q => !(q.1 == i)) = L') (k : kt_S w x nL Q M (pc + 2) L' (st)) : kt_S w x nL Q M pc L (.int v :: st) := by
  obtain ⟨p, e, g, d, M0, s, m, args, below, meth, c⟩ := x
  obtain ⟨hx, hb, hml, hown, hts, -⟩ := O
  exact fun H locs ls k1 n1 hH hl1 hz hs => lv_istore hx hb hd hs hn (by rw [kt_nw_filter hw]; exact hl) (fun ls2 hs2 => k H locs ls2 k1 n1 hH hl1 hz hs2)
theorem kr_lstore_n {k0 : Fin 4} {i : Nat} {v : Int64} {L' : List (Nat × Value)} (O : kt_O w x gr dd cc own nL nm ret hh) (hd : decode cc pc = .ok (.lstore_n k0, 1)) (hi : (k0 : Nat) = i) (hn : i + 1 < nL) (hw : kt_nw L i = true) (hl : (i, Value.long v) :: L.filter (fun q => !(q.1 == i) && !(q.1 == i + 1)) = L') (k : kt_S w x nL Q M (pc + 1) L' (st)) : kt_S w x nL Q M pc L (.long v :: st) := by
  obtain ⟨p, e, g, d, M0, s, m, args, below, meth, c⟩ := x
  obtain ⟨hx, hb, hml, hown, hts, -⟩ := O
  exact fun H locs ls k1 n1 hH hl1 hz hs => lv_lstore_n hx hb hd hi hs hn (by rw [kt_nw_filter2 hw]; exact hl) (fun ls2 hs2 => k H locs ls2 k1 n1 hH hl1 hz hs2)
theorem kr_lstore {i : Nat} {v : Int64} {L' : List (Nat × Value)} (O : kt_O w x gr dd cc own nL nm ret hh) (hd : decode cc pc = .ok (.lstore i, 2)) (hn : i + 1 < nL) (hw : kt_nw L i = true) (hl : (i, Value.long v) :: L.filter (fun q => !(q.1 == i) && !(q.1 == i + 1)) = L') (k : kt_S w x nL Q M (pc + 2) L' (st)) : kt_S w x nL Q M pc L (.long v :: st) := by
  obtain ⟨p, e, g, d, M0, s, m, args, below, meth, c⟩ := x
  obtain ⟨hx, hb, hml, hown, hts, -⟩ := O
  exact fun H locs ls k1 n1 hH hl1 hz hs => lv_lstore hx hb hd hs hn (by rw [kt_nw_filter2 hw]; exact hl) (fun ls2 hs2 => k H locs ls2 k1 n1 hH hl1 hz hs2)
theorem kr_dstore_n {k0 : Fin 4} {i : Nat} {v : UInt64} {L' : List (Nat × Value)} (O : kt_O w x gr dd cc own nL nm ret hh) (hd : decode cc pc = .ok (.dstore_n k0, 1)) (hi : (k0 : Nat) = i) (hn : i + 1 < nL) (hw : kt_nw L i = true) (hl : (i, Value.double v) :: L.filter (fun q => !(q.1 == i) && !(q.1 == i + 1)) = L') (k : kt_S w x nL Q M (pc + 1) L' (st)) : kt_S w x nL Q M pc L (.double v :: st) := by
  obtain ⟨p, e, g, d, M0, s, m, args, below, meth, c⟩ := x
  obtain ⟨hx, hb, hml, hown, hts, -⟩ := O
  exact fun H locs ls k1 n1 hH hl1 hz hs => lv_dstore_n hx hb hd hi hs hn (by rw [kt_nw_filter2 hw]; exact hl) (fun ls2 hs2 => k H locs ls2 k1 n1 hH hl1 hz hs2)
theorem kr_dstore {i : Nat} {v : UInt64} {L' : List (Nat × Value)} (O : kt_O w x gr dd cc own nL nm ret hh) (hd : decode cc pc = .ok (.dstore i, 2)) (hn : i + 1 < nL) (hw : kt_nw L i = true) (hl : (i, Value.double v) :: L.filter (fun q => !(q.1 == i) && !(q.1 == i + 1)) = L') (k : kt_S w x nL Q M (pc + 2) L' (st)) : kt_S w x nL Q M pc L (.double v :: st) := by
  obtain ⟨p, e, g, d, M0, s, m, args, below, meth, c⟩ := x
  obtain ⟨hx, hb, hml, hown, hts, -⟩ := O
  exact fun H locs ls k1 n1 hH hl1 hz hs => lv_dstore hx hb hd hs hn (by rw [kt_nw_filter2 hw]; exact hl) (fun ls2 hs2 => k H locs ls2 k1 n1 hH hl1 hz hs2)
theorem kr_astore_n {k0 : Fin 4} {i : Nat} {r : Option Nat} {L' : List (Nat × Value)} (O : kt_O w x gr dd cc own nL nm ret hh) (hd : decode cc pc = .ok (.astore_n k0, 1)) (hi : (k0 : Nat) = i) (hn : i < nL) (hw : kt_nw L i = true) (hl : (i, va_rf r) :: L.filter (fun q => !(q.1 == i)) = L') (k : kt_S w x nL Q M (pc + 1) L' (st)) : kt_S w x nL Q M pc L (va_rf r :: st) := by
  obtain ⟨p, e, g, d, M0, s, m, args, below, meth, c⟩ := x
  obtain ⟨hx, hb, hml, hown, hts, -⟩ := O
  cases r with
  | none => exact fun H locs ls k1 n1 hH hl1 hz hs => lv_astore_nN hx hb hd hi hs hn (by rw [kt_nw_filter hw]; exact hl) (fun ls2 hs2 => k H locs ls2 k1 n1 hH hl1 hz hs2)
  | some a => exact fun H locs ls k1 n1 hH hl1 hz hs => lv_astore_n hx hb hd hi hs hn (by rw [kt_nw_filter hw]; exact hl) (fun ls2 hs2 => k H locs ls2 k1 n1 hH hl1 hz hs2)
theorem kr_astore {i : Nat} {r : Option Nat} {L' : List (Nat × Value)} (O : kt_O w x gr dd cc own nL nm ret hh) (hd : decode cc pc = .ok (.astore i, 2)) (hn : i < nL) (hw : kt_nw L i = true) (hl : (i, va_rf r) :: L.filter (fun q => !(q.1 == i)) = L') (k : kt_S w x nL Q M (pc + 2) L' (st)) : kt_S w x nL Q M pc L (va_rf r :: st) := by
  obtain ⟨p, e, g, d, M0, s, m, args, below, meth, c⟩ := x
  obtain ⟨hx, hb, hml, hown, hts, -⟩ := O
  cases r with
  | none => exact fun H locs ls k1 n1 hH hl1 hz hs => lv_astoreN hx hb hd hs hn (by rw [kt_nw_filter hw]; exact hl) (fun ls2 hs2 => k H locs ls2 k1 n1 hH hl1 hz hs2)
  | some a => exact fun H locs ls k1 n1 hH hl1 hz hs => lv_astore hx hb hd hs hn (by rw [kt_nw_filter hw]; exact hl) (fun ls2 hs2 => k H locs ls2 k1 n1 hH hl1 hz hs2)
theorem kr_iinc {i : Nat} {n : Int} {u v : Int32} {L' : List (Nat × Value)} (O : kt_O w x gr dd cc own nL nm ret hh) (hd : decode cc pc = .ok (.iinc i n, 3)) (j : Nat) (hj : L[j]? = some (i, .int u)) (hv : u + Int32.ofInt n = v) (hn : i < nL) (hw : kt_nw L i = true) (hl : (i, Value.int v) :: L.filter (fun q => !(q.1 == i)) = L') (k : kt_S w x nL Q M (pc + 3) L' (st)) : kt_S w x nL Q M pc L (st) := by
  obtain ⟨p, e, g, d, M0, s, m, args, below, meth, c⟩ := x
  obtain ⟨hx, hb, hml, hown, hts, -⟩ := O
  exact fun H locs ls k1 n1 hH hl1 hz hs => lv_iinc hx hb hd hs (k := j) hj hv hn (by rw [kt_nw_filter hw]; exact hl) (fun ls2 hs2 => k H locs ls2 k1 n1 hH hl1 hz hs2)
theorem kr_iadd {a b : Int32} (O : kt_O w x gr dd cc own nL nm ret hh) (hd : decode cc pc = .ok (.iadd, 1)) (k : kt_S w x nL Q M (pc + 1) L (.int (a + b) :: st)) : kt_S w x nL Q M pc L (.int b :: .int a :: st) := by
  obtain ⟨p, e, g, d, M0, s, m, args, below, meth, c⟩ := x
  obtain ⟨hx, hb, hml, hown, hts, -⟩ := O
  exact fun H locs ls k1 n1 hH hl1 hz hs => lv_iadd hx hb hd (k H locs ls k1 n1 hH hl1 hz hs)
theorem kr_isub {a b : Int32} (O : kt_O w x gr dd cc own nL nm ret hh) (hd : decode cc pc = .ok (.isub, 1)) (k : kt_S w x nL Q M (pc + 1) L (.int (a - b) :: st)) : kt_S w x nL Q M pc L (.int b :: .int a :: st) := by
  obtain ⟨p, e, g, d, M0, s, m, args, below, meth, c⟩ := x
  obtain ⟨hx, hb, hml, hown, hts, -⟩ := O
  exact fun H locs ls k1 n1 hH hl1 hz hs => lv_isub hx hb hd (k H locs ls k1 n1 hH hl1 hz hs)
theorem kr_imul {a b : Int32} (O : kt_O w x gr dd cc own nL nm ret hh) (hd : decode cc pc = .ok (.imul, 1)) (k : kt_S w x nL Q M (pc + 1) L (.int (a * b) :: st)) : kt_S w x nL Q M pc L (.int b :: .int a :: st) := by
  obtain ⟨p, e, g, d, M0, s, m, args, below, meth, c⟩ := x
  obtain ⟨hx, hb, hml, hown, hts, -⟩ := O
  exact fun H locs ls k1 n1 hH hl1 hz hs => lv_imul hx hb hd (k H locs ls k1 n1 hH hl1 hz hs)
theorem kr_iand {a b : Int32} (O : kt_O w x gr dd cc own nL nm ret hh) (hd : decode cc pc = .ok (.iand, 1)) (k : kt_S w x nL Q M (pc + 1) L (.int (a &&& b) :: st)) : kt_S w x nL Q M pc L (.int b :: .int a :: st) := by
  obtain ⟨p, e, g, d, M0, s, m, args, below, meth, c⟩ := x
  obtain ⟨hx, hb, hml, hown, hts, -⟩ := O
  exact fun H locs ls k1 n1 hH hl1 hz hs => lv_iand hx hb hd (k H locs ls k1 n1 hH hl1 hz hs)
theorem kr_ior {a b : Int32} (O : kt_O w x gr dd cc own nL nm ret hh) (hd : decode cc pc = .ok (.ior, 1)) (k : kt_S w x nL Q M (pc + 1) L (.int (a ||| b) :: st)) : kt_S w x nL Q M pc L (.int b :: .int a :: st) := by
  obtain ⟨p, e, g, d, M0, s, m, args, below, meth, c⟩ := x
  obtain ⟨hx, hb, hml, hown, hts, -⟩ := O
  exact fun H locs ls k1 n1 hH hl1 hz hs => lv_ior hx hb hd (k H locs ls k1 n1 hH hl1 hz hs)
theorem kr_ixor {a b : Int32} (O : kt_O w x gr dd cc own nL nm ret hh) (hd : decode cc pc = .ok (.ixor, 1)) (k : kt_S w x nL Q M (pc + 1) L (.int (a ^^^ b) :: st)) : kt_S w x nL Q M pc L (.int b :: .int a :: st) := by
  obtain ⟨p, e, g, d, M0, s, m, args, below, meth, c⟩ := x
  obtain ⟨hx, hb, hml, hown, hts, -⟩ := O
  exact fun H locs ls k1 n1 hH hl1 hz hs => lv_ixor hx hb hd (k H locs ls k1 n1 hH hl1 hz hs)
theorem kr_ladd {a b : Int64} (O : kt_O w x gr dd cc own nL nm ret hh) (hd : decode cc pc = .ok (.ladd, 1)) (k : kt_S w x nL Q M (pc + 1) L (.long (a + b) :: st)) : kt_S w x nL Q M pc L (.long b :: .long a :: st) := by
  obtain ⟨p, e, g, d, M0, s, m, args, below, meth, c⟩ := x
  obtain ⟨hx, hb, hml, hown, hts, -⟩ := O
  exact fun H locs ls k1 n1 hH hl1 hz hs => lv_ladd hx hb hd (k H locs ls k1 n1 hH hl1 hz hs)
theorem kr_lsub {a b : Int64} (O : kt_O w x gr dd cc own nL nm ret hh) (hd : decode cc pc = .ok (.lsub, 1)) (k : kt_S w x nL Q M (pc + 1) L (.long (a - b) :: st)) : kt_S w x nL Q M pc L (.long b :: .long a :: st) := by
  obtain ⟨p, e, g, d, M0, s, m, args, below, meth, c⟩ := x
  obtain ⟨hx, hb, hml, hown, hts, -⟩ := O
  exact fun H locs ls k1 n1 hH hl1 hz hs => lv_lsub hx hb hd (k H locs ls k1 n1 hH hl1 hz hs)
theorem kr_lmul {a b : Int64} (O : kt_O w x gr dd cc own nL nm ret hh) (hd : decode cc pc = .ok (.lmul, 1)) (k : kt_S w x nL Q M (pc + 1) L (.long (a * b) :: st)) : kt_S w x nL Q M pc L (.long b :: .long a :: st) := by
  obtain ⟨p, e, g, d, M0, s, m, args, below, meth, c⟩ := x
  obtain ⟨hx, hb, hml, hown, hts, -⟩ := O
  exact fun H locs ls k1 n1 hH hl1 hz hs => lv_lmul hx hb hd (k H locs ls k1 n1 hH hl1 hz hs)
theorem kr_land {a b : Int64} (O : kt_O w x gr dd cc own nL nm ret hh) (hd : decode cc pc = .ok (.land, 1)) (k : kt_S w x nL Q M (pc + 1) L (.long (a &&& b) :: st)) : kt_S w x nL Q M pc L (.long b :: .long a :: st) := by
  obtain ⟨p, e, g, d, M0, s, m, args, below, meth, c⟩ := x
  obtain ⟨hx, hb, hml, hown, hts, -⟩ := O
  exact fun H locs ls k1 n1 hH hl1 hz hs => lv_land hx hb hd (k H locs ls k1 n1 hH hl1 hz hs)
theorem kr_lor {a b : Int64} (O : kt_O w x gr dd cc own nL nm ret hh) (hd : decode cc pc = .ok (.lor, 1)) (k : kt_S w x nL Q M (pc + 1) L (.long (a ||| b) :: st)) : kt_S w x nL Q M pc L (.long b :: .long a :: st) := by
  obtain ⟨p, e, g, d, M0, s, m, args, below, meth, c⟩ := x
  obtain ⟨hx, hb, hml, hown, hts, -⟩ := O
  exact fun H locs ls k1 n1 hH hl1 hz hs => lv_lor hx hb hd (k H locs ls k1 n1 hH hl1 hz hs)
theorem kr_lxor {a b : Int64} (O : kt_O w x gr dd cc own nL nm ret hh) (hd : decode cc pc = .ok (.lxor, 1)) (k : kt_S w x nL Q M (pc + 1) L (.long (a ^^^ b) :: st)) : kt_S w x nL Q M pc L (.long b :: .long a :: st) := by
  obtain ⟨p, e, g, d, M0, s, m, args, below, meth, c⟩ := x
  obtain ⟨hx, hb, hml, hown, hts, -⟩ := O
  exact fun H locs ls k1 n1 hH hl1 hz hs => lv_lxor hx hb hd (k H locs ls k1 n1 hH hl1 hz hs)
theorem kr_ishl {a b : Int32} (O : kt_O w x gr dd cc own nL nm ret hh) (hd : decode cc pc = .ok (.ishl, 1)) (k : kt_S w x nL Q M (pc + 1) L (.int (a <<< (b &&& 31)) :: st)) : kt_S w x nL Q M pc L (.int b :: .int a :: st) := by
  obtain ⟨p, e, g, d, M0, s, m, args, below, meth, c⟩ := x
  obtain ⟨hx, hb, hml, hown, hts, -⟩ := O
  exact fun H locs ls k1 n1 hH hl1 hz hs => lv_ishl hx hb hd (k H locs ls k1 n1 hH hl1 hz hs)
theorem kr_ishr {a b : Int32} (O : kt_O w x gr dd cc own nL nm ret hh) (hd : decode cc pc = .ok (.ishr, 1)) (k : kt_S w x nL Q M (pc + 1) L (.int (a >>> (b &&& 31)) :: st)) : kt_S w x nL Q M pc L (.int b :: .int a :: st) := by
  obtain ⟨p, e, g, d, M0, s, m, args, below, meth, c⟩ := x
  obtain ⟨hx, hb, hml, hown, hts, -⟩ := O
  exact fun H locs ls k1 n1 hH hl1 hz hs => lv_ishr hx hb hd (k H locs ls k1 n1 hH hl1 hz hs)
theorem kr_iushr {a b : Int32} (O : kt_O w x gr dd cc own nL nm ret hh) (hd : decode cc pc = .ok (.iushr, 1)) (k : kt_S w x nL Q M (pc + 1) L (.int (a.toUInt32 >>> (b.toUInt32 &&& Int32.toUInt32 31)).toInt32 :: st)) : kt_S w x nL Q M pc L (.int b :: .int a :: st) := by
  obtain ⟨p, e, g, d, M0, s, m, args, below, meth, c⟩ := x
  obtain ⟨hx, hb, hml, hown, hts, -⟩ := O
  exact fun H locs ls k1 n1 hH hl1 hz hs => lv_iushr hx hb hd rfl (k H locs ls k1 n1 hH hl1 hz hs)
theorem kr_lushr {a : Int64} {b : Int32} (O : kt_O w x gr dd cc own nL nm ret hh) (hd : decode cc pc = .ok (.lushr, 1)) (k : kt_S w x nL Q M (pc + 1) L (.long (a.toUInt64 >>> (b.toInt64.toUInt64 &&& Int64.toUInt64 63)).toInt64 :: st)) : kt_S w x nL Q M pc L (.int b :: .long a :: st) := by
  obtain ⟨p, e, g, d, M0, s, m, args, below, meth, c⟩ := x
  obtain ⟨hx, hb, hml, hown, hts, -⟩ := O
  exact fun H locs ls k1 n1 hH hl1 hz hs => lv_lushr hx hb hd rfl (k H locs ls k1 n1 hH hl1 hz hs)
theorem kr_lshl {a : Int64} {b : Int32} (O : kt_O w x gr dd cc own nL nm ret hh) (hd : decode cc pc = .ok (.lshl, 1)) (k : kt_S w x nL Q M (pc + 1) L (.long (a <<< (b.toInt64 &&& 63)) :: st)) : kt_S w x nL Q M pc L (.int b :: .long a :: st) := by
  obtain ⟨p, e, g, d, M0, s, m, args, below, meth, c⟩ := x
  obtain ⟨hx, hb, hml, hown, hts, -⟩ := O
  exact fun H locs ls k1 n1 hH hl1 hz hs => lv_lshl hx hb hd rfl (k H locs ls k1 n1 hH hl1 hz hs)
theorem kr_idiv {a b : Int32} (O : kt_O w x gr dd cc own nL nm ret hh) (hd : decode cc pc = .ok (.idiv, 1)) (hne : ¬ b = 0) (k : kt_S w x nL Q M (pc + 1) L (.int (a / b) :: st)) : kt_S w x nL Q M pc L (.int b :: .int a :: st) := by
  obtain ⟨p, e, g, d, M0, s, m, args, below, meth, c⟩ := x
  obtain ⟨hx, hb, hml, hown, hts, -⟩ := O
  exact fun H locs ls k1 n1 hH hl1 hz hs => lv_idiv hx hb hd hne (k H locs ls k1 n1 hH hl1 hz hs)
theorem kr_irem {a b : Int32} (O : kt_O w x gr dd cc own nL nm ret hh) (hd : decode cc pc = .ok (.irem, 1)) (hne : ¬ b = 0) (k : kt_S w x nL Q M (pc + 1) L (.int (a - a / b * b) :: st)) : kt_S w x nL Q M pc L (.int b :: .int a :: st) := by
  obtain ⟨p, e, g, d, M0, s, m, args, below, meth, c⟩ := x
  obtain ⟨hx, hb, hml, hown, hts, -⟩ := O
  exact fun H locs ls k1 n1 hH hl1 hz hs => lv_irem hx hb hd hne (k H locs ls k1 n1 hH hl1 hz hs)
theorem kr_ineg {a : Int32} (O : kt_O w x gr dd cc own nL nm ret hh) (hd : decode cc pc = .ok (.ineg, 1)) (k : kt_S w x nL Q M (pc + 1) L (.int (-a) :: st)) : kt_S w x nL Q M pc L (.int a :: st) := by
  obtain ⟨p, e, g, d, M0, s, m, args, below, meth, c⟩ := x
  obtain ⟨hx, hb, hml, hown, hts, -⟩ := O
  exact fun H locs ls k1 n1 hH hl1 hz hs => lv_ineg hx hb hd (k H locs ls k1 n1 hH hl1 hz hs)
theorem kr_i2l {a : Int32} (O : kt_O w x gr dd cc own nL nm ret hh) (hd : decode cc pc = .ok (.i2l, 1)) (k : kt_S w x nL Q M (pc + 1) L (.long a.toInt64 :: st)) : kt_S w x nL Q M pc L (.int a :: st) := by
  obtain ⟨p, e, g, d, M0, s, m, args, below, meth, c⟩ := x
  obtain ⟨hx, hb, hml, hown, hts, -⟩ := O
  exact fun H locs ls k1 n1 hH hl1 hz hs => lv_i2l hx hb hd rfl (k H locs ls k1 n1 hH hl1 hz hs)
theorem kr_l2i {a : Int64} (O : kt_O w x gr dd cc own nL nm ret hh) (hd : decode cc pc = .ok (.l2i, 1)) (k : kt_S w x nL Q M (pc + 1) L (.int a.toInt32 :: st)) : kt_S w x nL Q M pc L (.long a :: st) := by
  obtain ⟨p, e, g, d, M0, s, m, args, below, meth, c⟩ := x
  obtain ⟨hx, hb, hml, hown, hts, -⟩ := O
  exact fun H locs ls k1 n1 hH hl1 hz hs => lv_l2i hx hb hd rfl (k H locs ls k1 n1 hH hl1 hz hs)
theorem kr_i2b {a : Int32} (O : kt_O w x gr dd cc own nL nm ret hh) (hd : decode cc pc = .ok (.i2b, 1)) (k : kt_S w x nL Q M (pc + 1) L (.int a.toInt8.toInt32 :: st)) : kt_S w x nL Q M pc L (.int a :: st) := by
  obtain ⟨p, e, g, d, M0, s, m, args, below, meth, c⟩ := x
  obtain ⟨hx, hb, hml, hown, hts, -⟩ := O
  exact fun H locs ls k1 n1 hH hl1 hz hs => lv_i2b hx hb hd rfl (k H locs ls k1 n1 hH hl1 hz hs)
theorem kr_i2c {a : Int32} (O : kt_O w x gr dd cc own nL nm ret hh) (hd : decode cc pc = .ok (.i2c, 1)) (k : kt_S w x nL Q M (pc + 1) L (.int (a.toUInt32 % 65536).toInt32 :: st)) : kt_S w x nL Q M pc L (.int a :: st) := by
  obtain ⟨p, e, g, d, M0, s, m, args, below, meth, c⟩ := x
  obtain ⟨hx, hb, hml, hown, hts, -⟩ := O
  exact fun H locs ls k1 n1 hH hl1 hz hs => lv_i2c hx hb hd rfl (k H locs ls k1 n1 hH hl1 hz hs)
theorem kr_i2f {a : Int32} (O : kt_O w x gr dd cc own nL nm ret hh) (hd : decode cc pc = .ok (.i2f, 1)) (k : kt_S w x nL Q M (pc + 1) L (.float (FP.i2f a) :: st)) : kt_S w x nL Q M pc L (.int a :: st) := by
  obtain ⟨p, e, g, d, M0, s, m, args, below, meth, c⟩ := x
  obtain ⟨hx, hb, hml, hown, hts, -⟩ := O
  exact fun H locs ls k1 n1 hH hl1 hz hs => lv_i2f hx hb hd (k H locs ls k1 n1 hH hl1 hz hs)
theorem kr_i2d {a : Int32} (O : kt_O w x gr dd cc own nL nm ret hh) (hd : decode cc pc = .ok (.i2d, 1)) (k : kt_S w x nL Q M (pc + 1) L (.double (FP.i2d a) :: st)) : kt_S w x nL Q M pc L (.int a :: st) := by
  obtain ⟨p, e, g, d, M0, s, m, args, below, meth, c⟩ := x
  obtain ⟨hx, hb, hml, hown, hts, -⟩ := O
  exact fun H locs ls k1 n1 hH hl1 hz hs => lv_i2d hx hb hd (k H locs ls k1 n1 hH hl1 hz hs)
theorem kr_f2d {a : UInt32} (O : kt_O w x gr dd cc own nL nm ret hh) (hd : decode cc pc = .ok (.f2d, 1)) (hne : vf_n64 (FP.f2d a)) (k : kt_S w x nL Q M (pc + 1) L (.double (FP.f2d a) :: st)) : kt_S w x nL Q M pc L (.float a :: st) := by
  obtain ⟨p, e, g, d, M0, s, m, args, below, meth, c⟩ := x
  obtain ⟨hx, hb, hml, hown, hts, -⟩ := O
  exact fun H locs ls k1 n1 hH hl1 hz hs => lv_f2d hx hb hd hne (k H locs ls k1 n1 hH hl1 hz hs)
theorem kr_fdiv {a b : UInt32} (O : kt_O w x gr dd cc own nL nm ret hh) (hd : decode cc pc = .ok (.fdiv, 1)) (hne : vf_n32 (FP.fdiv a b)) (k : kt_S w x nL Q M (pc + 1) L (.float (FP.fdiv a b) :: st)) : kt_S w x nL Q M pc L (.float b :: .float a :: st) := by
  obtain ⟨p, e, g, d, M0, s, m, args, below, meth, c⟩ := x
  obtain ⟨hx, hb, hml, hown, hts, -⟩ := O
  exact fun H locs ls k1 n1 hH hl1 hz hs => lv_fdiv hx hb hd hne (k H locs ls k1 n1 hH hl1 hz hs)
theorem kr_ddiv {a b : UInt64} (O : kt_O w x gr dd cc own nL nm ret hh) (hd : decode cc pc = .ok (.ddiv, 1)) (hne : vf_n64 (FP.ddiv a b)) (k : kt_S w x nL Q M (pc + 1) L (.double (FP.ddiv a b) :: st)) : kt_S w x nL Q M pc L (.double b :: .double a :: st) := by
  obtain ⟨p, e, g, d, M0, s, m, args, below, meth, c⟩ := x
  obtain ⟨hx, hb, hml, hown, hts, -⟩ := O
  exact fun H locs ls k1 n1 hH hl1 hz hs => lv_ddiv hx hb hd hne (k H locs ls k1 n1 hH hl1 hz hs)
theorem kr_dcmp {a b : UInt64} {op : CmpOp} (O : kt_O w x gr dd cc own nL nm ret hh) (hd : decode cc pc = .ok (.dcmp op, 1)) (k : kt_S w x nL Q M (pc + 1) L (.int (Op.cmpValue (FP.dcmp a b) op) :: st)) : kt_S w x nL Q M pc L (.double b :: .double a :: st) := by
  obtain ⟨p, e, g, d, M0, s, m, args, below, meth, c⟩ := x
  obtain ⟨hx, hb, hml, hown, hts, -⟩ := O
  exact fun H locs ls k1 n1 hH hl1 hz hs => lv_dcmp hx hb hd (k H locs ls k1 n1 hH hl1 hz hs)
theorem kr_fcmp {a b : UInt32} {op : CmpOp} (O : kt_O w x gr dd cc own nL nm ret hh) (hd : decode cc pc = .ok (.fcmp op, 1)) (k : kt_S w x nL Q M (pc + 1) L (.int (Op.cmpValue (FP.fcmp a b) op) :: st)) : kt_S w x nL Q M pc L (.float b :: .float a :: st) := by
  obtain ⟨p, e, g, d, M0, s, m, args, below, meth, c⟩ := x
  obtain ⟨hx, hb, hml, hown, hts, -⟩ := O
  exact fun H locs ls k1 n1 hH hl1 hz hs => lv_fcmp hx hb hd (k H locs ls k1 n1 hH hl1 hz hs)
theorem kr_lcmp {a b : Int64} (O : kt_O w x gr dd cc own nL nm ret hh) (hd : decode cc pc = .ok (.lcmp, 1)) (k : kt_S w x nL Q M (pc + 1) L (.int (lg_cmp a b) :: st)) : kt_S w x nL Q M pc L (.long b :: .long a :: st) := by
  obtain ⟨p, e, g, d, M0, s, m, args, below, meth, c⟩ := x
  obtain ⟨hx, hb, hml, hown, hts, -⟩ := O
  exact fun H locs ls k1 n1 hH hl1 hz hs => W.lcmp hx hb hd (k H locs ls k1 n1 hH hl1 hz hs)
theorem kr_dup {v : Value} (O : kt_O w x gr dd cc own nL nm ret hh) (hd : decode cc pc = .ok (.dup, 1)) (hc : v.category = 1) (k : kt_S w x nL Q M (pc + 1) L (v :: v :: st)) : kt_S w x nL Q M pc L (v :: st) := by
  obtain ⟨p, e, g, d, M0, s, m, args, below, meth, c⟩ := x
  obtain ⟨hx, hb, hml, hown, hts, -⟩ := O
  exact fun H locs ls k1 n1 hH hl1 hz hs => lv_dup hx hb hd hc (k H locs ls k1 n1 hH hl1 hz hs)
theorem kr_pop {v : Value} (O : kt_O w x gr dd cc own nL nm ret hh) (hd : decode cc pc = .ok (.pop, 1)) (hc : v.category = 1) (k : kt_S w x nL Q M (pc + 1) L (st)) : kt_S w x nL Q M pc L (v :: st) := by
  obtain ⟨p, e, g, d, M0, s, m, args, below, meth, c⟩ := x
  obtain ⟨hx, hb, hml, hown, hts, -⟩ := O
  exact fun H locs ls k1 n1 hH hl1 hz hs => lv_pop hx hb hd hc (k H locs ls k1 n1 hH hl1 hz hs)
theorem kr_dup_x1 {v u : Value} (O : kt_O w x gr dd cc own nL nm ret hh) (hd : decode cc pc = .ok (.dup_x1, 1)) (hc : v.category = 1) (hc2 : u.category = 1) (k : kt_S w x nL Q M (pc + 1) L (v :: u :: v :: st)) : kt_S w x nL Q M pc L (v :: u :: st) := by
  obtain ⟨p, e, g, d, M0, s, m, args, below, meth, c⟩ := x
  obtain ⟨hx, hb, hml, hown, hts, -⟩ := O
  exact fun H locs ls k1 n1 hH hl1 hz hs => lv_dup_x1 hx hb hd hc hc2 (k H locs ls k1 n1 hH hl1 hz hs)
theorem kr_dup2 {v u : Value} (O : kt_O w x gr dd cc own nL nm ret hh) (hd : decode cc pc = .ok (.dup2, 1)) (hc : v.category = 1) (hc2 : u.category = 1) (k : kt_S w x nL Q M (pc + 1) L (v :: u :: v :: u :: st)) : kt_S w x nL Q M pc L (v :: u :: st) := by
  obtain ⟨p, e, g, d, M0, s, m, args, below, meth, c⟩ := x
  obtain ⟨hx, hb, hml, hown, hts, -⟩ := O
  exact fun H locs ls k1 n1 hH hl1 hz hs => lv_dup2_11 hx hb hd hc hc2 (k H locs ls k1 n1 hH hl1 hz hs)
theorem kr_goto {off : Int} {tgt : Nat} (O : kt_O w x gr dd cc own nL nm ret hh) (hd : decode cc pc = .ok (.goto off, 3)) (ht : (pc : Int) + off = (tgt : Int)) (k : kt_S w x nL Q M (tgt) L (st)) : kt_S w x nL Q M pc L (st) := by
  obtain ⟨p, e, g, d, M0, s, m, args, below, meth, c⟩ := x
  obtain ⟨hx, hb, hml, hown, hts, -⟩ := O
  exact fun H locs ls k1 n1 hH hl1 hz hs => lv_goto hx hb hd ht (k H locs ls k1 n1 hH hl1 hz hs)
theorem kr_if_eq {a : Int32} {off : Int} {tgt : Nat} (O : kt_O w x gr dd cc own nL nm ret hh) (hd : decode cc pc = .ok (.ifCond .eq off, 3)) (ht : (pc : Int) + off = (tgt : Int)) (kt : a = 0 → kt_S w x nL Q M tgt L st) (kf : ¬ a = 0 → kt_S w x nL Q M (pc + 3) L st) : kt_S w x nL Q M pc L (.int a :: st) := by
  obtain ⟨p, e, g, d, M0, s, m, args, below, meth, c⟩ := x
  obtain ⟨hx, hb, hml, hown, hts, -⟩ := O
  exact fun H locs ls k1 n1 hH hl1 hz hs => lv_if_eq hx hb hd ht (fun h => kt h H locs ls k1 n1 hH hl1 hz hs) (fun h => kf h H locs ls k1 n1 hH hl1 hz hs)
theorem kr_icmp_eq {a b : Int32} {off : Int} {tgt : Nat} (O : kt_O w x gr dd cc own nL nm ret hh) (hd : decode cc pc = .ok (.if_icmp .eq off, 3)) (ht : (pc : Int) + off = (tgt : Int)) (kt : a = b → kt_S w x nL Q M tgt L st) (kf : ¬ a = b → kt_S w x nL Q M (pc + 3) L st) : kt_S w x nL Q M pc L (.int b :: .int a :: st) := by
  obtain ⟨p, e, g, d, M0, s, m, args, below, meth, c⟩ := x
  obtain ⟨hx, hb, hml, hown, hts, -⟩ := O
  exact fun H locs ls k1 n1 hH hl1 hz hs => lv_icmp_eq hx hb hd ht (fun h => kt h H locs ls k1 n1 hH hl1 hz hs) (fun h => kf h H locs ls k1 n1 hH hl1 hz hs)
theorem kr_if_ne {a : Int32} {off : Int} {tgt : Nat} (O : kt_O w x gr dd cc own nL nm ret hh) (hd : decode cc pc = .ok (.ifCond .ne off, 3)) (ht : (pc : Int) + off = (tgt : Int)) (kt : ¬ a = 0 → kt_S w x nL Q M tgt L st) (kf : a = 0 → kt_S w x nL Q M (pc + 3) L st) : kt_S w x nL Q M pc L (.int a :: st) := by
  obtain ⟨p, e, g, d, M0, s, m, args, below, meth, c⟩ := x
  obtain ⟨hx, hb, hml, hown, hts, -⟩ := O
  exact fun H locs ls k1 n1 hH hl1 hz hs => lv_if_ne hx hb hd ht (fun h => kt h H locs ls k1 n1 hH hl1 hz hs) (fun h => kf h H locs ls k1 n1 hH hl1 hz hs)
theorem kr_icmp_ne {a b : Int32} {off : Int} {tgt : Nat} (O : kt_O w x gr dd cc own nL nm ret hh) (hd : decode cc pc = .ok (.if_icmp .ne off, 3)) (ht : (pc : Int) + off = (tgt : Int)) (kt : ¬ a = b → kt_S w x nL Q M tgt L st) (kf : a = b → kt_S w x nL Q M (pc + 3) L st) : kt_S w x nL Q M pc L (.int b :: .int a :: st) := by
  obtain ⟨p, e, g, d, M0, s, m, args, below, meth, c⟩ := x
  obtain ⟨hx, hb, hml, hown, hts, -⟩ := O
  exact fun H locs ls k1 n1 hH hl1 hz hs => lv_icmp_ne hx hb hd ht (fun h => kt h H locs ls k1 n1 hH hl1 hz hs) (fun h => kf h H locs ls k1 n1 hH hl1 hz hs)
theorem kr_if_lt {a : Int32} {off : Int} {tgt : Nat} (O : kt_O w x gr dd cc own nL nm ret hh) (hd : decode cc pc = .ok (.ifCond .lt off, 3)) (ht : (pc : Int) + off = (tgt : Int)) (kt : a < 0 → kt_S w x nL Q M tgt L st) (kf : ¬ a < 0 → kt_S w x nL Q M (pc + 3) L st) : kt_S w x nL Q M pc L (.int a :: st) := by
  obtain ⟨p, e, g, d, M0, s, m, args, below, meth, c⟩ := x
  obtain ⟨hx, hb, hml, hown, hts, -⟩ := O
  exact fun H locs ls k1 n1 hH hl1 hz hs => lv_if_lt hx hb hd ht (fun h => kt h H locs ls k1 n1 hH hl1 hz hs) (fun h => kf h H locs ls k1 n1 hH hl1 hz hs)
theorem kr_icmp_lt {a b : Int32} {off : Int} {tgt : Nat} (O : kt_O w x gr dd cc own nL nm ret hh) (hd : decode cc pc = .ok (.if_icmp .lt off, 3)) (ht : (pc : Int) + off = (tgt : Int)) (kt : a < b → kt_S w x nL Q M tgt L st) (kf : ¬ a < b → kt_S w x nL Q M (pc + 3) L st) : kt_S w x nL Q M pc L (.int b :: .int a :: st) := by
  obtain ⟨p, e, g, d, M0, s, m, args, below, meth, c⟩ := x
  obtain ⟨hx, hb, hml, hown, hts, -⟩ := O
  exact fun H locs ls k1 n1 hH hl1 hz hs => lv_icmp_lt hx hb hd ht (fun h => kt h H locs ls k1 n1 hH hl1 hz hs) (fun h => kf h H locs ls k1 n1 hH hl1 hz hs)
theorem kr_if_ge {a : Int32} {off : Int} {tgt : Nat} (O : kt_O w x gr dd cc own nL nm ret hh) (hd : decode cc pc = .ok (.ifCond .ge off, 3)) (ht : (pc : Int) + off = (tgt : Int)) (kt : 0 ≤ a → kt_S w x nL Q M tgt L st) (kf : ¬ 0 ≤ a → kt_S w x nL Q M (pc + 3) L st) : kt_S w x nL Q M pc L (.int a :: st) := by
  obtain ⟨p, e, g, d, M0, s, m, args, below, meth, c⟩ := x
  obtain ⟨hx, hb, hml, hown, hts, -⟩ := O
  exact fun H locs ls k1 n1 hH hl1 hz hs => lv_if_ge hx hb hd ht (fun h => kt h H locs ls k1 n1 hH hl1 hz hs) (fun h => kf h H locs ls k1 n1 hH hl1 hz hs)
theorem kr_icmp_ge {a b : Int32} {off : Int} {tgt : Nat} (O : kt_O w x gr dd cc own nL nm ret hh) (hd : decode cc pc = .ok (.if_icmp .ge off, 3)) (ht : (pc : Int) + off = (tgt : Int)) (kt : b ≤ a → kt_S w x nL Q M tgt L st) (kf : ¬ b ≤ a → kt_S w x nL Q M (pc + 3) L st) : kt_S w x nL Q M pc L (.int b :: .int a :: st) := by
  obtain ⟨p, e, g, d, M0, s, m, args, below, meth, c⟩ := x
  obtain ⟨hx, hb, hml, hown, hts, -⟩ := O
  exact fun H locs ls k1 n1 hH hl1 hz hs => lv_icmp_ge hx hb hd ht (fun h => kt h H locs ls k1 n1 hH hl1 hz hs) (fun h => kf h H locs ls k1 n1 hH hl1 hz hs)
theorem kr_if_gt {a : Int32} {off : Int} {tgt : Nat} (O : kt_O w x gr dd cc own nL nm ret hh) (hd : decode cc pc = .ok (.ifCond .gt off, 3)) (ht : (pc : Int) + off = (tgt : Int)) (kt : 0 < a → kt_S w x nL Q M tgt L st) (kf : ¬ 0 < a → kt_S w x nL Q M (pc + 3) L st) : kt_S w x nL Q M pc L (.int a :: st) := by
  obtain ⟨p, e, g, d, M0, s, m, args, below, meth, c⟩ := x
  obtain ⟨hx, hb, hml, hown, hts, -⟩ := O
  exact fun H locs ls k1 n1 hH hl1 hz hs => lv_if_gt hx hb hd ht (fun h => kt h H locs ls k1 n1 hH hl1 hz hs) (fun h => kf h H locs ls k1 n1 hH hl1 hz hs)
theorem kr_icmp_gt {a b : Int32} {off : Int} {tgt : Nat} (O : kt_O w x gr dd cc own nL nm ret hh) (hd : decode cc pc = .ok (.if_icmp .gt off, 3)) (ht : (pc : Int) + off = (tgt : Int)) (kt : b < a → kt_S w x nL Q M tgt L st) (kf : ¬ b < a → kt_S w x nL Q M (pc + 3) L st) : kt_S w x nL Q M pc L (.int b :: .int a :: st) := by
  obtain ⟨p, e, g, d, M0, s, m, args, below, meth, c⟩ := x
  obtain ⟨hx, hb, hml, hown, hts, -⟩ := O
  exact fun H locs ls k1 n1 hH hl1 hz hs => lv_icmp_gt hx hb hd ht (fun h => kt h H locs ls k1 n1 hH hl1 hz hs) (fun h => kf h H locs ls k1 n1 hH hl1 hz hs)
theorem kr_if_le {a : Int32} {off : Int} {tgt : Nat} (O : kt_O w x gr dd cc own nL nm ret hh) (hd : decode cc pc = .ok (.ifCond .le off, 3)) (ht : (pc : Int) + off = (tgt : Int)) (kt : a ≤ 0 → kt_S w x nL Q M tgt L st) (kf : ¬ a ≤ 0 → kt_S w x nL Q M (pc + 3) L st) : kt_S w x nL Q M pc L (.int a :: st) := by
  obtain ⟨p, e, g, d, M0, s, m, args, below, meth, c⟩ := x
  obtain ⟨hx, hb, hml, hown, hts, -⟩ := O
  exact fun H locs ls k1 n1 hH hl1 hz hs => lv_if_le hx hb hd ht (fun h => kt h H locs ls k1 n1 hH hl1 hz hs) (fun h => kf h H locs ls k1 n1 hH hl1 hz hs)
theorem kr_icmp_le {a b : Int32} {off : Int} {tgt : Nat} (O : kt_O w x gr dd cc own nL nm ret hh) (hd : decode cc pc = .ok (.if_icmp .le off, 3)) (ht : (pc : Int) + off = (tgt : Int)) (kt : a ≤ b → kt_S w x nL Q M tgt L st) (kf : ¬ a ≤ b → kt_S w x nL Q M (pc + 3) L st) : kt_S w x nL Q M pc L (.int b :: .int a :: st) := by
  obtain ⟨p, e, g, d, M0, s, m, args, below, meth, c⟩ := x
  obtain ⟨hx, hb, hml, hown, hts, -⟩ := O
  exact fun H locs ls k1 n1 hH hl1 hz hs => lv_icmp_le hx hb hd ht (fun h => kt h H locs ls k1 n1 hH hl1 hz hs) (fun h => kf h H locs ls k1 n1 hH hl1 hz hs)
theorem kr_acmp_eq {rx ry : Option Nat} {off : Int} {tgt : Nat} (O : kt_O w x gr dd cc own nL nm ret hh) (hd : decode cc pc = .ok (.if_acmp .eq off, 3)) (ht : (pc : Int) + off = (tgt : Int)) (kt : rx = ry → kt_S w x nL Q M tgt L st) (kf : ¬ rx = ry → kt_S w x nL Q M (pc + 3) L st) : kt_S w x nL Q M pc L (va_rf ry :: va_rf rx :: st) := by
  obtain ⟨p, e, g, d, M0, s, m, args, below, meth, c⟩ := x
  obtain ⟨hx, hb, hml, hown, hts, -⟩ := O
  exact fun H locs ls k1 n1 hH hl1 hz hs => lv_acmp_eq hx hb hd ht (fun h => kt h H locs ls k1 n1 hH hl1 hz hs) (fun h => kf h H locs ls k1 n1 hH hl1 hz hs)
theorem kr_acmp_ne {rx ry : Option Nat} {off : Int} {tgt : Nat} (O : kt_O w x gr dd cc own nL nm ret hh) (hd : decode cc pc = .ok (.if_acmp .ne off, 3)) (ht : (pc : Int) + off = (tgt : Int)) (kt : ¬ rx = ry → kt_S w x nL Q M tgt L st) (kf : rx = ry → kt_S w x nL Q M (pc + 3) L st) : kt_S w x nL Q M pc L (va_rf ry :: va_rf rx :: st) := by
  obtain ⟨p, e, g, d, M0, s, m, args, below, meth, c⟩ := x
  obtain ⟨hx, hb, hml, hown, hts, -⟩ := O
  exact fun H locs ls k1 n1 hH hl1 hz hs => lv_acmp_ne hx hb hd ht (fun h => kt h H locs ls k1 n1 hH hl1 hz hs) (fun h => kf h H locs ls k1 n1 hH hl1 hz hs)
theorem kr_ifnull {r : Option Nat} {off : Int} {tgt : Nat} (O : kt_O w x gr dd cc own nL nm ret hh) (hd : decode cc pc = .ok (.ifnull off, 3)) (ht : (pc : Int) + off = (tgt : Int)) (kt : r = none → kt_S w x nL Q M tgt L st) (kf : ∀ a, r = some a → kt_S w x nL Q M (pc + 3) L st) : kt_S w x nL Q M pc L (va_rf r :: st) := by
  obtain ⟨p, e, g, d, M0, s, m, args, below, meth, c⟩ := x
  obtain ⟨hx, hb, hml, hown, hts, -⟩ := O
  cases r with
  | none => exact fun H locs ls k1 n1 hH hl1 hz hs => lv_ifnullN hx hb hd ht (kt rfl H locs ls k1 n1 hH hl1 hz hs)
  | some a => exact fun H locs ls k1 n1 hH hl1 hz hs => lv_ifnull hx hb hd (kf a rfl H locs ls k1 n1 hH hl1 hz hs)
theorem kr_ifnonnull {r : Option Nat} {off : Int} {tgt : Nat} (O : kt_O w x gr dd cc own nL nm ret hh) (hd : decode cc pc = .ok (.ifnonnull off, 3)) (ht : (pc : Int) + off = (tgt : Int)) (kt : ∀ a, r = some a → kt_S w x nL Q M tgt L st) (kf : r = none → kt_S w x nL Q M (pc + 3) L st) : kt_S w x nL Q M pc L (va_rf r :: st) := by
  obtain ⟨p, e, g, d, M0, s, m, args, below, meth, c⟩ := x
  obtain ⟨hx, hb, hml, hown, hts, -⟩ := O
  cases r with
  | none => exact fun H locs ls k1 n1 hH hl1 hz hs => lv_ifnonnullN hx hb hd (kf rfl H locs ls k1 n1 hH hl1 hz hs)
  | some a => exact fun H locs ls k1 n1 hH hl1 hz hs => lv_ifnonnull hx hb hd ht (kt a rfl H locs ls k1 n1 hH hl1 hz hs)
/-- a switch by a table: at a value of it -/
theorem kr_tableIn {dflt lo hi : Int} {offs : Array Int} {len : Nat} {a : Int32} {off : Int} {tgt : Nat} (O : kt_O w x gr dd cc own nL nm ret hh) (hd : decode cc pc = .ok (.tableswitch dflt lo hi offs, len)) (v : Int) (hv : a.toInt = v) (h1 : ¬ v < lo) (h2 : ¬ hi < v) (ho : offs[(v - lo).toNat]? = some off) (ht : (pc : Int) + off = (tgt : Int)) (k : kt_S w x nL Q M tgt L st) : kt_S w x nL Q M pc L (.int a :: st) := by
  subst hv
  obtain ⟨p, e, g, d, M0, s, m, args, below, meth, c⟩ := x
  obtain ⟨hx, hb, hml, hown, hts, -⟩ := O
  exact fun H locs ls k1 n1 hH hl1 hz hs => lv_tableIn hx hb hd h1 h2 ho ht (k H locs ls k1 n1 hH hl1 hz hs)
theorem kr_tableOut {dflt lo hi : Int} {offs : Array Int} {len : Nat} {a : Int32} {tgt : Nat} (O : kt_O w x gr dd cc own nL nm ret hh) (hd : decode cc pc = .ok (.tableswitch dflt lo hi offs, len)) (h : a.toInt < lo ∨ hi < a.toInt) (ht : (pc : Int) + dflt = (tgt : Int)) (k : kt_S w x nL Q M tgt L st) : kt_S w x nL Q M pc L (.int a :: st) := by
  obtain ⟨p, e, g, d, M0, s, m, args, below, meth, c⟩ := x
  obtain ⟨hx, hb, hml, hown, hts, -⟩ := O
  exact fun H locs ls k1 n1 hH hl1 hz hs => lv_tableOut hx hb hd h ht (k H locs ls k1 n1 hH hl1 hz hs)
theorem kr_lookup {dflt : Int} {ps : Array (Int × Int)} {len : Nat} {a : Int32} {off : Int} {tgt : Nat} (O : kt_O w x gr dd cc own nL nm ret hh) (hd : decode cc pc = .ok (.lookupswitch dflt ps, len)) (hp : (ps.toList.zip (ps.toList.drop 1)).all (fun (a, next) => a.1 < next.1) = true) (ho : Op.lookupswitch.offset ps.toList dflt a.toInt = off) (ht : (pc : Int) + off = (tgt : Int)) (k : kt_S w x nL Q M tgt L st) : kt_S w x nL Q M pc L (.int a :: st) := by
  obtain ⟨p, e, g, d, M0, s, m, args, below, meth, c⟩ := x
  obtain ⟨hx, hb, hml, hown, hts, -⟩ := O
  exact fun H locs ls k1 n1 hH hl1 hz hs => lv_lookup hx hb hd hp ho ht (k H locs ls k1 n1 hH hl1 hz hs)
end KR
