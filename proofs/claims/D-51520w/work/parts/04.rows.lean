/-! ROWS: one instruction of MF each (printed by gen/gen_rows.py) -/
set_option maxRecDepth 100000
section
variable {G : GL} {d pc : Nat} {y : MI} {L st : List Value} {h : AH} {Q : Out → AH → Prop}
theorem r_iconst {n : Int} {v : Int32} (hdg : decode y.2.1 pc = .ok (.iconst n, 1)) (hv : Int32.ofInt n = v) (k : MF G d y (pc + 1) L (.int v :: st) h Q) : MF G d y pc L (st) h Q :=
  fun p l e R s m as below meth c H locs cells slots ls hx hl hr hL => lv_iconst hx.1 hx.2.1 hdg hv (k p l e R s m as below meth c H locs cells slots ls hx hl hr hL)
theorem r_bipush {n : Int} {v : Int32} (hdg : decode y.2.1 pc = .ok (.bipush n, 2)) (hv : (Int8.ofInt n).toInt32 = v) (k : MF G d y (pc + 2) L (.int v :: st) h Q) : MF G d y pc L (st) h Q :=
  fun p l e R s m as below meth c H locs cells slots ls hx hl hr hL => lv_bipush hx.1 hx.2.1 hdg hv (k p l e R s m as below meth c H locs cells slots ls hx hl hr hL)
theorem r_sipush {n : Int} {v : Int32} (hdg : decode y.2.1 pc = .ok (.sipush n, 3)) (hv : (Int16.ofInt n).toInt32 = v) (k : MF G d y (pc + 3) L (.int v :: st) h Q) : MF G d y pc L (st) h Q :=
  fun p l e R s m as below meth c H locs cells slots ls hx hl hr hL => lv_sipush hx.1 hx.2.1 hdg hv (k p l e R s m as below meth c H locs cells slots ls hx hl hr hL)
theorem r_lconst {n : Fin 2} {v : Int64} (hdg : decode y.2.1 pc = .ok (.lconst n, 1)) (hv : Int64.ofNat (n : Nat) = v) (k : MF G d y (pc + 1) L (.long v :: st) h Q) : MF G d y pc L (st) h Q :=
  fun p l e R s m as below meth c H locs cells slots ls hx hl hr hL => lv_lconst hx.1 hx.2.1 hdg hv (k p l e R s m as below meth c H locs cells slots ls hx hl hr hL)
theorem r_dconst0 (hdg : decode y.2.1 pc = .ok (.dconst 0, 1)) (k : MF G d y (pc + 1) L (.double FP.dconst0 :: st) h Q) : MF G d y pc L (st) h Q :=
  fun p l e R s m as below meth c H locs cells slots ls hx hl hr hL => lv_dconst0 hx.1 hx.2.1 hdg (k p l e R s m as below meth c H locs cells slots ls hx hl hr hL)
theorem r_fconst0 (hdg : decode y.2.1 pc = .ok (.fconst 0, 1)) (k : MF G d y (pc + 1) L (.float FP.fconst0 :: st) h Q) : MF G d y pc L (st) h Q :=
  fun p l e R s m as below meth c H locs cells slots ls hx hl hr hL => lv_fconst0 hx.1 hx.2.1 hdg (k p l e R s m as below meth c H locs cells slots ls hx hl hr hL)
theorem r_null (hdg : decode y.2.1 pc = .ok (.aconst_null, 1)) (k : MF G d y (pc + 1) L (.null :: st) h Q) : MF G d y pc L (st) h Q :=
  fun p l e R s m as below meth c H locs cells slots ls hx hl hr hL => lv_null hx.1 hx.2.1 hdg (k p l e R s m as below meth c H locs cells slots ls hx hl hr hL)
theorem r_iload_n {k9 : Fin 4} {i : Nat} {v : Int32} (hdg : decode y.2.1 pc = .ok (.iload_n k9, 1)) (hi : (k9 : Nat) = i) (hv : L[i]? = some (.int v)) (k : MF G d y (pc + 1) L (.int v :: st) h Q) : MF G d y pc L st h Q :=
  fun p l e R s m as below meth c H locs cells slots ls hx hl hr hL => lv_iload_n hx.1 hx.2.1 hdg hi (hL.at hv (fun n h => by cases h) rfl) (k p l e R s m as below meth c H locs cells slots ls hx hl hr hL)
theorem r_iload {i : Nat} {v : Int32} (hdg : decode y.2.1 pc = .ok (.iload i, 2)) (hv : L[i]? = some (.int v)) (k : MF G d y (pc + 2) L (.int v :: st) h Q) : MF G d y pc L st h Q :=
  fun p l e R s m as below meth c H locs cells slots ls hx hl hr hL => lv_iload hx.1 hx.2.1 hdg (hL.at hv (fun n h => by cases h) rfl) (k p l e R s m as below meth c H locs cells slots ls hx hl hr hL)
theorem r_fload_n {k9 : Fin 4} {i : Nat} {v : UInt32} (hdg : decode y.2.1 pc = .ok (.fload_n k9, 1)) (hi : (k9 : Nat) = i) (hv : L[i]? = some (.float v)) (k : MF G d y (pc + 1) L (.float v :: st) h Q) : MF G d y pc L st h Q :=
  fun p l e R s m as below meth c H locs cells slots ls hx hl hr hL => lv_fload_n hx.1 hx.2.1 hdg hi (hL.at hv (fun n h => by cases h) rfl) (k p l e R s m as below meth c H locs cells slots ls hx hl hr hL)
theorem r_fload {i : Nat} {v : UInt32} (hdg : decode y.2.1 pc = .ok (.fload i, 2)) (hv : L[i]? = some (.float v)) (k : MF G d y (pc + 2) L (.float v :: st) h Q) : MF G d y pc L st h Q :=
  fun p l e R s m as below meth c H locs cells slots ls hx hl hr hL => lv_fload hx.1 hx.2.1 hdg (hL.at hv (fun n h => by cases h) rfl) (k p l e R s m as below meth c H locs cells slots ls hx hl hr hL)
theorem r_lload_n {k9 : Fin 4} {i : Nat} {v : Int64} (hdg : decode y.2.1 pc = .ok (.lload_n k9, 1)) (hi : (k9 : Nat) = i) (hv : L[i]? = some (.long v)) (hv2 : L[i + 1]? = some (.retAddr 2)) (k : MF G d y (pc + 1) L (.long v :: st) h Q) : MF G d y pc L st h Q :=
  fun p l e R s m as below meth c H locs cells slots ls hx hl hr hL => lv_lload_n hx.1 hx.2.1 hdg hi (hL.atL hv hv2) (k p l e R s m as below meth c H locs cells slots ls hx hl hr hL)
theorem r_lload {i : Nat} {v : Int64} (hdg : decode y.2.1 pc = .ok (.lload i, 2)) (hv : L[i]? = some (.long v)) (hv2 : L[i + 1]? = some (.retAddr 2)) (k : MF G d y (pc + 2) L (.long v :: st) h Q) : MF G d y pc L st h Q :=
  fun p l e R s m as below meth c H locs cells slots ls hx hl hr hL => lv_lload hx.1 hx.2.1 hdg (hL.atL hv hv2) (k p l e R s m as below meth c H locs cells slots ls hx hl hr hL)
theorem r_dload_n {k9 : Fin 4} {i : Nat} {v : UInt64} (hdg : decode y.2.1 pc = .ok (.dload_n k9, 1)) (hi : (k9 : Nat) = i) (hv : L[i]? = some (.double v)) (hv2 : L[i + 1]? = some (.retAddr 2)) (k : MF G d y (pc + 1) L (.double v :: st) h Q) : MF G d y pc L st h Q :=
  fun p l e R s m as below meth c H locs cells slots ls hx hl hr hL => lv_dload_n hx.1 hx.2.1 hdg hi (hL.atD hv hv2) (k p l e R s m as below meth c H locs cells slots ls hx hl hr hL)
theorem r_dload {i : Nat} {v : UInt64} (hdg : decode y.2.1 pc = .ok (.dload i, 2)) (hv : L[i]? = some (.double v)) (hv2 : L[i + 1]? = some (.retAddr 2)) (k : MF G d y (pc + 2) L (.double v :: st) h Q) : MF G d y pc L st h Q :=
  fun p l e R s m as below meth c H locs cells slots ls hx hl hr hL => lv_dload hx.1 hx.2.1 hdg (hL.atD hv hv2) (k p l e R s m as below meth c H locs cells slots ls hx hl hr hL)
theorem r_aload_n {k9 : Fin 4} {i : Nat} {v : Value} (hdg : decode y.2.1 pc = .ok (.aload_n k9, 1)) (hi : (k9 : Nat) = i) (hv : L[i]? = some v) (hr9 : v.isRef = true) (k : MF G d y (pc + 1) L (v :: st) h Q) : MF G d y pc L st h Q := by
  intro p l e R s m as below meth c H locs cells slots ls hx hl hr hL
  cases v with
  | ref q => exact lv_aload_n hx.1 hx.2.1 hdg hi (hL.at hv (fun n h => by cases h) rfl) (k p l e R s m as below meth c H locs cells slots ls hx hl hr hL)
  | null => exact lv_aload_nN hx.1 hx.2.1 hdg hi (hL.at hv (fun n h => by cases h) rfl) (k p l e R s m as below meth c H locs cells slots ls hx hl hr hL)
  | _ => cases hr9
theorem r_aload {i : Nat} {v : Value} (hdg : decode y.2.1 pc = .ok (.aload i, 2)) (hv : L[i]? = some v) (hr9 : v.isRef = true) (k : MF G d y (pc + 2) L (v :: st) h Q) : MF G d y pc L st h Q := by
  intro p l e R s m as below meth c H locs cells slots ls hx hl hr hL
  cases v with
  | ref q => exact lv_aload hx.1 hx.2.1 hdg (hL.at hv (fun n h => by cases h) rfl) (k p l e R s m as below meth c H locs cells slots ls hx hl hr hL)
  | null => exact lv_aloadN hx.1 hx.2.1 hdg (hL.at hv (fun n h => by cases h) rfl) (k p l e R s m as below meth c H locs cells slots ls hx hl hr hL)
  | _ => cases hr9
theorem r_istore_n {k9 : Fin 4} {i : Nat} {v : Int32} {L2 : List Value} (hdg : decode y.2.1 pc = .ok (.istore_n k9, 1)) (hi : (k9 : Nat) = i) (hn : i < L.length) (hs : L.set i (.int v) = L2) (k : MF G d y (pc + 1) L2 st h Q) : MF G d y pc L (.int v :: st) h Q := by
  subst hs
  intro p l e R s m as below meth c H locs cells slots ls hx hl hr hL
  exact lv_istore_n hx.1 hx.2.1 hdg hi hL.has hn rfl (fun ls2 h2 => k p l e R s m as below meth c H locs cells slots ls2 hx hl hr (LRel.of (List.length_set ..) h2 (lvl_set1 (fun n h => by cases h) rfl hn)))
theorem r_istore {i : Nat} {v : Int32} {L2 : List Value} (hdg : decode y.2.1 pc = .ok (.istore i, 2)) (hn : i < L.length) (hs : L.set i (.int v) = L2) (k : MF G d y (pc + 2) L2 st h Q) : MF G d y pc L (.int v :: st) h Q := by
  subst hs
  intro p l e R s m as below meth c H locs cells slots ls hx hl hr hL
  exact lv_istore hx.1 hx.2.1 hdg hL.has hn rfl (fun ls2 h2 => k p l e R s m as below meth c H locs cells slots ls2 hx hl hr (LRel.of (List.length_set ..) h2 (lvl_set1 (fun n h => by cases h) rfl hn)))
theorem r_fstore_n {k9 : Fin 4} {i : Nat} {v : UInt32} {L2 : List Value} (hdg : decode y.2.1 pc = .ok (.fstore_n k9, 1)) (hi : (k9 : Nat) = i) (hn : i < L.length) (hs : L.set i (.float v) = L2) (k : MF G d y (pc + 1) L2 st h Q) : MF G d y pc L (.float v :: st) h Q := by
  subst hs
  intro p l e R s m as below meth c H locs cells slots ls hx hl hr hL
  exact lv_fstore_n hx.1 hx.2.1 hdg hi hL.has hn rfl (fun ls2 h2 => k p l e R s m as below meth c H locs cells slots ls2 hx hl hr (LRel.of (List.length_set ..) h2 (lvl_set1 (fun n h => by cases h) rfl hn)))
theorem r_fstore {i : Nat} {v : UInt32} {L2 : List Value} (hdg : decode y.2.1 pc = .ok (.fstore i, 2)) (hn : i < L.length) (hs : L.set i (.float v) = L2) (k : MF G d y (pc + 2) L2 st h Q) : MF G d y pc L (.float v :: st) h Q := by
  subst hs
  intro p l e R s m as below meth c H locs cells slots ls hx hl hr hL
  exact lv_fstore hx.1 hx.2.1 hdg hL.has hn rfl (fun ls2 h2 => k p l e R s m as below meth c H locs cells slots ls2 hx hl hr (LRel.of (List.length_set ..) h2 (lvl_set1 (fun n h => by cases h) rfl hn)))
theorem r_lstore_n {k9 : Fin 4} {i : Nat} {v : Int64} {L2 : List Value} (hdg : decode y.2.1 pc = .ok (.lstore_n k9, 1)) (hi : (k9 : Nat) = i) (hn : i + 1 < L.length) (hs : setW L i (.long v) = L2) (k : MF G d y (pc + 1) L2 st h Q) : MF G d y pc L (.long v :: st) h Q := by
  subst hs
  intro p l e R s m as below meth c H locs cells slots ls hx hl hr hL
  exact lv_lstore_n hx.1 hx.2.1 hdg hi hL.has hn rfl (fun ls2 h2 => k p l e R s m as below meth c H locs cells slots ls2 hx hl hr (LRel.of (by simp [setW]) h2 (lvl_set2 rfl hn)))
theorem r_lstore {i : Nat} {v : Int64} {L2 : List Value} (hdg : decode y.2.1 pc = .ok (.lstore i, 2)) (hn : i + 1 < L.length) (hs : setW L i (.long v) = L2) (k : MF G d y (pc + 2) L2 st h Q) : MF G d y pc L (.long v :: st) h Q := by
  subst hs
  intro p l e R s m as below meth c H locs cells slots ls hx hl hr hL
  exact lv_lstore hx.1 hx.2.1 hdg hL.has hn rfl (fun ls2 h2 => k p l e R s m as below meth c H locs cells slots ls2 hx hl hr (LRel.of (by simp [setW]) h2 (lvl_set2 rfl hn)))
theorem r_dstore_n {k9 : Fin 4} {i : Nat} {v : UInt64} {L2 : List Value} (hdg : decode y.2.1 pc = .ok (.dstore_n k9, 1)) (hi : (k9 : Nat) = i) (hn : i + 1 < L.length) (hs : setW L i (.double v) = L2) (k : MF G d y (pc + 1) L2 st h Q) : MF G d y pc L (.double v :: st) h Q := by
  subst hs
  intro p l e R s m as below meth c H locs cells slots ls hx hl hr hL
  exact lv_dstore_n hx.1 hx.2.1 hdg hi hL.has hn rfl (fun ls2 h2 => k p l e R s m as below meth c H locs cells slots ls2 hx hl hr (LRel.of (by simp [setW]) h2 (lvl_set2 rfl hn)))
theorem r_dstore {i : Nat} {v : UInt64} {L2 : List Value} (hdg : decode y.2.1 pc = .ok (.dstore i, 2)) (hn : i + 1 < L.length) (hs : setW L i (.double v) = L2) (k : MF G d y (pc + 2) L2 st h Q) : MF G d y pc L (.double v :: st) h Q := by
  subst hs
  intro p l e R s m as below meth c H locs cells slots ls hx hl hr hL
  exact lv_dstore hx.1 hx.2.1 hdg hL.has hn rfl (fun ls2 h2 => k p l e R s m as below meth c H locs cells slots ls2 hx hl hr (LRel.of (by simp [setW]) h2 (lvl_set2 rfl hn)))
theorem r_astore_n {k9 : Fin 4} {i : Nat} {v : Value} {L2 : List Value} (hdg : decode y.2.1 pc = .ok (.astore_n k9, 1)) (hi : (k9 : Nat) = i) (hr9 : v.isRef = true) (hn : i < L.length) (hs : L.set i v = L2) (k : MF G d y (pc + 1) L2 st h Q) : MF G d y pc L (v :: st) h Q := by
  subst hs
  intro p l e R s m as below meth c H locs cells slots ls hx hl hr hL
  cases v with
  | ref q => exact lv_astore_n hx.1 hx.2.1 hdg hi hL.has hn rfl (fun ls2 h2 => k p l e R s m as below meth c H locs cells slots ls2 hx hl hr (LRel.of (List.length_set ..) h2 (lvl_set1 (fun n h => by cases h) rfl hn)))
  | null => exact lv_astore_nN hx.1 hx.2.1 hdg hi hL.has hn rfl (fun ls2 h2 => k p l e R s m as below meth c H locs cells slots ls2 hx hl hr (LRel.of (List.length_set ..) h2 (lvl_set1 (fun n h => by cases h) rfl hn)))
  | _ => cases hr9
theorem r_astore {i : Nat} {v : Value} {L2 : List Value} (hdg : decode y.2.1 pc = .ok (.astore i, 2)) (hr9 : v.isRef = true) (hn : i < L.length) (hs : L.set i v = L2) (k : MF G d y (pc + 2) L2 st h Q) : MF G d y pc L (v :: st) h Q := by
  subst hs
  intro p l e R s m as below meth c H locs cells slots ls hx hl hr hL
  cases v with
  | ref q => exact lv_astore hx.1 hx.2.1 hdg hL.has hn rfl (fun ls2 h2 => k p l e R s m as below meth c H locs cells slots ls2 hx hl hr (LRel.of (List.length_set ..) h2 (lvl_set1 (fun n h => by cases h) rfl hn)))
  | null => exact lv_astoreN hx.1 hx.2.1 hdg hL.has hn rfl (fun ls2 h2 => k p l e R s m as below meth c H locs cells slots ls2 hx hl hr (LRel.of (List.length_set ..) h2 (lvl_set1 (fun n h => by cases h) rfl hn)))
  | _ => cases hr9
theorem r_iinc {i : Nat} {n : Int} {x v : Int32} {L2 : List Value} (hdg : decode y.2.1 pc = .ok (.iinc i n, 3)) (hv : L[i]? = some (.int x)) (he : x + Int32.ofInt n = v) (hs : L.set i (.int v) = L2) (k : MF G d y (pc + 3) L2 st h Q) : MF G d y pc L st h Q := by
  subst hs
  intro p l e R s m as below meth c H locs cells slots ls hx hl hr hL
  have hi : i < L.length := (List.getElem?_eq_some_iff.mp hv).1
  have hm : (i, Value.int x) ∈ lvl L := lvl_mem.mpr ⟨hv, (fun n h => by cases h), (fun h => by simp [Value.category] at h)⟩
  obtain ⟨k9, hk9⟩ := List.getElem?_of_mem hm
  exact lv_iinc hx.1 hx.2.1 hdg hL.has hk9 he hi rfl (fun ls2 h2 => k p l e R s m as below meth c H locs cells slots ls2 hx hl hr (LRel.of (List.length_set ..) h2 (lvl_set1 (fun n h => by cases h) rfl hi)))
theorem r_iadd {x y9 : Int32} (hdg : decode y.2.1 pc = .ok (.iadd, 1)) (k : MF G d y (pc + 1) L (.int (x + y9) :: st) h Q) : MF G d y pc L (.int y9 :: .int x :: st) h Q :=
  fun p l e R s m as below meth c H locs cells slots ls hx hl hr hL => lv_iadd hx.1 hx.2.1 hdg (k p l e R s m as below meth c H locs cells slots ls hx hl hr hL)
theorem r_isub {x y9 : Int32} (hdg : decode y.2.1 pc = .ok (.isub, 1)) (k : MF G d y (pc + 1) L (.int (x - y9) :: st) h Q) : MF G d y pc L (.int y9 :: .int x :: st) h Q :=
  fun p l e R s m as below meth c H locs cells slots ls hx hl hr hL => lv_isub hx.1 hx.2.1 hdg (k p l e R s m as below meth c H locs cells slots ls hx hl hr hL)
theorem r_imul {x y9 : Int32} (hdg : decode y.2.1 pc = .ok (.imul, 1)) (k : MF G d y (pc + 1) L (.int (x * y9) :: st) h Q) : MF G d y pc L (.int y9 :: .int x :: st) h Q :=
  fun p l e R s m as below meth c H locs cells slots ls hx hl hr hL => lv_imul hx.1 hx.2.1 hdg (k p l e R s m as below meth c H locs cells slots ls hx hl hr hL)
theorem r_iand {x y9 : Int32} (hdg : decode y.2.1 pc = .ok (.iand, 1)) (k : MF G d y (pc + 1) L (.int (x &&& y9) :: st) h Q) : MF G d y pc L (.int y9 :: .int x :: st) h Q :=
  fun p l e R s m as below meth c H locs cells slots ls hx hl hr hL => lv_iand hx.1 hx.2.1 hdg (k p l e R s m as below meth c H locs cells slots ls hx hl hr hL)
theorem r_ior {x y9 : Int32} (hdg : decode y.2.1 pc = .ok (.ior, 1)) (k : MF G d y (pc + 1) L (.int (x ||| y9) :: st) h Q) : MF G d y pc L (.int y9 :: .int x :: st) h Q :=
  fun p l e R s m as below meth c H locs cells slots ls hx hl hr hL => lv_ior hx.1 hx.2.1 hdg (k p l e R s m as below meth c H locs cells slots ls hx hl hr hL)
theorem r_ixor {x y9 : Int32} (hdg : decode y.2.1 pc = .ok (.ixor, 1)) (k : MF G d y (pc + 1) L (.int (x ^^^ y9) :: st) h Q) : MF G d y pc L (.int y9 :: .int x :: st) h Q :=
  fun p l e R s m as below meth c H locs cells slots ls hx hl hr hL => lv_ixor hx.1 hx.2.1 hdg (k p l e R s m as below meth c H locs cells slots ls hx hl hr hL)
theorem r_ishl {x y9 : Int32} (hdg : decode y.2.1 pc = .ok (.ishl, 1)) (k : MF G d y (pc + 1) L (.int (x <<< (y9 &&& 31)) :: st) h Q) : MF G d y pc L (.int y9 :: .int x :: st) h Q :=
  fun p l e R s m as below meth c H locs cells slots ls hx hl hr hL => lv_ishl hx.1 hx.2.1 hdg (k p l e R s m as below meth c H locs cells slots ls hx hl hr hL)
theorem r_ishr {x y9 : Int32} (hdg : decode y.2.1 pc = .ok (.ishr, 1)) (k : MF G d y (pc + 1) L (.int (x >>> (y9 &&& 31)) :: st) h Q) : MF G d y pc L (.int y9 :: .int x :: st) h Q :=
  fun p l e R s m as below meth c H locs cells slots ls hx hl hr hL => lv_ishr hx.1 hx.2.1 hdg (k p l e R s m as below meth c H locs cells slots ls hx hl hr hL)
theorem r_idiv {x y9 : Int32} (hdg : decode y.2.1 pc = .ok (.idiv, 1)) (hne : ¬ y9 = 0) (k : MF G d y (pc + 1) L (.int (x / y9) :: st) h Q) : MF G d y pc L (.int y9 :: .int x :: st) h Q :=
  fun p l e R s m as below meth c H locs cells slots ls hx hl hr hL => lv_idiv hx.1 hx.2.1 hdg hne (k p l e R s m as below meth c H locs cells slots ls hx hl hr hL)
theorem r_irem {x y9 : Int32} (hdg : decode y.2.1 pc = .ok (.irem, 1)) (hne : ¬ y9 = 0) (k : MF G d y (pc + 1) L (.int (x - x / y9 * y9) :: st) h Q) : MF G d y pc L (.int y9 :: .int x :: st) h Q :=
  fun p l e R s m as below meth c H locs cells slots ls hx hl hr hL => lv_irem hx.1 hx.2.1 hdg hne (k p l e R s m as below meth c H locs cells slots ls hx hl hr hL)
theorem r_ineg {x : Int32} (hdg : decode y.2.1 pc = .ok (.ineg, 1)) (k : MF G d y (pc + 1) L (.int (-x) :: st) h Q) : MF G d y pc L (.int x :: st) h Q :=
  fun p l e R s m as below meth c H locs cells slots ls hx hl hr hL => lv_ineg hx.1 hx.2.1 hdg (k p l e R s m as below meth c H locs cells slots ls hx hl hr hL)
theorem r_iushr {x y9 v : Int32} (hdg : decode y.2.1 pc = .ok (.iushr, 1)) (hv : (x.toUInt32 >>> (y9.toUInt32 &&& Int32.toUInt32 31)).toInt32 = v) (k : MF G d y (pc + 1) L (.int v :: st) h Q) : MF G d y pc L (.int y9 :: .int x :: st) h Q :=
  fun p l e R s m as below meth c H locs cells slots ls hx hl hr hL => lv_iushr hx.1 hx.2.1 hdg hv (k p l e R s m as below meth c H locs cells slots ls hx hl hr hL)
theorem r_ladd {x y9 : Int64} (hdg : decode y.2.1 pc = .ok (.ladd, 1)) (k : MF G d y (pc + 1) L (.long (x + y9) :: st) h Q) : MF G d y pc L (.long y9 :: .long x :: st) h Q :=
  fun p l e R s m as below meth c H locs cells slots ls hx hl hr hL => lv_ladd hx.1 hx.2.1 hdg (k p l e R s m as below meth c H locs cells slots ls hx hl hr hL)
theorem r_lsub {x y9 : Int64} (hdg : decode y.2.1 pc = .ok (.lsub, 1)) (k : MF G d y (pc + 1) L (.long (x - y9) :: st) h Q) : MF G d y pc L (.long y9 :: .long x :: st) h Q :=
  fun p l e R s m as below meth c H locs cells slots ls hx hl hr hL => lv_lsub hx.1 hx.2.1 hdg (k p l e R s m as below meth c H locs cells slots ls hx hl hr hL)
theorem r_lmul {x y9 : Int64} (hdg : decode y.2.1 pc = .ok (.lmul, 1)) (k : MF G d y (pc + 1) L (.long (x * y9) :: st) h Q) : MF G d y pc L (.long y9 :: .long x :: st) h Q :=
  fun p l e R s m as below meth c H locs cells slots ls hx hl hr hL => lv_lmul hx.1 hx.2.1 hdg (k p l e R s m as below meth c H locs cells slots ls hx hl hr hL)
theorem r_land {x y9 : Int64} (hdg : decode y.2.1 pc = .ok (.land, 1)) (k : MF G d y (pc + 1) L (.long (x &&& y9) :: st) h Q) : MF G d y pc L (.long y9 :: .long x :: st) h Q :=
  fun p l e R s m as below meth c H locs cells slots ls hx hl hr hL => lv_land hx.1 hx.2.1 hdg (k p l e R s m as below meth c H locs cells slots ls hx hl hr hL)
theorem r_lor {x y9 : Int64} (hdg : decode y.2.1 pc = .ok (.lor, 1)) (k : MF G d y (pc + 1) L (.long (x ||| y9) :: st) h Q) : MF G d y pc L (.long y9 :: .long x :: st) h Q :=
  fun p l e R s m as below meth c H locs cells slots ls hx hl hr hL => lv_lor hx.1 hx.2.1 hdg (k p l e R s m as below meth c H locs cells slots ls hx hl hr hL)
theorem r_lxor {x y9 : Int64} (hdg : decode y.2.1 pc = .ok (.lxor, 1)) (k : MF G d y (pc + 1) L (.long (x ^^^ y9) :: st) h Q) : MF G d y pc L (.long y9 :: .long x :: st) h Q :=
  fun p l e R s m as below meth c H locs cells slots ls hx hl hr hL => lv_lxor hx.1 hx.2.1 hdg (k p l e R s m as below meth c H locs cells slots ls hx hl hr hL)
theorem r_lshl {x v : Int64} {y9 : Int32} (hdg : decode y.2.1 pc = .ok (.lshl, 1)) (hv : x <<< (y9.toInt64 &&& 63) = v) (k : MF G d y (pc + 1) L (.long v :: st) h Q) : MF G d y pc L (.int y9 :: .long x :: st) h Q :=
  fun p l e R s m as below meth c H locs cells slots ls hx hl hr hL => lv_lshl hx.1 hx.2.1 hdg hv (k p l e R s m as below meth c H locs cells slots ls hx hl hr hL)
theorem r_lushr {x v : Int64} {y9 : Int32} (hdg : decode y.2.1 pc = .ok (.lushr, 1)) (hv : (x.toUInt64 >>> (y9.toInt64.toUInt64 &&& Int64.toUInt64 63)).toInt64 = v) (k : MF G d y (pc + 1) L (.long v :: st) h Q) : MF G d y pc L (.int y9 :: .long x :: st) h Q :=
  fun p l e R s m as below meth c H locs cells slots ls hx hl hr hL => lv_lushr hx.1 hx.2.1 hdg hv (k p l e R s m as below meth c H locs cells slots ls hx hl hr hL)
theorem r_i2l {x : Int32} {v : Int64} (hdg : decode y.2.1 pc = .ok (.i2l, 1)) (hv : x.toInt64 = v) (k : MF G d y (pc + 1) L (.long v :: st) h Q) : MF G d y pc L (.int x :: st) h Q :=
  fun p l e R s m as below meth c H locs cells slots ls hx hl hr hL => lv_i2l hx.1 hx.2.1 hdg hv (k p l e R s m as below meth c H locs cells slots ls hx hl hr hL)
theorem r_l2i {x : Int64} {v : Int32} (hdg : decode y.2.1 pc = .ok (.l2i, 1)) (hv : x.toInt32 = v) (k : MF G d y (pc + 1) L (.int v :: st) h Q) : MF G d y pc L (.long x :: st) h Q :=
  fun p l e R s m as below meth c H locs cells slots ls hx hl hr hL => lv_l2i hx.1 hx.2.1 hdg hv (k p l e R s m as below meth c H locs cells slots ls hx hl hr hL)
theorem r_i2b {x v : Int32} (hdg : decode y.2.1 pc = .ok (.i2b, 1)) (hv : x.toInt8.toInt32 = v) (k : MF G d y (pc + 1) L (.int v :: st) h Q) : MF G d y pc L (.int x :: st) h Q :=
  fun p l e R s m as below meth c H locs cells slots ls hx hl hr hL => lv_i2b hx.1 hx.2.1 hdg hv (k p l e R s m as below meth c H locs cells slots ls hx hl hr hL)
theorem r_i2c {x v : Int32} (hdg : decode y.2.1 pc = .ok (.i2c, 1)) (hv : (x.toUInt32 % 65536).toInt32 = v) (k : MF G d y (pc + 1) L (.int v :: st) h Q) : MF G d y pc L (.int x :: st) h Q :=
  fun p l e R s m as below meth c H locs cells slots ls hx hl hr hL => lv_i2c hx.1 hx.2.1 hdg hv (k p l e R s m as below meth c H locs cells slots ls hx hl hr hL)
theorem r_i2f {x : Int32} (hdg : decode y.2.1 pc = .ok (.i2f, 1)) (k : MF G d y (pc + 1) L (.float (FP.i2f x) :: st) h Q) : MF G d y pc L (.int x :: st) h Q :=
  fun p l e R s m as below meth c H locs cells slots ls hx hl hr hL => lv_i2f hx.1 hx.2.1 hdg (k p l e R s m as below meth c H locs cells slots ls hx hl hr hL)
theorem r_i2d {x : Int32} (hdg : decode y.2.1 pc = .ok (.i2d, 1)) (k : MF G d y (pc + 1) L (.double (FP.i2d x) :: st) h Q) : MF G d y pc L (.int x :: st) h Q :=
  fun p l e R s m as below meth c H locs cells slots ls hx hl hr hL => lv_i2d hx.1 hx.2.1 hdg (k p l e R s m as below meth c H locs cells slots ls hx hl hr hL)
theorem r_f2i {x : UInt32} (hdg : decode y.2.1 pc = .ok (.f2i, 1)) (k : MF G d y (pc + 1) L (.int (FP.f2i x) :: st) h Q) : MF G d y pc L (.float x :: st) h Q :=
  fun p l e R s m as below meth c H locs cells slots ls hx hl hr hL => lv_f2i hx.1 hx.2.1 hdg (k p l e R s m as below meth c H locs cells slots ls hx hl hr hL)
theorem r_fmul {x y9 : UInt32} (hdg : decode y.2.1 pc = .ok (.fmul, 1)) (hne : vf_n32 (FP.fmul x y9)) (k : MF G d y (pc + 1) L (.float (FP.fmul x y9) :: st) h Q) : MF G d y pc L (.float y9 :: .float x :: st) h Q :=
  fun p l e R s m as below meth c H locs cells slots ls hx hl hr hL => lv_fmul hx.1 hx.2.1 hdg hne (k p l e R s m as below meth c H locs cells slots ls hx hl hr hL)
theorem r_fdiv {x y9 : UInt32} (hdg : decode y.2.1 pc = .ok (.fdiv, 1)) (hne : vf_n32 (FP.fdiv x y9)) (k : MF G d y (pc + 1) L (.float (FP.fdiv x y9) :: st) h Q) : MF G d y pc L (.float y9 :: .float x :: st) h Q :=
  fun p l e R s m as below meth c H locs cells slots ls hx hl hr hL => lv_fdiv hx.1 hx.2.1 hdg hne (k p l e R s m as below meth c H locs cells slots ls hx hl hr hL)
theorem r_ddiv {x y9 : UInt64} (hdg : decode y.2.1 pc = .ok (.ddiv, 1)) (hne : vf_n64 (FP.ddiv x y9)) (k : MF G d y (pc + 1) L (.double (FP.ddiv x y9) :: st) h Q) : MF G d y pc L (.double y9 :: .double x :: st) h Q :=
  fun p l e R s m as below meth c H locs cells slots ls hx hl hr hL => lv_ddiv hx.1 hx.2.1 hdg hne (k p l e R s m as below meth c H locs cells slots ls hx hl hr hL)
theorem r_fcmp {x y9 : UInt32} {op : CmpOp} (hdg : decode y.2.1 pc = .ok (.fcmp op, 1)) (k : MF G d y (pc + 1) L (.int (Op.cmpValue (FP.fcmp x y9) op) :: st) h Q) : MF G d y pc L (.float y9 :: .float x :: st) h Q :=
  fun p l e R s m as below meth c H locs cells slots ls hx hl hr hL => lv_fcmp hx.1 hx.2.1 hdg (k p l e R s m as below meth c H locs cells slots ls hx hl hr hL)
theorem r_dcmp {x y9 : UInt64} {op : CmpOp} (hdg : decode y.2.1 pc = .ok (.dcmp op, 1)) (k : MF G d y (pc + 1) L (.int (Op.cmpValue (FP.dcmp x y9) op) :: st) h Q) : MF G d y pc L (.double y9 :: .double x :: st) h Q :=
  fun p l e R s m as below meth c H locs cells slots ls hx hl hr hL => lv_dcmp hx.1 hx.2.1 hdg (k p l e R s m as below meth c H locs cells slots ls hx hl hr hL)
theorem r_lcmp {x y9 : Int64} (hdg : decode y.2.1 pc = .ok (.lcmp, 1)) (k : MF G d y (pc + 1) L (.int (lg_cmp x y9) :: st) h Q) : MF G d y pc L (.long y9 :: .long x :: st) h Q :=
  fun p l e R s m as below meth c H locs cells slots ls hx hl hr hL => W.lcmp hx.1 hx.2.1 hdg (k p l e R s m as below meth c H locs cells slots ls hx hl hr hL)
theorem r_dup {v : Value} (hdg : decode y.2.1 pc = .ok (.dup, 1)) (hv : v.category = 1) (k : MF G d y (pc + 1) L (v :: v :: st) h Q) : MF G d y pc L (v :: st) h Q :=
  fun p l e R s m as below meth c H locs cells slots ls hx hl hr hL => lv_dup hx.1 hx.2.1 hdg hv (k p l e R s m as below meth c H locs cells slots ls hx hl hr hL)
theorem r_pop {v : Value} (hdg : decode y.2.1 pc = .ok (.pop, 1)) (hv : v.category = 1) (k : MF G d y (pc + 1) L (st) h Q) : MF G d y pc L (v :: st) h Q :=
  fun p l e R s m as below meth c H locs cells slots ls hx hl hr hL => lv_pop hx.1 hx.2.1 hdg hv (k p l e R s m as below meth c H locs cells slots ls hx hl hr hL)
theorem r_dup_x1 {v w : Value} (hdg : decode y.2.1 pc = .ok (.dup_x1, 1)) (hv : v.category = 1) (hw : w.category = 1) (k : MF G d y (pc + 1) L (v :: w :: v :: st) h Q) : MF G d y pc L (v :: w :: st) h Q :=
  fun p l e R s m as below meth c H locs cells slots ls hx hl hr hL => lv_dup_x1 hx.1 hx.2.1 hdg hv hw (k p l e R s m as below meth c H locs cells slots ls hx hl hr hL)
theorem r_dup_x2 {v w u : Value} (hdg : decode y.2.1 pc = .ok (.dup_x2, 1)) (hv : v.category = 1) (hw : w.category = 1) (hu : u.category = 1) (k : MF G d y (pc + 1) L (v :: w :: u :: v :: st) h Q) : MF G d y pc L (v :: w :: u :: st) h Q :=
  fun p l e R s m as below meth c H locs cells slots ls hx hl hr hL => lv_dup_x2 hx.1 hx.2.1 hdg hv hw hu (k p l e R s m as below meth c H locs cells slots ls hx hl hr hL)
theorem r_dup2 {v w : Value} (hdg : decode y.2.1 pc = .ok (.dup2, 1)) (hv : v.category = 1) (hw : w.category = 1) (k : MF G d y (pc + 1) L (v :: w :: v :: w :: st) h Q) : MF G d y pc L (v :: w :: st) h Q :=
  fun p l e R s m as below meth c H locs cells slots ls hx hl hr hL => lv_dup2_11 hx.1 hx.2.1 hdg hv hw (k p l e R s m as below meth c H locs cells slots ls hx hl hr hL)
theorem r_goto {off : Int} {tgt : Nat} (hdg : decode y.2.1 pc = .ok (.goto off, 3)) (ht : (pc : Int) + off = (tgt : Int)) (k : MF G d y tgt L st h Q) : MF G d y pc L st h Q :=
  fun p l e R s m as below meth c H locs cells slots ls hx hl hr hL => lv_goto hx.1 hx.2.1 hdg ht (k p l e R s m as below meth c H locs cells slots ls hx hl hr hL)
theorem r_if_eq {x : Int32} {off : Int} {tgt : Nat} (hdg : decode y.2.1 pc = .ok (.ifCond .eq off, 3)) (ht : (pc : Int) + off = (tgt : Int)) (kt : x = 0 → MF G d y tgt L st h Q) (kf : ¬ x = 0 → MF G d y (pc + 3) L st h Q) : MF G d y pc L (.int x :: st) h Q :=
  fun p l e R s m as below meth c H locs cells slots ls hx hl hr hL => lv_if_eq hx.1 hx.2.1 hdg ht (fun hc => kt hc p l e R s m as below meth c H locs cells slots ls hx hl hr hL) (fun hc => kf hc p l e R s m as below meth c H locs cells slots ls hx hl hr hL)
theorem r_icmp_eq {x y9 : Int32} {off : Int} {tgt : Nat} (hdg : decode y.2.1 pc = .ok (.if_icmp .eq off, 3)) (ht : (pc : Int) + off = (tgt : Int)) (kt : x = y9 → MF G d y tgt L st h Q) (kf : ¬ x = y9 → MF G d y (pc + 3) L st h Q) : MF G d y pc L (.int y9 :: .int x :: st) h Q :=
  fun p l e R s m as below meth c H locs cells slots ls hx hl hr hL => lv_icmp_eq hx.1 hx.2.1 hdg ht (fun hc => kt hc p l e R s m as below meth c H locs cells slots ls hx hl hr hL) (fun hc => kf hc p l e R s m as below meth c H locs cells slots ls hx hl hr hL)
theorem r_if_ne {x : Int32} {off : Int} {tgt : Nat} (hdg : decode y.2.1 pc = .ok (.ifCond .ne off, 3)) (ht : (pc : Int) + off = (tgt : Int)) (kt : ¬ x = 0 → MF G d y tgt L st h Q) (kf : x = 0 → MF G d y (pc + 3) L st h Q) : MF G d y pc L (.int x :: st) h Q :=
  fun p l e R s m as below meth c H locs cells slots ls hx hl hr hL => lv_if_ne hx.1 hx.2.1 hdg ht (fun hc => kt hc p l e R s m as below meth c H locs cells slots ls hx hl hr hL) (fun hc => kf hc p l e R s m as below meth c H locs cells slots ls hx hl hr hL)
theorem r_icmp_ne {x y9 : Int32} {off : Int} {tgt : Nat} (hdg : decode y.2.1 pc = .ok (.if_icmp .ne off, 3)) (ht : (pc : Int) + off = (tgt : Int)) (kt : ¬ x = y9 → MF G d y tgt L st h Q) (kf : x = y9 → MF G d y (pc + 3) L st h Q) : MF G d y pc L (.int y9 :: .int x :: st) h Q :=
  fun p l e R s m as below meth c H locs cells slots ls hx hl hr hL => lv_icmp_ne hx.1 hx.2.1 hdg ht (fun hc => kt hc p l e R s m as below meth c H locs cells slots ls hx hl hr hL) (fun hc => kf hc p l e R s m as below meth c H locs cells slots ls hx hl hr hL)
theorem r_if_lt {x : Int32} {off : Int} {tgt : Nat} (hdg : decode y.2.1 pc = .ok (.ifCond .lt off, 3)) (ht : (pc : Int) + off = (tgt : Int)) (kt : x < 0 → MF G d y tgt L st h Q) (kf : ¬ x < 0 → MF G d y (pc + 3) L st h Q) : MF G d y pc L (.int x :: st) h Q :=
  fun p l e R s m as below meth c H locs cells slots ls hx hl hr hL => lv_if_lt hx.1 hx.2.1 hdg ht (fun hc => kt hc p l e R s m as below meth c H locs cells slots ls hx hl hr hL) (fun hc => kf hc p l e R s m as below meth c H locs cells slots ls hx hl hr hL)
theorem r_icmp_lt {x y9 : Int32} {off : Int} {tgt : Nat} (hdg : decode y.2.1 pc = .ok (.if_icmp .lt off, 3)) (ht : (pc : Int) + off = (tgt : Int)) (kt : x < y9 → MF G d y tgt L st h Q) (kf : ¬ x < y9 → MF G d y (pc + 3) L st h Q) : MF G d y pc L (.int y9 :: .int x :: st) h Q :=
  fun p l e R s m as below meth c H locs cells slots ls hx hl hr hL => lv_icmp_lt hx.1 hx.2.1 hdg ht (fun hc => kt hc p l e R s m as below meth c H locs cells slots ls hx hl hr hL) (fun hc => kf hc p l e R s m as below meth c H locs cells slots ls hx hl hr hL)
theorem r_if_ge {x : Int32} {off : Int} {tgt : Nat} (hdg : decode y.2.1 pc = .ok (.ifCond .ge off, 3)) (ht : (pc : Int) + off = (tgt : Int)) (kt : 0 ≤ x → MF G d y tgt L st h Q) (kf : ¬ 0 ≤ x → MF G d y (pc + 3) L st h Q) : MF G d y pc L (.int x :: st) h Q :=
  fun p l e R s m as below meth c H locs cells slots ls hx hl hr hL => lv_if_ge hx.1 hx.2.1 hdg ht (fun hc => kt hc p l e R s m as below meth c H locs cells slots ls hx hl hr hL) (fun hc => kf hc p l e R s m as below meth c H locs cells slots ls hx hl hr hL)
theorem r_icmp_ge {x y9 : Int32} {off : Int} {tgt : Nat} (hdg : decode y.2.1 pc = .ok (.if_icmp .ge off, 3)) (ht : (pc : Int) + off = (tgt : Int)) (kt : y9 ≤ x → MF G d y tgt L st h Q) (kf : ¬ y9 ≤ x → MF G d y (pc + 3) L st h Q) : MF G d y pc L (.int y9 :: .int x :: st) h Q :=
  fun p l e R s m as below meth c H locs cells slots ls hx hl hr hL => lv_icmp_ge hx.1 hx.2.1 hdg ht (fun hc => kt hc p l e R s m as below meth c H locs cells slots ls hx hl hr hL) (fun hc => kf hc p l e R s m as below meth c H locs cells slots ls hx hl hr hL)
theorem r_if_gt {x : Int32} {off : Int} {tgt : Nat} (hdg : decode y.2.1 pc = .ok (.ifCond .gt off, 3)) (ht : (pc : Int) + off = (tgt : Int)) (kt : 0 < x → MF G d y tgt L st h Q) (kf : ¬ 0 < x → MF G d y (pc + 3) L st h Q) : MF G d y pc L (.int x :: st) h Q :=
  fun p l e R s m as below meth c H locs cells slots ls hx hl hr hL => lv_if_gt hx.1 hx.2.1 hdg ht (fun hc => kt hc p l e R s m as below meth c H locs cells slots ls hx hl hr hL) (fun hc => kf hc p l e R s m as below meth c H locs cells slots ls hx hl hr hL)
theorem r_icmp_gt {x y9 : Int32} {off : Int} {tgt : Nat} (hdg : decode y.2.1 pc = .ok (.if_icmp .gt off, 3)) (ht : (pc : Int) + off = (tgt : Int)) (kt : y9 < x → MF G d y tgt L st h Q) (kf : ¬ y9 < x → MF G d y (pc + 3) L st h Q) : MF G d y pc L (.int y9 :: .int x :: st) h Q :=
  fun p l e R s m as below meth c H locs cells slots ls hx hl hr hL => lv_icmp_gt hx.1 hx.2.1 hdg ht (fun hc => kt hc p l e R s m as below meth c H locs cells slots ls hx hl hr hL) (fun hc => kf hc p l e R s m as below meth c H locs cells slots ls hx hl hr hL)
theorem r_if_le {x : Int32} {off : Int} {tgt : Nat} (hdg : decode y.2.1 pc = .ok (.ifCond .le off, 3)) (ht : (pc : Int) + off = (tgt : Int)) (kt : x ≤ 0 → MF G d y tgt L st h Q) (kf : ¬ x ≤ 0 → MF G d y (pc + 3) L st h Q) : MF G d y pc L (.int x :: st) h Q :=
  fun p l e R s m as below meth c H locs cells slots ls hx hl hr hL => lv_if_le hx.1 hx.2.1 hdg ht (fun hc => kt hc p l e R s m as below meth c H locs cells slots ls hx hl hr hL) (fun hc => kf hc p l e R s m as below meth c H locs cells slots ls hx hl hr hL)
theorem r_icmp_le {x y9 : Int32} {off : Int} {tgt : Nat} (hdg : decode y.2.1 pc = .ok (.if_icmp .le off, 3)) (ht : (pc : Int) + off = (tgt : Int)) (kt : x ≤ y9 → MF G d y tgt L st h Q) (kf : ¬ x ≤ y9 → MF G d y (pc + 3) L st h Q) : MF G d y pc L (.int y9 :: .int x :: st) h Q :=
  fun p l e R s m as below meth c H locs cells slots ls hx hl hr hL => lv_icmp_le hx.1 hx.2.1 hdg ht (fun hc => kt hc p l e R s m as below meth c H locs cells slots ls hx hl hr hL) (fun hc => kf hc p l e R s m as below meth c H locs cells slots ls hx hl hr hL)
theorem isRef_rf {v : Value} (h : v.isRef = true) : ∃ o, v = va_rf o := by
  cases v with
  | ref q => exact ⟨some q, rfl⟩
  | null => exact ⟨none, rfl⟩
  | _ => cases h
theorem r_acmp_eq {v w : Value} {off : Int} {tgt : Nat} (hdg : decode y.2.1 pc = .ok (.if_acmp .eq off, 3)) (ht : (pc : Int) + off = (tgt : Int)) (hv : v.isRef = true) (hw : w.isRef = true) (kt : v = w → MF G d y tgt L st h Q) (kf : ¬ v = w → MF G d y (pc + 3) L st h Q) : MF G d y pc L (w :: v :: st) h Q := by
  obtain ⟨ov, rfl⟩ := isRef_rf hv
  obtain ⟨ow, rfl⟩ := isRef_rf hw
  have hi : va_rf ov = va_rf ow ↔ ov = ow := ⟨fun h9 => by cases ov <;> cases ow <;> simp_all [va_rf], fun h9 => by rw [h9]⟩
  rw [hi] at kt kf
  exact fun p l e R s m as below meth c H locs cells slots ls hx hl hr hL => lv_acmp_eq hx.1 hx.2.1 hdg ht (fun hc => kt hc p l e R s m as below meth c H locs cells slots ls hx hl hr hL) (fun hc => kf hc p l e R s m as below meth c H locs cells slots ls hx hl hr hL)
theorem r_acmp_ne {v w : Value} {off : Int} {tgt : Nat} (hdg : decode y.2.1 pc = .ok (.if_acmp .ne off, 3)) (ht : (pc : Int) + off = (tgt : Int)) (hv : v.isRef = true) (hw : w.isRef = true) (kt : ¬ v = w → MF G d y tgt L st h Q) (kf : v = w → MF G d y (pc + 3) L st h Q) : MF G d y pc L (w :: v :: st) h Q := by
  obtain ⟨ov, rfl⟩ := isRef_rf hv
  obtain ⟨ow, rfl⟩ := isRef_rf hw
  have hi : va_rf ov = va_rf ow ↔ ov = ow := ⟨fun h9 => by cases ov <;> cases ow <;> simp_all [va_rf], fun h9 => by rw [h9]⟩
  rw [hi] at kt kf
  exact fun p l e R s m as below meth c H locs cells slots ls hx hl hr hL => lv_acmp_ne hx.1 hx.2.1 hdg ht (fun hc => kt hc p l e R s m as below meth c H locs cells slots ls hx hl hr hL) (fun hc => kf hc p l e R s m as below meth c H locs cells slots ls hx hl hr hL)
theorem r_ifnull {o : Option Nat} {off : Int} {tgt : Nat} (hdg : decode y.2.1 pc = .ok (.ifnull off, 3)) (ht : (pc : Int) + off = (tgt : Int)) (kt : o = none → MF G d y tgt L st h Q) (kf : ∀ q, o = some q → MF G d y (pc + 3) L st h Q) : MF G d y pc L (va_rf o :: st) h Q := by
  cases o with
  | none => exact fun p l e R s m as below meth c H locs cells slots ls hx hl hr hL => lv_ifnullN hx.1 hx.2.1 hdg ht (kt rfl p l e R s m as below meth c H locs cells slots ls hx hl hr hL)
  | some q => exact fun p l e R s m as below meth c H locs cells slots ls hx hl hr hL => lv_ifnull hx.1 hx.2.1 hdg (kf q rfl p l e R s m as below meth c H locs cells slots ls hx hl hr hL)
theorem r_ifnonnull {o : Option Nat} {off : Int} {tgt : Nat} (hdg : decode y.2.1 pc = .ok (.ifnonnull off, 3)) (ht : (pc : Int) + off = (tgt : Int)) (kt : ∀ q, o = some q → MF G d y tgt L st h Q) (kf : o = none → MF G d y (pc + 3) L st h Q) : MF G d y pc L (va_rf o :: st) h Q := by
  cases o with
  | none => exact fun p l e R s m as below meth c H locs cells slots ls hx hl hr hL => lv_ifnonnullN hx.1 hx.2.1 hdg (kf rfl p l e R s m as below meth c H locs cells slots ls hx hl hr hL)
  | some q => exact fun p l e R s m as below meth c H locs cells slots ls hx hl hr hL => lv_ifnonnull hx.1 hx.2.1 hdg ht (kt q rfl p l e R s m as below meth c H locs cells slots ls hx hl hr hL)
theorem r_tswitch {dflt lo hi : Int} {offs : Array Int} {len td : Nat} {x : Int32} (hdg : decode y.2.1 pc = .ok (.tableswitch dflt lo hi offs, len)) (ht : (pc : Int) + dflt = (td : Int))
    (kin : ∀ n : Nat, x.toInt = lo + n → x.toInt ≤ hi → ∃ (off : Int) (tgt : Nat), offs[n]? = some off ∧ (pc : Int) + off = (tgt : Int) ∧ MF G d y tgt L st h Q) (kout : x.toInt < lo ∨ hi < x.toInt → MF G d y td L st h Q) : MF G d y pc L (.int x :: st) h Q := by
  intro p l e R s m as below meth c H locs cells slots ls hx hl hr hL
  by_cases h1 : x.toInt < lo
  · exact lv_tableOut hx.1 hx.2.1 hdg (Or.inl h1) ht (kout (Or.inl h1) p l e R s m as below meth c H locs cells slots ls hx hl hr hL)
  · by_cases h2 : hi < x.toInt
    · exact lv_tableOut hx.1 hx.2.1 hdg (Or.inr h2) ht (kout (Or.inr h2) p l e R s m as below meth c H locs cells slots ls hx hl hr hL)
    · obtain ⟨off, tgt, e1, e2, k⟩ := kin (x.toInt - lo).toNat (by omega) (by omega)
      exact lv_tableIn hx.1 hx.2.1 hdg h1 h2 e1 e2 (k p l e R s m as below meth c H locs cells slots ls hx hl hr hL)
theorem r_lookup {dflt : Int} {ps : Array (Int × Int)} {len : Nat} {x : Int32} {off : Int} {tgt : Nat} (hdg : decode y.2.1 pc = .ok (.lookupswitch dflt ps, len)) (hp : (ps.toList.zip (ps.toList.drop 1)).all (fun (a, next) => a.1 < next.1) = true) (ho : Op.lookupswitch.offset ps.toList dflt x.toInt = off) (ht : (pc : Int) + off = (tgt : Int))
    (k : MF G d y tgt L st h Q) : MF G d y pc L (.int x :: st) h Q :=
  fun p l e R s m as below meth c H locs cells slots ls hx hl hr hL => lv_lookup hx.1 hx.2.1 hdg hp ho ht (k p l e R s m as below meth c H locs cells slots ls hx hl hr hL)
theorem r_ldc {index : Nat} {v : Int32} (hdg : decode y.2.1 pc = .ok (.ldc index, 2)) (hw : Cond.constant y.1.cls index v ∈ lw_tbl) (k : MF G d y (pc + 2) L (.int v :: st) h Q) : MF G d y pc L st h Q :=
  fun p l e R s m as below meth c H locs cells slots ls hx hl hr hL => lv_ldc hx.1 hx.2.1 hx.2.2.2.2.2.2.2.1 (hx.2.2.2.2.2.2.2.2.1.1 _ hw rfl _) hdg (k p l e R s m as below meth c H locs cells slots ls hx hl hr hL)
theorem r_ldcw {index : Nat} {v : Int32} (hdg : decode y.2.1 pc = .ok (.ldc_w index, 3)) (hw : Cond.constant y.1.cls index v ∈ lw_tbl) (k : MF G d y (pc + 3) L (.int v :: st) h Q) : MF G d y pc L st h Q :=
  fun p l e R s m as below meth c H locs cells slots ls hx hl hr hL => lv_ldcw hx.1 hx.2.1 hx.2.2.2.2.2.2.2.1 (hx.2.2.2.2.2.2.2.2.1.1 _ hw rfl _) hdg (k p l e R s m as below meth c H locs cells slots ls hx hl hr hL)
theorem r_ldcf {index : Nat} {v : UInt32} (hdg : decode y.2.1 pc = .ok (.ldc index, 2)) (hw : Cond.constantFloat y.1.cls index v ∈ lw_tbl) (k : MF G d y (pc + 2) L (.float v :: st) h Q) : MF G d y pc L st h Q :=
  fun p l e R s m as below meth c H locs cells slots ls hx hl hr hL => lv_ldcf hx.1 hx.2.1 hx.2.2.2.2.2.2.2.1 (hx.2.2.2.2.2.2.2.2.1.1 _ hw rfl _) hdg (k p l e R s m as below meth c H locs cells slots ls hx hl hr hL)
theorem r_ldc2 {index : Nat} {v : Int64} (hdg : decode y.2.1 pc = .ok (.ldc2_w index, 3)) (hw : Cond.constantLong y.1.cls index v ∈ lw_tbl) (k : MF G d y (pc + 3) L (.long v :: st) h Q) : MF G d y pc L st h Q :=
  fun p l e R s m as below meth c H locs cells slots ls hx hl hr hL => lv_ldc2 hx.1 hx.2.1 hx.2.2.2.2.2.2.2.1 (hx.2.2.2.2.2.2.2.2.1.1 _ hw rfl _) hdg (k p l e R s m as below meth c H locs cells slots ls hx hl hr hL)
end
