/-! the words in which block lemmas speak -/
set_option maxRecDepth 100000
theorem cat_ref {v : Value} (h : v.isRef = true) : v.category = 1 := by cases v <;> first | rfl | cases h
theorem iincE {x a b : Int32} (h : a = b) : x + a = x + b := by rw [h]
/-- a field that holds an int, a long, a reference -/
def gI (h : AH) (a : Nat) (ks : List Nat) (k : Nat) (K : Int32 → Prop) : Prop := ∃ (kd : Nat) (w : Bool) (fs : List Value) (x : Int32), kd ∈ ks ∧ h.1 a = some (kd, w, fs) ∧ fs[k]? = some (.int x) ∧ K x
def gR (h : AH) (a : Nat) (ks : List Nat) (k : Nat) (K : Value → Prop) : Prop := ∃ (kd : Nat) (w : Bool) (fs : List Value) (v : Value), kd ∈ ks ∧ h.1 a = some (kd, w, fs) ∧ fs[k]? = some v ∧ v.isRef = true ∧ K v
/-- v is an address -/
def dR (v : Value) (K : Nat → Prop) : Prop := ∃ a : Nat, v = .ref a ∧ K a
/-- a field is written -/
def pF (h : AH) (a : Nat) (ks : List Nat) (k : Nat) (v : Value) (K : AH → Prop) : Prop := ∃ (kd : Nat) (fs : List Value) (h1 : AH), kd ∈ ks ∧ h.1 a = some (kd, true, fs) ∧ k < fs.length ∧ h1 = h.put a (fs.set k v) ∧ K h1
/-- an array's component is read, written -/
def aI (h : AH) (a kd : Nat) (i : Int32) (K : Int32 → Prop) : Prop := ∃ (w : Bool) (fs : List Value) (x : Int32), h.1 a = some (kd, w, fs) ∧ ¬ i < 0 ∧ fs[i.toNatClampNeg]? = some (.int x) ∧ K x
def aJ (h : AH) (a kd : Nat) (i : Int32) (K : Int64 → Prop) : Prop := ∃ (w : Bool) (fs : List Value) (x : Int64), h.1 a = some (kd, w, fs) ∧ ¬ i < 0 ∧ fs[i.toNatClampNeg]? = some (.long x) ∧ K x
def aR (h : AH) (a kd : Nat) (i : Int32) (K : Value → Prop) : Prop := ∃ (w : Bool) (fs : List Value) (v : Value), h.1 a = some (kd, w, fs) ∧ ¬ i < 0 ∧ fs[i.toNatClampNeg]? = some v ∧ v.isRef = true ∧ K v
def pA (h : AH) (a kd : Nat) (i : Int32) (v : Value) (K : AH → Prop) : Prop := ∃ (fs : List Value) (h1 : AH), h.1 a = some (kd, true, fs) ∧ ¬ i < 0 ∧ i.toNatClampNeg < fs.length ∧ h1 = h.put a (fs.set i.toNatClampNeg v) ∧ K h1
def aL (h : AH) (a kd : Nat) (K : Int32 → Prop) : Prop := ∃ (w : Bool) (fs : List Value), h.1 a = some (kd, w, fs) ∧ K (Int32.ofNat fs.length)
/-- a new cell -/
def nW (h : AH) (kd : Nat) (fs : List Value) (cost : Nat) (K : Nat → AH → Prop) : Prop := ∃ (q : Nat) (h1 : AH), q = h.2.1 ∧ h1 = h.new kd fs cost ∧ cost ≤ h.2.2 ∧ K q h1
def nA (h : AH) (kd : Nat) (n : Int32) (v : Value) (K : Nat → AH → Prop) : Prop := ∃ (q : Nat) (h1 : AH), q = h.2.1 ∧ h1 = h.new kd (List.replicate n.toNatClampNeg v) (n.toNatClampNeg + 4) ∧ ¬ n < 0 ∧ n.toNatClampNeg ≤ 60000000 ∧ n.toNatClampNeg + 4 ≤ h.2.2 ∧ K q h1
/-- an object of kind kd stands at a -/
def hasK (h : AH) (a kd : Nat) : Prop := ∃ (w : Bool) (fs : List Value), h.1 a = some (kd, w, fs)
/-- ends of calls -/
def cI (K : Int32 → AH → Prop) (Qx : Nat → AH → Prop) : Out → AH → Prop := sumQ (fun v h => ∃ x : Int32, v = some (.int x) ∧ K x h) Qx
def cV (K : AH → Prop) (Qx : Nat → AH → Prop) : Out → AH → Prop := sumQ (fun v h => v = none ∧ K h) Qx
def cR (K : Value → AH → Prop) (Qx : Nat → AH → Prop) : Out → AH → Prop := sumQ (fun v h => ∃ x : Value, v = some x ∧ x.isRef = true ∧ K x h) Qx
def cD (K : UInt64 → AH → Prop) (Qx : Nat → AH → Prop) : Out → AH → Prop := sumQ (fun v h => ∃ x : UInt64, v = some (.double x) ∧ K x h) Qx
def cJ (K : Int64 → AH → Prop) (Qx : Nat → AH → Prop) : Out → AH → Prop := sumQ (fun v h => ∃ x : Int64, v = some (.long x) ∧ K x h) Qx
theorem cI_mk {K : Int32 → AH → Prop} {Qx : Nat → AH → Prop} {x : Int32} {h : AH} (k : K x h) : cI K Qx (.inl (some (.int x))) h := ⟨x, rfl, k⟩
theorem cV_mk {K : AH → Prop} {Qx : Nat → AH → Prop} {h : AH} (k : K h) : cV K Qx (.inl none) h := ⟨rfl, k⟩
theorem cR_mk {K : Value → AH → Prop} {Qx : Nat → AH → Prop} {v : Value} {h : AH} (hv : v.isRef = true) (k : K v h) : cR K Qx (.inl (some v)) h := ⟨v, rfl, hv, k⟩
theorem cD_mk {K : UInt64 → AH → Prop} {Qx : Nat → AH → Prop} {x : UInt64} {h : AH} (k : K x h) : cD K Qx (.inl (some (.double x))) h := ⟨x, rfl, k⟩
/-- what a field's link says of kind kd -/
def FieldOf (own : String) (index kd k : Nat) : Prop := ∃ (C : String) (T : u_T) (N : Nat), clAll[kd]? = some (C, T, N) ∧ FLink own index (T k).1 (T k).2.1 (T k).2.2.1
def FieldPut (own : String) (mname : String) (index kd k : Nat) (ty : FieldType) : Prop := ∃ (C : String) (T : u_T) (N : Nat) (tt : Nat → FieldType), clAll[kd]? = some (C, T, N) ∧ kYAll[kd]? = some tt ∧ tt k = ty ∧ FLink own index (T k).1 (T k).2.1 (T k).2.2.1 ∧ ((T k).2.2.2 = false ∨ ((T k).2.2.2 = true ∧ mname = "<init>" ∧ (T k).1 = own))
section
variable {G : GL} {d pc : Nat} {y : MI} {L st : List Value} {h : AH} {Q : Out → AH → Prop}
theorem r_getf {a k kd index : Nat} {w : Bool} {fs : List Value} {v : Value} (hdg : decode y.2.1 pc = .ok (.getfield index, 3)) (hf : FieldOf y.1.cls index kd k) (hc : h.1 a = some (kd, w, fs)) (hv : fs[k]? = some v) (kk : MF G d y (pc + 3) L (v :: st) h Q) : MF G d y pc L (.ref a :: st) h Q := by
  obtain ⟨C, T, N, hq, hw⟩ := hf
  exact r_getfield hdg hc hv hq hw kk
theorem r_putf {a k kd index : Nat} {fs : List Value} {v : Value} {ty : FieldType} (hdg : decode y.2.1 pc = .ok (.putfield index, 3)) (hf : FieldPut y.1.cls y.1.name index kd k ty) (hn : narrow ty v = v) (hfit : fits ty v = true) (hc : h.1 a = some (kd, true, fs)) (hk : k < fs.length) (kk : MF G d y (pc + 3) L st (h.put a (fs.set k v)) Q) : MF G d y pc L (v :: .ref a :: st) h Q := by
  obtain ⟨C, T, N, tt, hq, hy, rfl, hw, hfin⟩ := hf
  exact r_putfield hdg hc hk hq hy hw hfin hn hfit kk
theorem fits_ref {v : Value} {ty : FieldType} (hv : v.isRef = true) (ht : ty.isReference = true) : fits ty v = true := by
  cases v <;> first | (cases hv; done) | (cases ty <;> first | rfl | cases ht)
theorem narrow_ref {v : Value} {ty : FieldType} (hv : v.isRef = true) : narrow ty v = v := by
  cases v <;> first | (cases hv; done) | (cases ty <;> rfl)
end
section
variable {G : GL} {d pc : Nat} {y : MI} {L st : List Value} {h h1 : AH} {Q : Out → AH → Prop}
theorem r_putfE {a k kd index : Nat} {fs : List Value} {v : Value} {ty : FieldType} (hdg : decode y.2.1 pc = .ok (.putfield index, 3)) (hf : FieldPut y.1.cls y.1.name index kd k ty) (hn : narrow ty v = v) (hfit : fits ty v = true) (hc : h.1 a = some (kd, true, fs)) (hk : k < fs.length) (he : h1 = h.put a (fs.set k v)) (kk : MF G d y (pc + 3) L st h1 Q) : MF G d y pc L (v :: .ref a :: st) h Q := by
  subst he; exact r_putf hdg hf hn hfit hc hk kk
theorem r_newE {kd index q : Nat} {C : String} {T : u_T} {N : Nat} {ty : Nat → FieldType} {fs : List Value} (hdg : decode y.2.1 pc = .ok (.new index, 3)) (hq : clAll[kd]? = some (C, T, N)) (hy : kYAll[kd]? = some ty) (hcl : Cond.classLink y.1.cls index C ∈ lw_tbl) (hins : Cond.instantiable C N ∈ lw_tbl) (hini : Cond.initialized C ∈ lw_tbl)
    (hfs : fs = (List.range N).map (fun k => defaultValue (ty k))) (eq : q = h.2.1) (eh : h1 = h.new kd fs (N + 4)) (hleft : N + 4 ≤ h.2.2) (kk : MF G d y (pc + 3) L (.ref q :: st) h1 Q) : MF G d y pc L st h Q := by
  subst eq; subst eh; exact r_new hdg hq hy hcl hins hini hfs hleft kk
theorem r_newarrayE {k q : Nat} {ty : FieldType} {atype : ArrayType} {n : Int32} (hdg : decode y.2.1 pc = .ok (.newarray atype, 2)) (ht : arrAll[k]? = some ty) (hty : newarray.typeOf atype = ty) (hw : Cond.arrayClass ty ∈ lw_tbl) (eq : q = h.2.1) (eh : h1 = h.new (100 + k) (List.replicate n.toNatClampNeg (defaultValue ty)) (n.toNatClampNeg + 4)) (hn : ¬ n < 0) (hb : n.toNatClampNeg ≤ 60000000) (hleft : n.toNatClampNeg + 4 ≤ h.2.2)
    (kk : MF G d y (pc + 2) L (.ref q :: st) h1 Q) : MF G d y pc L (.int n :: st) h Q := by
  subst eq; subst eh; exact r_newarray hdg ht hty hw hn hb hleft kk
theorem r_anewarrayE {k q index : Nat} {C : String} {n : Int32} (hdg : decode y.2.1 pc = .ok (.anewarray index, 3)) (ht : arrAll[k]? = some (.object C)) (hcl : Cond.classLink y.1.cls index C ∈ lw_tbl) (hw : Cond.arrayOver (.object C) ∈ lw_tbl) (eq : q = h.2.1) (eh : h1 = h.new (100 + k) (List.replicate n.toNatClampNeg .null) (n.toNatClampNeg + 4)) (hn : ¬ n < 0) (hb : n.toNatClampNeg ≤ 60000000) (hleft : n.toNatClampNeg + 4 ≤ h.2.2)
    (kk : MF G d y (pc + 3) L (.ref q :: st) h1 Q) : MF G d y pc L (.int n :: st) h Q := by
  subst eq; subst eh; exact r_anewarray hdg ht hcl hw hn hb hleft kk
theorem r_iastoreE {a : Nat} {fs : List Value} {i : Int32} {v : Int32} (hdg : decode y.2.1 pc = .ok (.iastore, 1)) (hc : h.1 a = some (100, true, fs)) (h0 : ¬ i < 0) (hv : i.toNatClampNeg < fs.length) (eh : h1 = h.put a (fs.set i.toNatClampNeg (.int v))) (kk : MF G d y (pc + 1) L st h1 Q) : MF G d y pc L (.int v :: .int i :: .ref a :: st) h Q := by
  subst eh; exact r_iastore hdg hc h0 hv kk
theorem r_bastoreE {a : Nat} {fs : List Value} {i : Int32} {v : Int32} (hdg : decode y.2.1 pc = .ok (.bastore, 1)) (hc : h.1 a = some (101, true, fs)) (h0 : ¬ i < 0) (hv : i.toNatClampNeg < fs.length) (eh : h1 = h.put a (fs.set i.toNatClampNeg (narrow .byte (.int v)))) (kk : MF G d y (pc + 1) L st h1 Q) : MF G d y pc L (.int v :: .int i :: .ref a :: st) h Q := by
  subst eh; exact r_bastore hdg hc h0 hv kk
theorem r_lastoreE {a : Nat} {fs : List Value} {i : Int32} {v : Int64} (hdg : decode y.2.1 pc = .ok (.lastore, 1)) (hc : h.1 a = some (102, true, fs)) (h0 : ¬ i < 0) (hv : i.toNatClampNeg < fs.length) (eh : h1 = h.put a (fs.set i.toNatClampNeg (.long v))) (kk : MF G d y (pc + 1) L st h1 Q) : MF G d y pc L (.long v :: .int i :: .ref a :: st) h Q := by
  subst eh; exact r_lastore hdg hc h0 hv kk
theorem r_zastoreE {a : Nat} {fs : List Value} {i : Int32} {v : Int32} (hdg : decode y.2.1 pc = .ok (.bastore, 1)) (hc : h.1 a = some (103, true, fs)) (h0 : ¬ i < 0) (hv : i.toNatClampNeg < fs.length) (eh : h1 = h.put a (fs.set i.toNatClampNeg (narrow .boolean (.int v)))) (kk : MF G d y (pc + 1) L st h1 Q) : MF G d y pc L (.int v :: .int i :: .ref a :: st) h Q := by
  subst eh; exact r_zastore hdg hc h0 hv kk
theorem r_aastoreNE {a kd : Nat} {fs : List Value} {i : Int32} {C : String} (hdg : decode y.2.1 pc = .ok (.aastore, 1)) (hc : h.1 a = some (100 + kd, true, fs)) (ht : arrAll[kd]? = some (.object C)) (h0 : ¬ i < 0) (hv : i.toNatClampNeg < fs.length) (eh : h1 = h.put a (fs.set i.toNatClampNeg .null)) (kk : MF G d y (pc + 1) L st h1 Q) : MF G d y pc L (.null :: .int i :: .ref a :: st) h Q := by
  subst eh; exact r_aastoreN hdg hc ht h0 hv kk
/-- an object at a can be cast to nm -/
def isC (h : AH) (a : Nat) (nm : String) : Prop := ∃ (kd : Nat) (w : Bool) (fs : List Value), h.1 a = some (kd, w, fs) ∧ CastK kd nm
theorem r_aastoreE {a kd b : Nat} {fs : List Value} {i : Int32} {C : String} (hdg : decode y.2.1 pc = .ok (.aastore, 1)) (hc : h.1 a = some (100 + kd, true, fs)) (ht : arrAll[kd]? = some (.object C)) (hb : isC h b C) (h0 : ¬ i < 0) (hv : i.toNatClampNeg < fs.length) (eh : h1 = h.put a (fs.set i.toNatClampNeg (.ref b))) (kk : MF G d y (pc + 1) L st h1 Q) : MF G d y pc L (.ref b :: .int i :: .ref a :: st) h Q := by
  obtain ⟨kb, w, fb, hb, q, hq, hcast⟩ := hb
  subst eh; exact r_aastore hdg hc ht hb hq hcast h0 hv kk
theorem r_castV {index : Nat} {v : Value} {nm : String} (hdg : decode y.2.1 pc = .ok (.checkcast index, 3)) (hr : v.isRef = true) (hv : ∀ q, v = .ref q → isC h q nm) (hw : Cond.classLink y.1.cls index nm ∈ lw_tbl) (kk : MF G d y (pc + 3) L (v :: st) h Q) : MF G d y pc L (v :: st) h Q := by
  obtain ⟨o, rfl⟩ := isRef_rf hr
  cases o with
  | none => exact r_castN hdg kk
  | some q =>
    obtain ⟨kd, w, fs, hc, hk⟩ := hv q rfl
    exact r_cast hdg hc hk hw kk
def hasKs (h : AH) (a : Nat) (ks : List Nat) : Prop := ∃ kd : Nat, kd ∈ ks ∧ hasK h a kd
theorem hasKs_of {a kd : Nat} {ks : List Nat} {w : Bool} {fs : List Value} (hc : h.1 a = some (kd, w, fs)) (hk : kd ∈ ks) : hasKs h a ks := ⟨kd, hk, w, fs, hc⟩
end
/-- dispatch: the words by which a receiver of kind kd runs z at a call of x -/
def DspV (own : String) (index : Nat) (x : MethodName) (kd : Nat) (z : MI) : Prop := ∃ (q : vw_C) (owner : String), clAll[kd]? = some q ∧ Cond.methodLink own index x ∈ lw_tbl ∧ Cond.sameMethod x.cls owner x.name x.desc ∈ lw_tbl ∧
  (Cond.declares ⟨owner, x.name, x.desc⟩ ∈ lw_tbl ∨ ∃ (b0 : ByteArray) (m0 : Nat) (ret0 : Option FieldType), Cond.instanceMethod ⟨owner, x.name, x.desc⟩ ∈ lw_tbl ∧ Cond.code ⟨owner, x.name, x.desc⟩ b0 m0 ret0 ∈ lw_tbl) ∧ (owner ≠ "java/lang/invoke/MethodHandle" ∧ owner ≠ "java/lang/invoke/VarHandle") ∧ x.desc = z.1.desc ∧ Cond.instanceMethod z.1 ∈ lw_tbl ∧ Cond.selects q.1 x z.1 ∈ lw_tbl
def DspF (own : String) (index : Nat) (x : MethodName) (kd : Nat) (z : MI) : Prop := ∃ q : vw_C, clAll[kd]? = some q ∧ Cond.methodLink own index x ∈ lw_tbl ∧ Cond.declares x ∈ lw_tbl ∧ Cond.interfaceMethod x.cls x.cls x.name x.desc ∈ lw_tbl ∧ rideW (Cond.interfaceMethod x.cls x.cls x.name x.desc) = true ∧ (x.cls ≠ "java/lang/invoke/MethodHandle" ∧ x.cls ≠ "java/lang/invoke/VarHandle") ∧ x.desc = z.1.desc ∧ Cond.instanceMethod z.1 ∈ lw_tbl ∧ Cond.publicMethod z.1 ∈ lw_tbl ∧ Cond.selects q.1 x z.1 ∈ lw_tbl ∧ Cond.unhidden q.1 x.name x.desc ∈ lw_tbl ∧ Cond.castable q.1 x.cls ∈ lw_tbl
def DspX (own : String) (index : Nat) (kd : Nat) (z : MI) : Prop := ∃ q : vw_C, clAll[kd]? = some q ∧ MLink own index z.1 ∧ Cond.instanceMethod z.1 ∈ lw_tbl ∧ Cond.selects q.1 z.1 z.1 ∈ lw_tbl
section
variable {G : GL} {d pc : Nat} {y : MI} {L rest : List Value} {h : AH} {Q : Out → AH → Prop}
/-- the shape of every call's premises: arguments, variables -/
def CallSh (y z : MI) (L rest : List Value) (n : Nat) (Ar As L0 Lz : List Value) : Prop := L.length = y.2.2.1 ∧ As.length = n ∧ rest.length ≤ 20 ∧ Ent Ar L0 ∧ Lz = L0 ++ List.replicate (z.2.2.1 - L0.length) (.retAddr 0) ∧ L0.length ≤ z.2.2.1
theorem r_callS {index n : Nat} {z : MI} {As L0 Lz st : List Value} {Q2 : Out → AH → Prop} (hdg : decode y.2.1 pc = .ok (.invokestatic index, 3)) (hC : Callee z n) (hw : MLink y.1.cls index z.1) (hs : Cond.static z.1 ∈ lw_tbl) (hst : st = As.reverse ++ rest) (hsh : CallSh y z L rest n As As L0 Lz)
    (k : MF G d z 0 Lz [] h Q2) (kn : ∀ v h', Q2 (.inl v) h' → MF G (d + 1) y (pc + 3) L (v.toList ++ rest) h' Q) (kx : ∀ q h', Q2 (.inr q) h' → MT G (d + 1) y pc L rest h' q Q) : MF G (d + 1) y pc L st h Q :=
  r_invokestatic hdg hC hw hs hsh.1 hst hsh.2.1 hsh.2.2.1 hsh.2.2.2.1 hsh.2.2.2.2.1 hsh.2.2.2.2.2 k kn kx
theorem r_callX {index n b kd : Nat} {z : MI} {As L0 Lz st : List Value} {Q2 : Out → AH → Prop} (hdg : decode y.2.1 pc = .ok (.invokevirtual index, 3)) (hC : Callee z n) (hd : DspX y.1.cls index kd z) (hb : hasK h b kd) (hst : st = As.reverse ++ .ref b :: rest) (hsh : CallSh y z L rest n (.ref b :: As) As L0 Lz)
    (k : MF G d z 0 Lz [] h Q2) (kn : ∀ v h', Q2 (.inl v) h' → MF G (d + 1) y (pc + 3) L (v.toList ++ rest) h' Q) (kx : ∀ q h', Q2 (.inr q) h' → MT G (d + 1) y pc L rest h' q Q) : MF G (d + 1) y pc L st h Q := by
  obtain ⟨w, fs, hb⟩ := hb
  obtain ⟨q, hq, hw, hi, hsel⟩ := hd
  exact r_invokevirtual hdg hC hw hi hb hq hsel hsh.1 hst hsh.2.1 hsh.2.2.1 hsh.2.2.2.1 hsh.2.2.2.2.1 hsh.2.2.2.2.2 k kn kx
theorem r_callV {index n b kd : Nat} {x : MethodName} {z : MI} {As L0 Lz st : List Value} {Q2 : Out → AH → Prop} (hdg : decode y.2.1 pc = .ok (.invokevirtual index, 3)) (hC : Callee z n) (hd : DspV y.1.cls index x kd z) (hb : hasK h b kd) (hst : st = As.reverse ++ .ref b :: rest) (hsh : CallSh y z L rest n (.ref b :: As) As L0 Lz)
    (k : MF G d z 0 Lz [] h Q2) (kn : ∀ v h', Q2 (.inl v) h' → MF G (d + 1) y (pc + 3) L (v.toList ++ rest) h' Q) (kx : ∀ q h', Q2 (.inr q) h' → MT G (d + 1) y pc L rest h' q Q) : MF G (d + 1) y pc L st h Q := by
  obtain ⟨w, fs, hb⟩ := hb
  obtain ⟨q, owner, hq, hw, hsame, hdecl, how, hxd, hi, hsel⟩ := hd
  exact r_invokevirtualU hdg hC hw hsame hdecl how hxd hi hb hq hsel hsh.1 hst hsh.2.1 hsh.2.2.1 hsh.2.2.2.1 hsh.2.2.2.2.1 hsh.2.2.2.2.2 k kn kx
theorem r_callF {index count n b kd : Nat} {x : MethodName} {z : MI} {As L0 Lz st : List Value} {Q2 : Out → AH → Prop} (hdg : decode y.2.1 pc = .ok (.invokeinterface index count, 5)) (hC : Callee z n) (hd : DspF y.1.cls index x kd z) (hb : hasK h b kd) (hst : st = As.reverse ++ .ref b :: rest) (hsh : CallSh y z L rest n (.ref b :: As) As L0 Lz)
    (k : MF G d z 0 Lz [] h Q2) (kn : ∀ v h', Q2 (.inl v) h' → MF G (d + 1) y (pc + 5) L (v.toList ++ rest) h' Q) (kx : ∀ q h', Q2 (.inr q) h' → MT G (d + 1) y pc L rest h' q Q) : MF G (d + 1) y pc L st h Q := by
  obtain ⟨w, fs, hb⟩ := hb
  obtain ⟨q, hq, hw, hd2, hf, hfr, hxx, hxd, hi, hpub, hsel, hunh, hcast⟩ := hd
  exact r_invokeinterface hdg hC hw hd2 hf hfr hxx hxd hi hpub hb hq hsel hunh hcast hsh.1 hst hsh.2.1 hsh.2.2.1 hsh.2.2.2.1 hsh.2.2.2.2.1 hsh.2.2.2.2.2 k kn kx
theorem r_callC {index n a : Nat} {z : MI} {As L0 Lz st : List Value} {Q2 : Out → AH → Prop} (hdg : decode y.2.1 pc = .ok (.invokespecial index, 3)) (hC : Callee z n) (hw : MLink y.1.cls index z.1) (hi : Cond.instanceMethod z.1 ∈ lw_tbl) (hm : z.1.name = "<init>" ∧ z.2.2.2.2 = [] ∧ z.2.2.2.1 = none) (hst : st = As.reverse ++ .ref a :: rest) (hsh : CallSh y z L rest n (.ref a :: As) As L0 Lz)
    (k : MF G d z 0 Lz [] h Q2) (kn : ∀ v h', Q2 (.inl v) h' → MF G (d + 1) y (pc + 3) L (v.toList ++ rest) h' Q) (kx : ∀ q h', Q2 (.inr q) h' → MT G (d + 1) y pc L rest h' q Q) : MF G (d + 1) y pc L st h Q :=
  r_invokeinit hdg hC hw hi hm.1 hm.2.1 hm.2.2 hsh.1 hst hsh.2.1 hsh.2.2.1 hsh.2.2.2.1 hsh.2.2.2.2.1 hsh.2.2.2.2.2 k kn kx
end
def sI (G : GL) (k : Nat) (K : Int32 → Prop) : Prop := ∃ x : Int32, G.sta k = .int x ∧ K x
def sR (G : GL) (k : Nat) (K : Value → Prop) : Prop := (G.sta k).isRef = true ∧ K (G.sta k)
theorem t_out0 {G : GL} {d pc q : Nat} {y : MI} {L st : List Value} {h : AH} {Q : Out → AH → Prop} (hh : y.2.2.2.2 = []) (hQ : Q (.inr q) h) : MT G d y pc L st h q Q := t_out (fun x hx => by rw [hh] at hx; cases hx) hQ
theorem i32_lit {x : Int32} {k : Int} (h : x.toInt = k) {v : Int32} (hv : v.toInt = k) : x = v := Int32.toInt_inj.mp (h.trans hv.symm)
theorem gI_of {h : AH} {a kd k : Nat} {ks : List Nat} {w : Bool} {fs : List Value} {x : Int32} {K : Int32 → Prop} (hc : h.1 a = some (kd, w, fs)) (hk : kd ∈ ks) (hv : fs[k]? = some (.int x)) (H : K x) : gI h a ks k K := ⟨kd, w, fs, x, hk, hc, hv, H⟩
theorem gR_of {h : AH} {a kd k : Nat} {ks : List Nat} {w : Bool} {fs : List Value} {v : Value} {K : Value → Prop} (hc : h.1 a = some (kd, w, fs)) (hk : kd ∈ ks) (hv : fs[k]? = some v) (hr : v.isRef = true) (H : K v) : gR h a ks k K := ⟨kd, w, fs, v, hk, hc, hv, hr, H⟩
theorem dR_of {a : Nat} {K : Nat → Prop} (H : K a) : dR (.ref a) K := ⟨a, rfl, H⟩
theorem pF_of {h : AH} {a kd k : Nat} {ks : List Nat} {fs : List Value} {v : Value} {K : AH → Prop} (hc : h.1 a = some (kd, true, fs)) (hk : kd ∈ ks) (hl : k < fs.length) (H : K (h.put a (fs.set k v))) : pF h a ks k v K := ⟨kd, fs, _, hk, hc, hl, rfl, H⟩
theorem aI_of {h : AH} {a kd : Nat} {w : Bool} {fs : List Value} {i : Int32} {x : Int32} {K : Int32 → Prop} (hc : h.1 a = some (kd, w, fs)) (h0 : ¬ i < 0) (hv : fs[i.toNatClampNeg]? = some (.int x)) (H : K x) : aI h a kd i K := ⟨w, fs, x, hc, h0, hv, H⟩
theorem aR_of {h : AH} {a kd : Nat} {w : Bool} {fs : List Value} {i : Int32} {v : Value} {K : Value → Prop} (hc : h.1 a = some (kd, w, fs)) (h0 : ¬ i < 0) (hv : fs[i.toNatClampNeg]? = some v) (hr : v.isRef = true) (H : K v) : aR h a kd i K := ⟨w, fs, v, hc, h0, hv, hr, H⟩
theorem pA_of {h : AH} {a kd : Nat} {fs : List Value} {i : Int32} {v : Value} {K : AH → Prop} (hc : h.1 a = some (kd, true, fs)) (h0 : ¬ i < 0) (hl : i.toNatClampNeg < fs.length) (H : K (h.put a (fs.set i.toNatClampNeg v))) : pA h a kd i v K := ⟨fs, _, hc, h0, hl, rfl, H⟩
theorem aL_of {h : AH} {a kd : Nat} {w : Bool} {fs : List Value} {K : Int32 → Prop} (hc : h.1 a = some (kd, w, fs)) (H : K (Int32.ofNat fs.length)) : aL h a kd K := ⟨w, fs, hc, H⟩
theorem hasK_of {h : AH} {a kd : Nat} {w : Bool} {fs : List Value} (hc : h.1 a = some (kd, w, fs)) : hasK h a kd := ⟨w, fs, hc⟩
