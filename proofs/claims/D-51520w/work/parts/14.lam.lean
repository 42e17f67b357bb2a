/-! LAMBDAS: made and called -/
set_option maxRecDepth 100000
section
variable {G : GL} {d : Nat} {h : AH} {Q : Out → AH → Prop}
variable {p : Program} {l : Launch} {e : Env} {R : Room} {s : State} {m : MethodId} {args : Array Value} {below : List Frame} {meth : Method} {c : Code} {locs : List Loc} {cells slots : Nat}
/-- a frame entered, and come back from, said of the machine itself -/
theorem call_enterW {T : State} {ig : Instr} {len : Nat} {mk : MethodId} {methk : Method} {ck : Code} {As : List Value} {Q2 : Out → AH → Prop} {g : JFrame}
    (X : Stand p l e R s m args below meth c T locs cells slots) (hl : ∀ z ∈ locs, G.H0.size ≤ z.base) (hr : RepH G h T.heap) (hg : g.method = m) (hsize : g.locals.size = c.maxLocals) (hmon : g.monitorRoom = 0)
    (f1 : d + 1 ≤ R.frames) (f2 : 4000 + 200 * (d + 1) ≤ R.locals) (c1 : G.capC ≤ s.heap.size + R.cells) (c2 : G.capS ≤ s.slotsUsed + R.slots)
    (hdg : decode c.code g.pc = .ok (ig, len)) (hmk : T.vm.method? mk = some methk) (hck : methk.code = some ck) (hlk : methk.locks = false) (hpk : T.plainMethod mk) (hrest : g.stack.length ≤ 20) (hz60 : ck.maxLocals ≤ 60)
    (k : ∀ (R' : Room) (s' : State) (below' : List Frame), s'.vm = T.vm → s'.heap = T.heap → d ≤ R'.frames → 4000 + 200 * d ≤ R'.locals → G.capC ≤ s'.heap.size + R'.cells → G.capS ≤ s'.slotsUsed + R'.slots →
      W p l e R' s' mk As.toArray below' methk ck T.heap [] 0 0 (MEnd G s' below' Q2) (entryFrame mk As.toArray ck.maxLocals))
    (kn : ∀ v h' (T2 : State) locs2 cells2 slots2, Q2 (.inl v) h' → (∀ z ∈ locs2, G.H0.size ≤ z.base) → RepH G h' T2.heap → Stand p l e R s m args below meth c T2 locs2 cells2 slots2 → ∃ t, Steps p.tables e below (T2.setTop { g with pc := g.pc + len, stack := v.toList ++ g.stack }) t ∧ MEnd G s below Q t)
    (kx : ∀ q h' (T2 : State) locs2 cells2 slots2, Q2 (.inr q) h' → (∀ z ∈ locs2, G.H0.size ≤ z.base) → RepH G h' T2.heap → Stand p l e R s m args below meth c T2 locs2 cells2 slots2 → ∃ t, Steps p.tables e below ((T2.setTop g).pushFrame (.throwing q)) t ∧ MEnd G s below Q t) :
    ∃ t, Steps p.tables e below (doInvoke e (T.setTop g) [] mk As.toArray).1 t ∧ MEnd G s below Q t := by
  have hb := book_sum X.book
  obtain ⟨s1, s2, s3, s4, s5, s6⟩ := X.same
  have hu : (T.setVm s.vm).slotsUsed = T.slotsUsed := rfl
  have hh : (T.setVm s.vm).heap = T.heap := rfl
  have s2' : s.heap.size ≤ T.heap.size := s2
  have hsl : s.slotsUsed ≤ T.slotsUsed := by rw [hu] at s4; omega
  have X' : Stand p l e R s m args below meth c T locs (T.heap.size - s.heap.size) (T.slotsUsed - s.slotsUsed) :=
    { X with same := ⟨s1, s2, (by show T.heap.size ≤ _; omega), s4, (by rw [hu] at s4; omega), s6⟩ }
  obtain ⟨r1, r2, r3, r4, r5, r6⟩ := id hr
  have hsum := sum_cat g.stack
  obtain ⟨Y, hdo⟩ := X'.into (g := g) hg hsize hdg (mk := mk) (methk := methk) (ck := ck) As.toArray (R' := { frames := d, cells := G.capC - T.heap.size, slots := G.capS - T.slotsUsed, locals := 4000 + 200 * d }) hmk hck hlk hpk
    (by show d + 1 ≤ _; omega)
    (by show 2 * g.monitorRoom + (g.stack.map fun v => v.category).sum + (ck.maxLocals + 11) + (4000 + 200 * d) ≤ R.locals; omega)
    (by show T.heap.size - s.heap.size + (G.capC - T.heap.size) ≤ R.cells; omega) (by show T.slotsUsed - s.slotsUsed + (G.capS - T.slotsUsed) ≤ R.slots; rw [← hb] at r6; omega)
  rw [hdo]
  have hk := k { frames := d, cells := G.capC - T.heap.size, slots := G.capS - T.slotsUsed, locals := 4000 + 200 * d } (T.calling g mk As.toArray) (.java g :: below) rfl rfl (Nat.le_refl _) (Nat.le_refl _) (by show G.capC ≤ T.heap.size + (G.capC - T.heap.size); omega) (by show G.capS ≤ T.slotsUsed + (G.capS - T.slotsUsed); omega)
  obtain ⟨t, st1, o, h', L9, k9, n9, a1, a2, a3, a4, a5, a6, a7⟩ := hk _ (by rfl) Y
  cases o with
  | inl v =>
    obtain ⟨T2, X2, hW2, -, ht⟩ := X'.outOf (g := g) hg hdg (v := v) a2 a5 a6
    have hr2 : RepH G h' T2.heap := by rw [ht] at a4; exact a4
    obtain ⟨t2, st2, hend⟩ := kn v h' T2 _ _ _ a3 (fun z hz => by
      rcases List.mem_append.mp hz with h9 | h9
      · exact hl z h9
      · exact a7 z h9) hr2 X2
    refine ⟨t2, (Steps.weaken (mid := [.java g]) st1).trans ?_, hend⟩
    rw [ht]; exact st2
  | inr q =>
    obtain ⟨T2, X2, hW2, -, ht⟩ := X'.outOfThrown (g := g) hg a2 a5 a6
    have hr2 : RepH G h' T2.heap := by rw [ht] at a4; exact a4
    obtain ⟨t2, st2, hend⟩ := kx q h' T2 _ _ _ a3 (fun z hz => by
      rcases List.mem_append.mp hz with h9 | h9
      · exact hl z h9
      · exact a7 z h9) hr2 X2
    refine ⟨t2, (Steps.weaken (mid := [.java g]) st1).trans ?_, hend⟩
    rw [ht]; exact st2
end
/-- the second method of lambda k's made class, run on b with As -/
def LamRun (G : GL) (d k b : Nat) (As : List Value) (h : AH) (Q : Out → AH → Prop) : Prop :=
  ∀ (p : Program) (l : Launch) (e : Env) (R : Room) (s : State) (below : List Frame) (methk : Method) (ck : Code) (H : Heap), p.tables.exec = Jvm.exec → KS G s → l.stackTraces = false → s.vm.method? ⟨G.cC (200 + k), 1⟩ = some methk → methk.code = some ck →
    d ≤ R.frames → 4000 + 200 * d ≤ R.locals → G.capC ≤ s.heap.size + R.cells → G.capS ≤ s.slotsUsed + R.slots → RepH G h H →
    W p l e R s ⟨G.cC (200 + k), 1⟩ (.ref b :: As).toArray below methk ck H [] 0 0 (MEnd G s below Q) (entryFrame ⟨G.cC (200 + k), 1⟩ (.ref b :: As).toArray ck.maxLocals)
/-- what the print of a shape is checked for -/
def D0 : ClassFile := { minorVersion := 0, majorVersion := 0, constantPool := #[], accessFlags := 0, thisClass := 0, superClass := 0, interfaces := #[], fields := #[], methods := #[], attributes := #[] }
def DOf (σ : Lambda.Shape) (own : String) : ClassFile := (σ.file own).getD D0
def fwdOf (σ : Lambda.Shape) (own : String) : Method := ((layoutMethods (DOf σ own)).bind (·[1]?)).getD default
def laidOf (σ : Lambda.Shape) (own : String) : Array Field × Array FieldType × Array FieldType := (layoutFields (DOf σ own) 0).getD (#[], #[], #[])
def ShOK (σ : Lambda.Shape) (own : String) (bytes : ByteArray) (maxL : Nat) : Prop := (σ.file own).isSome = true ∧ ((layoutMethods (DOf σ own)).bind (·[1]?)).isSome = true ∧ (layoutFields (DOf σ own) 0).isSome = true ∧
  ((fwdOf σ own).code.map fun c => (c.code.data, c.maxLocals)) = some (bytes.data, maxL) ∧ ((fwdOf σ own).accessFlags, (fwdOf σ own).name, (fwdOf σ own).sig.returnType) = (0x0001, σ.name, some FieldType.int) ∧ maxL ≤ 60 ∧ plainName (own ++ "$$Lambda") = true
theorem made_gen {e : Setting} {vm : Vm} {d c : ClassId} {dk : Class} {σ : Lambda.Shape} {own : String} {bytes : ByteArray} {maxL : Nat} (hd : vm.classes[d]? = some dk) (hname : dk.name = own) (h : Lambda.isMade e vm d σ c = true)
    (hO : ∀ o ok, vm.findClass "java/lang/Object" = some o → vm.classes[o]? = some ok → ok.instanceTypes.size = 0) (hok : ShOK σ own bytes maxL) :
    ∃ (k tk : Class) (file : ClassFile) (methk : Method) (ck : Code) (toy iface : ClassId) (t found : MethodId),
      vm.classes[c]? = some k ∧ k.name = own ++ "$$Lambda" ∧ k.cf = some file ∧ file.constantPool = (DOf σ own).constantPool ∧
      vm.method? ⟨c, 1⟩ = some methk ∧ methk.code = some ck ∧ ck.code = bytes ∧ ck.maxLocals = maxL ∧ ck.exceptionTable = #[] ∧ methk.locks = false ∧ methk.accessFlags = 0x0001 ∧ methk.sig.returnType = some .int ∧
      vm.findClass σ.implClass = some toy ∧ vm.classes[toy]? = some tk ∧ tk.isInterface = σ.implItf ∧ ((methodIn toy σ.implName σ.implDesc.toString tk.isInterface none).ask e vm).1 = .ok t ∧
      (∀ (i : Nat) x, (Lambda.resolvedOf e vm (DOf σ own) (laidOf σ own).1 c)[i]? = some (some x) → k.resolved[i]? = some (some x)) ∧ (∀ (i : Nat) a, (laidOf σ own).1[i]? = some a → k.fields[i]? = some a) ∧ k.instanceTypes = (laidOf σ own).2.1 ∧ k.kind = .ordinary ∧
      vm.findClass σ.iface = some iface ∧ ((methodIn iface σ.name σ.sam.toString true none).ask e vm).1 = .ok found ∧ selectMethod {} vm c found = .method ⟨c, 1⟩ := by
  obtain ⟨dk', k, ok, tk, file, cf, object, iface, toy, lay, methods, target, found, hd', hk, hfile, hcf, hobj, hif, hok2, hlay, hms, ht, htk, hg, hfd, hrec, -, -, -, hitf, hpool, hmeth, hfields, hty, hres, hsel⟩ := Lambda.isMade_spec h
  cases hd.symm.trans hd'
  obtain ⟨o1, o2, o3, o4, o5, -, -⟩ := hok
  have hD : σ.file own = some (DOf σ own) := by
    obtain ⟨x, hx⟩ := Option.isSome_iff_exists.mp o1
    simp [DOf, hx]
  rw [hname, hD] at hcf
  have hcf9 : cf = DOf σ own := (Option.some.inj hcf).symm
  subst hcf9
  have hok0 : ok.instanceTypes = #[] := Array.eq_empty_of_size_eq_zero (hO object ok hobj hok2)
  have hL : layoutFields (DOf σ own) 0 = some (laidOf σ own) := by
    obtain ⟨x, hx⟩ := Option.isSome_iff_exists.mp o3
    simp [laidOf, hx]
  rw [hO object ok hobj hok2, hL] at hlay
  have hlay9 : lay = laidOf σ own := (Option.some.inj hlay).symm
  subst hlay9
  have h2 : methods[1]? = some (fwdOf σ own) := by
    obtain ⟨x, hx⟩ := Option.isSome_iff_exists.mp o2
    have hf : fwdOf σ own = x := by simp [fwdOf, hx]
    rw [hms] at hx
    rw [hf]; exact hx
  obtain ⟨b, hb, hsame⟩ := hmeth 1 _ h2
  obtain ⟨hn, -, hsig, hfl, x, y, hx, hy, -, hml, hcode, hext⟩ := Lambda.sameMethod_spec hsame
  simp only [Prod.mk.injEq] at o5
  rw [hx] at o4
  simp only [Option.map_some, Option.some.injEq, Prod.mk.injEq] at o4
  refine ⟨k, tk, file, b, y, toy, iface, target, found, hk, by rw [hrec.1, hname], hfile, hpool.2.1, by simp [Vm.method?, hk, hb], hy, by rw [hcode]; exact ByteArray.ext o4.1, by rw [hml]; exact o4.2, hext, ?_, by rw [hfl]; exact o5.1, by rw [hsig]; exact o5.2.2, ht, htk, hitf, hg, hres, hfields, by rw [hty.1, hok0]; simp, hrec.2.1, hif, hfd, hsel⟩
  simp [Method.locks, Method.isSynchronized, hfl, o5.1, hasFlag, Acc.synchronized]
theorem q_objinst : Cond.instantiable "java/lang/Object" 0 ∈ lw_tbl := lw_at lw_m17 116 rfl
theorem arr3 {α : Type} {x : Array Nat} {f : Nat → Nat → Nat → Option α} {r : α} (h : Lambda.shapeOf?.match_15 (fun _ => Option α) x f (fun _ => none) = some r) : ∃ a0 a1 a2, f a0 a1 a2 = some r := by
  rcases x with ⟨L⟩
  match L, h with
  | [], h => cases h
  | [_], h => cases h
  | [_, _], h => cases h
  | [a, b, c], h => exact ⟨a, b, c, h⟩
  | _ :: _ :: _ :: _ :: _, h => cases h
theorem shape_pool {cf : ClassFile} {index : Nat} {σ : Lambda.Shape} (hsh : Lambda.shapeOf? cf index = some σ) : ∃ (bsm nt : Nat) (name desc : String) (sig : MethodDescriptor), cf.constantPool[index]? = some (.invokeDynamic bsm nt) ∧ cf.constantPool.nameAndType? nt = some (name, desc) ∧ parseMethodDescriptor desc = some sig ∧ sig.parameters = σ.captured := by
  unfold Lambda.shapeOf? at hsh
  split at hsh
  case h_2 => cases hsh
  rename_i b nt hi
  obtain ⟨entries, -, hsh⟩ := Option.bind_eq_some_iff.mp hsh
  obtain ⟨bm, -, hsh⟩ := Option.bind_eq_some_iff.mp hsh
  split at hsh
  case h_2 => cases hsh
  obtain ⟨-, -, hsh⟩ := Option.bind_eq_some_iff.mp hsh
  obtain ⟨a0, a1, a2, hsh⟩ := arr3 hsh
  split at hsh
  case h_2 => cases hsh
  split at hsh
  case h_2 => cases hsh
  split at hsh
  case h_2 => cases hsh
  obtain ⟨⟨name, desc⟩, hnt, hsh⟩ := Option.bind_eq_some_iff.mp hsh
  obtain ⟨site, hsite, hsh⟩ := Option.bind_eq_some_iff.mp hsh
  split at hsh
  case h_2 => cases hsh
  obtain ⟨⟨c1, c2, c3, c4⟩, -, hsh⟩ := Option.bind_eq_some_iff.mp hsh
  obtain ⟨x1, -, hsh⟩ := Option.bind_eq_some_iff.mp hsh
  obtain ⟨x2, -, hsh⟩ := Option.bind_eq_some_iff.mp hsh
  obtain ⟨x3, -, hsh⟩ := Option.bind_eq_some_iff.mp hsh
  obtain ⟨x4, -, hsh⟩ := Option.bind_eq_some_iff.mp hsh
  obtain ⟨x5, -, hsh⟩ := Option.bind_eq_some_iff.mp hsh
  cases hsh
  exact ⟨b, nt, name, desc, site, hi, hnt, hsite, rfl⟩
/-- what a run's tables say of lambda k -/
theorem lam_facts {G : GL} {s : State} (hK : KS G s) {k : Nat} {x : MethodName} {pc index : Nat} {σ : Lambda.Shape} {bytes : ByteArray} {maxL : Nat} (hk : lamAll[k]? = some (x, pc, index, σ)) (hok : ShOK σ x.cls bytes maxL) :
    ∃ (kC tk : Class) (file : ClassFile) (methk : Method) (ck : Code) (toy iface : ClassId) (t found : MethodId),
      s.vm.classes[G.cC (200 + k)]? = some kC ∧ kC.name = x.cls ++ "$$Lambda" ∧ kC.cf = some file ∧ file.constantPool = (DOf σ x.cls).constantPool ∧
      s.vm.method? ⟨G.cC (200 + k), 1⟩ = some methk ∧ methk.code = some ck ∧ ck.code = bytes ∧ ck.maxLocals = maxL ∧ ck.exceptionTable = #[] ∧ methk.locks = false ∧ methk.accessFlags = 0x0001 ∧ methk.sig.returnType = some .int ∧
      s.vm.findClass σ.implClass = some toy ∧ s.vm.classes[toy]? = some tk ∧ tk.isInterface = σ.implItf ∧ ((methodIn toy σ.implName σ.implDesc.toString tk.isInterface none).ask { classPath := fun _ => none } s.vm).1 = .ok t ∧
      (∀ (i : Nat) x9, (Lambda.resolvedOf { classPath := fun _ => none } s.vm (DOf σ x.cls) (laidOf σ x.cls).1 (G.cC (200 + k)))[i]? = some (some x9) → kC.resolved[i]? = some (some x9)) ∧ (∀ (i : Nat) a, (laidOf σ x.cls).1[i]? = some a → kC.fields[i]? = some a) ∧ kC.instanceTypes = (laidOf σ x.cls).2.1 ∧ kC.kind = .ordinary ∧
      s.vm.findClass σ.iface = some iface ∧ ((methodIn iface σ.name σ.sam.toString true none).ask { classPath := fun _ => none } s.vm).1 = .ok found ∧ selectMethod {} s.vm (G.cC (200 + k)) found = .method ⟨G.cC (200 + k), 1⟩ ∧ s.lambdaCallable σ (G.cC (200 + k)) = true := by
  obtain ⟨m, kc, cf, i0, p0, hm, hkc, hcf, hsh, hfind, hmade, hcall⟩ := hK.2.2.2.2.2.1 k _ hk
  obtain ⟨kc', hkc', hnm⟩ := className_of_methodNamed hm
  cases hkc.symm.trans hkc'
  have hO : ∀ o ok, s.vm.findClass "java/lang/Object" = some o → s.vm.classes[o]? = some ok → ok.instanceTypes.size = 0 := by
    intro o ok ho hok
    obtain ⟨c1, k1, hc1, hk1, -, -, -, hn1⟩ := Cond.instantiable_spec (hK.1 _ q_objinst rfl #[])
    cases ho.symm.trans hc1
    cases hok.symm.trans hk1
    exact hn1
  obtain ⟨kC, tk, file, methk, ck, toy, iface, t, found, z1, z2, z3, z4, z5, z6, z7, z8, z9, z10, z11, z12, z13, z14, z15, z16, z17, z18, z19, z20, z21, z22, z23⟩ := made_gen hkc hnm hmade hO hok
  exact ⟨kC, tk, file, methk, ck, toy, iface, t, found, z1, z2, z3, z4, z5, z6, z7, z8, z9, z10, z11, z12, z13, z14, z15, z16, z17, z18, z19, z20, z21, z22, z23, hcall⟩
section
variable {G : GL} {d pc : Nat} {y : MI} {L rest : List Value} {h : AH} {Q : Out → AH → Prop}
theorem llw {p : Program} {l : Launch} {e : Env} {R : Room} {s : State} {m : MethodId} {args : Array Value} {below : List Frame} {meth : Method} {c : Code} {T : State} {locs : List Loc} {cells slots : Nat} (X : Stand p l e R s m args below meth c T locs cells slots) : e.platform.lambdaLinkWords = 3072 := by rw [X.admits.platform]
theorem r_lamC {k index : Nat} {σ : Lambda.Shape} (hdg : decode y.2.1 pc = .ok (.invokedynamic index, 5)) (hk : lamAll[k]? = some (y.1, pc, index, σ)) (hcap : σ.captured = []) (hLn : L.length = y.2.2.1) (hst : rest.length ≤ 20) (kk : MF G d y (pc + 5) L (.ref (G.lam k) :: rest) h Q) : MF G d y pc L rest h Q := by
  intro p l e R s m as below meth c H locs cells slots ls hx hl hr hL T hT X
  have hK := hx.2.2.2.2.2.2.2.2.1
  obtain ⟨-, -, -, -, -, -, -, -, -, -, f1, f2, c1, c2, -, hnm⟩ := id hx
  have hsum := sum_cat rest
  obtain ⟨m0, kc, cf, i0, p0, hm, hkc, hcf, hsh, hfind, hmade, hcall⟩ := hK.2.2.2.2.2.1 k _ hk
  cases hnm.symm.trans hm
  have hlk : lkOf G k σ = .constant (G.lam k) := if_pos hcap
  rw [hlk] at hfind
  have hw := llw X
  obtain ⟨t, a, b⟩ := kk p l e R s m as below meth c H locs cells slots ls hx hl hr hL T hT X
  exact ⟨t, X.lambdaConstant hx.1 (g := F0 m pc ls rest) rfl (by rw [hx.2.2.1, ← hLn]; exact hL.1) (by rw [hx.2.1]; exact hdg) hkc hfind (by show 2 * 0 + (rest.map fun v => v.category).sum + _ ≤ _; omega) a, b⟩
theorem r_lamM {k index q maxL : Nat} {σ : Lambda.Shape} {bytes : ByteArray} {tys : List FieldType} {vals st : List Value} {h1 : AH} (hdg : decode y.2.1 pc = .ok (.invokedynamic index, 5)) (hk : lamAll[k]? = some (y.1, pc, index, σ)) (hok : ShOK σ y.1.cls bytes maxL) (hcap : σ.captured ≠ []) (hty : (laidOf σ y.1.cls).2.1.toList = tys)
    (hlen : vals.length = σ.captured.length) (hnar : (tys.zip vals).map (fun (t, v) => narrow t v) = vals) (hfit : ∀ (i : Nat) (v : Value), vals[i]? = some v → ∃ t, tys[i]? = some t ∧ fits t v = true) (hst : st = vals.reverse ++ rest) (hLn : L.length = y.2.2.1) (hrest : st.length ≤ 20)
    (eq : q = h.2.1) (eh : h1 = h.new (200 + k) vals (vals.length + 4)) (hleft : vals.length + 4 ≤ h.2.2) (kk : MF G d y (pc + 5) L (.ref q :: rest) h1 Q) : MF G d y pc L st h Q := by
  subst eq; subst eh
  intro p l e R s m as below meth c H locs cells slots ls hx hl hr hL
  refine W.tight fun hz hu => ?_
  intro T hT X
  have hK := hx.2.2.2.2.2.2.2.2.1
  obtain ⟨-, -, -, -, -, -, -, -, -, -, f1, f2, c1, c2, -, hnm⟩ := id hx
  obtain ⟨r1, r2, r3, r4, r5, r6⟩ := id hr
  have hsum := sum_cat st
  obtain ⟨m0, kc, cf, i0, p0, hm, hkc, hcf, hsh, hfind, hmade, hcall⟩ := hK.2.2.2.2.2.1 k _ hk
  cases hnm.symm.trans hm
  have hlk : lkOf G k σ = .makes (G.cC (200 + k)) := if_neg hcap
  rw [hlk] at hfind
  have hw := llw X
  obtain ⟨kC, tk, file, methk, ck, toy, iface, t0, found, hkC, -, -, -, -, -, -, -, -, -, -, -, -, -, -, -, -, -, hits, hkind, -⟩ := lam_facts hK hk hok
  have hitl : kC.instanceTypes.toList = tys := by rw [hits]; exact hty
  obtain ⟨bsm, nt, name, desc, sig, p1, p2, p3, p4⟩ := shape_pool hsh
  have hmap : (kC.instanceTypes.toList.zip vals).map (fun (t, v) => narrow t v) = vals := by rw [hitl]; exact hnar
  have hlm := X.lambdaMakes hx.1 (g := F0 m pc ls st) rfl (by rw [hx.2.2.1, ← hLn]; exact hL.1) (index := index) (bsm := bsm) (nt := nt) (by rw [hx.2.1]; exact hdg) hkc hfind hcf p1 p2 (sig := sig) (parseLong_of_parse p3) (vals := vals) (rest := rest) (by rw [p4]; exact hlen) hst hkC
    (by show 2 * 0 + (st.map fun v => v.category).sum + _ ≤ _; omega) (by omega) (by rw [hmap]; omega) (fun i v hv => by
      rw [hmap, List.getElem?_toArray] at hv
      obtain ⟨t9, ht9, hf9⟩ := hfit i v hv
      rw [← hitl, Array.getElem?_toList] at ht9
      have hk' : s.vm.classes[G.cC (200 + k)]? = some kC := hkC
      simp only [State.fitsSlot, State.slotType?, hk']
      show (match (match kC.kind with | .array _ ty9 => some ty9 | _ => kC.instanceTypes[i]?) with | some t => fits t v | none => false) = true
      rw [hkind]
      show (match kC.instanceTypes[i]? with | some t => fits t v | none => false) = true
      rw [ht9]
      exact hf9)
  rw [hmap] at hlm
  obtain ⟨X', step⟩ := hlm
  have hrep : RepH G (h.new (200 + k) vals (vals.length + 4)) (H.push { cls := G.cC (200 + k), slots := vals.toArray, vm := .none }) :=
    rep_new hr ⟨_, Array.getElem?_push_size, rfl, rfl, fun h100 => absurd h100 (by simp; omega), fun _ _ => by simp⟩ (by simp) hleft
  have hheap : (T.pushCell { cls := G.cC (200 + k), slots := vals.toArray, vm := .none }).heap = H.push { cls := G.cC (200 + k), slots := vals.toArray, vm := .none } := by rw [← hT]; rfl
  obtain ⟨t, a9, b9⟩ := kk p l e R s m as below meth c _ _ _ _ ls hx hl hrep hL _ hheap X'
  rw [r1, ← hT] at a9
  exact ⟨t, step t a9, b9⟩
theorem r_callL {index count b k pcs is maxL : Nat} {w : Bool} {fs : List Value} {σ : Lambda.Shape} {bytes : ByteArray} {x xo : MethodName} {As st : List Value} {Q2 : Out → AH → Prop} (hdg : decode y.2.1 pc = .ok (.invokeinterface index count, 5)) (hw : Cond.methodLink y.1.cls index x ∈ lw_tbl)
    (hd : Cond.declares x ∈ lw_tbl) (hf : Cond.interfaceMethod x.cls x.cls x.name x.desc ∈ lw_tbl) (hfr : rideW (Cond.interfaceMethod x.cls x.cls x.name x.desc) = true) (hxx : x.cls ≠ "java/lang/invoke/MethodHandle" ∧ x.cls ≠ "java/lang/invoke/VarHandle") (hpar : (parseMethodDescriptor x.desc).map (fun d => d.parameters.length) = some As.length)
    (hk : lamAll[k]? = some (xo, pcs, is, σ)) (hok : ShOK σ xo.cls bytes maxL) (hsx : σ.iface = x.cls ∧ σ.name = x.name ∧ σ.sam.toString = x.desc) (hb : h.1 b = some (200 + k, w, fs))
    (hLn : L.length = y.2.2.1) (hst : st = As.reverse ++ .ref b :: rest) (hrest : rest.length ≤ 20)
    (kr : LamRun G d k b As h Q2) (kn : ∀ v h', Q2 (.inl v) h' → MF G (d + 1) y (pc + 5) L (v.toList ++ rest) h' Q) (kx : ∀ q h', Q2 (.inr q) h' → MT G (d + 1) y pc L rest h' q Q) : MF G (d + 1) y pc L st h Q := by
  intro p l e R s m as below meth c H locs cells slots ls hx hl hr hL T hT X
  subst hT
  have hK := hx.2.2.2.2.2.2.2.2.1
  have hown := hx.2.2.2.2.2.2.2.1
  obtain ⟨-, -, -, -, -, -, -, -, -, htr, f1, f2, c1, c2, -⟩ := id hx
  obtain ⟨r0, r, hnr, hrm, hstR, hsigR⟩ := Cond.declares_spec (hK.1 _ hd rfl as)
  obtain ⟨cL, kL, r1, hcL, hkL, hiL, hfoundL, hn1⟩ := Cond.interfaceMethod_spec (hK.1 _ hf hfr as)
  cases hnr.symm.trans hn1
  have hr0cls : r0.cls = cL := Option.some.inj ((findClass_of_methodNamed hnr).symm.trans hcL)
  obtain ⟨hnameR, hdescR⟩ := name_of_methodNamed hnr hrm
  obtain ⟨kC, tk, file, methk, ck, toy, iface, t0, found, hkC, hkn, hfile, hpool, hmk, hck, hbytes, hml, hext, hlk, hflags, hret, htoy, htk, hitf, hlook, hres, hfields, hits, hkind, hif, hfd, hsel, hcan⟩ := lam_facts hK hk hok
  have hif9 : iface = cL := by rw [hsx.1] at hif; exact Option.some.inj (hif.symm.trans hcL)
  subst hif9
  have hfound9 : found = r0 := by
    have h1 := hfoundL
    simp only [State.methodFound?, hcL, hkL, Option.bind_eq_bind, Option.bind_some] at h1
    rw [hiL, ← hsx.2.1, ← hsx.2.2] at h1
    rw [hfd] at h1
    exact Option.some.inj h1
  subst hfound9
  obtain ⟨cell, g1, g2, g3, g4⟩ := rep_arr hr hb (by omega) (by have := (List.getElem?_eq_some_iff.mp hk).1; have h19 : lamAll.length = 19 := rfl; omega)
  obtain ⟨i2, hi2, hasg, hway⟩ := State.lambdaCallable_spec hcan
  cases hif.symm.trans hi2
  have hselP : selectMethod e.platform s.vm cell.cls found = .method ⟨G.cC (200 + k), 1⟩ := by rw [Launch.admits_selectMethod X.admits, g2]; exact hsel
  have hdc : decode c.code (F0 m pc ls st).pc = .ok (.invokeinterface index count, 5) := by rw [hx.2.1]; exact hdg
  obtain ⟨vm₁, X₁, hstep₁⟩ := X.invokeinterface hx.1 hown (hK.1 _ hw rfl as) hnr hrm hstR (by rw [hr0cls]; exact hkL) hiL hxx (a := b) (cell := cell) (kcell := kC) g1 (fun z9 e9 => by rw [g3] at e9; cases e9) (by rw [g2]; exact hkC) (by rw [hr0cls, g2]; exact hasg) hselP hmk
    (by rw [hnameR, hdescR, g2, ← hsx.2.1, ← hsx.2.2]; exact hway) (by rw [hflags]; decide) (by simp [Method.isAbstract, hflags, hasFlag, Acc.abstract]) (g := F0 m pc ls st) rfl (argsL := As) (rest := rest) (by rw [hsigR] at hpar; exact (Option.some.inj hpar).symm) hst hdc
  have hmk₁ : (T.setVm vm₁).vm.method? ⟨G.cC (200 + k), 1⟩ = some methk := by rw [X₁.warmed.alike.method?]; exact hmk
  have hpl : (T.setVm vm₁).plainMethod ⟨G.cC (200 + k), 1⟩ := by
    obtain ⟨kC1, hkC1, he1⟩ := X₁.warmed.alike.2.2 _ _ hkC
    refine State.plainMethod.of_name (fun k' hk' => ?_)
    have hk9 : (T.setVm vm₁).vm.classes[G.cC (200 + k)]? = some kC1 := hkC1
    cases hk9.symm.trans hk'
    rw [he1]
    show plainName kC.name = true
    rw [hkn]; exact hok.2.2.2.2.2.2
  obtain ⟨t, st9, he⟩ := call_enterW (T := T.setVm vm₁) (d := d) (As := .ref b :: As) (g := F0 m pc ls rest) (Q := Q) X₁ hl hr rfl (by rw [hx.2.2.1, ← hLn]; exact hL.1) rfl (by omega) f2 c1 c2 hdc hmk₁ hck hlk hpl hrest (by rw [hml]; exact hok.2.2.2.2.2.1)
    (fun R' s' below' v1 v2 g5 g6 g7 g8 => by
      have hW : s.WarmedH s'.vm := by rw [v1]; exact X₁.warmed
      exact kr p l e R' s' below' methk ck T.heap hx.1 (hK.moved hW) htr (by rw [hW.alike.method?]; exact hmk) hck g5 g6 g7 g8 hr)
    (fun v h' T2 locs2 cells2 slots2 q1 q2 q3 q4 => kn v h' q1 p l e R s m as below meth c T2.heap locs2 cells2 slots2 ls hx q2 q3 hL T2 rfl q4)
    (fun q h' T2 locs2 cells2 slots2 q1 q2 q3 q4 => kx q h' q1 p l e R s m as below meth c T2.heap locs2 cells2 slots2 ls hx q2 q3 hL T2 rfl q4)
  exact ⟨t, hstep₁ _ (fun acts => by rw [doInvoke_state]; exact st9), he⟩
end
