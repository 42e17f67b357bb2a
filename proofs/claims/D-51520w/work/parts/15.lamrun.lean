/-! LAMBDAS: the made classes' methods run -/
set_option maxRecDepth 100000
section
variable {G : GL} {d : Nat} {h : AH} {Q : Out → AH → Prop}
variable {p : Program} {l : Launch} {e : Env} {R : Room} {s : State} {m : MethodId} {args : Array Value} {below : List Frame} {meth : Method} {c : Code} {locs : List Loc} {cells slots : Nat}
/-- a callee by name, seen from any frame -/
theorem mx_calleeW {n : Nat} {T : State} {z : MI} (hexec : p.tables.exec = Jvm.exec) (hK : KS G s) (hst : l.stackTraces = false) (X : Stand p l e R s m args below meth c T locs cells slots) (hr : RepH G h T.heap) (hC : Callee z n) :
    ∃ (mk : MethodId) (methk : Method) (ck : Code), s.methodNamed? z.1 = some mk ∧ s.vm.method? mk = some methk ∧ T.vm.method? mk = some methk ∧ methk.code = some ck ∧ methk.locks = false ∧ T.plainMethod mk ∧ ck.maxLocals = z.2.2.1 ∧ parseMethodDescriptor z.1.desc = some methk.sig ∧
      (∃ k : Class, s.vm.classes[mk.cls]? = some k ∧ k.init = .initialized) ∧
      (∀ (R' : Room) (s' : State), s'.vm = T.vm → s'.heap = T.heap → d ≤ R'.frames → 4000 + 200 * d ≤ R'.locals → G.capC ≤ s'.heap.size + R'.cells → G.capS ≤ s'.slotsUsed + R'.slots → MX G d z p l R' s' mk methk ck) := by
  have hcode := hK.1 _ hC.1 (cw_ride z) args
  obtain ⟨mk, methM, cM, hn, a1, a2, a3, a4, a5, a6, a7, a8⟩ := cw_spec hcode
  have hTm : T.vm.method? mk = some methM := by rw [X.warmed.alike.method?]; exact a1
  obtain ⟨kP, hkP, -⟩ := className_of_methodNamed hn
  refine ⟨mk, methM, cM, hn, a1, hTm, a2, a6, State.plainMethod.of_named hC.2.1 (X.named hn) hTm, a4, a8, ⟨kP, hkP, Cond.initialized_spec (findClass_of_methodNamed hn) hkP (hK.1 _ hC.2.2.1 rfl args)⟩, fun R' s' v1 v2 f1 f2 c1 c2 => ?_⟩
  have hW : s.WarmedH s'.vm := by rw [v1]; exact X.warmed
  refine ⟨hexec, a3, a4, a5, a6, a7, (name_of_methodNamed hn a1).1, ?_, hK.moved hW, hst, f1, f2, c1, c2, by rw [v2]; exact hr.2.1, by
    have h9 := State.methodNamed?_setVm (s := s) hW.alike z.1
    rw [hn] at h9
    exact h9⟩
  rw [hW.alike.findClass]; exact findClass_of_methodNamed hn
/-- from the frame g in the state T the machine comes to an end with Q -/
def RunT (G : GL) (p : Program) (e : Env) (s : State) (below : List Frame) (Q : Out → AH → Prop) (T : State) (g : JFrame) : Prop := ∃ t, Steps p.tables e below (T.setTop g) t ∧ MEnd G s below Q t
theorem rt_getf {T : State} {g g' : JFrame} {index cF a : Nat} {field : Field} {cell : Cell} {v : Value} {rest : List Value} (Y : Stand p l e R s m args below meth c T locs cells slots) (hexec : p.tables.exec = Jvm.exec) (hg : g.method = m)
    (hr : T.vm.fieldReady m.cls index cF field) (hst : field.isStatic = false) (hstack : g.stack = .ref a :: rest) (hcell : T.heap[a]? = some cell) (hknown : cell.vm ≠ .unknown) (hv : cell.slots[field.slot]? = some v)
    (hdg : decode c.code g.pc = .ok (.getfield index, 3)) (hg' : g' = { g with pc := g.pc + 3, stack := v :: rest }) (k : RunT G p e s below Q T g') : RunT G p e s below Q T g := by
  subst hg; subst hg'
  obtain ⟨t, st, hq⟩ := k
  refine ⟨t, ?_, hq⟩
  jvm_step Y.here [hexec, hdg, getfield.wp_ready (e := e) (s := T) (c := cF) (field := field) (a := a) (rest := rest) (cell := cell) (v := v) (f := g) Y.here.top hr hst hstack hcell hknown hv]
  exact st
theorem rt_cast {T : State} {g g' : JFrame} {index cT a : Nat} {cell : Cell} {ks kt : Class} {rest : List Value} (Y : Stand p l e R s m args below meth c T locs cells slots) (hexec : p.tables.exec = Jvm.exec) (hg : g.method = m)
    (hr : T.vm.classReady m.cls index cT) (hstack : g.stack = .ref a :: rest) (h1 : T.heap[a]? = some cell) (h2 : ∀ k, cell.vm ≠ .statics k) (h3 : T.vm.classes[cell.cls]? = some ks) (h4 : T.vm.classes[cT]? = some kt) (h5 : T.vm.assignable cell.cls cT = true)
    (hdg : decode c.code g.pc = .ok (.checkcast index, 3)) (hg' : g' = { g with pc := g.pc + 3 }) (k : RunT G p e s below Q T g') : RunT G p e s below Q T g := by
  subst hg; subst hg'
  obtain ⟨t, st, hq⟩ := k
  refine ⟨t, ?_, hq⟩
  jvm_step Y.here [hexec, hdg, checkcast.wp_ready (e := e) (s := T) (c := cT) (x := .ref a) (rest := rest) (f := g) Y.here.top hr hstack]
  exact ⟨cell, h1, h2, ks, h3, kt, h4, by rw [if_pos h5]; exact st⟩
theorem rt_load0 {T : State} {b x : Nat} {pc : Nat} {st : List Value} (Y : Stand p l e R s m args below meth c T locs cells slots) (hexec : p.tables.exec = Jvm.exec)
    (hdg : decode c.code pc = .ok (.aload_n 0, 1)) (k : RunT G p e s below Q T { method := m, pc := pc + 1, locals := #[.val (.ref b), .val (.ref x)], stack := .ref b :: st, locked := none }) : RunT G p e s below Q T { method := m, pc := pc, locals := #[.val (.ref b), .val (.ref x)], stack := st, locked := none } := by
  obtain ⟨t, st9, hq⟩ := k
  refine ⟨t, ?_, hq⟩
  jvm_step Y.here [hexec, hdg, Value.isRef]
  exact st9
theorem rt_load1 {T : State} {b x : Nat} {pc : Nat} {st : List Value} (Y : Stand p l e R s m args below meth c T locs cells slots) (hexec : p.tables.exec = Jvm.exec)
    (hdg : decode c.code pc = .ok (.aload_n 1, 1)) (k : RunT G p e s below Q T { method := m, pc := pc + 1, locals := #[.val (.ref b), .val (.ref x)], stack := .ref x :: st, locked := none }) : RunT G p e s below Q T { method := m, pc := pc, locals := #[.val (.ref b), .val (.ref x)], stack := st, locked := none } := by
  obtain ⟨t, st9, hq⟩ := k
  refine ⟨t, ?_, hq⟩
  jvm_step Y.here [hexec, hdg, Value.isRef]
  exact st9
/-- what was captured, read -/
theorem rt_caps {T : State} {b x nC : Nat} {fi : Nat → Nat} {cell : Cell} {caps : List Value} (Y : Stand p l e R s m args below meth c T locs cells slots) (hexec : p.tables.exec = Jvm.exec) (hcell : T.heap[b]? = some cell) (hknown : cell.vm ≠ .unknown) (hsl : cell.slots.toList = caps) (hn : caps.length = nC)
    (hd : ∀ i, i < nC → decode c.code (4 * i) = .ok (.aload_n 0, 1) ∧ decode c.code (4 * i + 1) = .ok (.getfield (fi i), 3)) (hf : ∀ i, i < nC → ∃ field : Field, T.vm.fieldReady m.cls (fi i) m.cls field ∧ field.isStatic = false ∧ field.slot = i)
    (k : RunT G p e s below Q T { method := m, pc := 4 * nC, locals := #[.val (.ref b), .val (.ref x)], stack := caps.reverse, locked := none }) :
    ∀ j, j ≤ nC → RunT G p e s below Q T { method := m, pc := 4 * (nC - j), locals := #[.val (.ref b), .val (.ref x)], stack := (caps.take (nC - j)).reverse, locked := none } := by
  intro j
  induction j with
  | zero =>
    intro _
    rw [Nat.sub_zero, ← hn, List.take_length, hn]
    exact k
  | succ j ih =>
    intro hj
    have h9 := ih (by omega)
    generalize hi : nC - (j + 1) = i
    have e1 : nC - j = i + 1 := by omega
    rw [e1] at h9
    obtain ⟨d1, d2⟩ := hd i (by omega)
    obtain ⟨field, g1, g2, g3⟩ := hf i (by omega)
    have hil : i < caps.length := by omega
    have hv : cell.slots[field.slot]? = some caps[i] := by
      rw [g3, ← Array.getElem?_toList, hsl, List.getElem?_eq_getElem hil]
    refine rt_load0 Y hexec d1 (rt_getf Y hexec rfl g1 g2 rfl hcell hknown hv d2 ?_ h9)
    rw [List.take_succ_eq_append_getElem hil, List.reverse_append]
    rfl
end
/-- what is checked of a captured field; of a class, of a member -/
def fpOK (σ : Lambda.Shape) (own : String) (fi i : Nat) : Bool := match (DOf σ own).constantPool[fi]? with
  | some (.fieldref _ nt) => (match (DOf σ own).constantPool.nameAndType? nt with
    | some (name, _) => ((laidOf σ own).1.findIdx? (·.name == name) == some i) && (((laidOf σ own).1[i]?).map (fun f => (f.isStatic, f.slot)) == some (false, i))
    | none => false)
  | _ => false
def cpOK (σ : Lambda.Shape) (own : String) (ci : Nat) (nm : String) : Bool := match (DOf σ own).constantPool[ci]? with
  | some (.class_ n) => ((DOf σ own).constantPool.string? n == some nm) && (ci != (DOf σ own).thisClass)
  | _ => false
def mpOK (σ : Lambda.Shape) (own : String) (mi ci : Nat) : Bool := match (DOf σ own).constantPool[mi]? with
  | some (.methodref c nt) => (c == ci) && ((DOf σ own).constantPool.className? ci == some σ.implClass) && ((DOf σ own).constantPool.nameAndType? nt == some (σ.implName, σ.implDesc.toString))
  | _ => false
theorem fp_spec {e : Setting} {vm : Vm} {σ : Lambda.Shape} {own : String} {fi i c : Nat} {k : Class} (h : fpOK σ own fi i = true) (hk : vm.classes[c]? = some k)
    (hres : ∀ (i : Nat) x9, (Lambda.resolvedOf e vm (DOf σ own) (laidOf σ own).1 c)[i]? = some (some x9) → k.resolved[i]? = some (some x9)) (hfields : ∀ (i : Nat) a, (laidOf σ own).1[i]? = some a → k.fields[i]? = some a) :
    ∃ field : Field, vm.fieldReady c fi c field ∧ field.isStatic = false ∧ field.slot = i := by
  unfold fpOK at h
  split at h
  case h_2 => cases h
  rename_i ci nt h1
  split at h
  case h_2 => cases h
  rename_i name desc h2
  simp only [Bool.and_eq_true, beq_iff_eq] at h
  obtain ⟨h3, h4⟩ := h
  obtain ⟨f0, hf0, hp0⟩ := Option.map_eq_some_iff.mp h4
  simp only [Prod.mk.injEq] at hp0
  exact ⟨f0, ⟨k, i, k, hk, hres fi _ (Lambda.resolvedOf_field h1 h2 h3), hk, hfields i _ hf0⟩, hp0.1, hp0.2⟩
theorem cp_spec {e : Setting} {vm : Vm} {σ : Lambda.Shape} {own nm : String} {ci c cT : Nat} {k : Class} (h : cpOK σ own ci nm = true) (hk : vm.classes[c]? = some k) (hf : vm.findClass nm = some cT)
    (hres : ∀ (i : Nat) x9, (Lambda.resolvedOf e vm (DOf σ own) (laidOf σ own).1 c)[i]? = some (some x9) → k.resolved[i]? = some (some x9)) : vm.classReady c ci cT := by
  unfold cpOK at h
  split at h
  case h_2 => cases h
  rename_i n h1
  simp only [Bool.and_eq_true, beq_iff_eq, bne_iff_ne, ne_eq] at h
  exact ⟨k, hk, hres ci _ (Lambda.resolvedOf_class h1 h.2 h.1 hf)⟩
theorem mp_spec {σ : Lambda.Shape} {own : String} {mi ci : Nat} (h : mpOK σ own mi ci = true) : ∃ nt, (DOf σ own).constantPool[mi]? = some (.methodref ci nt) ∧ (DOf σ own).constantPool.className? ci = some σ.implClass ∧ (DOf σ own).constantPool.nameAndType? nt = some (σ.implName, σ.implDesc.toString) := by
  unfold mpOK at h
  split at h
  case h_2 => cases h
  rename_i c nt h1
  simp only [Bool.and_eq_true, beq_iff_eq] at h
  obtain ⟨⟨rfl, h2⟩, h3⟩ := h
  exact ⟨nt, h1, h2, h3⟩
section
variable {G : GL} {d : Nat} {h : AH}
/-- the end of a forwarder: its answer goes on -/
theorem fw_back {p : Program} {l : Launch} {e : Env} {R : Room} {s : State} {m : MethodId} {args : Array Value} {below : List Frame} {meth : Method} {c : Code} {T2 : State} {locs2 : List Loc} {cells2 slots2 : Nat} {h' : AH} {K : Int32 → AH → Prop} {Qx : Nat → AH → Prop} {pc : Nat} {ls : Array Slot} {v : Option Value}
    (hexec : p.tables.exec = Jvm.exec) (hret : decode c.code pc = .ok (.ireturn, 1)) (hrt : meth.sig.returnType = some .int) (hlk : meth.locks = false) (hQ : cI K Qx (.inl v) h') (hl : ∀ z ∈ locs2, G.H0.size ≤ z.base) (hr : RepH G h' T2.heap) (X4 : Stand p l e R s m args below meth c T2 locs2 cells2 slots2) :
    ∃ t, Steps p.tables e below (T2.setTop { method := m, pc := pc, locals := ls, stack := v.toList ++ [], locked := none }) t ∧ MEnd G s below (cI K Qx) t := by
  obtain ⟨x0, rfl, hKx⟩ := hQ
  obtain ⟨fs, hret9, hrun, hended, hW, hframe⟩ := X4.leave (v := some (.int x0)) (fun h => by rw [hrt] at h; cases h)
  have hmeth' : T2.vm.method? m = some meth := X4.method'
  refine ⟨T2.setFrames fs, ?_, .inl (some (.int x0)), h', locs2, cells2, slots2, hrun, hended, ⟨x0, rfl, hKx⟩, (by show RepH G h' T2.heap; exact hr), hW, hframe, hl⟩
  show Steps p.tables e below (T2.setTop { method := m, pc := pc, locals := ls, stack := [.int x0], locked := none }) _
  jvm_step X4.here [X4.here.top, hexec, hret, hmeth', hrt, narrow]
  (try refine ⟨rfl, ?_⟩); (try refine ⟨rfl, ?_⟩)
  first | (intro acts; rw [hret9 _ acts rfl rfl rfl]) | rw [hret9 _ _ rfl rfl rfl]
  exact Steps.refl _
theorem fw_thrown {p : Program} {l : Launch} {e : Env} {R : Room} {s : State} {m : MethodId} {args : Array Value} {below : List Frame} {meth : Method} {c : Code} {T2 : State} {locs2 : List Loc} {cells2 slots2 : Nat} {h' : AH} {Q : Out → AH → Prop} {pc q : Nat} {ls : Array Slot} {st : List Value}
    (hext : c.exceptionTable = #[]) (hlk : meth.locks = false) (hQ : Q (.inr q) h') (hl : ∀ z ∈ locs2, G.H0.size ≤ z.base) (hr : RepH G h' T2.heap) (X4 : Stand p l e R s m args below meth c T2 locs2 cells2 slots2) :
    ∃ t, Steps p.tables e below ((T2.setTop { method := m, pc := pc, locals := ls, stack := st, locked := none }).pushFrame (.throwing q)) t ∧ MEnd G s below Q t := by
  obtain ⟨st1, hrun, hend, hW, hsm⟩ := X4.leaveThrown q (g := { method := m, pc := pc, locals := ls, stack := st, locked := none }) rfl rfl rfl (fun x hx9 => by rw [hext] at hx9; cases hx9) hlk
  exact ⟨_, st1, .inr q, h', locs2, cells2, slots2, hrun, hend, hQ, (by show RepH G h' T2.heap; exact hr), hW, hsm, hl⟩
theorem lam_static {k pcs is nC mi mci b x p1 maxL : Nat} {fi : Nat → Nat} {w : Bool} {caps L0 Lz : List Value} {σ : Lambda.Shape} {bytes : ByteArray} {xo : MethodName} {z : MI} {K : Int32 → AH → Prop} {Qx : Nat → AH → Prop}
    (hk : lamAll[k]? = some (xo, pcs, is, σ)) (hok : ShOK σ xo.cls bytes maxL) (hm2 : maxL = 2) (hb : h.1 b = some (200 + k, w, caps)) (hn : caps.length = nC)
    (hd : ∀ i, i < nC → decode bytes (4 * i) = .ok (.aload_n 0, 1) ∧ decode bytes (4 * i + 1) = .ok (.getfield (fi i), 3)) (hf : ∀ i, i < nC → fpOK σ xo.cls (fi i) i = true) (hl1 : decode bytes (4 * nC) = .ok (.aload_n 1, 1))
    (hc : p1 = 4 * nC + 1 ∨ ∃ (ci : Nat) (nm : String), decode bytes (4 * nC + 1) = .ok (.checkcast ci, 3) ∧ p1 = 4 * nC + 4 ∧ cpOK σ xo.cls ci nm = true ∧ isC h x nm)
    (hinv : decode bytes p1 = .ok (.invokestatic mi, 3)) (hret : decode bytes (p1 + 3) = .ok (.ireturn, 1)) (hmp : mpOK σ xo.cls mi mci = true) (hcp : cpOK σ xo.cls mci σ.implClass = true)
    (hz : z.1 = ⟨σ.implClass, σ.implName, σ.implDesc.toString⟩) (hC : Callee z (nC + 1)) (hs : Cond.static z.1 ∈ lw_tbl) (hn20 : nC ≤ 10)
    (hent : Ent (caps ++ [.ref x]) L0) (hLz : Lz = L0 ++ List.replicate (z.2.2.1 - L0.length) (.retAddr 0)) (hL0 : L0.length ≤ z.2.2.1)
    (kz : MF G d z 0 Lz [] h (cI K Qx)) : LamRun G (d + 1) k b [.ref x] h (cI K Qx) := by
  subst hm2
  intro p l e R s below methk ck H hexec hK htr hmk hck f1 f2 c1 c2 hr T hT X
  subst hT
  have hKT := hK.moved X.warmed
  obtain ⟨kC, tk, file, methk', ck', toy, iface, t, found, hkC, hkn, hfile, hpool, hmk', hck', hbytes, hml, hext, hlk, hflags, hrt, htoy, htk, hitf, hlook, hres, hfields, hits, hkind, hif, hfd, hsel, hcan⟩ := lam_facts hKT hk hok
  have hmkT : T.vm.method? ⟨G.cC (200 + k), 1⟩ = some methk := by rw [X.warmed.alike.method?]; exact hmk
  cases hmk'.symm.trans hmkT
  cases hck'.symm.trans hck
  obtain ⟨cell, g1, g2, g3, g4⟩ := rep_arr hr hb (by omega) (by have := (List.getElem?_eq_some_iff.mp hk).1; have h19 : lamAll.length = 19 := rfl; omega)
  have hlocs0 : ∀ z9 ∈ ([] : List Loc), G.H0.size ≤ z9.base := fun z9 hz9 => nomatch hz9
  have hentry : entryFrame ⟨G.cC (200 + k), 1⟩ (.ref b :: [.ref x]).toArray ck.maxLocals = { method := ⟨G.cC (200 + k), 1⟩, pc := 0, locals := #[.val (.ref b), .val (.ref x)], stack := [], locked := none } := by rw [hml]; rfl
  rw [hentry]
  show RunT G p e s below (cI K Qx) T { method := ⟨G.cC (200 + k), 1⟩, pc := 0, locals := #[.val (.ref b), .val (.ref x)], stack := [], locked := none }
  -- the call
  have hcall : RunT G p e s below (cI K Qx) T { method := ⟨G.cC (200 + k), 1⟩, pc := p1, locals := #[.val (.ref b), .val (.ref x)], stack := .ref x :: caps.reverse, locked := none } := by
    obtain ⟨mz, methz, cz, y1, y2, y3, y4, y5, y6, y7, y8, ⟨kz9, hkz, hkzi⟩, y10⟩ := mx_calleeW (d := d) (T := T) hexec hK htr X hr hC
    have hnT : T.methodNamed? z.1 = some mz := by
      have h9 := State.methodNamed?_setVm (s := s) X.warmed.alike z.1
      rw [y1] at h9; exact h9
    have hfT : T.vm.findClass σ.implClass = some mz.cls := by
      have h9 := findClass_of_methodNamed hnT
      rw [hz] at h9; exact h9
    have e9 : toy = mz.cls := Option.some.inj (htoy.symm.trans hfT)
    subst e9
    obtain ⟨tk', htk', hnmT⟩ := className_of_methodNamed hnT
    cases htk.symm.trans htk'
    have ht : t = mz := by
      have h1 : T.methodFound? z.1.cls z.1.name z.1.desc = some mz := State.methodFound?_of_named hnT hC.2.2.2.1
      rw [hz] at h1
      simp only [State.methodFound?, htoy, htk, Option.bind_eq_bind, Option.bind_some] at h1
      rw [hlook] at h1
      exact Option.some.inj h1
    subst ht
    have hzc : z.1.cls = σ.implClass := by rw [hz]
    have hyy := hC.2.2.2.1
    have hsp : ∀ z9 : Method, signaturePolymorphic tk z9 = false := fun z9 => by simp [signaturePolymorphic, hnmT, hyy.1, hyy.2]
    obtain ⟨nt, p9, p10, p11⟩ := mp_spec hmp
    obtain ⟨b9, hmem⟩ := memberRef_ask' (e := e) (vm := T.vm) (d := G.cC (200 + k)) (index := mi) hkC hfile (by rw [hpool]; exact Or.inl p9) (by rw [hpool]; exact p11)
    have hclsR := cp_spec hcp hkC htoy hres
    have href : plainRef T e (G.cC (200 + k)) mi := ⟨mci, _, _, b9, t.cls, tk, hmem, hclsR, htk, by simp [hsp]⟩
    have hready : T.vm.methodReady (G.cC (200 + k)) mi t := ⟨kC, hkC, hres mi _ (Lambda.resolvedOf_method p9 p10 htoy htk p11 hlook)⟩
    have hstat : methz.isStatic = true := Cond.static_spec y1 y2 (hK.1 _ hs rfl #[])
    have hinit : tk.init = .initialized := by
      obtain ⟨tk2, h2, he2⟩ := X.warmed.alike.2.2 _ _ hkz
      have h29 : T.vm.classes[t.cls]? = some tk2 := h2
      cases htk.symm.trans h29
      rw [he2]; exact hkzi
    have hlen9 : (caps ++ [Value.ref x]).length = methz.sig.parameters.length := by
      rw [← hC.len y8]; simp [hn]
    obtain ⟨t2, st2, hend⟩ := call_enterW (T := T) (d := d) (As := caps ++ [.ref x]) (Q := cI K Qx) (g := { method := ⟨G.cC (200 + k), 1⟩, pc := p1, locals := #[.val (.ref b), .val (.ref x)], stack := [], locked := none }) X hlocs0 hr rfl (by rw [hml]; rfl) rfl f1 f2 c1 c2 (by rw [hbytes]; exact hinv) y3 y4 y5 y6 (Nat.zero_le _) (by rw [y7]; exact hC.2.2.2.2.2)
      (fun R' s' below' v1 v2 q1 q2 q3 q4 => by
        obtain ⟨e1, e2⟩ := ent_rel (n := cz.maxLocals) (Lz := Lz) hent (by rw [hLz, y7]) (by rw [y7]; exact hL0)
        rw [lg_entry_eq]
        exact kz p l e R' s' t _ below' methz cz T.heap [] 0 0 _ (y10 R' s' v1 v2 q1 q2 q3 q4) (fun z9 hz9 => nomatch hz9) hr e1)
      (fun v h' T2 locs2 cells2 slots2 q1 q2 q3 q4 => fw_back (pc := p1 + 3) hexec (by rw [hbytes]; exact hret) hrt hlk q1 q2 q3 q4)
      (fun q h' T2 locs2 cells2 slots2 q1 q2 q3 q4 => fw_thrown hext hlk q1 q2 q3 q4)
    refine ⟨t2, ?_, hend⟩
    have hdg9 : decode ck.code p1 = .ok (.invokestatic mi, 3) := by rw [hbytes]; exact hinv
    jvm_step X.here [hexec, hdg9, invokestatic.wp_ready (e := e) (s := T) (m := t) (k := tk) (meth := methz) (args := caps ++ [.ref x]) (rest := [])
      (f := { method := ⟨G.cC (200 + k), 1⟩, pc := p1, locals := #[.val (.ref b), .val (.ref x)], stack := .ref x :: caps.reverse, locked := none }) X.here.top href hready htk y3 (hsp _) hstat hinit hlen9 (by simp)]
    intro acts'
    rw [doInvoke_state]
    exact st2
  have hlast : RunT G p e s below (cI K Qx) T { method := ⟨G.cC (200 + k), 1⟩, pc := 4 * nC + 1, locals := #[.val (.ref b), .val (.ref x)], stack := .ref x :: caps.reverse, locked := none } := by
    rcases hc with rfl | ⟨ci, nm, hd9, rfl, hcp9, kb, wb, fb, hxb, hcast⟩
    · exact hcall
    · obtain ⟨C, cb, hC9, ⟨cC9, hat⟩, b1, b2, b3⟩ := cast_at hKT hr hxb hcast
      obtain ⟨kb9, hkb9, -⟩ := Vm.findClass_spec b3
      have hcT : ∃ cT, T.vm.findClass nm = some cT ∧ T.vm.assignable cb.cls cT = true := by
        rcases hC9 with e9 | e9
        · rw [e9] at b3
          exact ⟨_, b3, va_asg _ _⟩
        · obtain ⟨c0, t0, q1, q2, q3⟩ := Cond.castable_spec (hKT.1 _ e9 rfl #[])
          cases b3.symm.trans q1
          exact ⟨t0, q2, q3⟩
      obtain ⟨cT, hcT, hasg⟩ := hcT
      obtain ⟨kT, hkT, -⟩ := Vm.findClass_spec hcT
      exact rt_cast X hexec rfl (cp_spec hcp9 hkC hcT hres) rfl b1 (fun k9 e9 => by rw [e9] at b2; cases b2) hkb9 hkT hasg (by rw [hbytes]; exact hd9) rfl hcall
  have hall := rt_caps (fi := fi) (x := x) (nC := nC) X hexec g1 (fun e9 => by rw [g3] at e9; cases e9) g4 hn (fun i hi => by rw [hbytes]; exact hd i hi) (fun i hi => fp_spec (hf i hi) hkC hres hfields) (rt_load1 X hexec (by rw [hbytes]; exact hl1) hlast) nC (Nat.le_refl _)
  rw [Nat.sub_self] at hall
  exact hall
theorem lam_virtual {k pcs is nC mi mci b x p1 maxL : Nat} {fi : Nat → Nat} {w : Bool} {caps L0 Lz : List Value} {σ : Lambda.Shape} {bytes : ByteArray} {xo : MethodName} {z : MI} {K : Int32 → AH → Prop} {Qx : Nat → AH → Prop}
    (hk : lamAll[k]? = some (xo, pcs, is, σ)) (hok : ShOK σ xo.cls bytes maxL) (hm2 : maxL = 2) (hb : h.1 b = some (200 + k, w, caps)) (hn : caps.length = nC)
    (hd : ∀ i, i < nC → decode bytes (4 * i) = .ok (.aload_n 0, 1) ∧ decode bytes (4 * i + 1) = .ok (.getfield (fi i), 3)) (hf : ∀ i, i < nC → fpOK σ xo.cls (fi i) i = true) (hl1 : decode bytes (4 * nC) = .ok (.aload_n 1, 1))
    (hc : p1 = 4 * nC + 1 ∨ ∃ (ci : Nat) (nm : String), decode bytes (4 * nC + 1) = .ok (.checkcast ci, 3) ∧ p1 = 4 * nC + 4 ∧ cpOK σ xo.cls ci nm = true ∧ isC h x nm)
    (hinv : decode bytes p1 = .ok (.invokevirtual mi, 3)) (hret : decode bytes (p1 + 3) = .ok (.ireturn, 1)) (hmp : mpOK σ xo.cls mi mci = true) (hcp : cpOK σ xo.cls mci σ.implClass = true)
    (hz : z.1 = ⟨σ.implClass, σ.implName, σ.implDesc.toString⟩) (hC : Callee z nC) (hi : Cond.instanceMethod z.1 ∈ lw_tbl) {gq kg : Nat} {tl : List Value} {wg : Bool} {fg : List Value} {qg : vw_C} (hcg : caps = .ref gq :: tl) (hgq : h.1 gq = some (kg, wg, fg)) (hqg : clAll[kg]? = some qg) (hsel9 : Cond.selects qg.1 z.1 z.1 ∈ lw_tbl) (hitf9 : σ.implItf = false) (hn20 : nC ≤ 10)
    (hent : Ent (caps ++ [.ref x]) L0) (hLz : Lz = L0 ++ List.replicate (z.2.2.1 - L0.length) (.retAddr 0)) (hL0 : L0.length ≤ z.2.2.1)
    (kz : MF G d z 0 Lz [] h (cI K Qx)) : LamRun G (d + 1) k b [.ref x] h (cI K Qx) := by
  subst hm2
  intro p l e R s below methk ck H hexec hK htr hmk hck f1 f2 c1 c2 hr T hT X
  subst hT
  have hKT := hK.moved X.warmed
  obtain ⟨kC, tk, file, methk', ck', toy, iface, t, found, hkC, hkn, hfile, hpool, hmk', hck', hbytes, hml, hext, hlk, hflags, hrt, htoy, htk, hitf, hlook, hres, hfields, hits, hkind, hif, hfd, hsel, hcan⟩ := lam_facts hKT hk hok
  have hmkT : T.vm.method? ⟨G.cC (200 + k), 1⟩ = some methk := by rw [X.warmed.alike.method?]; exact hmk
  cases hmk'.symm.trans hmkT
  cases hck'.symm.trans hck
  obtain ⟨cell, g1, g2, g3, g4⟩ := rep_arr hr hb (by omega) (by have := (List.getElem?_eq_some_iff.mp hk).1; have h19 : lamAll.length = 19 := rfl; omega)
  have hlocs0 : ∀ z9 ∈ ([] : List Loc), G.H0.size ≤ z9.base := fun z9 hz9 => nomatch hz9
  have hentry : entryFrame ⟨G.cC (200 + k), 1⟩ (.ref b :: [.ref x]).toArray ck.maxLocals = { method := ⟨G.cC (200 + k), 1⟩, pc := 0, locals := #[.val (.ref b), .val (.ref x)], stack := [], locked := none } := by rw [hml]; rfl
  rw [hentry]
  show RunT G p e s below (cI K Qx) T { method := ⟨G.cC (200 + k), 1⟩, pc := 0, locals := #[.val (.ref b), .val (.ref x)], stack := [], locked := none }
  -- the call
  have hcall : RunT G p e s below (cI K Qx) T { method := ⟨G.cC (200 + k), 1⟩, pc := p1, locals := #[.val (.ref b), .val (.ref x)], stack := .ref x :: caps.reverse, locked := none } := by
    obtain ⟨mz, methz, cz, y1, y2, y3, y4, y5, y6, y7, y8, ⟨kz9, hkz, hkzi⟩, y10⟩ := mx_calleeW (d := d) (T := T) hexec hK htr X hr hC
    have hnT : T.methodNamed? z.1 = some mz := by
      have h9 := State.methodNamed?_setVm (s := s) X.warmed.alike z.1
      rw [y1] at h9; exact h9
    have hfT : T.vm.findClass σ.implClass = some mz.cls := by
      have h9 := findClass_of_methodNamed hnT
      rw [hz] at h9; exact h9
    have e9 : toy = mz.cls := Option.some.inj (htoy.symm.trans hfT)
    subst e9
    obtain ⟨tk', htk', hnmT⟩ := className_of_methodNamed hnT
    cases htk.symm.trans htk'
    have ht : t = mz := by
      have h1 : T.methodFound? z.1.cls z.1.name z.1.desc = some mz := State.methodFound?_of_named hnT hC.2.2.2.1
      rw [hz] at h1
      simp only [State.methodFound?, htoy, htk, Option.bind_eq_bind, Option.bind_some] at h1
      rw [hlook] at h1
      exact Option.some.inj h1
    subst ht
    have hzc : z.1.cls = σ.implClass := by rw [hz]
    have hyy := hC.2.2.2.1
    have hsp : ∀ z9 : Method, signaturePolymorphic tk z9 = false := fun z9 => by simp [signaturePolymorphic, hnmT, hyy.1, hyy.2]
    obtain ⟨nt, p9, p10, p11⟩ := mp_spec hmp
    obtain ⟨b9, hmem⟩ := memberRef_ask' (e := e) (vm := T.vm) (d := G.cC (200 + k)) (index := mi) hkC hfile (by rw [hpool]; exact Or.inl p9) (by rw [hpool]; exact p11)
    have hclsR := cp_spec hcp hkC htoy hres
    have hready : T.vm.methodReady (G.cC (200 + k)) mi t := ⟨kC, hkC, hres mi _ (Lambda.resolvedOf_method p9 p10 htoy htk p11 hlook)⟩
    have hnamed : namesAClass T (G.cC (200 + k)) mi := ⟨kC, file, mci, nt, t.cls, tk, hkC, hfile, by rw [hpool]; exact p9, hclsR, htk, by rw [hitf]; exact hitf9⟩
    obtain ⟨mk0, methM, hnamed0, hmethM, hstM, habM⟩ := Cond.instanceMethod_spec (hK.1 _ hi rfl #[])
    cases y1.symm.trans hnamed0
    cases y2.symm.trans hmethM
    obtain ⟨-, cellB, b1, b2, b3, -⟩ := rep_obj hr hgq hqg
    obtain ⟨hfc, -⟩ := kd_class hKT hqg
    obtain ⟨cc2, rr2, mm2, w1, w2, w3, w4, kP, hkP, hkPi⟩ := Cond.selects_spec (hKT.1 _ hsel9 rfl #[])
    cases hfc.symm.trans w1
    have hfnd : T.methodFound? z.1.cls z.1.name z.1.desc = some t := State.methodFound?_of_named hnT hC.2.2.2.1
    cases hfnd.symm.trans w2
    cases hnT.symm.trans w3
    have hselP : selectMethod e.platform T.vm cellB.cls t = .method t := by rw [Launch.admits_selectMethod X.admits, b2]; exact w4
    have hlen9 : (tl ++ [Value.ref x]).length = methz.sig.parameters.length := by
      rw [← hC.len y8, ← hn, hcg]; simp
    obtain ⟨t2, st2, hend⟩ := call_enterW (T := T) (d := d) (As := caps ++ [.ref x]) (Q := cI K Qx) (g := { method := ⟨G.cC (200 + k), 1⟩, pc := p1, locals := #[.val (.ref b), .val (.ref x)], stack := [], locked := none }) X hlocs0 hr rfl (by rw [hml]; rfl) rfl f1 f2 c1 c2 (by rw [hbytes]; exact hinv) y3 y4 y5 y6 (Nat.zero_le _) (by rw [y7]; exact hC.2.2.2.2.2)
      (fun R' s' below' v1 v2 q1 q2 q3 q4 => by
        obtain ⟨e1, e2⟩ := ent_rel (n := cz.maxLocals) (Lz := Lz) hent (by rw [hLz, y7]) (by rw [y7]; exact hL0)
        rw [lg_entry_eq]
        exact kz p l e R' s' t _ below' methz cz T.heap [] 0 0 _ (y10 R' s' v1 v2 q1 q2 q3 q4) (fun z9 hz9 => nomatch hz9) hr e1)
      (fun v h' T2 locs2 cells2 slots2 q1 q2 q3 q4 => fw_back (pc := p1 + 3) hexec (by rw [hbytes]; exact hret) hrt hlk q1 q2 q3 q4)
      (fun q h' T2 locs2 cells2 slots2 q1 q2 q3 q4 => fw_thrown hext hlk q1 q2 q3 q4)
    refine ⟨t2, ?_, hend⟩
    have hdg9 : decode ck.code p1 = .ok (.invokevirtual mi, 3) := by rw [hbytes]; exact hinv
    jvm_step X.here [hexec, hdg9, invokevirtual.wp_ready (e := e) (s := T) (r := t) (m := t) (k := tk) (mk := tk) (rmeth := methz) (meth := methz) (a := gq) (args := tl ++ [.ref x]) (rest := []) (cell := cellB)
      (f := { method := ⟨G.cC (200 + k), 1⟩, pc := p1, locals := #[.val (.ref b), .val (.ref x)], stack := .ref x :: caps.reverse, locked := none }) X.here.top hnamed hready htk y3 (hsp _) hstM hlen9 (by rw [hcg]; simp) b1 (fun k9 e9 => by rw [b3] at e9; cases e9) hselP y3 habM htk (by rw [hitf]; exact hitf9)]
    intro acts'
    rw [doInvoke_state]
    rw [hcg] at st2
    exact st2
  have hlast : RunT G p e s below (cI K Qx) T { method := ⟨G.cC (200 + k), 1⟩, pc := 4 * nC + 1, locals := #[.val (.ref b), .val (.ref x)], stack := .ref x :: caps.reverse, locked := none } := by
    rcases hc with rfl | ⟨ci, nm, hd9, rfl, hcp9, kb, wb, fb, hxb, hcast⟩
    · exact hcall
    · obtain ⟨C, cb, hC9, ⟨cC9, hat⟩, b1, b2, b3⟩ := cast_at hKT hr hxb hcast
      obtain ⟨kb9, hkb9, -⟩ := Vm.findClass_spec b3
      have hcT : ∃ cT, T.vm.findClass nm = some cT ∧ T.vm.assignable cb.cls cT = true := by
        rcases hC9 with e9 | e9
        · rw [e9] at b3
          exact ⟨_, b3, va_asg _ _⟩
        · obtain ⟨c0, t0, q1, q2, q3⟩ := Cond.castable_spec (hKT.1 _ e9 rfl #[])
          cases b3.symm.trans q1
          exact ⟨t0, q2, q3⟩
      obtain ⟨cT, hcT, hasg⟩ := hcT
      obtain ⟨kT, hkT, -⟩ := Vm.findClass_spec hcT
      exact rt_cast X hexec rfl (cp_spec hcp9 hkC hcT hres) rfl b1 (fun k9 e9 => by rw [e9] at b2; cases b2) hkb9 hkT hasg (by rw [hbytes]; exact hd9) rfl hcall
  have hall := rt_caps (fi := fi) (x := x) (nC := nC) X hexec g1 (fun e9 => by rw [g3] at e9; cases e9) g4 hn (fun i hi => by rw [hbytes]; exact hd i hi) (fun i hi => fp_spec (hf i hi) hkC hres hfields) (rt_load1 X hexec (by rw [hbytes]; exact hl1) hlast) nC (Nat.le_refl _)
  rw [Nat.sub_self] at hall
  exact hall
end
