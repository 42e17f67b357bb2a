/-! CORE: the pure picture of a run: an abstract heap; the judgement MF over the machine -/
set_option maxRecDepth 100000
/-- a cell: its kind (an object's below 100, an array's from 100, a lambda's from 200, one of which nothing is said from 300), whether it may be written, its slots -/
abbrev AC : Type := Nat × Bool × List Value
/-- the heap: cells; the next address; what is left of the room -/
abbrev AH : Type := (Nat → Option AC) × Nat × Nat
/-- an end: a value (or none), or something thrown -/
abbrev Out : Type := Option Value ⊕ Nat
def ocOf : Out → Outcome
  | .inl v => .returned v
  | .inr q => .threw q
/-- what is fixed all through a run: class numbers and slots by kind; the start's heap; the caps; addresses of texts; statics; constant lambdas -/
abbrev GL : Type := (Nat → ClassId) × (Nat → Nat → Nat) × Heap × (Nat × Nat) × (Nat → Addr) × (Nat → Value) × (Nat → Addr)
def GL.cC (G : GL) : Nat → ClassId := G.1
def GL.cI (G : GL) : Nat → Nat → Nat := G.2.1
def GL.H0 (G : GL) : Heap := G.2.2.1
def GL.capC (G : GL) : Nat := G.2.2.2.1.1
def GL.capS (G : GL) : Nat := G.2.2.2.1.2
def GL.str (G : GL) : Nat → Addr := G.2.2.2.2.1
def GL.sta (G : GL) : Nat → Value := G.2.2.2.2.2.1
def GL.lam (G : GL) : Nat → Addr := G.2.2.2.2.2.2
def cellAt (G : GL) (a : Nat) (c : AC) (H : Heap) : Prop :=
  ∃ cell : Cell, H[a]? = some cell ∧ cell.cls = G.cC c.1 ∧ cell.vm = .none ∧
    (c.1 < 100 → ∃ q : vw_C, clAll[c.1]? = some q ∧ c.2.2.length = q.2.2 ∧ ∀ (k : Nat) (v : Value), c.2.2[k]? = some v → cell.slots[G.cI c.1 k]? = some v) ∧
    (100 ≤ c.1 → c.1 < 300 → cell.slots.toList = c.2.2)
def slotSum (H : Heap) : Nat := H.foldl (fun n c => n + c.slots.size) 0
def RepH (G : GL) (h : AH) (H : Heap) : Prop :=
  h.2.1 = H.size ∧ G.H0.size ≤ H.size ∧ (∀ q : Nat, q < G.H0.size → H[q]? = G.H0[q]?) ∧
  (∀ (a : Nat) (c : AC), h.1 a = some c → cellAt G a c H ∧ (c.2.1 = true → G.H0.size ≤ a)) ∧
  4 * H.size + h.2.2 ≤ 4 * G.capC ∧ slotSum H + h.2.2 ≤ G.capS
/-- words that ride through a run -/
def rideW (c : Cond) : Bool := (c.onTables && c.keepsFace) || match c with
  | .fieldLinkNest .. => true
  | .methodLinkNest .. => true
  | .arrayClass _ => true
  | .arrayOver (.object _) => true
  | _ => false
theorem ride_at {a a' : Array Value} {s U : State} (hW : s.WarmedH U.vm) {c : Cond} (hc : rideW c = true) (h : c.before a s = true) : c.before a' U = true := by
  unfold rideW at hc
  rw [Bool.or_eq_true] at hc
  rcases hc with hc | hc
  · rw [Bool.and_eq_true] at hc
    have h1 := Cond.before_shiftedFace (State.Shifted.of_warmed hW) c hc.2 h
    exact va_tabs (u := s.setVm U.vm) (U := U) hc.1 rfl h1
  · cases c with
    | fieldLinkNest => exact va_Nw.use rfl (va_Nw.warmF hW (va_Nw.of rfl h))
    | methodLinkNest => exact va_Nw.use rfl (va_Nw.warmM hW (va_Nw.of rfl h))
    | arrayClass ty => exact word_at hW (Or.inr ⟨ty, rfl⟩) h
    | arrayOver ty =>
      cases ty with
      | object C => exact va_AO.use (va_AO.moved hW.alike (va_AO.of h))
      | _ => cases hc
    | _ => cases hc
/-- where a static field lies -/
def vx_L (C n d : String) (A : Nat → Prop) (U : State) (H : Heap) : Prop := ∃ (c : ClassId) (k : Class) (i : Nat) (f : Field) (a : Nat) (cell : Cell), U.vm.findClass C = some c ∧ U.fieldFound? C n d = some (c, k, i, f) ∧ f.isStatic = true ∧ k.statics = some a ∧ H[a]? = some cell ∧ cell.vm.isStatics = true ∧ cell.cls = c ∧ f.slot < cell.slots.size ∧ k.staticTypes[f.slot]? = some f.type ∧ ¬ A a
theorem vx_L.moved {C n d : String} {A : Nat → Prop} {u U : State} {H : Heap} (hvm : u.vm.Alike U.vm) (h : vx_L C n d A u H) : vx_L C n d A U H := by
  obtain ⟨c, k, i, f, a, cell, h1, h2, h3, h4, h5, h6, h7, h8, h9, h10⟩ := h
  obtain ⟨k', hi', he⟩ := State.fieldFound?_setVm hvm h2
  exact ⟨c, k', i, f, a, cell, by rw [hvm.findClass]; exact h1, hi', h3, by rw [he]; exact h4, h5, h6, h7, h8, by rw [he]; exact h9, h10⟩
/-- a lambda's site is linked, to a made class -/
def LamOK (s : State) (x : MethodName) (pc index : Nat) (σ : Lambda.Shape) (c : ClassId) (l : Linked) : Prop :=
  ∃ (m : MethodId) (k : Class) (cf : ClassFile) (i0 p0 : Nat), s.methodNamed? x = some m ∧ s.vm.classes[m.cls]? = some k ∧ k.cf = some cf ∧ Lambda.shapeOf? cf index = some σ ∧ (k.callSites.find? fun y => y.1 == m.idx && y.2.1 == pc) = some (i0, p0, l) ∧
    Lambda.isMade { classPath := fun _ => none } s.vm m.cls σ c = true ∧ s.lambdaCallable σ c = true
theorem LamOK.moved {s U : State} {x : MethodName} {pc index : Nat} {σ : Lambda.Shape} {c : ClassId} {l : Linked} (h : LamOK s x pc index σ c l) (hW : s.WarmedH U.vm) : LamOK U x pc index σ c l := by
  obtain ⟨m, k, cf, i0, p0, hm, hk, hcf, hsh, hfind, hmade, hcall⟩ := h
  obtain ⟨k', hk', he⟩ := hW.alike.2.2 _ _ hk
  have hm' : U.methodNamed? x = some m := by
    have := State.methodNamed?_setVm (s := s) hW.alike x
    rw [hm] at this
    exact this
  refine ⟨m, k', cf, i0, p0, hm', hk', by rw [he]; exact hcf, hsh, by rw [he]; exact hfind, Lambda.isMade_warmer hW hmade, ?_⟩
  have hA := hW.alike
  simp only [State.lambdaCallable, hA.findClass, hA.assignable, hA.superclasses, hA.declaredIn] at hcall ⊢
  exact hcall
def lkOf (G : GL) (k : Nat) (σ : Lambda.Shape) : Linked := if σ.captured = [] then .constant (G.lam k) else .makes (G.cC (200 + k))
/-- the tables of a run, as a method finds them -/
def KS (G : GL) (s : State) : Prop :=
  (∀ w ∈ lw_tbl, rideW w = true → ∀ a : Array Value, w.before a s = true) ∧
  (∀ (ci : Nat) (q : vw_C), clAll[ci]? = some q → u_Kn s q.1 q.2.1 q.2.2 (G.cC ci) (G.cI ci)) ∧
  (∀ (k : Nat) (ty : FieldType), arrAll[k]? = some ty → ArrOfT s (G.cC (100 + k)) ty ∧ va_RA s (G.cC (100 + k)) ty) ∧
  (∀ (k : Nat) (q : String × Nat × String), strAll[k]? = some q → vk_R q.1 q.2.1 q.2.2 (G.str k) s) ∧
  (∀ (k : Nat) (q : String × String × String), staAll[k]? = some q → va_Z q.1 q.2.1 q.2.2 (G.sta k) (fun _ => False) s G.H0 ∧ vx_L q.1 q.2.1 q.2.2 (fun _ => False) s G.H0) ∧
  (∀ (k : Nat) (q : MethodName × Nat × Nat × Lambda.Shape), lamAll[k]? = some q → LamOK s q.1 q.2.1 q.2.2.1 q.2.2.2 (G.cC (200 + k)) (lkOf G k q.2.2.2)) ∧
  (∀ q ∈ ncAll, va_Nc q.1 q.2 s) ∧ (∀ (k : Nat) (E : String), xcAll[k]? = some E → s.vm.findClass E = some (G.cC (300 + k))) ∧ va_Mi "[Ljava/lang/Object;" (G.str 100) s ∧ ArrOfT s (G.cC 107) (.object "java/lang/Integer")
theorem KS.moved {G : GL} {s U : State} (h : KS G s) (hW : s.WarmedH U.vm) : KS G U := by
  obtain ⟨h1, h2, h3, h4, h5, h6, h7, h8, h9, h10⟩ := h
  refine ⟨fun w hw hr a => ride_at hW hr (h1 w hw hr #[]), fun ci q hq => u_Kn_moved hW.alike (h2 ci q hq), fun k ty hk => ⟨arrOfT_moved hW.alike (h3 k ty hk).1, (h3 k ty hk).2.moved hW.alike⟩, fun k q hq => vk_R.warm hW (h4 k q hq), fun k q hq => ⟨va_Z.moved hW.alike (h5 k q hq).1, vx_L.moved hW.alike (h5 k q hq).2⟩, fun k q hq => (h6 k q hq).moved hW, fun q hq => va_Nc.moved hW.alike (h7 q hq), fun k E hE => by rw [hW.alike.findClass]; exact h8 k E hE, va_Mi.moved hW.alike h9, arrOfT_moved hW.alike h10⟩
/-- the frame of method y at depth d -/
def MX (G : GL) (d : Nat) (y : MI) (p : Program) (l : Launch) (R : Room) (s : State) (m : MethodId) (meth : Method) (c : Code) : Prop :=
  p.tables.exec = Jvm.exec ∧ c.code = y.2.1 ∧ c.maxLocals = y.2.2.1 ∧ meth.sig.returnType = y.2.2.2.1 ∧ meth.locks = false ∧
  c.exceptionTable.toList.map (fun h => (h.startPc, h.endPc, h.handlerPc, h.catchType)) = y.2.2.2.2 ∧ meth.name = y.1.name ∧ s.vm.findClass y.1.cls = some m.cls ∧
  KS G s ∧ l.stackTraces = false ∧ d ≤ R.frames ∧ 4000 + 200 * d ≤ R.locals ∧ G.capC ≤ s.heap.size + R.cells ∧ G.capS ≤ s.slotsUsed + R.slots ∧ G.H0.size ≤ s.heap.size ∧ s.methodNamed? y.1 = some m
/-- the end of an invocation -/
def MEnd (G : GL) (s : State) (below : List Frame) (Q : Out → AH → Prop) (t : State) : Prop :=
  ∃ (o : Out) (h' : AH) (L : List Loc) (k n : Nat), t.status = .running ∧ Ended t below (ocOf o) ∧ Q o h' ∧ RepH G h' t.heap ∧ s.WarmedH t.vm ∧
    s.sameButNew ({ t with vm := s.vm } : State) L k n ∧ ∀ z ∈ L, G.H0.size ≤ z.base
/-- local variables: .retAddr 2 is a second half, any other .retAddr says nothing -/
def LRel (L : List Value) (ls : Array Slot) : Prop := ls.size = L.length ∧ lv_wf ls ∧ ∀ (i : Nat) (v : Value), L[i]? = some v → match v with
  | .retAddr _ => True
  | .long x => L[i + 1]? = some (.retAddr 2) → ls[i]? = some (.val (.long x))
  | .double x => L[i + 1]? = some (.retAddr 2) → ls[i]? = some (.val (.double x))
  | v => ls[i]? = some (.val v)
/-- from here (method y at pc, variables L, operands st, heap h, at most d frames deeper) the machine comes to an end with Q -/
def MF (G : GL) (d : Nat) (y : MI) (pc : Nat) (L st : List Value) (h : AH) (Q : Out → AH → Prop) : Prop :=
  ∀ (p : Program) (l : Launch) (e : Env) (R : Room) (s : State) (m : MethodId) (args : Array Value) (below : List Frame) (meth : Method) (c : Code) (H : Heap) (locs : List Loc) (cells slots : Nat) (ls : Array Slot),
    MX G d y p l R s m meth c → (∀ z ∈ locs, G.H0.size ≤ z.base) → RepH G h H → LRel L ls → W p l e R s m args below meth c H locs cells slots (MEnd G s below Q) (F0 m pc ls st)
theorem MEnd.mono {G : GL} {s : State} {below : List Frame} {Q Q' : Out → AH → Prop} (hq : ∀ o h, Q o h → Q' o h) {t : State} (h : MEnd G s below Q t) : MEnd G s below Q' t := by
  obtain ⟨o, h', L, k, n, a1, a2, a3, a4⟩ := h
  exact ⟨o, h', L, k, n, a1, a2, hq _ _ a3, a4⟩
theorem MF.mono {G : GL} {d : Nat} {y : MI} {pc : Nat} {L st : List Value} {h : AH} {Q Q' : Out → AH → Prop} (hq : ∀ o h, Q o h → Q' o h) (k : MF G d y pc L st h Q) : MF G d y pc L st h Q' := by
  intro p l e R s m args below meth c H locs cells slots ls hx hl hr hL T hT X
  obtain ⟨t, a, b⟩ := k p l e R s m args below meth c H locs cells slots ls hx hl hr hL T hT X
  exact ⟨t, a, b.mono hq⟩
/-- cells lie below the next address -/
theorem MF.wf {G : GL} {d : Nat} {y : MI} {pc : Nat} {L st : List Value} {h : AH} {Q : Out → AH → Prop} (k : (∀ (a : Nat) (c : AC), h.1 a = some c → a < h.2.1) → MF G d y pc L st h Q) : MF G d y pc L st h Q := by
  intro p l e R s m args below meth c H locs cells slots ls hx hl hr hL
  refine k (fun a c9 hc => ?_) p l e R s m args below meth c H locs cells slots ls hx hl hr hL
  obtain ⟨⟨cell, hcell, -⟩, -⟩ := hr.2.2.2.1 a c9 hc
  rw [hr.1]
  exact (Array.getElem?_eq_some_iff.mp hcell).1
theorem LRel.at {L : List Value} {ls : Array Slot} (h : LRel L ls) {i : Nat} {v : Value} (hv : L[i]? = some v) (hn : ∀ n, v ≠ .retAddr n) (hw : v.category = 1) : ls[i]? = some (.val v) := by
  have h1 := h.2.2 i v hv
  cases v <;> first | exact h1 | exact absurd rfl (hn _) | (simp [Value.category] at hw)
theorem LRel.atL {L : List Value} {ls : Array Slot} (h : LRel L ls) {i : Nat} {x : Int64} (hv : L[i]? = some (.long x)) (h2 : L[i + 1]? = some (.retAddr 2)) : ls[i]? = some (.val (.long x)) := h.2.2 i _ hv h2
theorem LRel.atD {L : List Value} {ls : Array Slot} (h : LRel L ls) {i : Nat} {x : UInt64} (hv : L[i]? = some (.double x)) (h2 : L[i + 1]? = some (.retAddr 2)) : ls[i]? = some (.val (.double x)) := h.2.2 i _ hv h2
/-- the claims of a list of variables, as lv_has lists them -/
def lvl1 (L : List Value) (i : Nat) : Option Value → Option (Nat × Value)
  | some (.retAddr _) => none
  | some (.long x) => if L[i + 1]? = some (.retAddr 2) then some (i, .long x) else none
  | some (.double x) => if L[i + 1]? = some (.retAddr 2) then some (i, .double x) else none
  | some v => some (i, v)
  | none => none
def lvl (L : List Value) : List (Nat × Value) := (List.range L.length).filterMap fun i => lvl1 L i L[i]?
theorem lvl_mem {L : List Value} {q : Nat × Value} : q ∈ lvl L ↔ L[q.1]? = some q.2 ∧ (∀ n, q.2 ≠ .retAddr n) ∧ (q.2.category = 2 → L[q.1 + 1]? = some (.retAddr 2)) := by
  obtain ⟨i, v⟩ := q
  unfold lvl
  simp only [List.mem_filterMap, List.mem_range]
  constructor
  · rintro ⟨j, hj, hm⟩
    cases hL : L[j]? with
    | none => rw [hL] at hm; cases hm
    | some w =>
      rw [hL] at hm
      unfold lvl1 at hm
      cases w with
      | retAddr n => cases hm
      | long x =>
        dsimp only at hm
        split at hm
        · cases hm; exact ⟨hL, (fun n h => by cases h), (fun _ => by assumption)⟩
        · cases hm
      | double x =>
        dsimp only at hm
        split at hm
        · cases hm; exact ⟨hL, (fun n h => by cases h), (fun _ => by assumption)⟩
        · cases hm
      | _ => cases hm; exact ⟨hL, (fun n h => by cases h), (fun h => by simp [Value.category] at h)⟩
  · rintro ⟨h1, h2, h3⟩
    refine ⟨i, (List.getElem?_eq_some_iff.mp h1).1, ?_⟩
    have h1 : L[i]? = some v := h1
    rw [h1]
    unfold lvl1
    cases v with
    | retAddr n => exact absurd rfl (h2 n)
    | long x => exact if_pos (h3 rfl)
    | double x => exact if_pos (h3 rfl)
    | _ => rfl
theorem LRel.has {L : List Value} {ls : Array Slot} (h : LRel L ls) : lv_has ls L.length (lvl L) := by
  refine ⟨h.1, h.2.1, fun q hq => ?_⟩
  obtain ⟨h1, h2, h3⟩ := lvl_mem.mp hq
  have h4 := h.2.2 q.1 q.2 h1
  cases hv : q.2 with
  | retAddr n => exact absurd hv (h2 n)
  | long x => rw [hv] at h4 h3; exact h4 (h3 rfl)
  | double x => rw [hv] at h4 h3; exact h4 (h3 rfl)
  | _ => rw [hv] at h4; exact h4
theorem LRel.of {L : List Value} {ls : Array Slot} {nL : Nat} (hn : L.length = nL) {l : List (Nat × Value)} (h : lv_has ls nL l) (hl : ∀ q ∈ lvl L, q ∈ l) : LRel L ls := by
  refine ⟨by rw [hn]; exact h.1, h.2.1, fun i v hv => ?_⟩
  cases v with
  | retAddr n => trivial
  | long x => exact fun h2 => h.2.2 (i, .long x) (hl _ (lvl_mem.mpr ⟨hv, (fun n h => by cases h), fun _ => h2⟩))
  | double x => exact fun h2 => h.2.2 (i, .double x) (hl _ (lvl_mem.mpr ⟨hv, (fun n h => by cases h), fun _ => h2⟩))
  | int x => exact h.2.2 (i, .int x) (hl _ (lvl_mem.mpr ⟨hv, (fun n h => by cases h), fun h => by simp [Value.category] at h⟩))
  | float x => exact h.2.2 (i, .float x) (hl _ (lvl_mem.mpr ⟨hv, (fun n h => by cases h), fun h => by simp [Value.category] at h⟩))
  | null => exact h.2.2 (i, .null) (hl _ (lvl_mem.mpr ⟨hv, (fun n h => by cases h), fun h => by simp [Value.category] at h⟩))
  | ref x => exact h.2.2 (i, .ref x) (hl _ (lvl_mem.mpr ⟨hv, (fun n h => by cases h), fun h => by simp [Value.category] at h⟩))
/-- a narrow store -/
theorem lvl_set1 {L : List Value} {i : Nat} {v : Value} (hn : ∀ n, v ≠ .retAddr n) (hc : v.category = 1) (hi : i < L.length) : ∀ q ∈ lvl (L.set i v), q ∈ (i, v) :: (lvl L).filter (fun q => !(q.1 == i) && !(q.1 + 1 == i && q.2.category == 2)) := by
  intro q hq
  obtain ⟨h1, h2, h3⟩ := lvl_mem.mp hq
  by_cases e : q.1 = i
  · have : q.2 = v := by
      rw [e, List.getElem?_set_self hi] at h1
      exact (Option.some.inj h1).symm
    rw [← e, ← this]
    exact List.mem_cons_self
  · refine List.mem_cons_of_mem _ (List.mem_filter.mpr ⟨lvl_mem.mpr ⟨?_, h2, fun hq2 => ?_⟩, ?_⟩)
    · rw [List.getElem?_set_ne (fun h => e h.symm)] at h1; exact h1
    · have h4 := h3 hq2
      by_cases e2 : q.1 + 1 = i
      · rw [e2, List.getElem?_set_self hi] at h4
        exact absurd (Option.some.inj h4) (hn 2)
      · rw [List.getElem?_set_ne (fun h => e2 h.symm)] at h4; exact h4
    · simp only [Bool.and_eq_true, Bool.not_eq_true', beq_eq_false_iff_ne, Bool.and_eq_false_iff]
      refine ⟨e, ?_⟩
      by_cases hq2 : q.2.category = 2
      · left
        intro e2
        have h4 := h3 hq2
        rw [e2, List.getElem?_set_self hi] at h4
        exact hn 2 (Option.some.inj h4)
      · right; exact hq2
/-- a wide store -/
def setW (L : List Value) (i : Nat) (v : Value) : List Value := (L.set i v).set (i + 1) (.retAddr 2)
theorem lvl_set2 {L : List Value} {i : Nat} {v : Value} (hc : v.category = 2) (hi : i + 1 < L.length) : ∀ q ∈ lvl (setW L i v), q ∈ (i, v) :: (lvl L).filter (fun q => !(q.1 == i) && (!(q.1 == i + 1) && !(q.1 + 1 == i && q.2.category == 2))) := by
  intro q hq
  obtain ⟨h1, h2, h3⟩ := lvl_mem.mp hq
  unfold setW at h1 h3
  have hv : ∀ n, v ≠ .retAddr n := fun n h => by rw [h] at hc; simp [Value.category] at hc
  by_cases e : q.1 = i
  · have : q.2 = v := by
      rw [e, List.getElem?_set_ne (by omega), List.getElem?_set_self (by omega)] at h1
      exact (Option.some.inj h1).symm
    rw [← e, ← this]
    exact List.mem_cons_self
  · by_cases e1 : q.1 = i + 1
    · rw [e1, List.getElem?_set_self (by simpa using hi)] at h1
      exact absurd (Option.some.inj h1).symm (h2 2)
    · refine List.mem_cons_of_mem _ (List.mem_filter.mpr ⟨lvl_mem.mpr ⟨?_, h2, fun hq2 => ?_⟩, ?_⟩)
      · rw [List.getElem?_set_ne (fun h => e1 h.symm), List.getElem?_set_ne (fun h => e h.symm)] at h1; exact h1
      · have h4 := h3 hq2
        by_cases e2 : q.1 + 1 = i
        · rw [e2, List.getElem?_set_ne (by omega), List.getElem?_set_self (by omega)] at h4
          exact absurd (Option.some.inj h4) (hv 2)
        · rw [List.getElem?_set_ne (by omega), List.getElem?_set_ne (fun h => e2 h.symm)] at h4; exact h4
      · simp only [Bool.and_eq_true, Bool.not_eq_true', beq_eq_false_iff_ne, Bool.and_eq_false_iff]
        refine ⟨e, e1, ?_⟩
        by_cases hq2 : q.2.category = 2
        · left
          intro e2
          have h4 := h3 hq2
          rw [e2, List.getElem?_set_ne (by omega), List.getElem?_set_self (by omega)] at h4
          exact hv 2 (Option.some.inj h4)
        · right; exact hq2
/-- references: null, or an address -/
theorem rf_cat (o : Option Nat) : (va_rf o).category = 1 := by cases o <;> rfl
theorem rf_isRef (o : Option Nat) : (va_rf o).isRef = true := by cases o <;> rfl
theorem rf_nr (o : Option Nat) : ∀ n, va_rf o ≠ .retAddr n := by cases o <;> (intro n h; cases h)
