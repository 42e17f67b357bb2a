/-! ROWS: casts, returns, throws, calls -/
set_option maxRecDepth 100000
def sumQ (Qn : Option Value → AH → Prop) (Qx : Nat → AH → Prop) : Out → AH → Prop := fun o h => match o with
  | .inl v => Qn v h
  | .inr q => Qx q h
/-- q is thrown in the frame of y at pc -/
def MT (G : GL) (d : Nat) (y : MI) (pc : Nat) (L st : List Value) (h : AH) (q : Nat) (Q : Out → AH → Prop) : Prop :=
  ∀ (p : Program) (l : Launch) (e : Env) (R : Room) (s : State) (m : MethodId) (args : Array Value) (below : List Frame) (meth : Method) (c : Code) (H : Heap) (locs : List Loc) (cells slots : Nat) (ls : Array Slot),
    MX G d y p l R s m meth c → (∀ z ∈ locs, G.H0.size ≤ z.base) → RepH G h H → LRel L ls →
    ∀ T : State, T.heap = H → Stand p l e R s m args below meth c T locs cells slots → ∃ t, Steps p.tables e below ((T.setTop (F0 m pc ls st)).pushFrame (.throwing q)) t ∧ MEnd G s below Q t
section
variable {G : GL} {d pc : Nat} {y : MI} {L st : List Value} {h : AH} {Q : Out → AH → Prop}
/-! casts -/
def CastK (kd : Nat) (nm : String) : Prop := ∃ q : vw_C, clAll[kd]? = some q ∧ (q.1 = nm ∨ Cond.castable q.1 nm ∈ lw_tbl)
theorem r_castN {index : Nat} (hdg : decode y.2.1 pc = .ok (.checkcast index, 3)) (kk : MF G d y (pc + 3) L (.null :: st) h Q) : MF G d y pc L (.null :: st) h Q :=
  fun p l e R s m as below meth c H locs cells slots ls hx hl hr hL => lv_castN hx.1 hx.2.1 hdg (kk p l e R s m as below meth c H locs cells slots ls hx hl hr hL)
theorem r_instN {index : Nat} (hdg : decode y.2.1 pc = .ok (.instanceof index, 3)) (kk : MF G d y (pc + 3) L (.int 0 :: st) h Q) : MF G d y pc L (.null :: st) h Q :=
  fun p l e R s m as below meth c H locs cells slots ls hx hl hr hL => lv_instN hx.1 hx.2.1 hdg (kk p l e R s m as below meth c H locs cells slots ls hx hl hr hL)
theorem cast_at {s : State} {H : Heap} {a kd : Nat} {w : Bool} {fs : List Value} {nm : String} (hK : KS G s) (hr : RepH G h H) (hc : h.1 a = some (kd, w, fs)) (hk : CastK kd nm) :
    ∃ (C : String) (cell : Cell), (C = nm ∨ Cond.castable C nm ∈ lw_tbl) ∧ (∃ cC, ClassAt s C cC) ∧ H[a]? = some cell ∧ cell.vm.isStatics = false ∧ s.vm.findClass C = some cell.cls := by
  obtain ⟨q, hq, hn⟩ := hk
  obtain ⟨-, cell, h1, h2, h3, -⟩ := rep_obj hr hc hq
  have hcl := (hK.2.1 kd q hq).2
  exact ⟨q.1, cell, hn, ⟨_, hcl⟩, h1, by rw [h3]; rfl, by rw [h2]; exact hcl.1⟩
theorem r_cast {index a kd : Nat} {w : Bool} {fs : List Value} {nm : String} (hdg : decode y.2.1 pc = .ok (.checkcast index, 3)) (hc : h.1 a = some (kd, w, fs)) (hk : CastK kd nm) (hw : Cond.classLink y.1.cls index nm ∈ lw_tbl) (kk : MF G d y (pc + 3) L (.ref a :: st) h Q) : MF G d y pc L (.ref a :: st) h Q := by
  intro p l e R s m as below meth c H locs cells slots ls hx hl hr hL
  have hK := hx.2.2.2.2.2.2.2.2.1
  obtain ⟨C, cell, hn, ⟨cC, hat⟩, h1, h2, h3⟩ := cast_at hK hr hc hk
  have kw := kk p l e R s m as below meth c H locs cells slots ls hx hl hr hL
  rcases hn with e9 | e9
  · subst e9
    exact va_castS hx.1 hx.2.1 hx.2.2.2.2.2.2.2.1 (hK.1 _ hw rfl _) hat ⟨cell, h1, h2, h3⟩ hdg kw
  · exact va_castY hx.1 hx.2.1 hx.2.2.2.2.2.2.2.1 (hK.1 _ hw rfl _) (hK.1 _ e9 rfl #[]) ⟨cell, h1, h2, h3⟩ hdg kw
theorem r_inst {index a kd : Nat} {w : Bool} {fs : List Value} {nm : String} (hdg : decode y.2.1 pc = .ok (.instanceof index, 3)) (hc : h.1 a = some (kd, w, fs)) (hk : CastK kd nm) (hw : Cond.classLink y.1.cls index nm ∈ lw_tbl) (kk : MF G d y (pc + 3) L (.int 1 :: st) h Q) : MF G d y pc L (.ref a :: st) h Q := by
  intro p l e R s m as below meth c H locs cells slots ls hx hl hr hL
  have hK := hx.2.2.2.2.2.2.2.2.1
  obtain ⟨C, cell, hn, ⟨cC, hat⟩, h1, h2, h3⟩ := cast_at hK hr hc hk
  have kw := kk p l e R s m as below meth c H locs cells slots ls hx hl hr hL
  rcases hn with e9 | e9
  · subst e9
    exact va_instS hx.1 hx.2.1 hx.2.2.2.2.2.2.2.1 (hK.1 _ hw rfl _) hat ⟨cell, h1, h2, h3⟩ hdg kw
  · exact va_instY hx.1 hx.2.1 hx.2.2.2.2.2.2.2.1 (hK.1 _ hw rfl _) (hK.1 _ e9 rfl #[]) ⟨cell, h1, h2, h3⟩ hdg kw
/-! returns -/
theorem r_ireturn {v : Int32} {ty : FieldType} (hdg : decode y.2.1 pc = .ok (.ireturn, 1)) (hrt : y.2.2.2.1 = some ty) (hn : narrow ty (.int v) = .int v) (hQ : Q (.inl (some (.int v))) h) : MF G d y pc L [.int v] h Q := by
  intro p l e R s m as below meth c H locs cells slots ls hx hl hr hL T hT X
  have hlocks : meth.locks = false := hx.2.2.2.2.1
  have hret9 : meth.sig.returnType = some ty := by rw [hx.2.2.2.1]; exact hrt
  have hb := hx.2.1
  have hexec := hx.1
  obtain ⟨fs, hret, hrun, hended, hW, hframe⟩ := X.leave (v := some (.int v)) (fun h => by rw [hret9] at h; cases h)
  have hmeth' : T.vm.method? m = some meth := X.method'
  refine ⟨T.setFrames fs, ?_, .inl (some (.int v)), h, locs, cells, slots, hrun, hended, hQ, (by show RepH G h T.heap; rw [hT]; exact hr), hW, hframe, hl⟩
  jvm_step X.here [X.here.top, hexec, hb, hdg, hmeth', hret9, hn]
  (try refine ⟨rfl, ?_⟩); (try refine ⟨rfl, ?_⟩)
  first | (intro acts; rw [hret _ acts rfl rfl rfl]) | rw [hret _ _ rfl rfl rfl]
  exact Steps.refl _
theorem r_vreturn (hdg : decode y.2.1 pc = .ok (.return_, 1)) (hrt : y.2.2.2.1 = none) (hQ : Q (.inl none) h) : MF G d y pc L [] h Q := by
  intro p l e R s m as below meth c H locs cells slots ls hx hl hr hL T hT X
  have hlocks : meth.locks = false := hx.2.2.2.2.1
  have hret9 : meth.sig.returnType = none := by rw [hx.2.2.2.1]; exact hrt
  have hb := hx.2.1
  have hexec := hx.1
  obtain ⟨fs, hret, hrun, hended, hW, hframe⟩ := X.leave (v := none) (fun _ => rfl)
  have hmeth' : T.vm.method? m = some meth := X.method'
  refine ⟨T.setFrames fs, ?_, .inl none, h, locs, cells, slots, hrun, hended, hQ, (by show RepH G h T.heap; rw [hT]; exact hr), hW, hframe, hl⟩
  jvm_step X.here [X.here.top, hexec, hb, hdg, hmeth', hret9]
  (try refine ⟨rfl, ?_⟩); (try refine ⟨rfl, ?_⟩)
  first | (intro acts; rw [hret _ acts rfl rfl rfl]) | rw [hret _ _ rfl rfl rfl]
  exact Steps.refl _
theorem r_areturn {v : Value} {rt : FieldType} (hdg : decode y.2.1 pc = .ok (.areturn, 1)) (hrt : y.2.2.2.1 = some rt) (hrt2 : rt.isReference = true) (hv : v.isRef = true) (hQ : Q (.inl (some v)) h) : MF G d y pc L [v] h Q := by
  intro p l e R s m as below meth c H locs cells slots ls hx hl hr hL
  have hret9 : meth.sig.returnType = some rt := by rw [hx.2.2.2.1]; exact hrt
  have hk := W.aret (p := p) (l := l) (e := e) (R := R) (s := s) (m := m) (args := as) (below := below) (meth := meth) (c := c) (H := H) (locs := locs) (cells := cells) (slots := slots) (v := v) (ls := ls) (Qc := fun _ _ o t => o = .returned (some v) ∧ t.heap = H) (free := fun q => G.H0.size ≤ q) hx.1 hx.2.1 hret9
    (by cases rt <;> first | exact Or.inl ⟨_, rfl⟩ | exact Or.inr ⟨_, rfl⟩ | cases hrt2) (by cases v <;> first | exact Or.inl rfl | exact Or.inr ⟨_, rfl⟩ | cases hv) (fun t ht _ => ⟨rfl, ht⟩) hl hdg hx.2.2.2.2.1
  intro T hT X
  obtain ⟨t, a1, o, b1, b2, ⟨rfl, b3⟩, L9, ⟨b4, b5, b6⟩, b7⟩ := hk T hT X
  exact ⟨t, a1, .inl (some v), h, L9, cells, slots, b1, b2, hQ, (by rw [b3]; exact hr), b5, b6, b7⟩
theorem r_dreturn {v : UInt64} (hdg : decode y.2.1 pc = .ok (.dreturn, 1)) (hrt : y.2.2.2.1 = some .double) (hQ : Q (.inl (some (.double v))) h) : MF G d y pc L [.double v] h Q := by
  intro p l e R s m as below meth c H locs cells slots ls hx hl hr hL
  have hret9 : meth.sig.returnType = some .double := by rw [hx.2.2.2.1]; exact hrt
  have hk := W.dret (p := p) (l := l) (e := e) (R := R) (s := s) (m := m) (args := as) (below := below) (meth := meth) (c := c) (H := H) (locs := locs) (cells := cells) (slots := slots) (v := v) (ls := ls) (Qc := fun _ _ o t => o = .returned (some (.double v)) ∧ t.heap = H) (free := fun q => G.H0.size ≤ q) hx.1 hx.2.1 hret9
    (fun t ht _ => ⟨rfl, ht⟩) hl hdg hx.2.2.2.2.1
  intro T hT X
  obtain ⟨t, a1, o, b1, b2, ⟨rfl, b3⟩, L9, ⟨b4, b5, b6⟩, b7⟩ := hk T hT X
  exact ⟨t, a1, .inl (some (.double v)), h, L9, cells, slots, b1, b2, hQ, (by rw [b3]; exact hr), b5, b6, b7⟩
/-! throws -/
theorem r_athrow {q : Nat} (hdg : decode y.2.1 pc = .ok (.athrow, 1)) (k : MT G d y pc L st h q Q) : MF G d y pc L (.ref q :: st) h Q := by
  intro p l e R s m as below meth c H locs cells slots ls hx hl hr hL T hT X
  obtain ⟨t, st9, hq⟩ := k p l e R s m as below meth c H locs cells slots ls hx hl hr hL T hT X
  refine ⟨t, ?_, hq⟩
  have hexec := hx.1
  have hdg' : decode c.code pc = .ok (.athrow, 1) := by rw [hx.2.1]; exact hdg
  jvm_step X.here [X.here.top, hexec, hdg', athrow.wp_sem]
  exact st9
def covT (x : Nat × Nat × Nat × Nat) (pc : Nat) : Bool := decide (x.1 ≤ pc) && decide (pc < x.2.1)
theorem covT_eq (z : ExceptionTableEntry) (pc : Nat) : covers z pc = covT (z.startPc, z.endPc, z.handlerPc, z.catchType) pc := rfl
theorem t_out {q : Nat} (ho : ∀ x ∈ y.2.2.2.2, covT x pc = false) (hQ : Q (.inr q) h) : MT G d y pc L st h q Q := by
  intro p l e R s m as below meth c H locs cells slots ls hx hl hr hL T hT X
  obtain ⟨st1, hrun, hend, hW, hsm⟩ := X.leaveThrown q (g := F0 m pc ls st) rfl rfl rfl (fun x hx9 => by
    rw [covT_eq]
    exact ho _ (by rw [← hx.2.2.2.2.2.1]; exact List.mem_map.mpr ⟨x, hx9, rfl⟩)) hx.2.2.2.2.1
  exact ⟨_, st1, .inr q, h, locs, cells, slots, hrun, hend, hQ, (by show RepH G h T.heap; rw [hT]; exact hr), hW, hsm, hl⟩
end
