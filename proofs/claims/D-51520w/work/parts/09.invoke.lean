/-! ROWS: the invoke instructions -/
set_option maxRecDepth 100000
section
variable {G : GL} {d pc : Nat} {y : MI} {L rest : List Value} {h : AH} {Q : Out → AH → Prop}
theorem mx_callee {p : Program} {l : Launch} {e : Env} {R : Room} {s : State} {m : MethodId} {args : Array Value} {below : List Frame} {meth : Method} {c : Code} {locs : List Loc} {cells slots n : Nat} {T : State} {z : MI}
    (hx : MX G (d + 1) y p l R s m meth c) (X : Stand p l e R s m args below meth c T locs cells slots) (hr : RepH G h T.heap) (hC : Callee z n) :
    ∃ (mk : MethodId) (methk : Method) (ck : Code), s.methodNamed? z.1 = some mk ∧ s.vm.method? mk = some methk ∧ T.vm.method? mk = some methk ∧ methk.code = some ck ∧ methk.locks = false ∧ T.plainMethod mk ∧ ck.maxLocals = z.2.2.1 ∧ parseMethodDescriptor z.1.desc = some methk.sig ∧
      (∃ k : Class, s.vm.classes[mk.cls]? = some k ∧ k.init = .initialized) ∧
      (∀ (R' : Room) (s' : State), s'.vm = T.vm → s'.heap = T.heap → s'.slotsUsed = T.slotsUsed → d ≤ R'.frames → 4000 + 200 * d ≤ R'.locals → G.capC ≤ s'.heap.size + R'.cells → G.capS ≤ s'.slotsUsed + R'.slots → MX G d z p l R' s' mk methk ck) := by
  obtain ⟨-, -, -, -, -, -, -, -, hK, hst, -⟩ := id hx
  have hcode := hK.1 _ hC.1 (cw_ride z) args
  obtain ⟨mk, methM, cM, hn, a1, a2, a3, a4, a5, a6, a7, a8⟩ := cw_spec hcode
  have hTm : T.vm.method? mk = some methM := by rw [X.warmed.alike.method?]; exact a1
  obtain ⟨kP, hkP, -⟩ := className_of_methodNamed hn
  refine ⟨mk, methM, cM, hn, a1, hTm, a2, a6, State.plainMethod.of_named hC.2.1 (X.named hn) hTm, a4, a8, ⟨kP, hkP, Cond.initialized_spec (findClass_of_methodNamed hn) hkP (hK.1 _ hC.2.2.1 rfl args)⟩, fun R' s' v1 v2 v3 f1 f2 c1 c2 => ?_⟩
  have hW : s.WarmedH s'.vm := by rw [v1]; exact X.warmed
  refine ⟨hx.1, a3, a4, a5, a6, a7, (name_of_methodNamed hn a1).1, ?_, hK.moved hW, hst, f1, f2, c1, c2, by rw [v2]; exact hr.2.1, by
    have h9 := State.methodNamed?_setVm (s := s) hW.alike z.1
    rw [hn] at h9
    exact h9⟩
  rw [hW.alike.findClass]; exact findClass_of_methodNamed hn
theorem lenEq {As : List Value} {n k : Nat} (h1 : As.length = n) (h2 : n = k) : As.length = k := h1.trans h2
/-- links of methods: plain, or to a nest mate's private one -/
def MLink (own : String) (index : Nat) (x : MethodName) : Prop := Cond.methodLink own index x ∈ lw_tbl ∨ ∃ host, Cond.methodLinkNest own index x host ∈ lw_tbl
theorem r_invokestatic {index n : Nat} {z : MI} {As L0 Lz st : List Value} {Q2 : Out → AH → Prop} (hdg : decode y.2.1 pc = .ok (.invokestatic index, 3)) (hC : Callee z n) (hw : MLink y.1.cls index z.1) (hs : Cond.static z.1 ∈ lw_tbl)
    (hLn : L.length = y.2.2.1) (hst : st = As.reverse ++ rest) (hn : As.length = n) (hrest : rest.length ≤ 20) (hent : Ent As L0) (hLz : Lz = L0 ++ List.replicate (z.2.2.1 - L0.length) (.retAddr 0)) (hL0 : L0.length ≤ z.2.2.1)
    (k : MF G d z 0 Lz [] h Q2) (kn : ∀ v h', Q2 (.inl v) h' → MF G (d + 1) y (pc + 3) L (v.toList ++ rest) h' Q) (kx : ∀ q h', Q2 (.inr q) h' → MT G (d + 1) y pc L rest h' q Q) : MF G (d + 1) y pc L st h Q := by
  intro p l e R s m as below meth c H locs cells slots ls hx hl hr hL T hT X
  subst hT
  obtain ⟨mk, methk, ck, hnm, hsm, -, -, -, -, -, hdesc, ⟨kP, hkP, hki⟩, -⟩ := mx_callee hx X hr hC
  have hK := hx.2.2.2.2.2.2.2.2.1
  have hown := hx.2.2.2.2.2.2.2.1
  have hstat : methk.isStatic = true := Cond.static_spec hnm hsm (hK.1 _ hs rfl as)
  have hdc : decode c.code (F0 m pc ls st).pc = .ok (.invokestatic index, 3) := by rw [hx.2.1]; exact hdg
  have fin : ∀ vm₁, Stand p l e R s m as below meth c (T.setVm vm₁) locs cells slots → ∃ t, Steps p.tables e below (doInvoke e ((T.setVm vm₁).setTop (F0 m pc ls rest)) [] mk As.toArray).1 t ∧ MEnd G s below Q t := by
    intro vm₁ X₁
    obtain ⟨mk', methk', ck', b1, b2, b3, b4, b5, b6, b7, b8, -, b10⟩ := mx_callee (T := T.setVm vm₁) hx X₁ hr hC
    cases hnm.symm.trans b1
    exact call_enter (T := T.setVm vm₁) hx X₁ hl hr hL hLn hdg b3 b4 b5 b6 hrest (by rw [b7]; exact hC.2.2.2.2.2) b10 hent (by rw [b7]; exact hLz) (by rw [b7]; exact hL0) k kn kx
  rcases hw with hw | ⟨host, hw⟩
  · obtain ⟨vm₁, X₁, hstep₁⟩ := X.invokestatic hx.1 hown (hK.1 _ hw rfl as) hnm hsm hstat hkP hki hC.2.2.2.1 (g := F0 m pc ls st) rfl (argsL := As) (rest := rest) (hn.trans (hC.len hdesc)) hst hdc
    obtain ⟨t, st9, he⟩ := fin vm₁ X₁
    exact ⟨t, hstep₁ _ (fun acts => by rw [doInvoke_state]; exact st9), he⟩
  · obtain ⟨vm₁, X₁, hstep₁⟩ := X.invokestaticNest hx.1 hown (hK.1 _ hw rfl as) hnm hsm hstat hkP hki hC.2.2.2.1 (g := F0 m pc ls st) rfl (argsL := As) (rest := rest) (hn.trans (hC.len hdesc)) hst hdc
    obtain ⟨t, st9, he⟩ := fin vm₁ X₁
    exact ⟨t, hstep₁ _ (fun acts => by rw [doInvoke_state]; exact st9), he⟩
/-- virtual: the method that the link names is the one that runs -/
theorem r_invokevirtual {index n b kd : Nat} {w : Bool} {fs : List Value} {q : vw_C} {z : MI} {As L0 Lz st : List Value} {Q2 : Out → AH → Prop} (hdg : decode y.2.1 pc = .ok (.invokevirtual index, 3)) (hC : Callee z n) (hw : MLink y.1.cls index z.1) (hi : Cond.instanceMethod z.1 ∈ lw_tbl)
    (hb : h.1 b = some (kd, w, fs)) (hq : clAll[kd]? = some q) (hsel : Cond.selects q.1 z.1 z.1 ∈ lw_tbl)
    (hLn : L.length = y.2.2.1) (hst : st = As.reverse ++ .ref b :: rest) (hn : As.length = n) (hrest : rest.length ≤ 20) (hent : Ent (.ref b :: As) L0) (hLz : Lz = L0 ++ List.replicate (z.2.2.1 - L0.length) (.retAddr 0)) (hL0 : L0.length ≤ z.2.2.1)
    (k : MF G d z 0 Lz [] h Q2) (kn : ∀ v h', Q2 (.inl v) h' → MF G (d + 1) y (pc + 3) L (v.toList ++ rest) h' Q) (kx : ∀ q h', Q2 (.inr q) h' → MT G (d + 1) y pc L rest h' q Q) : MF G (d + 1) y pc L st h Q := by
  intro p l e R s m as below meth c H locs cells slots ls hx hl hr hL T hT X
  subst hT
  have hK := hx.2.2.2.2.2.2.2.2.1
  have hown := hx.2.2.2.2.2.2.2.1
  obtain ⟨mk0, methk, ck, hnm, hsm, -, -, -, -, -, hdesc, -⟩ := mx_callee hx X hr hC
  obtain ⟨mk, methM, hnamed, hmethM, hstM, habM⟩ := Cond.instanceMethod_spec (hK.1 _ hi rfl as)
  cases hnm.symm.trans hnamed
  cases hsm.symm.trans hmethM
  obtain ⟨-, cellB, h1, h2, h3, -⟩ := rep_obj hr hb hq
  obtain ⟨hfc, -⟩ := kd_class hK hq
  obtain ⟨c2, r2, m2, q1, q2, q3, q4, kP, hkP, hkPi⟩ := Cond.selects_spec (hK.1 _ hsel rfl as)
  cases hfc.symm.trans q1
  cases (State.methodFound?_of_named hnamed hC.2.2.2.1).symm.trans q2
  cases hnamed.symm.trans q3
  have hselP : selectMethod e.platform s.vm cellB.cls mk0 = .method mk0 := by rw [Launch.admits_selectMethod X.admits, h2]; exact q4
  have hdc : decode c.code (F0 m pc ls st).pc = .ok (.invokevirtual index, 3) := by rw [hx.2.1]; exact hdg
  have hobj : ∀ z9, cellB.vm ≠ .statics z9 := fun z9 e9 => by rw [h3] at e9; cases e9
  have fin : ∀ vm₁, Stand p l e R s m as below meth c (T.setVm vm₁) locs cells slots → ∃ t, Steps p.tables e below (doInvoke e ((T.setVm vm₁).setTop (F0 m pc ls rest)) [] mk0 (Value.ref b :: As).toArray).1 t ∧ MEnd G s below Q t := by
    intro vm₁ X₁
    obtain ⟨mk', methk', ck', b1, b2, b3, b4, b5, b6, b7, b8, -, b10⟩ := mx_callee (T := T.setVm vm₁) hx X₁ hr hC
    cases hnm.symm.trans b1
    exact call_enter (T := T.setVm vm₁) hx X₁ hl hr hL hLn hdg b3 b4 b5 b6 hrest (by rw [b7]; exact hC.2.2.2.2.2) b10 hent (by rw [b7]; exact hLz) (by rw [b7]; exact hL0) k kn kx
  rcases hw with hw | ⟨host, hw⟩
  · obtain ⟨vm₁, X₁, hstep₁⟩ := X.invokevirtual hx.1 hown (hK.1 _ hw rfl as) hnamed hmethM hstM hkP hkPi hC.2.2.2.1 (a := b) (cell := cellB) h1 hobj hselP hmethM habM hkP hkPi (g := F0 m pc ls st) rfl (argsL := As) (rest := rest) (hn.trans (hC.len hdesc)) hst hdc
    obtain ⟨t, st9, he⟩ := fin vm₁ X₁
    exact ⟨t, hstep₁ _ (fun acts => by rw [doInvoke_state]; exact st9), he⟩
  · obtain ⟨vm₁, X₁, hstep₁⟩ := X.invokevirtualNest hx.1 hown (hK.1 _ hw rfl as) hnamed hmethM hstM hkP hkPi hC.2.2.2.1 (a := b) (cell := cellB) h1 hobj hselP hmethM habM hkP hkPi (g := F0 m pc ls st) rfl (argsL := As) (rest := rest) (hn.trans (hC.len hdesc)) hst hdc
    obtain ⟨t, st9, he⟩ := fin vm₁ X₁
    exact ⟨t, hstep₁ _ (fun acts => by rw [doInvoke_state]; exact st9), he⟩
/-- virtual: the link names x, owner declares it, the receiver's class selects z -/
theorem r_invokevirtualU {index n b kd : Nat} {w : Bool} {fs : List Value} {q : vw_C} {z : MI} {x : MethodName} {owner : String} {As L0 Lz st : List Value} {Q2 : Out → AH → Prop} (hdg : decode y.2.1 pc = .ok (.invokevirtual index, 3)) (hC : Callee z n) (hw : Cond.methodLink y.1.cls index x ∈ lw_tbl) (hsame : Cond.sameMethod x.cls owner x.name x.desc ∈ lw_tbl)
    (hdecl : Cond.declares ⟨owner, x.name, x.desc⟩ ∈ lw_tbl ∨ ∃ (b0 : ByteArray) (m0 : Nat) (ret0 : Option FieldType), Cond.instanceMethod ⟨owner, x.name, x.desc⟩ ∈ lw_tbl ∧ Cond.code ⟨owner, x.name, x.desc⟩ b0 m0 ret0 ∈ lw_tbl) (how : owner ≠ "java/lang/invoke/MethodHandle" ∧ owner ≠ "java/lang/invoke/VarHandle") (hxd : x.desc = z.1.desc) (hi : Cond.instanceMethod z.1 ∈ lw_tbl)
    (hb : h.1 b = some (kd, w, fs)) (hq : clAll[kd]? = some q) (hsel : Cond.selects q.1 x z.1 ∈ lw_tbl)
    (hLn : L.length = y.2.2.1) (hst : st = As.reverse ++ .ref b :: rest) (hn : As.length = n) (hrest : rest.length ≤ 20) (hent : Ent (.ref b :: As) L0) (hLz : Lz = L0 ++ List.replicate (z.2.2.1 - L0.length) (.retAddr 0)) (hL0 : L0.length ≤ z.2.2.1)
    (k : MF G d z 0 Lz [] h Q2) (kn : ∀ v h', Q2 (.inl v) h' → MF G (d + 1) y (pc + 3) L (v.toList ++ rest) h' Q) (kx : ∀ q h', Q2 (.inr q) h' → MT G (d + 1) y pc L rest h' q Q) : MF G (d + 1) y pc L st h Q := by
  intro p l e R s m as below meth c H locs cells slots ls hx hl hr hL T hT X
  subst hT
  have hK := hx.2.2.2.2.2.2.2.2.1
  have hown := hx.2.2.2.2.2.2.2.1
  obtain ⟨mk0, methk, ck, hnm, hsm, -, -, -, -, -, hdesc, -⟩ := mx_callee hx X hr hC
  have hd0 : va_Decl s ⟨owner, x.name, x.desc⟩ := by
    rcases hdecl with hd | ⟨b0, m0, ret0, hd, hd2⟩
    · exact Cond.declares_spec (hK.1 _ hd rfl as)
    · exact va_Decl.of (hK.1 _ hd rfl as) (hK.1 _ hd2 rfl as)
  obtain ⟨r0, r, hnr, hrm, hstR, hsigR⟩ := hd0
  obtain ⟨cn, ck', r1, hcn, hck, hni, hf, hn1⟩ := Cond.sameMethod_found (hK.1 _ hsame rfl as)
  cases hnr.symm.trans hn1
  obtain ⟨mk, methM, hnamed, hmethM, -, habM⟩ := Cond.instanceMethod_spec (hK.1 _ hi rfl as)
  cases hnm.symm.trans hnamed
  obtain ⟨-, cellB, h1, h2, h3, -⟩ := rep_obj hr hb hq
  obtain ⟨hfc, -⟩ := kd_class hK hq
  obtain ⟨c2, r2, m2, q1, q2, q3, q4, kP, hkP, hkPi⟩ := Cond.selects_spec (hK.1 _ hsel rfl as)
  cases hfc.symm.trans q1
  cases hf.symm.trans q2
  cases hnamed.symm.trans q3
  have hselP : selectMethod e.platform s.vm cellB.cls r0 = .method mk0 := by rw [Launch.admits_selectMethod X.admits, h2]; exact q4
  have hdc : decode c.code (F0 m pc ls st).pc = .ok (.invokevirtual index, 3) := by rw [hx.2.1]; exact hdg
  have hobj : ∀ z9, cellB.vm ≠ .statics z9 := fun z9 e9 => by rw [h3] at e9; cases e9
  obtain ⟨vm₁, X₁, hstep₁⟩ := X.invokevirtualUp hx.1 hown (hK.1 _ hw rfl as) (hK.1 _ hsame rfl as) how hnr hrm hstR (a := b) (cell := cellB) h1 hobj hselP hmethM habM hkP hkPi (g := F0 m pc ls st) rfl (argsL := As) (rest := rest) (hn.trans (hC.len (by rw [← hxd]; exact hsigR))) hst hdc
  obtain ⟨mk', methk', ck'', b1, b2, b3, b4, b5, b6, b7, b8, -, b10⟩ := mx_callee (T := T.setVm vm₁) hx X₁ hr hC
  cases hnm.symm.trans b1
  obtain ⟨t, st9, he⟩ := call_enter (T := T.setVm vm₁) hx X₁ hl hr hL hLn hdg b3 b4 b5 b6 hrest (by rw [b7]; exact hC.2.2.2.2.2) b10 hent (by rw [b7]; exact hLz) (by rw [b7]; exact hL0) k kn kx
  exact ⟨t, hstep₁ _ (fun acts => by rw [doInvoke_state]; exact st9), he⟩
/-- interface -/
theorem r_invokeinterface {index count n b kd : Nat} {w : Bool} {fs : List Value} {q : vw_C} {z : MI} {x : MethodName} {As L0 Lz st : List Value} {Q2 : Out → AH → Prop} (hdg : decode y.2.1 pc = .ok (.invokeinterface index count, 5)) (hC : Callee z n) (hw : Cond.methodLink y.1.cls index x ∈ lw_tbl)
    (hd : Cond.declares x ∈ lw_tbl) (hf : Cond.interfaceMethod x.cls x.cls x.name x.desc ∈ lw_tbl) (hfr : rideW (Cond.interfaceMethod x.cls x.cls x.name x.desc) = true) (hxx : x.cls ≠ "java/lang/invoke/MethodHandle" ∧ x.cls ≠ "java/lang/invoke/VarHandle") (hxd : x.desc = z.1.desc) (hi : Cond.instanceMethod z.1 ∈ lw_tbl) (hpub : Cond.publicMethod z.1 ∈ lw_tbl)
    (hb : h.1 b = some (kd, w, fs)) (hq : clAll[kd]? = some q) (hsel : Cond.selects q.1 x z.1 ∈ lw_tbl) (hunh : Cond.unhidden q.1 x.name x.desc ∈ lw_tbl) (hcast : Cond.castable q.1 x.cls ∈ lw_tbl)
    (hLn : L.length = y.2.2.1) (hst : st = As.reverse ++ .ref b :: rest) (hn : As.length = n) (hrest : rest.length ≤ 20) (hent : Ent (.ref b :: As) L0) (hLz : Lz = L0 ++ List.replicate (z.2.2.1 - L0.length) (.retAddr 0)) (hL0 : L0.length ≤ z.2.2.1)
    (k : MF G d z 0 Lz [] h Q2) (kn : ∀ v h', Q2 (.inl v) h' → MF G (d + 1) y (pc + 5) L (v.toList ++ rest) h' Q) (kx : ∀ q h', Q2 (.inr q) h' → MT G (d + 1) y pc L rest h' q Q) : MF G (d + 1) y pc L st h Q := by
  intro p l e R s m as below meth c H locs cells slots ls hx hl hr hL T hT X
  subst hT
  have hK := hx.2.2.2.2.2.2.2.2.1
  have hown := hx.2.2.2.2.2.2.2.1
  obtain ⟨mk0, methk, ck, hnm, hsm, -, -, -, -, -, hdesc, -⟩ := mx_callee hx X hr hC
  obtain ⟨r0, r, hnr, hrm, hstR, hsigR⟩ := Cond.declares_spec (hK.1 _ hd rfl as)
  obtain ⟨cL, kL, r1, hcL, hkL, hiL, hfoundL, hn1⟩ := Cond.interfaceMethod_spec (hK.1 _ hf hfr as)
  cases hnr.symm.trans hn1
  have hr0cls : r0.cls = cL := Option.some.inj ((findClass_of_methodNamed hnr).symm.trans hcL)
  obtain ⟨hnameR, hdescR⟩ := name_of_methodNamed hnr hrm
  obtain ⟨mk, methM, hnamed, hmethM, -, habM⟩ := Cond.instanceMethod_spec (hK.1 _ hi rfl as)
  cases hnm.symm.trans hnamed
  obtain ⟨-, cellB, h1, h2, h3, -⟩ := rep_obj hr hb hq
  obtain ⟨hfc, kB, hkB, -⟩ := kd_class hK hq
  obtain ⟨c2, r2, m2, q1, q2, q3, q4, -⟩ := Cond.selects_spec (hK.1 _ hsel rfl as)
  cases hfc.symm.trans q1
  cases hfoundL.symm.trans q2
  cases hnamed.symm.trans q3
  have hselP : selectMethod e.platform s.vm cellB.cls r0 = .method mk0 := by rw [Launch.admits_selectMethod X.admits, h2]; exact q4
  have hpubM : hasFlag methM.accessFlags Acc.public_ = true := Cond.publicMethod_spec hnamed hmethM (hK.1 _ hpub rfl as)
  have hway : ((cellB.cls :: s.vm.superclasses cellB.cls).any fun k => (declaredIn s.vm r.name r.desc k).any fun (_, z) => z.isPrivate || z.isStatic) = false := by
    rw [hnameR, hdescR, h2]; exact Cond.unhidden_spec hfc (hK.1 _ hunh rfl as)
  obtain ⟨c3, t3, w1, w2, w3⟩ := Cond.castable_spec (hK.1 _ hcast rfl as)
  cases hfc.symm.trans w1
  cases hcL.symm.trans w2
  have hdc : decode c.code (F0 m pc ls st).pc = .ok (.invokeinterface index count, 5) := by rw [hx.2.1]; exact hdg
  have hobj : ∀ z9, cellB.vm ≠ .statics z9 := fun z9 e9 => by rw [h3] at e9; cases e9
  obtain ⟨vm₁, X₁, hstep₁⟩ := X.invokeinterface hx.1 hown (hK.1 _ hw rfl as) hnr hrm hstR (by rw [hr0cls]; exact hkL) hiL hxx (a := b) (cell := cellB) (kcell := kB) h1 hobj (by rw [h2]; exact hkB) (by rw [hr0cls, h2]; exact w3) hselP hmethM hway hpubM habM (g := F0 m pc ls st) rfl (argsL := As) (rest := rest) (hn.trans (hC.len (by rw [← hxd]; exact hsigR))) hst hdc
  obtain ⟨mk', methk', ck'', b1, b2, b3, b4, b5, b6, b7, b8, -, b10⟩ := mx_callee (T := T.setVm vm₁) hx X₁ hr hC
  cases hnm.symm.trans b1
  obtain ⟨t, st9, he⟩ := call_enter (T := T.setVm vm₁) hx X₁ hl hr hL hLn hdg b3 b4 b5 b6 hrest (by rw [b7]; exact hC.2.2.2.2.2) b10 hent (by rw [b7]; exact hLz) (by rw [b7]; exact hL0) k kn kx
  exact ⟨t, hstep₁ _ (fun acts => by rw [doInvoke_state]; exact st9), he⟩
/-- a constructor -/
theorem r_invokeinit {index n a : Nat} {z : MI} {As L0 Lz st : List Value} {Q2 : Out → AH → Prop} (hdg : decode y.2.1 pc = .ok (.invokespecial index, 3)) (hC : Callee z n) (hw : MLink y.1.cls index z.1) (hi : Cond.instanceMethod z.1 ∈ lw_tbl) (hname : z.1.name = "<init>") (hhh : z.2.2.2.2 = []) (hret : z.2.2.2.1 = none)
    (hLn : L.length = y.2.2.1) (hst : st = As.reverse ++ .ref a :: rest) (hn : As.length = n) (hrest : rest.length ≤ 20) (hent : Ent (.ref a :: As) L0) (hLz : Lz = L0 ++ List.replicate (z.2.2.1 - L0.length) (.retAddr 0)) (hL0 : L0.length ≤ z.2.2.1)
    (k : MF G d z 0 Lz [] h Q2) (kn : ∀ v h', Q2 (.inl v) h' → MF G (d + 1) y (pc + 3) L (v.toList ++ rest) h' Q) (kx : ∀ q h', Q2 (.inr q) h' → MT G (d + 1) y pc L rest h' q Q) : MF G (d + 1) y pc L st h Q := by
  intro p l e R s m as below meth c H locs cells slots ls hx hl hr hL T hT X
  subst hT
  have hK := hx.2.2.2.2.2.2.2.2.1
  have hown := hx.2.2.2.2.2.2.2.1
  have hpl : e.platform.magicAccessors = ({} : Platform).magicAccessors := by rw [X.admits.platform]
  have hcode : (Cond.code z.1 z.2.1 z.2.2.1 none).before as s = true := by
    have h9 := hK.1 _ hC.1 (cw_ride z) as
    obtain ⟨nm, cc, ml, rt, hh⟩ := z
    cases hhh
    cases hret
    exact h9
  have hdc : decode c.code (F0 m pc ls st).pc = .ok (.invokespecial index, 3) := by rw [hx.2.1]; exact hdg
  have fin : ∀ vm₁ mk, s.methodNamed? z.1 = some mk → Stand p l e R s m as below meth c (T.setVm vm₁) locs cells slots → ∃ t, Steps p.tables e below (doInvoke e ((T.setVm vm₁).setTop (F0 m pc ls rest)) [] mk (Value.ref a :: As).toArray).1 t ∧ MEnd G s below Q t := by
    intro vm₁ mk hnm X₁
    obtain ⟨mk', methk', ck', b1, b2, b3, b4, b5, b6, b7, b8, -, b10⟩ := mx_callee (T := T.setVm vm₁) hx X₁ hr hC
    cases hnm.symm.trans b1
    exact call_enter (T := T.setVm vm₁) hx X₁ hl hr hL hLn hdg b3 b4 b5 b6 hrest (by rw [b7]; exact hC.2.2.2.2.2) b10 hent (by rw [b7]; exact hLz) (by rw [b7]; exact hL0) k kn kx
  rcases hw with hw | ⟨host, hw⟩
  · obtain ⟨mk, methM, cM, kP, vm₁, hnamed, hmethM, hcodeM, -, hlocalsM, -, hkP, -, hW₁, hstep₁⟩ := Steps.initColdArgs (e := e) X.here hx.1 X.warmed hpl hown hname hC.2.2.2.1 (hK.1 _ hw rfl as) (hK.1 _ hi rfl as) hcode (f := F0 m pc ls st) rfl (fun sig hs => hn.trans (hC.len hs)) hst hdc
    obtain ⟨t, st9, he⟩ := fin vm₁ mk hnamed (X.noted hW₁)
    exact ⟨t, hstep₁ _ (fun acts => by rw [doInvoke_state]; exact st9), he⟩
  · obtain ⟨mk, methM, cM, kP, vm₁, hnamed, hmethM, hcodeM, -, hlocalsM, -, hkP, -, hW₁, hstep₁⟩ := Steps.initColdArgsNest (e := e) X.here hx.1 X.warmed hpl hown hname hC.2.2.2.1 (hK.1 _ hw rfl as) (hK.1 _ hi rfl as) hcode (f := F0 m pc ls st) rfl (fun sig hs => hn.trans (hC.len hs)) hst hdc
    obtain ⟨t, st9, he⟩ := fin vm₁ mk hnamed (X.noted hW₁)
    exact ⟨t, hstep₁ _ (fun acts => by rw [doInvoke_state]; exact st9), he⟩
/-- Object's constructor -/
theorem r_objinit {index a : Nat} (hdg : decode y.2.1 pc = .ok (.invokespecial index, 3)) (hw : Cond.methodLink y.1.cls index Lib.objectInit ∈ lw_tbl) (hi : Cond.instanceMethod Lib.objectInit ∈ lw_tbl) (hcd : Cond.code Lib.objectInit ⟨#[0xb1]⟩ 1 none ∈ lw_tbl) (hLn : L.length = y.2.2.1) (hrest : rest.length ≤ 20)
    (kk : MF G (d + 1) y (pc + 3) L rest h Q) : MF G (d + 1) y pc L (.ref a :: rest) h Q := by
  intro p l e R s m as below meth c H locs cells slots ls hx hl hr hL
  have hK := hx.2.2.2.2.2.2.2.2.1
  obtain ⟨-, -, -, -, -, -, -, -, -, -, f1, f2, -⟩ := id hx
  have hsum := sum_cat rest
  exact W.objInit hx.1 hx.2.1 hx.2.2.2.2.2.2.2.1 (hK.1 _ hw rfl as) (hK.1 _ hi rfl as) (hK.1 _ hcd rfl as) rfl (by show ls.size = _; rw [hL.1, hLn, hx.2.2.1]) rfl hdg (by omega) (by show 2 * 0 + (rest.map fun v => v.category).sum + 12 ≤ R.locals; omega) (kk p l e R s m as below meth c H locs cells slots ls hx hl hr hL)
end
