/-! a private method, called on an object of any class of ours -/
set_option maxRecDepth 100000
section
variable {G : GL} {d pc : Nat} {y : MI} {L rest : List Value} {h : AH} {Q : Out → AH → Prop}
theorem r_invokevirtualP {index n b kd : Nat} {w : Bool} {fs : List Value} {q : vw_C} {z : MI} {As L0 Lz st : List Value} {Q2 : Out → AH → Prop} (hdg : decode y.2.1 pc = .ok (.invokevirtual index, 3)) (hC : Callee z n) (hw : MLink y.1.cls index z.1) (hi : Cond.instanceMethod z.1 ∈ lw_tbl)
    (hpriv : Cond.privateMethod z.1 ∈ lw_tbl) (hsame : Cond.sameMethod z.1.cls z.1.cls z.1.name z.1.desc ∈ lw_tbl) (hb : h.1 b = some (kd, w, fs)) (hq : clAll[kd]? = some q)
    (hLn : L.length = y.2.2.1) (hst : st = As.reverse ++ .ref b :: rest) (hn : As.length = n) (hrest : rest.length ≤ 20) (hent : Ent (.ref b :: As) L0) (hLz : Lz = L0 ++ List.replicate (z.2.2.1 - L0.length) (.retAddr 0)) (hL0 : L0.length ≤ z.2.2.1)
    (k : MF G d z 0 Lz [] h Q2) (kn : ∀ v h', Q2 (.inl v) h' → MF G (d + 1) y (pc + 3) L (v.toList ++ rest) h' Q) (kx : ∀ q h', Q2 (.inr q) h' → MT G (d + 1) y pc L rest h' q Q) : MF G (d + 1) y pc L st h Q := by
  intro p l e R s m as below meth c H locs cells slots ls hx hl hr hL T hT X
  subst hT
  have hK := hx.2.2.2.2.2.2.2.2.1
  have hown := hx.2.2.2.2.2.2.2.1
  obtain ⟨mk0, methk, ck, hnm, hsm, -, -, -, -, -, hdesc, -⟩ := mx_callee hx X hr hC
  obtain ⟨mk, methM, hnamed, hmethM, hstM, habM⟩ := Cond.instanceMethod_spec (hK.1 _ hi rfl as)
  cases hnm.symm.trans hnamed
  cases hsm.symm.trans hmethM
  obtain ⟨-, cellB, h1, h2, h3, -⟩ := rep_obj hr hb hq
  obtain ⟨hfc, -⟩ := kd_class hK hq
  obtain ⟨cn, kP, r1, hcn, hkP, hkPi, hf9, hn1⟩ := Cond.sameMethod_found (hK.1 _ hsame rfl as)
  have hcls9 : mk0.cls = cn := Option.some.inj ((findClass_of_methodNamed hnm).symm.trans hcn)
  have hpr : methk.isPrivate = true := Cond.privateMethod_at (hK.1 _ hpriv rfl as) mk0 methk hnm hsm
  have hselP : selectMethod e.platform s.vm cellB.cls mk0 = .method mk0 := selectMethod_private hsm hpr
  rw [← hcls9] at hkP
  have hdc : decode c.code (F0 m pc ls st).pc = .ok (.invokevirtual index, 3) := by rw [hx.2.1]; exact hdg
  have hobj : ∀ z9, cellB.vm ≠ .statics z9 := fun z9 e9 => by rw [h3] at e9; cases e9
  have fin : ∀ vm₁, Stand p l e R s m as below meth c (T.setVm vm₁) locs cells slots → ∃ t, Steps p.tables e below (doInvoke e ((T.setVm vm₁).setTop (F0 m pc ls rest)) [] mk0 (Value.ref b :: As).toArray).1 t ∧ MEnd G s below Q t := by
    intro vm₁ X₁
    obtain ⟨mk', methk', ck', b1, b2, b3, b4, b5, b6, b7, b8, -, b10⟩ := mx_callee (T := T.setVm vm₁) hx X₁ hr hC
    cases hnm.symm.trans b1
    exact call_enter (T := T.setVm vm₁) hx X₁ hl hr hL hLn hdg b3 b4 b5 b6 hrest (by rw [b7]; exact hC.2.2.2.2.2) b10 hent (by rw [b7]; exact hLz) (by rw [b7]; exact hL0) k kn kx
  rcases hw with hw | ⟨host, hw⟩
  · obtain ⟨vm₁, X₁, hstep₁⟩ := X.invokevirtual hx.1 hown (hK.1 _ hw rfl as) hnamed hmethM hstM hkP hkPi hC.2.2.2.1 (a := b) (cell := cellB) h1 hobj hselP hmethM habM hkP hkPi (g := F0 m pc ls st) rfl (argsL := As) (rest := rest) (hn.trans (hC.len hdesc)) hst hdc
    obtain ⟨t, st9, he⟩ := fin vm₁ X₁
    exact ⟨t, hstep₁ _ (fun acts => by rw [doInvoke_state]; exact st9), he⟩
  · obtain ⟨vm₁, X₁, hstep₁⟩ := X.invokevirtualNest hx.1 hown (hK.1 _ hw rfl as) hnamed hmethM hstM hkP hkPi hC.2.2.2.1 (a := b) (cell := cellB) h1 hobj hselP hmethM habM hkP hkPi (g := F0 m pc ls st) rfl (argsL := As) (rest := rest) (hn.trans (hC.len hdesc)) hst hdc
    obtain ⟨t, st9, he⟩ := fin vm₁ X₁
    exact ⟨t, hstep₁ _ (fun acts => by rw [doInvoke_state]; exact st9), he⟩

/-- dispatch of a private method -/
def DspP (own : String) (index : Nat) (z : MI) : Prop := MLink own index z.1 ∧ Cond.instanceMethod z.1 ∈ lw_tbl ∧ Cond.privateMethod z.1 ∈ lw_tbl ∧ Cond.sameMethod z.1.cls z.1.cls z.1.name z.1.desc ∈ lw_tbl
theorem r_callP {index n b kd : Nat} {z : MI} {As L0 Lz st : List Value} {Q2 : Out → AH → Prop} (hdg : decode y.2.1 pc = .ok (.invokevirtual index, 3)) (hC : Callee z n) (hd : DspP y.1.cls index z) (hk : kd < 34) (hb : hasK h b kd) (hst : st = As.reverse ++ .ref b :: rest) (hsh : CallSh y z L rest n (.ref b :: As) As L0 Lz)
    (k : MF G d z 0 Lz [] h Q2) (kn : ∀ v h', Q2 (.inl v) h' → MF G (d + 1) y (pc + 3) L (v.toList ++ rest) h' Q) (kx : ∀ q h', Q2 (.inr q) h' → MT G (d + 1) y pc L rest h' q Q) : MF G (d + 1) y pc L st h Q := by
  obtain ⟨w, fs, hb⟩ := hb
  obtain ⟨hw, hi, hp, hs⟩ := hd
  have hq : clAll[kd]? = some (clAll[kd]'(by show kd < 34; exact hk)) := List.getElem?_eq_getElem _
  exact r_invokevirtualP hdg hC hw hi hp hs hb hq hsh.1 hst hsh.2.1 hsh.2.2.1 hsh.2.2.2.1 hsh.2.2.2.2.1 hsh.2.2.2.2.2 k kn kx
/-- words of block lemmas -/
def aC (h : AH) (a0 a1 kd : Nat) (ty : FieldType) (sp dp n : Int32) (K : AH → Prop) : Prop := ∃ (w : Bool) (fs gs : List Value) (h1 : AH), h.1 a0 = some (100 + kd, w, fs) ∧ h.1 a1 = some (100 + kd, true, gs) ∧ ¬ sp < 0 ∧ ¬ dp < 0 ∧ ¬ n < 0 ∧ sp.toNatClampNeg + n.toNatClampNeg ≤ fs.length ∧ dp.toNatClampNeg + n.toNatClampNeg ≤ gs.length ∧
  (∀ i : Nat, i < n.toNatClampNeg → CopyOK h ty (fs.getD (sp.toNatClampNeg + i) .null)) ∧ h1 = h.put a1 (cpyL fs gs sp.toNatClampNeg dp.toNatClampNeg n.toNatClampNeg) ∧ K h1
theorem r_acopyE {index a0 a1 kd : Nat} {ty : FieldType} {sp dp n : Int32} {K : AH → Prop} (hdg : decode y.2.1 pc = .ok (.invokestatic index, 3)) (hw : Cond.methodLink y.1.cls index arraycopyName ∈ lw_tbl) (hnat : Cond.native arraycopyName ∈ lw_tbl) (hs : Cond.static arraycopyName ∈ lw_tbl) (hi : Cond.initialized "java/lang/System" ∈ lw_tbl)
    (ht : arrAll[kd]? = some ty) (hLn : L.length = y.2.2.1) (hst : rest.length ≤ 20) (H : aC h a0 a1 kd ty sp dp n K) (kk : ∀ h1, K h1 → MF G (d + 1) y (pc + 3) L rest h1 Q) : MF G (d + 1) y pc L (.int n :: .int dp :: .ref a1 :: .int sp :: .ref a0 :: rest) h Q := by
  obtain ⟨w, fs, gs, h1, e0, e1, e2, e3, e4, e5, e6, e7, rfl, hK⟩ := H
  exact r_arraycopy hdg hw hnat hs hi e0 e1 ht e2 e3 e4 e5 e6 e7 hLn hst (kk _ hK)
def cB (h : AH) (a : Nat) (K : Nat → AH → Prop) : Prop := ∃ (w : Bool) (fs : List Value) (q : Nat) (h1 : AH), h.1 a = some (101, w, fs) ∧ (∀ v ∈ fs, fits .byte v = true) ∧ fs.length + 4 ≤ h.2.2 ∧ q = h.2.1 ∧ h1 = h.new 101 fs (fs.length + 4) ∧ K q h1
/-- is the object v one of nm? -/
def iO (h : AH) (v : Value) (nm : String) (x : Int32) : Prop := (v = .null ∧ x = 0) ∨ (∃ q : Nat, v = .ref q ∧ isC h q nm ∧ x = 1) ∨ (∃ (q kd : Nat) (w : Bool) (fs : List Value) (C : String) (T : u_T) (N : Nat), v = .ref q ∧ h.1 q = some (kd, w, fs) ∧ clAll[kd]? = some (C, T, N) ∧ (C, nm) ∈ ncAll ∧ x = 0)
theorem r_instE {index : Nat} {v : Value} {nm : String} {x : Int32} (hdg : decode y.2.1 pc = .ok (.instanceof index, 3)) (hi : iO h v nm x) (hw : Cond.classLink y.1.cls index nm ∈ lw_tbl) (kk : MF G d y (pc + 3) L (.int x :: rest) h Q) : MF G d y pc L (v :: rest) h Q := by
  rcases hi with ⟨rfl, rfl⟩ | ⟨q, rfl, ⟨kd, w, fs, hc, hk⟩, rfl⟩ | ⟨q, kd, w, fs, C, T, N, rfl, hc, hq, hn, rfl⟩
  · exact r_instN hdg kk
  · exact r_inst hdg hc hk hw kk
  · exact r_instNo hdg hc hq hn hw kk
/-- an exception is made -/
def nX (G : GL) (h : AH) (k : Nat) (K : Nat → AH → Prop) : Prop := (G.sta 1).isRef = true ∧ (G.sta 2).isRef = true ∧ ∃ (q : Nat) (h1 : AH), q = h.2.1 ∧ h1 = h.new (300 + k) [] 10 ∧ 10 ≤ h.2.2 ∧ K q h1
theorem r_newXE {k ik ic : Nat} {E : String} {K : Nat → AH → Prop} (d0 : decode y.2.1 pc = .ok (.new ik, 3)) (d3 : decode y.2.1 (pc + 3) = .ok (.dup, 1)) (d4 : decode y.2.1 (pc + 4) = .ok (.invokespecial ic, 3)) (hE : xcAll[k]? = some E) (hfit : Bundle.fit E = true) (hx9 : XW y.1.cls ic E)
    (hcl : Cond.classLink y.1.cls ik E ∈ lw_tbl) (hini : Cond.initialized E ∈ lw_tbl) (hst : rest.length ≤ 20) (hlen : L.length = y.2.2.1) (H : nX G h k K) (kk : ∀ q h1, K q h1 → MF G (d + 6) y (pc + 7) L (.ref q :: rest) h1 Q) : MF G (d + 6) y pc L rest h Q := by
  obtain ⟨s1, s2, q, h1, rfl, rfl, hl, hK⟩ := H
  have hsum := sum_cat rest
  exact r_newX d0 d3 d4 hE hfit hx9 hcl hini (by omega) (by omega) hlen s1 s2 hl (kk _ _ hK)
/-- dispatch by the receiver's kind -/
def vL (G : GL) (d : Nat) (h : AH) (b : Nat) (dsp : Nat → Option MI) (L0 : List Value) (Q2 : Out → AH → Prop) : Prop := ∃ (kd : Nat) (z : MI), hasK h b kd ∧ dsp kd = some z ∧ MF G d z 0 (L0 ++ List.replicate (z.2.2.1 - L0.length) (.retAddr 0)) [] h Q2
theorem r_vL {index n b : Nat} {x : MethodName} {dsp : Nat → Option MI} {As L0 st : List Value} {Q2 : Out → AH → Prop} (hdg : decode y.2.1 pc = .ok (.invokevirtual index, 3)) (hd : ∀ kd z, dsp kd = some z → DspV y.1.cls index x kd z ∧ Callee z n ∧ L0.length ≤ z.2.2.1) (hst : st = As.reverse ++ .ref b :: rest) (hLn : L.length = y.2.2.1) (hn : As.length = n) (hr : rest.length ≤ 20) (hent : Ent (.ref b :: As) L0)
    (k : vL G d h b dsp L0 Q2) (kn : ∀ v h', Q2 (.inl v) h' → MF G (d + 1) y (pc + 3) L (v.toList ++ rest) h' Q) (kx : ∀ q h', Q2 (.inr q) h' → MT G (d + 1) y pc L rest h' q Q) : MF G (d + 1) y pc L st h Q := by
  obtain ⟨kd, z, hb, hz, kz⟩ := k
  obtain ⟨h1, h2, h3⟩ := hd kd z hz
  exact r_callV hdg h2 h1 hb hst ⟨hLn, hn, hr, hent, rfl, h3⟩ kz kn kx
theorem r_vF {index count n b : Nat} {x : MethodName} {dsp : Nat → Option MI} {As L0 st : List Value} {Q2 : Out → AH → Prop} (hdg : decode y.2.1 pc = .ok (.invokeinterface index count, 5)) (hd : ∀ kd z, dsp kd = some z → DspF y.1.cls index x kd z ∧ Callee z n ∧ L0.length ≤ z.2.2.1) (hst : st = As.reverse ++ .ref b :: rest) (hLn : L.length = y.2.2.1) (hn : As.length = n) (hr : rest.length ≤ 20) (hent : Ent (.ref b :: As) L0)
    (k : vL G d h b dsp L0 Q2) (kn : ∀ v h', Q2 (.inl v) h' → MF G (d + 1) y (pc + 5) L (v.toList ++ rest) h' Q) (kx : ∀ q h', Q2 (.inr q) h' → MT G (d + 1) y pc L rest h' q Q) : MF G (d + 1) y pc L st h Q := by
  obtain ⟨kd, z, hb, hz, kz⟩ := k
  obtain ⟨h1, h2, h3⟩ := hd kd z hz
  exact r_callF hdg h2 h1 hb hst ⟨hLn, hn, hr, hent, rfl, h3⟩ kz kn kx
end
section
variable {G : GL} {d pc : Nat} {y : MI} {L rest : List Value} {h : AH} {Q : Out → AH → Prop}
/-- the cache of boxed ints is read -/
theorem r_aaloadI {a : Nat} {w : Bool} {fs : List Value} {i : Int32} {v : Value} (hdg : decode y.2.1 pc = .ok (.aaload, 1)) (hc : h.1 a = some (107, w, fs)) (h0 : ¬ i < 0) (hv : fs[i.toNatClampNeg]? = some v) (kk : MF G d y (pc + 1) L (v :: rest) h Q) : MF G d y pc L (.int i :: .ref a :: rest) h Q := by
  intro p l e R s m as below meth c H locs cells slots ls hx hl hr hL
  obtain ⟨cell, h1, h2, h3, h4⟩ := rep_arr hr hc (by omega) (by omega)
  have hK := hx.2.2.2.2.2.2.2.2.1
  obtain ⟨b1, b2⟩ := inB h4 h0 hv
  have harr : s.isArrayOf cell (.object "java/lang/Integer") := by
    obtain ⟨-, kc, h5, comp, h6⟩ := hK.2.2.2.2.2.2.2.2.2 0 (fun _ => .null)
    exact ⟨(fun q e => by rw [h3] at e; cases e), kc, by rw [h2]; exact h5, comp, h6⟩
  exact W.aald hx.1 hx.2.1 h1 harr rfl (fun e9 => by rw [h3] at e9; cases e9) b1 b2 rfl rfl hdg (kk p l e R s m as below meth c H locs cells slots ls hx hl hr hL)
/-- captured values fit their types -/
def FitL : List FieldType → List Value → Prop
  | [], [] => True
  | t :: ts, v :: vs => (fits t v = true ∧ narrow t v = v) ∧ FitL ts vs
  | _, _ => False
theorem fitL_map : ∀ {ts : List FieldType} {vs : List Value}, FitL ts vs → (ts.zip vs).map (fun (t, v) => narrow t v) = vs
  | [], [], _ => rfl
  | t :: ts, v :: vs, h => by
    show narrow t v :: (ts.zip vs).map (fun (t, v) => narrow t v) = v :: vs
    rw [h.1.2, fitL_map h.2]
  | [], _ :: _, h => h.elim
  | _ :: _, [], h => h.elim
theorem fitL_at : ∀ {ts : List FieldType} {vs : List Value}, FitL ts vs → ∀ (i : Nat) (v : Value), vs[i]? = some v → ∃ t, ts[i]? = some t ∧ fits t v = true
  | [], [], _ => fun i v h => by simp at h
  | t :: ts, w :: vs, h => fun i v hv => by
    cases i with
    | zero =>
      have : w = v := by simpa using hv
      subst this
      exact ⟨t, by simp, h.1.1⟩
    | succ i =>
      obtain ⟨t9, h1, h2⟩ := fitL_at h.2 i v (by simpa using hv)
      exact ⟨t9, by simpa using h1, h2⟩
  | [], _ :: _, h => h.elim
  | _ :: _, [], h => h.elim
theorem r_lamE {k index q maxL cost : Nat} {σ : Lambda.Shape} {bytes : ByteArray} {tys : List FieldType} {vals st : List Value} {h1 : AH} (hdg : decode y.2.1 pc = .ok (.invokedynamic index, 5)) (hk : lamAll[k]? = some (y.1, pc, index, σ)) (hok : ShOK σ y.1.cls bytes maxL) (hcap : σ.captured.length = vals.length) (hne : vals ≠ []) (hty : (laidOf σ y.1.cls).2.1.toList = tys)
    (hfl : FitL tys vals) (hst : st = vals.reverse ++ rest) (hLn : L.length = y.2.2.1) (hrest : st.length ≤ 20) (hcost : cost = vals.length + 4)
    (eq : q = h.2.1) (eh : h1 = h.new (200 + k) vals cost) (hleft : cost ≤ h.2.2) (kk : MF G d y (pc + 5) L (.ref q :: rest) h1 Q) : MF G d y pc L st h Q := by
  subst hcost
  exact r_lamM hdg hk hok (fun e => by
    rw [e] at hcap
    cases vals with
    | nil => exact hne rfl
    | cons a t => cases hcap) hty hcap.symm (fitL_map hfl) (fitL_at hfl) hst hLn hrest eq eh hleft kk
end
section
variable {G : GL} {d pc : Nat} {y : MI} {L rest : List Value} {h : AH} {Q : Out → AH → Prop}
/-- super.m() -/
theorem r_super {index n b kd : Nat} {w : Bool} {fs : List Value} {q : vw_C} {z : MI} {As L0 Lz st : List Value} {Q2 : Out → AH → Prop} (hdg : decode y.2.1 pc = .ok (.invokespecial index, 3)) (hC : Callee z n) (hw : Cond.methodLink y.1.cls index z.1 ∈ lw_tbl) (hi : Cond.instanceMethod z.1 ∈ lw_tbl)
    (hb : h.1 b = some (kd, w, fs)) (hq : clAll[kd]? = some q) (hsame : Cond.sameMethod z.1.cls z.1.cls z.1.name z.1.desc ∈ lw_tbl) (hsup : Cond.superclass y.1.cls z.1.cls ∈ lw_tbl) (hno : z.1.name ≠ "<init>")
    (hLn : L.length = y.2.2.1) (hst : st = As.reverse ++ .ref b :: rest) (hn : As.length = n) (hrest : rest.length ≤ 20) (hent : Ent (.ref b :: As) L0) (hLz : Lz = L0 ++ List.replicate (z.2.2.1 - L0.length) (.retAddr 0)) (hL0 : L0.length ≤ z.2.2.1)
    (k : MF G d z 0 Lz [] h Q2) (kn : ∀ v h', Q2 (.inl v) h' → MF G (d + 1) y (pc + 3) L (v.toList ++ rest) h' Q) (kx : ∀ q h', Q2 (.inr q) h' → MT G (d + 1) y pc L rest h' q Q) : MF G (d + 1) y pc L st h Q := by
  intro p l e R s m as below meth c H locs cells slots ls hx hl hr hL T hT X
  subst hT
  have hK := hx.2.2.2.2.2.2.2.2.1
  have hown := hx.2.2.2.2.2.2.2.1
  obtain ⟨mk0, methk, ck, hnm, hsm, -, -, -, -, -, hdesc, -⟩ := mx_callee hx X hr hC
  obtain ⟨mk, methM, hnamed, hmethM, hstM, habM⟩ := Cond.instanceMethod_spec (hK.1 _ hi rfl as)
  cases hnm.symm.trans hnamed
  cases hsm.symm.trans hmethM
  obtain ⟨-, cellB, h1, h2, h3, -⟩ := rep_obj hr hb hq
  obtain ⟨hfc, kB, hkB, -⟩ := kd_class hK hq
  obtain ⟨ps, dk, kp, w1, w2, w3, w4, -, -, w7⟩ := Cond.superclass_spec hown (hK.1 _ hsup rfl as)
  have hcls9 : mk0.cls = ps := Option.some.inj ((findClass_of_methodNamed hnm).symm.trans w1)
  have hdc : decode c.code (F0 m pc ls st).pc = .ok (.invokespecial index, 3) := by rw [hx.2.1]; exact hdg
  have hobj : ∀ z9, cellB.vm ≠ .statics z9 := fun z9 e9 => by rw [h3] at e9; cases e9
  have hsub : s.vm.isSubclass ps mk0.cls = true := by
    rw [hcls9]
    show s.vm.isSubclassAux _ ps ps = true
    unfold Vm.isSubclassAux; simp
  obtain ⟨vm₁, X₁, hstep₁⟩ := X.invokespecialUp hx.1 hown (hK.1 _ hw rfl as) (hK.1 _ hsame rfl as) hnm hsm hstM habM hno w2 w7 w1 w4 hsub (a := b) (cell := cellB) h1 hobj (by rw [h2]; exact hkB) (g := F0 m pc ls st) rfl (argsL := As) (rest := rest) (hn.trans (hC.len hdesc)) hst hdc
  obtain ⟨mk', methk', ck', b1, b2, b3, b4, b5, b6, b7, b8, -, b10⟩ := mx_callee (T := T.setVm vm₁) hx X₁ hr hC
  cases hnm.symm.trans b1
  obtain ⟨t, st9, he⟩ := call_enter (T := T.setVm vm₁) hx X₁ hl hr hL hLn hdg b3 b4 b5 b6 hrest (by rw [b7]; exact hC.2.2.2.2.2) b10 hent (by rw [b7]; exact hLz) (by rw [b7]; exact hL0) k kn kx
  exact ⟨t, hstep₁ _ st9, he⟩

def hasO (h : AH) (a : Nat) : Prop := ∃ kd : Nat, kd < 34 ∧ hasK h a kd
theorem hasO_of {a kd : Nat} {w : Bool} {fs : List Value} (hc : h.1 a = some (kd, w, fs)) (hk : kd < 34) : hasO h a := ⟨kd, hk, w, fs, hc⟩
def DspS (own : String) (index : Nat) (z : MI) : Prop := Cond.methodLink own index z.1 ∈ lw_tbl ∧ Cond.instanceMethod z.1 ∈ lw_tbl ∧ Cond.sameMethod z.1.cls z.1.cls z.1.name z.1.desc ∈ lw_tbl ∧ Cond.superclass own z.1.cls ∈ lw_tbl ∧ z.1.name ≠ "<init>"
theorem r_callSup {index n b kd : Nat} {z : MI} {As L0 Lz st : List Value} {Q2 : Out → AH → Prop} (hdg : decode y.2.1 pc = .ok (.invokespecial index, 3)) (hC : Callee z n) (hd : DspS y.1.cls index z) (hk : kd < 34) (hb : hasK h b kd) (hst : st = As.reverse ++ .ref b :: rest) (hsh : CallSh y z L rest n (.ref b :: As) As L0 Lz)
    (k : MF G d z 0 Lz [] h Q2) (kn : ∀ v h', Q2 (.inl v) h' → MF G (d + 1) y (pc + 3) L (v.toList ++ rest) h' Q) (kx : ∀ q h', Q2 (.inr q) h' → MT G (d + 1) y pc L rest h' q Q) : MF G (d + 1) y pc L st h Q := by
  obtain ⟨w, fs, hb⟩ := hb
  obtain ⟨hw, hi, hs, hsup, hno⟩ := hd
  have hq : clAll[kd]? = some (clAll[kd]'(by show kd < 34; exact hk)) := List.getElem?_eq_getElem _
  exact r_super hdg hC hw hi hb hq hs hsup hno hsh.1 hst hsh.2.1 hsh.2.2.1 hsh.2.2.2.1 hsh.2.2.2.2.1 hsh.2.2.2.2.2 k kn kx
end
def gF (h : AH) (a : Nat) (ks : List Nat) (k : Nat) (K : UInt32 → Prop) : Prop := ∃ (kd : Nat) (w : Bool) (fs : List Value) (x : UInt32), kd ∈ ks ∧ h.1 a = some (kd, w, fs) ∧ fs[k]? = some (.float x) ∧ K x
