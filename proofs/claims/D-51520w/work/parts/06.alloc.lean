/-! ROWS: new cells, lengths, references in arrays, statics, texts, casts, returns -/
set_option maxRecDepth 100000
theorem book_sum {s : State} (h : s.slotsTrue = true) : s.slotsUsed = slotSum s.heap := by
  simpa [State.slotsTrue, slotSum] using h
theorem W.tight {p : Program} {l : Launch} {e : Env} {R : Room} {s : State} {m : MethodId} {args : Array Value} {below : List Frame} {meth : Method} {c : Code} {H : Heap} {locs : List Loc} {cells slots : Nat} {Q : State → Prop} {g : JFrame}
    (k : s.heap.size ≤ H.size → s.slotsUsed ≤ slotSum H → W p l e R s m args below meth c H locs (H.size - s.heap.size) (slotSum H - s.slotsUsed) Q g) : W p l e R s m args below meth c H locs cells slots Q g := by
  intro T hT X
  obtain ⟨s1, s2, s3, s4, s5, s6⟩ := X.same
  have hb := book_sum X.book
  have hu : (T.setVm s.vm).slotsUsed = T.slotsUsed := rfl
  have hh : (T.setVm s.vm).heap = T.heap := rfl
  have s2' : s.heap.size ≤ T.heap.size := s2
  rw [hu, hb, hT] at s4
  refine k (by rw [← hT]; exact s2') (by omega) T hT { X with same := ⟨s1, s2, ?_, ?_, ?_, s6⟩ }
  · show T.heap.size ≤ _
    rw [hT]; rw [hT] at s2'; omega
  · rw [hu, hb, hT]; exact s4
  · omega
section
variable {G : GL} {d pc : Nat} {y : MI} {L st : List Value} {h : AH} {Q : Out → AH → Prop}
theorem r_new {kd index : Nat} {C : String} {T : u_T} {N : Nat} {ty : Nat → FieldType} {fs : List Value} (hdg : decode y.2.1 pc = .ok (.new index, 3)) (hq : clAll[kd]? = some (C, T, N)) (hy : kYAll[kd]? = some ty) (hcl : Cond.classLink y.1.cls index C ∈ lw_tbl) (hins : Cond.instantiable C N ∈ lw_tbl) (hini : Cond.initialized C ∈ lw_tbl)
    (hfs : fs = (List.range N).map (fun k => defaultValue (ty k))) (hleft : N + 4 ≤ h.2.2) (kk : MF G d y (pc + 3) L (.ref h.2.1 :: st) (h.new kd fs (N + 4)) Q) : MF G d y pc L st h Q := by
  intro p l e R s m as below meth c H locs cells slots ls hx hl hr hL
  refine W.tight fun hz hu => ?_
  have hK := hx.2.2.2.2.2.2.2.2.1
  have hKn := hK.2.1 kd _ hq
  obtain ⟨-, -, -, -, -, -, -, -, -, -, -, -, c1, c2, -⟩ := id hx
  obtain ⟨r1, r2, r3, r4, r5, r6⟩ := id hr
  refine W.newc hx.1 hx.2.1 hx.2.2.2.2.2.2.2.1 (hK.1 _ hcl rfl _) (hK.1 _ hins rfl _) (hK.1 _ hini rfl _) rfl hdg (by omega) (by omega) fun cC kC f1 f2 f3 f4 => ?_
  have hcc : cC = G.cC kd := Option.some.inj (f1.symm.trans hKn.2.1)
  subst hcc
  obtain ⟨ty', hy', hty, -⟩ := clAll_ok kd _ hq
  cases hy.symm.trans hy'
  have hborn := u_born (args := as) (H := H.push (blank (G.cC kd) kC)) (o := H.size) ty (K_lays hK hq as) (fun w h => h) hKn f2 (by simp) hty
  have hsz : (kC.instanceTypes.map defaultValue).size = N := by simp [f4]
  have hrep : RepH G (h.new kd fs (N + 4)) (H.push { cls := G.cC kd, slots := kC.instanceTypes.map defaultValue, vm := .none }) := by
    refine rep_new hr ?_ (by simp only [hsz]; exact Nat.le_refl _) hleft
    obtain ⟨cell, g1, g2, g3, g4⟩ := hborn
    refine ⟨cell, g1, g2, g3, fun _ => ⟨_, hq, by rw [hfs]; simp, fun k v hv => ?_⟩, fun h100 => absurd (clAll_lt hq) (by simpa using h100)⟩
    rw [hfs] at hv
    have hk : k < N := by simpa using (List.getElem?_eq_some_iff.mp hv).1
    have e9 := g4 k hk
    rw [e9]
    simpa [hk] using hv
  rw [← r1]
  exact kk p l e R s m as below meth c _ _ _ _ ls hx hl hrep hL
theorem nneg {n : Int32} (h : ¬ n < 0) : n.toInt = (n.toNatClampNeg : Int) := by
  have hz0 : (0 : Int) ≤ n.toInt := by simpa using Int32.le_iff_toInt_le.mp (Int32.not_lt.mp h)
  show n.toInt = ((n.toInt.toNat : Nat) : Int)
  omega
theorem r_newarray {k : Nat} {ty : FieldType} {atype : ArrayType} {n : Int32} (hdg : decode y.2.1 pc = .ok (.newarray atype, 2)) (ht : arrAll[k]? = some ty) (hty : newarray.typeOf atype = ty) (hw : Cond.arrayClass ty ∈ lw_tbl) (hn : ¬ n < 0) (hb : n.toNatClampNeg ≤ 60000000) (hleft : n.toNatClampNeg + 4 ≤ h.2.2)
    (kk : MF G d y (pc + 2) L (.ref h.2.1 :: st) (h.new (100 + k) (List.replicate n.toNatClampNeg (defaultValue ty)) (n.toNatClampNeg + 4)) Q) : MF G d y pc L (.int n :: st) h Q := by
  subst hty
  intro p l e R s m as below meth c H locs cells slots ls hx hl hr hL
  refine W.tight fun hz hu => ?_
  have hK := hx.2.2.2.2.2.2.2.2.1
  obtain ⟨-, -, -, -, -, -, -, -, -, -, -, -, c1, c2, -⟩ := id hx
  obtain ⟨r1, r2, r3, r4, r5, r6⟩ := id hr
  have hbytes : n.toNatClampNeg * componentBytes (newarray.typeOf atype) ≤ 536870912 := by
    have : componentBytes (newarray.typeOf atype) ≤ 8 := by cases atype <;> decide
    calc _ ≤ n.toNatClampNeg * 8 := Nat.mul_le_mul_left _ this
      _ ≤ 536870912 := by omega
  refine W.newa hx.1 hx.2.1 (hK.1 _ hw rfl _) rfl hdg rfl hn hbytes (by omega) (by omega) fun cA kA comp f1 f2 f3 => ?_
  have hRA := (hK.2.2.1 k _ ht).2
  have hcA : cA = G.cC (100 + k) := by
    cases atype <;> exact Option.some.inj (f1.symm.trans hRA)
  subst hcA
  have hrep : RepH G (h.new (100 + k) (List.replicate n.toNatClampNeg (defaultValue (newarray.typeOf atype))) (n.toNatClampNeg + 4)) (H.push { cls := G.cC (100 + k), slots := Array.replicate n.toNatClampNeg (defaultValue (newarray.typeOf atype)), vm := .none }) := by
    refine rep_new hr ?_ (by simp) hleft
    exact ⟨_, Array.getElem?_push_size, rfl, rfl, fun h100 => absurd h100 (by simp), fun _ _ => by simp⟩
  rw [← r1]
  exact kk p l e R s m as below meth c _ _ _ _ ls hx hl hrep hL
theorem r_anewarray {k index : Nat} {C : String} {n : Int32} (hdg : decode y.2.1 pc = .ok (.anewarray index, 3)) (ht : arrAll[k]? = some (.object C)) (hcl : Cond.classLink y.1.cls index C ∈ lw_tbl) (hw : Cond.arrayOver (.object C) ∈ lw_tbl) (hn : ¬ n < 0) (hb : n.toNatClampNeg ≤ 60000000) (hleft : n.toNatClampNeg + 4 ≤ h.2.2)
    (kk : MF G d y (pc + 3) L (.ref h.2.1 :: st) (h.new (100 + k) (List.replicate n.toNatClampNeg .null) (n.toNatClampNeg + 4)) Q) : MF G d y pc L (.int n :: st) h Q := by
  intro p l e R s m as below meth c H locs cells slots ls hx hl hr hL
  refine W.tight fun hz hu => ?_
  have hK := hx.2.2.2.2.2.2.2.2.1
  obtain ⟨-, -, -, -, -, -, -, -, -, -, -, -, c1, c2, -⟩ := id hx
  obtain ⟨r1, r2, r3, r4, r5, r6⟩ := id hr
  refine W.anew hx.1 hx.2.1 hx.2.2.2.2.2.2.2.1 (hK.1 _ hcl rfl _) (hK.1 _ hw rfl _) rfl hdg rfl hn (by omega) (by omega) (by omega) fun cA kA comp f1 f2 f3 f4 => ?_
  obtain ⟨kA', comp', x1, x2, x3, x4⟩ := (hK.2.2.1 k _ ht).2
  have hcA : cA = G.cC (100 + k) := Option.some.inj (f1.symm.trans x4)
  subst hcA
  have hrep : RepH G (h.new (100 + k) (List.replicate n.toNatClampNeg .null) (n.toNatClampNeg + 4)) (H.push { cls := G.cC (100 + k), slots := Array.replicate n.toNatClampNeg .null, vm := .none }) := by
    refine rep_new hr ?_ (by simp) hleft
    exact ⟨_, Array.getElem?_push_size, rfl, rfl, fun h100 => absurd h100 (by simp), fun _ _ => by simp⟩
  rw [← r1]
  exact kk p l e R s m as below meth c _ _ _ _ ls hx hl hrep hL
theorem r_alen {a kd : Nat} {w : Bool} {fs : List Value} {ty : FieldType} {v : Int32} (hdg : decode y.2.1 pc = .ok (.arraylength, 1)) (hc : h.1 a = some (100 + kd, w, fs)) (ht : arrAll[kd]? = some ty) (hv : Int32.ofNat fs.length = v) (kk : MF G d y (pc + 1) L (.int v :: st) h Q) : MF G d y pc L (.ref a :: st) h Q := by
  intro p l e R s m as below meth c H locs cells slots ls hx hl hr hL
  obtain ⟨cell, h1, h2, h3, h4⟩ := rep_arr hr hc (by omega) (by have := arrAll_lt ht; omega)
  have hK := hx.2.2.2.2.2.2.2.2.1
  exact W.alen hx.1 hx.2.1 h1 (isArr hK ht h2 h3) (by subst hv; rw [← h4, Array.length_toList]) rfl rfl hdg (kk p l e R s m as below meth c H locs cells slots ls hx hl hr hL)
/-- a cell's class by name -/
theorem kd_class {s : State} {kd : Nat} {q : vw_C} (hK : KS G s) (hq : clAll[kd]? = some q) : s.vm.findClass q.1 = some (G.cC kd) ∧ ∃ kC : Class, s.vm.classes[G.cC kd]? = some kC ∧ kC.kind = .ordinary := (hK.2.1 kd q hq).2
theorem r_aastoreN {a kd : Nat} {fs : List Value} {i : Int32} {C : String} (hdg : decode y.2.1 pc = .ok (.aastore, 1)) (hc : h.1 a = some (100 + kd, true, fs)) (ht : arrAll[kd]? = some (.object C)) (h0 : ¬ i < 0) (hv : i.toNatClampNeg < fs.length) (kk : MF G d y (pc + 1) L st (h.put a (fs.set i.toNatClampNeg .null)) Q) : MF G d y pc L (.null :: .int i :: .ref a :: st) h Q := by
  intro p l e R s m as below meth c H locs cells slots ls hx hl hr hL
  have hk3 : kd < 100 := arrAll_lt ht
  obtain ⟨cell, h1, h2, h3, h4⟩ := rep_arr hr hc (by omega) (by omega)
  have hK := hx.2.2.2.2.2.2.2.2.1
  exact va_WaastN hx.1 hx.2.1 h1 (isArr hK ht h2 h3) (fun e9 => by rw [h3] at e9; cases e9) (inB2 h4 h0 hv) rfl rfl hdg (fun H1 e1 e2 e3 => kk p l e R s m as below meth c H1 _ cells slots ls hx (locs_app hl ((hr.2.2.2.1 a _ hc).2 rfl)) (rep_puta hr hc (by omega) (by omega) h1 e1 e2 e3) hL)
/-- a reference to an object of a class of ours goes into an array of references -/
theorem r_aastore {a kd b kb : Nat} {w : Bool} {fs fb : List Value} {i : Int32} {C : String} {q : vw_C} (hdg : decode y.2.1 pc = .ok (.aastore, 1)) (hc : h.1 a = some (100 + kd, true, fs)) (ht : arrAll[kd]? = some (.object C)) (hb : h.1 b = some (kb, w, fb)) (hq : clAll[kb]? = some q) (hcast : q.1 = C ∨ Cond.castable q.1 C ∈ lw_tbl) (h0 : ¬ i < 0) (hv : i.toNatClampNeg < fs.length) (kk : MF G d y (pc + 1) L st (h.put a (fs.set i.toNatClampNeg (.ref b))) Q) : MF G d y pc L (.ref b :: .int i :: .ref a :: st) h Q := by
  intro p l e R s m as below meth c H locs cells slots ls hx hl hr hL
  have hk3 : kd < 100 := arrAll_lt ht
  obtain ⟨cell, h1, h2, h3, h4⟩ := rep_arr hr hc (by omega) (by omega)
  obtain ⟨-, cb, b1, b2, b3, -⟩ := rep_obj hr hb hq
  have hK := hx.2.2.2.2.2.2.2.2.1
  obtain ⟨kA, comp, x1, x2, x3, x4⟩ := (hK.2.2.1 kd _ ht).2
  obtain ⟨hfc, kC, hkC, -⟩ := kd_class hK hq
  obtain ⟨kcomp, hkcomp, hkn⟩ := Vm.findClass_spec x3
  have hin := inB2 h4 h0 hv
  have hasg : s.vm.assignable (G.cC kb) comp = true := by
    rcases hcast with e9 | e9
    · rw [e9] at hfc
      have : comp = G.cC kb := Option.some.inj (x3.symm.trans hfc)
      rw [this]; exact va_asg _ _
    · obtain ⟨c0, t0, f1, f2, f3⟩ := Cond.castable_spec (hK.1 _ e9 rfl as)
      cases hfc.symm.trans f1
      cases x3.symm.trans f2
      exact f3
  exact W.aast hx.1 hx.2.1 h1 (fun q9 e9 => by rw [h3] at e9; cases e9) (fun e9 => by rw [h3] at e9; cases e9) (by rw [h2]; exact x1) x2 rfl hkcomp ⟨h0, by rw [← h4, Array.length_toList] at hv; exact hv⟩ b1 (fun q9 e9 => by rw [b3] at e9; cases e9) (by rw [b2]; exact hkC) (by rw [b2]; exact hasg) rfl rfl hdg
    (fun H1 e1 e2 e3 => kk p l e R s m as below meth c H1 _ cells slots ls hx (locs_app hl ((hr.2.2.2.1 a _ hc).2 rfl)) (rep_puta hr hc (by omega) (by omega) h1 e1 e2 e3) hL)
theorem r_getstatic {index k : Nat} {C n ds : String} (hdg : decode y.2.1 pc = .ok (.getstatic index, 3)) (hk : staAll[k]? = some (C, n, ds)) (hw : FLink y.1.cls index C n ds) (kk : MF G d y (pc + 3) L (G.sta k :: st) h Q) : MF G d y pc L st h Q := by
  intro p l e R s m as below meth c H locs cells slots ls hx hl hr hL
  have hK := hx.2.2.2.2.2.2.2.2.1
  obtain ⟨cf, kf, fi, f, a, cell, h1, h2, h3, h4, h5, h6, h7, h8⟩ := (hK.2.2.2.2.1 k _ hk).1
  have hcell : H[a]? = some cell := by rw [hr.2.2.1 a (Array.getElem?_eq_some_iff.mp h5).1]; exact h5
  have hown := hx.2.2.2.2.2.2.2.1
  have kw := kk p l e R s m as below meth c H locs cells slots ls hx hl hr hL
  have hun : cell.vm ≠ .unknown := fun e => by rw [e] at h6; cases h6
  rcases hw with hw | ⟨host, hw⟩ | ⟨ref, hw, hs⟩
  · exact W.gets hx.1 hx.2.1 hown (hK.1 _ hw rfl _) h1 h2 h3 h4 hcell hun h7 rfl hdg kw
  · exact va_WgetsN hx.1 hx.2.1 hown (hK.1 _ hw rfl _) h1 h2 h3 h4 hcell hun h7 rfl hdg kw
  · exact W.gets hx.1 hx.2.1 hown (hK.1 _ hw rfl _) (u_same (hK.1 _ hs rfl as) _ h1) h2 h3 h4 hcell hun h7 rfl hdg kw
theorem r_ldcS {index k : Nat} {tx : String} (hdg : decode y.2.1 pc = .ok (.ldc index, 2)) (hk : strAll[k]? = some (y.1.cls, index, tx)) (kk : MF G d y (pc + 2) L (.ref (G.str k) :: st) h Q) : MF G d y pc L st h Q :=
  fun p l e R s m as below meth c H locs cells slots ls hx hl hr hL => va_ldcS hx.1 hx.2.1 hx.2.2.2.2.2.2.2.1 (hx.2.2.2.2.2.2.2.2.1.2.2.2.1 k _ hk) hdg (kk p l e R s m as below meth c H locs cells slots ls hx hl hr hL)
end
