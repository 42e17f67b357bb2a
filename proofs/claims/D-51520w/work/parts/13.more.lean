/-! ROWS: System.arraycopy, an array's clone, class objects, the bits of a float, instanceof that fails, lookupswitch -/
set_option maxRecDepth 100000
/-- what a copy leaves -/
def cpyL (fs gs : List Value) (sp dp n : Nat) : List Value := (List.range gs.length).map fun j => if dp ≤ j ∧ j < dp + n then fs.getD (sp + (j - dp)) .null else gs.getD j .null
theorem cpyL_len (fs gs : List Value) (sp dp n : Nat) : (cpyL fs gs sp dp n).length = gs.length := by simp [cpyL]
theorem cpyL_at {fs gs : List Value} {sp dp n j : Nat} (hj : j < gs.length) : (cpyL fs gs sp dp n)[j]? = some (if dp ≤ j ∧ j < dp + n then fs.getD (sp + (j - dp)) .null else gs.getD j .null) := by
  unfold cpyL
  rw [List.getElem?_map, List.getElem?_range hj]
  rfl
theorem storePairs_at (c : Cell) (at_ : Nat) (vs : List Value) (k0 j : Nat) : (c.storePairs at_ (vs.zipIdx k0)).slots[j]? = if j < c.slots.size then (if at_ + k0 ≤ j ∧ j < at_ + k0 + vs.length then vs[j - (at_ + k0)]? else c.slots[j]?) else none := by
  induction vs generalizing c k0 with
  | nil =>
    simp only [List.zipIdx_nil, List.length_nil, Nat.add_zero]
    show c.slots[j]? = _
    by_cases h : j < c.slots.size
    · rw [if_pos h, if_neg (by omega)]
    · rw [if_neg h, Array.getElem?_eq_none (by omega)]
  | cons v r ih =>
    rw [List.zipIdx_cons]
    show ((c.setSlot (at_ + k0) v).storePairs at_ (r.zipIdx (k0 + 1))).slots[j]? = _
    rw [ih]
    have hs : (c.setSlot (at_ + k0) v).slots.size = c.slots.size := set_slot_size _ _ _
    rw [hs]
    by_cases h : j < c.slots.size
    · rw [if_pos h, if_pos h]
      by_cases h1 : at_ + (k0 + 1) ≤ j ∧ j < at_ + (k0 + 1) + r.length
      · rw [if_pos h1, if_pos ⟨by omega, by simp only [List.length_cons]; omega⟩]
        have e : j - (at_ + k0) = (j - (at_ + (k0 + 1))) + 1 := by omega
        rw [e, List.getElem?_cons_succ]
      · rw [if_neg h1]
        by_cases e : j = at_ + k0
        · subst e
          rw [if_pos ⟨Nat.le_refl _, by simp only [List.length_cons]; omega⟩, Nat.sub_self, List.getElem?_cons_zero]
          simp [Cell.setSlot, h]
        · rw [if_neg (by simp only [List.length_cons]; omega)]
          simp only [Cell.setSlot]
          rw [Array.getElem?_setIfInBounds, if_neg (fun e9 => e e9.symm)]
    · rw [if_neg h, if_neg h]
theorem copied_list {cs cd : Cell} {fs gs : List Value} {sp dp n : Int32} (h1 : cs.slots.toList = fs) (h2 : cd.slots.toList = gs) : (copied cs cd sp dp n).slots.toList = cpyL fs gs sp.toNatClampNeg dp.toNatClampNeg n.toNatClampNeg := by
  apply List.ext_getElem?
  intro j
  rw [Array.getElem?_toList]
  show (cd.storePairs dp.toNatClampNeg ((cs.stretch sp.toNatClampNeg n.toNatClampNeg).zipIdx 0)).slots[j]? = _
  rw [storePairs_at]
  have hlen : cd.slots.size = gs.length := by rw [← h2, Array.length_toList]
  rw [hlen]
  by_cases h : j < gs.length
  · rw [if_pos h, cpyL_at h]
    have hst : (cs.stretch sp.toNatClampNeg n.toNatClampNeg).length = n.toNatClampNeg := by simp [Cell.stretch]
    rw [hst, Nat.add_zero]
    by_cases hin : dp.toNatClampNeg ≤ j ∧ j < dp.toNatClampNeg + n.toNatClampNeg
    · rw [if_pos hin, if_pos hin]
      unfold Cell.stretch
      rw [List.getElem?_map, List.getElem?_range (by omega)]
      show some (cs.slots.getD _ _) = _
      rw [← h1, Array.getD_eq_getD_getElem?, List.getD_eq_getElem?_getD, Array.getElem?_toList]
    · rw [if_neg hin, if_neg hin, ← h2, List.getD_eq_getElem?_getD, Array.getElem?_toList]
      have : j < cd.slots.size := by omega
      rw [Array.getElem?_eq_getElem this]
      rfl
  · rw [if_neg h, List.getElem?_eq_none (by rw [cpyL_len]; omega)]
/-- what a copied value must be: fit; an object that may lie there -/
def CopyOK (h : AH) (ty : FieldType) (v : Value) : Prop := fits ty v = true ∧ ∀ q : Nat, v = .ref q → ∃ C : String, ty = .object C ∧ isC h q C
section
variable {G : GL} {d pc : Nat} {y : MI} {L st : List Value} {h : AH} {Q : Out → AH → Prop}
theorem r_arraycopy {index a0 a1 kd : Nat} {w : Bool} {fs gs : List Value} {ty : FieldType} {sp dp n : Int32} (hdg : decode y.2.1 pc = .ok (.invokestatic index, 3)) (hw : Cond.methodLink y.1.cls index arraycopyName ∈ lw_tbl) (hnat : Cond.native arraycopyName ∈ lw_tbl) (hs : Cond.static arraycopyName ∈ lw_tbl) (hi : Cond.initialized "java/lang/System" ∈ lw_tbl)
    (h0 : h.1 a0 = some (100 + kd, w, fs)) (h1 : h.1 a1 = some (100 + kd, true, gs)) (ht : arrAll[kd]? = some ty) (hsp : ¬ sp < 0) (hdp : ¬ dp < 0) (hn : ¬ n < 0) (hl0 : sp.toNatClampNeg + n.toNatClampNeg ≤ fs.length) (hl1 : dp.toNatClampNeg + n.toNatClampNeg ≤ gs.length)
    (hok : ∀ i : Nat, i < n.toNatClampNeg → CopyOK h ty (fs.getD (sp.toNatClampNeg + i) .null)) (hLn : L.length = y.2.2.1) (hst : st.length ≤ 20)
    (kk : MF G (d + 1) y (pc + 3) L st (h.put a1 (cpyL fs gs sp.toNatClampNeg dp.toNatClampNeg n.toNatClampNeg)) Q) : MF G (d + 1) y pc L (.int n :: .int dp :: .ref a1 :: .int sp :: .ref a0 :: st) h Q := by
  intro p l e R s m as below meth c H locs cells slots ls hx hl hr hL
  have hK := hx.2.2.2.2.2.2.2.2.1
  obtain ⟨-, -, -, -, -, -, -, -, -, -, f1, f2, c1, c2, -⟩ := id hx
  have hsum := sum_cat st
  have hkd := arrAll_lt ht
  obtain ⟨cs, g1, g2, g3, g4⟩ := rep_arr hr h0 (by omega) (by omega)
  obtain ⟨cd, k1, k2, k3, k4⟩ := rep_arr hr h1 (by omega) (by omega)
  have hS := (hK.2.2.1 kd ty ht).2
  obtain ⟨hA1, kA, hkA, comp, hkind⟩ := isArr hK ht k2 k3
  rw [k2] at hkA
  have hszs : cs.slots.size = fs.length := by rw [← g4, Array.length_toList]
  have hszd : cd.slots.size = gs.length := by rw [← k4, Array.length_toList]
  have hty : ((refKind ty != refKind ty) || (!refKind ty && ty != ty)) = false := by simp
  intro T hT X
  obtain ⟨vm', X', step⟩ := X.arraycopy hx.1 hx.2.2.2.2.2.2.2.1 (hK.1 _ hw rfl as) (hK.1 _ hnat rfl as) (hK.1 _ hs rfl as) (hK.1 _ hi rfl as) (src := a0) (dst := a1) (cs := cs) (cd := cd) (srcPos := sp) (destPos := dp) (n := n) (by rw [hT]; exact g1) (by rw [hT]; exact k1)
    (fun _ e9 => by rw [g3] at e9; cases e9) (fun _ e9 => by rw [k3] at e9; cases e9) (fun e9 => by rw [g3] at e9; cases e9) (fun e9 => by rw [k3] at e9; cases e9) (by rw [g2]; exact hkA) (by rw [k2]; exact hkA) hkind hkind hty hsp hdp hn
    (by rw [nneg hsp, nneg hn, hszs]; omega) (by rw [nneg hdp, nneg hn, hszd]; omega)
    (fun vm₁ hal i hin => by
      have e : cs.slots.getD (sp.toNatClampNeg + i) .null = fs.getD (sp.toNatClampNeg + i) .null := by
        rw [← g4, Array.getD_eq_getD_getElem?, List.getD_eq_getElem?_getD, Array.getElem?_toList]
      rw [e]
      obtain ⟨o1, o2⟩ := hok i hin
      refine ⟨o1, ?_⟩
      generalize fs.getD (sp.toNatClampNeg + i) .null = v at o1 o2
      cases v with
      | ref q =>
        obtain ⟨C, rfl, kb, wb, fb, hb, qb, hqb, hcast⟩ := o2 q rfl
        obtain ⟨-, cb, b1, b2, b3, -⟩ := rep_obj hr hb hqb
        obtain ⟨kA', comp', x1, x2, x3, x4⟩ := hS
        cases x1.symm.trans hkA
        cases x2.symm.trans hkind
        obtain ⟨hfc, kC, hkC, -⟩ := kd_class hK hqb
        obtain ⟨kcomp, hkcomp, hkn⟩ := Vm.findClass_spec x3
        have hasg : s.vm.assignable (G.cC kb) comp = true := by
          rcases hcast with e9 | e9
          · rw [e9] at hfc
            have : comp = G.cC kb := Option.some.inj (x3.symm.trans hfc)
            rw [this]; exact va_asg _ _
          · obtain ⟨c0, t0, f1, f2, f3⟩ := Cond.castable_spec (hK.1 _ e9 rfl as)
            cases hfc.symm.trans f1
            cases x3.symm.trans f2
            exact f3
        obtain ⟨kC', hkC', -⟩ := hal.2.2 _ _ hkC
        obtain ⟨kE', hkE', -⟩ := hal.2.2 _ _ hkcomp
        exact ⟨cb, (show T.heap[q]? = some cb by rw [hT]; exact b1), (fun q9 e9 => by rw [b3] at e9; cases e9), ⟨kC', by rw [b2]; exact hkC'⟩, ⟨kE', hkE'⟩, by rw [b2]; show vm₁.assignable _ _ = true; rw [hal.assignable]; exact hasg⟩
      | _ => trivial)
    (g := F0 m pc ls (.int n :: .int dp :: .ref a1 :: .int sp :: .ref a0 :: st)) rfl (by rw [hx.2.2.1, ← hLn]; exact hL.1) (rest := st) rfl (by rw [hx.2.1]; exact hdg) (by omega) (by have hw9 : nativeFrameWords "java/lang/System" "arraycopy" 5 ≤ 100 := (by decide); show 2 * 0 + _ + _ ≤ _; omega)
  have hl9 : a1 < H.size := (Array.getElem?_eq_some_iff.mp k1).1
  have hcp := Cell.storePairs_facts cd dp.toNatClampNeg ((cs.stretch sp.toNatClampNeg n.toNatClampNeg).zipIdx)
  have hheap : ((T.setVm vm').setCell a1 (copied cs cd sp dp n)).heap = H.setIfInBounds a1 (copied cs cd sp dp n) := by rw [← hT]; rfl
  have hrep : RepH G (h.put a1 (cpyL fs gs sp.toNatClampNeg dp.toNatClampNeg n.toNatClampNeg)) (H.setIfInBounds a1 (copied cs cd sp dp n)) := by
    have e1 : (H.setIfInBounds a1 (copied cs cd sp dp n))[a1]? = some (copied cs cd sp dp n) := by simp [Array.getElem?_setIfInBounds, hl9]
    exact rep_put hr h1 k1 e1 (by simp) hcp.2.2.1 (fun q hq => by simp [Array.getElem?_setIfInBounds, Ne.symm hq]) ⟨_, e1, by rw [← k2]; exact hcp.1, by rw [← k3]; exact hcp.2.1, fun h100 => absurd h100 (by simp), fun _ _ => copied_list g4 k4⟩
  obtain ⟨t, a, b⟩ := kk p l e R s m as below meth c _ _ cells slots ls hx (fun z hz => by
      rcases List.mem_append.mp hz with h9 | h9
      · exact hl z h9
      · obtain ⟨z9, -, hz9⟩ := List.mem_map.mp h9
        rw [← hz9]
        exact (hr.2.2.2.1 a1 _ h1).2 rfl) hrep hL _ hheap X'
  exact ⟨t, step t a, b⟩
theorem r_instNo {index a kd : Nat} {w : Bool} {fs : List Value} {C nm : String} {T : u_T} {N : Nat} (hdg : decode y.2.1 pc = .ok (.instanceof index, 3)) (hc : h.1 a = some (kd, w, fs)) (hq : clAll[kd]? = some (C, T, N)) (hn : (C, nm) ∈ ncAll) (hw : Cond.classLink y.1.cls index nm ∈ lw_tbl) (kk : MF G d y (pc + 3) L (.int 0 :: st) h Q) : MF G d y pc L (.ref a :: st) h Q := by
  intro p l e R s m as below meth c H locs cells slots ls hx hl hr hL
  have hK := hx.2.2.2.2.2.2.2.2.1
  obtain ⟨-, cell, h1, h2, h3, -⟩ := rep_obj hr hc hq
  have hcl := (hK.2.1 kd _ hq).2.1
  exact va_instNo hx.1 hx.2.1 hx.2.2.2.2.2.2.2.1 (hK.1 _ hw rfl _) (hK.2.2.2.2.2.2.1 _ hn) ⟨cell, h1, by rw [h3]; rfl, by rw [h2]; exact hcl⟩ hdg (kk p l e R s m as below meth c H locs cells slots ls hx hl hr hL)
theorem r_ldcM {index : Nat} (hdg : decode y.2.1 pc = .ok (.ldc index, 2)) (hw : Cond.classLink y.1.cls index "[Ljava/lang/Object;" ∈ lw_tbl) (kk : MF G d y (pc + 2) L (.ref (G.str 100) :: st) h Q) : MF G d y pc L st h Q :=
  fun p l e R s m as below meth c H locs cells slots ls hx hl hr hL => va_ldcM hx.1 hx.2.1 hx.2.2.2.2.2.2.2.1 (hx.2.2.2.2.2.2.2.2.1.1 _ hw rfl _) hx.2.2.2.2.2.2.2.2.1.2.2.2.2.2.2.2.2.1 hdg (kk p l e R s m as below meth c H locs cells slots ls hx hl hr hL)
theorem r_getClassA {index a : Nat} {w : Bool} {fs : List Value} (hdg : decode y.2.1 pc = .ok (.invokevirtual index, 3)) (hc : h.1 a = some (104, w, fs)) (hw : Cond.methodLink y.1.cls index ⟨"java/lang/Object", "getClass", "()Ljava/lang/Class;"⟩ ∈ lw_tbl) (hdecl : Cond.declares ⟨"java/lang/Object", "getClass", "()Ljava/lang/Class;"⟩ ∈ lw_tbl)
    (hsel : Cond.selects "[Ljava/lang/Object;" ⟨"java/lang/Object", "getClass", "()Ljava/lang/Class;"⟩ ⟨"java/lang/Object", "getClass", "()Ljava/lang/Class;"⟩ ∈ lw_tbl) (hinst : Cond.instanceMethod ⟨"java/lang/Object", "getClass", "()Ljava/lang/Class;"⟩ ∈ lw_tbl) (hnat : Cond.native ⟨"java/lang/Object", "getClass", "()Ljava/lang/Class;"⟩ ∈ lw_tbl)
    (hLn : L.length = y.2.2.1) (hst : st.length ≤ 20) (kk : MF G (d + 1) y (pc + 3) L (.ref (G.str 100) :: st) h Q) : MF G (d + 1) y pc L (.ref a :: st) h Q := by
  intro p l e R s m as below meth c H locs cells slots ls hx hl hr hL
  have hK := hx.2.2.2.2.2.2.2.2.1
  obtain ⟨-, -, -, -, -, -, -, -, -, -, f1, f2, c1, c2, -⟩ := id hx
  have hsum := sum_cat st
  obtain ⟨cell, g1, g2, g3, g4⟩ := rep_arr hr hc (by omega) (by omega)
  have hcl := va_nmO (hK.2.2.1 4 _ rfl).2 (nm := "[Ljava/lang/Object;") (by decide +kernel)
  exact va_getC hx.1 hx.2.1 (by rw [hL.1, hLn, hx.2.2.1]) hx.2.2.2.2.2.2.2.1 (hK.1 _ hw rfl as) (hK.1 _ hdecl rfl as) (hK.1 _ hsel rfl as) (hK.1 _ hinst rfl as) (hK.1 _ hnat rfl as) hK.2.2.2.2.2.2.2.2.1 ⟨cell, g1, by rw [g3]; rfl, by rw [g2]; exact hcl⟩ (by omega) (by omega) hdg (kk p l e R s m as below meth c H locs cells slots ls hx hl hr hL)
theorem r_f2bits {index : Nat} {b : UInt32} (hdg : decode y.2.1 pc = .ok (.invokestatic index, 3)) (hw : Cond.methodLink y.1.cls index ⟨"java/lang/Float", "floatToRawIntBits", "(F)I"⟩ ∈ lw_tbl) (hnat : Cond.native ⟨"java/lang/Float", "floatToRawIntBits", "(F)I"⟩ ∈ lw_tbl) (hs : Cond.static ⟨"java/lang/Float", "floatToRawIntBits", "(F)I"⟩ ∈ lw_tbl) (hi : Cond.initialized "java/lang/Float" ∈ lw_tbl)
    (hLn : L.length = y.2.2.1) (hst : st.length ≤ 20) (kk : MF G (d + 1) y (pc + 3) L (.int b.toInt32 :: st) h Q) : MF G (d + 1) y pc L (.float b :: st) h Q := by
  intro p l e R s m as below meth c H locs cells slots ls hx hl hr hL
  have hK := hx.2.2.2.2.2.2.2.2.1
  obtain ⟨-, -, -, -, -, -, -, -, -, -, f1, f2, c1, c2, -⟩ := id hx
  have hsum := sum_cat st
  exact vn_f2i hx.1 hx.2.1 (by rw [hL.1, hLn, hx.2.2.1]) hx.2.2.2.2.2.2.2.1 (hK.1 _ hw rfl as) (hK.1 _ hnat rfl as) (hK.1 _ hs rfl as) (hK.1 _ hi rfl as) (by omega) (by omega) hdg (kk p l e R s m as below meth c H locs cells slots ls hx hl hr hL)
theorem r_cloneB {index a : Nat} {w : Bool} {fs : List Value} (hdg : decode y.2.1 pc = .ok (.invokevirtual index, 3)) (hc : h.1 a = some (101, w, fs)) (hw : Cond.methodLink y.1.cls index ⟨"[B", "clone", "()Ljava/lang/Object;"⟩ ∈ lw_tbl) (hsame : Cond.sameMethod "[B" "java/lang/Object" "clone" "()Ljava/lang/Object;" ∈ lw_tbl)
    (hnat : Cond.native ⟨"java/lang/Object", "clone", "()Ljava/lang/Object;"⟩ ∈ lw_tbl) (hinst : Cond.instanceMethod ⟨"java/lang/Object", "clone", "()Ljava/lang/Object;"⟩ ∈ lw_tbl) (hsel : Cond.selects "[B" ⟨"[B", "clone", "()Ljava/lang/Object;"⟩ ⟨"java/lang/Object", "clone", "()Ljava/lang/Object;"⟩ ∈ lw_tbl) (hcast : Cond.castable "[B" "java/lang/Cloneable" ∈ lw_tbl)
    (hfit : ∀ v ∈ fs, fits .byte v = true) (hleft : fs.length + 4 ≤ h.2.2) (hLn : L.length = y.2.2.1) (hst : st.length ≤ 20) (kk : MF G (d + 1) y (pc + 3) L (.ref h.2.1 :: st) (h.new 101 fs (fs.length + 4)) Q) : MF G (d + 1) y pc L (.ref a :: st) h Q := by
  intro p l e R s m as below meth c H locs cells slots ls hx hl hr hL
  refine W.tight fun hz hu => ?_
  have hK := hx.2.2.2.2.2.2.2.2.1
  obtain ⟨-, -, -, -, -, -, -, -, -, -, f1, f2, c1, c2, -⟩ := id hx
  obtain ⟨r1, r2, r3, r4, r5, r6⟩ := id hr
  have hsum := sum_cat st
  obtain ⟨cell, g1, g2, g3, g4⟩ := rep_arr hr hc (by omega) (by omega)
  have hsz : cell.slots.size = fs.length := by rw [← g4, Array.length_toList]
  have hRA := (hK.2.2.1 1 _ rfl).2
  have hnm : s.vm.findClass "[B" = some cell.cls := by rw [g2]; exact hRA
  obtain ⟨c0, t0', q1, q2, q3⟩ := Cond.castable_spec (hK.1 _ hcast rfl as)
  cases hnm.symm.trans q1
  obtain ⟨hA1, kA, hkA, comp, hkind⟩ := isArr hK (k := 1) rfl g2 g3
  intro T hT X
  have hcellT : T.heap[a]? = some cell := by rw [hT]; exact g1
  obtain ⟨kA', hkA', hke⟩ := X.warmed.alike.2.2 _ _ hkA
  obtain ⟨vm', X', step⟩ := X.cloneArray hx.1 hx.2.2.2.2.2.2.2.1 (hK.1 _ hw rfl as) (hK.1 _ hsame rfl as) (hK.1 _ hnat rfl as) (hK.1 _ hinst rfl as) (hK.1 _ hsel rfl as) (a := a) (cell := cell) hcellT (fun k e9 => by rw [g3] at e9; cases e9) (fun e9 => by rw [g3] at e9; cases e9) hnm q2 q3
    (fun i v hv => by
      have hk' : T.vm.classes[cell.cls]? = some kA' := hkA'
      have hmem : v ∈ fs := by rw [← g4]; exact List.mem_of_getElem? (by rw [Array.getElem?_toList]; exact hv)
      have h9 := hfit v hmem
      have hk9 : kA'.kind = .array comp .byte := by rw [hke]; exact hkind
      simp only [State.fitsSlot, State.slotType?, hk']
      show (match (match kA'.kind with | .array _ ty9 => some ty9 | _ => kA'.instanceTypes[i]?) with | some t => fits t v | none => false) = true
      rw [hk9]
      exact h9)
    (g := F0 m pc ls (.ref a :: st)) rfl (by rw [hx.2.2.1, ← hLn]; exact hL.1) rfl (by rw [hx.2.1]; exact hdg) (by omega) (by show 2 * 0 + _ + 14 ≤ _; omega) (by omega) (by omega) (hloader := Vm.clonesLoader_of_array hkA hkind)
  have hrep : RepH G (h.new 101 fs (fs.length + 4)) (H.push { cls := cell.cls, slots := cell.slots, vm := .none }) :=
    rep_new hr ⟨_, Array.getElem?_push_size, g2, rfl, fun h100 => absurd h100 (by simp), fun _ _ => g4⟩ (by simp only [hsz]; omega) hleft
  have hheap : ((T.setVm vm').pushCell { cls := cell.cls, slots := cell.slots }).heap = H.push { cls := cell.cls, slots := cell.slots, vm := .none } := by rw [← hT]; rfl
  obtain ⟨t, a9, b9⟩ := kk p l e R s m as below meth c _ _ _ _ ls hx hl hrep hL _ hheap X'
  rw [hT, ← r1] at step
  exact ⟨t, step t a9, b9⟩
end
