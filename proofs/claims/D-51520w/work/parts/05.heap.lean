/-! ROWS of the heap: fields, arrays, new cells, statics, casts -/
set_option maxRecDepth 100000
def AH.put (h : AH) (a : Nat) (fs : List Value) : AH := (fun q => if q = a then (h.1 a).map (fun c => (c.1, c.2.1, fs)) else h.1 q, h.2)
def AH.new (h : AH) (kd : Nat) (fs : List Value) (cost : Nat) : AH := (fun q => if q = h.2.1 then some (kd, true, fs) else h.1 q, h.2.1 + 1, h.2.2 - cost)
theorem AH.put_self {h : AH} {a kd : Nat} {w : Bool} {fs fs' : List Value} (hc : h.1 a = some (kd, w, fs)) : (h.put a fs').1 a = some (kd, w, fs') := by
  simp [AH.put, hc]
theorem AH.put_ne {h : AH} {a q : Nat} {fs : List Value} (hq : q ≠ a) : (h.put a fs).1 q = h.1 q := by
  simp [AH.put, hq]
theorem AH.put_2 {h : AH} {a : Nat} {fs : List Value} : (h.put a fs).2 = h.2 := rfl
theorem AH.new_self {h : AH} {kd cost : Nat} {fs : List Value} : (h.new kd fs cost).1 h.2.1 = some (kd, true, fs) := by simp [AH.new]
theorem AH.new_ne {h : AH} {kd cost q : Nat} {fs : List Value} (hq : q ≠ h.2.1) : (h.new kd fs cost).1 q = h.1 q := by simp [AH.new, hq]
theorem clAll_lt {kd : Nat} {q : vw_C} (h : clAll[kd]? = some q) : kd < 100 := Nat.lt_trans (List.getElem?_eq_some_iff.mp h).1 (by decide)
theorem rep_obj {G : GL} {h : AH} {H : Heap} {a kd : Nat} {w : Bool} {fs : List Value} {q : vw_C} (hr : RepH G h H) (hc : h.1 a = some (kd, w, fs)) (hq : clAll[kd]? = some q) :
    fs.length = q.2.2 ∧ ∃ cell : Cell, H[a]? = some cell ∧ cell.cls = G.cC kd ∧ cell.vm = .none ∧ ∀ (k : Nat) (v : Value), fs[k]? = some v → cell.slots[G.cI kd k]? = some v := by
  obtain ⟨⟨cell, h1, h2, h3, h4, -⟩, -⟩ := hr.2.2.2.1 a _ hc
  obtain ⟨q', e1, e2, e3⟩ := h4 (clAll_lt hq)
  cases e1.symm.trans hq
  exact ⟨e2, cell, h1, h2, h3, e3⟩
theorem rep_arr {G : GL} {h : AH} {H : Heap} {a kd : Nat} {w : Bool} {fs : List Value} (hr : RepH G h H) (hc : h.1 a = some (kd, w, fs)) (hk : 100 ≤ kd) (hk3 : kd < 300) :
    ∃ cell : Cell, H[a]? = some cell ∧ cell.cls = G.cC kd ∧ cell.vm = .none ∧ cell.slots.toList = fs := by
  obtain ⟨⟨cell, h1, h2, h3, -, h4⟩, -⟩ := hr.2.2.2.1 a _ hc
  exact ⟨cell, h1, h2, h3, h4 hk hk3⟩
theorem rep_any {G : GL} {h : AH} {H : Heap} {a : Nat} {c : AC} (hr : RepH G h H) (hc : h.1 a = some c) : ∃ cell : Cell, H[a]? = some cell ∧ cell.cls = G.cC c.1 ∧ cell.vm = .none := by
  obtain ⟨⟨cell, h1, h2, h3, -⟩, -⟩ := hr.2.2.2.1 a _ hc
  exact ⟨cell, h1, h2, h3⟩
theorem slotSum_eq (H : Heap) : slotSum H = (H.toList.map (fun c => c.slots.size)).sum := by
  unfold slotSum
  rw [← Array.foldl_toList]
  have : ∀ (l : List Cell) (n : Nat), l.foldl (fun n c => n + c.slots.size) n = n + (l.map (fun c => c.slots.size)).sum := by
    intro l
    induction l with
    | nil => intro n; simp
    | cons x t ih => intro n; simp only [List.foldl_cons, ih, List.map_cons, List.sum_cons]; omega
  rw [this]; simp
theorem slotSum_push (H : Heap) (c : Cell) : slotSum (H.push c) = slotSum H + c.slots.size := by
  simp [slotSum_eq]
theorem slotSum_set {H H' : Heap} {a : Nat} {cell cell' : Cell} (h1 : H[a]? = some cell) (h2 : H'[a]? = some cell') (hz : H'.size = H.size) (hs : cell'.slots.size = cell.slots.size) (ho : ∀ q : Nat, q ≠ a → H'[q]? = H[q]?) : slotSum H' = slotSum H := by
  rw [slotSum_eq, slotSum_eq]
  congr 1
  apply List.ext_getElem?
  intro i
  rw [List.getElem?_map, List.getElem?_map, Array.getElem?_toList, Array.getElem?_toList]
  by_cases e : i = a
  · rw [e, h1, h2]; simp [hs]
  · rw [ho i e]
theorem rep_put {G : GL} {h : AH} {H H' : Heap} {a kd : Nat} {fs fs' : List Value} {cell cell' : Cell} (hr : RepH G h H) (hc : h.1 a = some (kd, true, fs)) (h1 : H[a]? = some cell) (h2 : H'[a]? = some cell') (hz : H'.size = H.size) (hs : cell'.slots.size = cell.slots.size)
    (ho : ∀ q : Nat, q ≠ a → H'[q]? = H[q]?) (hat : cellAt G a (kd, true, fs') H') : RepH G (h.put a fs') H' := by
  obtain ⟨r1, r2, r3, r4, r5, r6⟩ := hr
  have hb : G.H0.size ≤ a := (r4 a _ hc).2 rfl
  refine ⟨by rw [hz]; exact r1, by rw [hz]; exact r2, fun q hq => by rw [ho q (by omega)]; exact r3 q hq, fun q c hq => ?_, by rw [hz]; exact r5, by rw [slotSum_set h1 h2 hz hs ho]; exact r6⟩
  by_cases e : q = a
  · subst e
    rw [AH.put_self hc] at hq
    cases hq
    exact ⟨hat, fun _ => hb⟩
  · rw [AH.put_ne e] at hq
    obtain ⟨⟨cl, e1, e2⟩, e3⟩ := r4 q c hq
    exact ⟨⟨cl, by rw [ho q e]; exact e1, e2⟩, e3⟩
theorem rep_new {G : GL} {h : AH} {H : Heap} {kd cost : Nat} {fs : List Value} {cell : Cell} (hr : RepH G h H) (hat : cellAt G H.size (kd, true, fs) (H.push cell)) (hcost : cell.slots.size + 4 ≤ cost) (hleft : cost ≤ h.2.2) : RepH G (h.new kd fs cost) (H.push cell) := by
  obtain ⟨r1, r2, r3, r4, r5, r6⟩ := hr
  refine ⟨by simp [AH.new, r1], by rw [Array.size_push]; omega, fun q hq => ?_, fun q c hq => ?_, ?_, ?_⟩
  · rw [Array.getElem?_push_lt (by omega)]
    rw [← r3 q hq, Array.getElem?_eq_getElem (by omega)]
  · by_cases e : q = h.2.1
    · subst e
      rw [AH.new_self] at hq
      cases hq
      rw [r1]
      exact ⟨hat, fun _ => r2⟩
    · rw [AH.new_ne e] at hq
      obtain ⟨⟨cl, e1, e2⟩, e3⟩ := r4 q c hq
      have hlt : q < H.size := (Array.getElem?_eq_some_iff.mp e1).1
      exact ⟨⟨cl, by rw [Array.getElem?_push_lt hlt, ← e1, Array.getElem?_eq_getElem hlt], e2⟩, e3⟩
  · show 4 * (H.push cell).size + (h.2.2 - cost) ≤ 4 * G.capC
    rw [Array.size_push]; omega
  · show slotSum (H.push cell) + (h.2.2 - cost) ≤ G.capS
    rw [slotSum_push]; omega
theorem lay_ride (C : String) (T : u_T) (k : Nat) : rideW (u_lay C T k) = true := by
  unfold u_lay
  split <;> rfl
/-- a field's facts -/
theorem K_lays {G : GL} {s : State} {ci : Nat} {q : vw_C} (hK : KS G s) (hq : clAll[ci]? = some q) (a : Array Value) : ∀ w ∈ u_ws q.1 q.2.1 q.2.2, w.before a s = true := by
  intro w hw
  have h1 := clAll_laid ci q hq w hw
  obtain ⟨k, -, e⟩ := List.mem_map.mp hw
  exact hK.1 w h1 (by rw [← e]; exact lay_ride _ _ _) a
theorem K_field {G : GL} {s : State} {ci k : Nat} {q : vw_C} (hK : KS G s) (hq : clAll[ci]? = some q) (hk : k < q.2.2) :
    ∃ cf kf fi fd, s.fieldFound? (q.2.1 k).1 (q.2.1 k).2.1 (q.2.1 k).2.2.1 = some (cf, kf, fi, fd) ∧ fd.slot = G.cI ci k ∧ fd.isStatic = false := by
  obtain ⟨hS, hfc, kC, hkC, hkind⟩ := hK.2.1 ci q hq
  obtain ⟨cf, kf, fi, fd, hi, hsl⟩ := hS k hk
  exact ⟨cf, kf, fi, fd, hi, hsl, (u_facts hfc hkC (u_lays (args := #[]) (K_lays hK hq #[]) (fun w h => h) hk) hi).1⟩
section
variable {G : GL} {d pc : Nat} {y : MI} {L st : List Value} {h : AH} {Q : Out → AH → Prop}
/-- the ways in which a field's link may stand -/
def FLink (own : String) (index : Nat) (o n ds : String) : Prop :=
  Cond.fieldLink own index o n ds ∈ lw_tbl ∨ (∃ host, Cond.fieldLinkNest own index o n ds host ∈ lw_tbl) ∨ ∃ ref, Cond.fieldLink own index ref n ds ∈ lw_tbl ∧ Cond.sameField ref o n ds ∈ lw_tbl
theorem r_getfield {a k kd index : Nat} {w : Bool} {fs : List Value} {v : Value} {C : String} {T : u_T} {N : Nat} (hdg : decode y.2.1 pc = .ok (.getfield index, 3)) (hc : h.1 a = some (kd, w, fs)) (hv : fs[k]? = some v) (hq : clAll[kd]? = some (C, T, N))
    (hw : FLink y.1.cls index (T k).1 (T k).2.1 (T k).2.2.1) (kk : MF G d y (pc + 3) L (v :: st) h Q) : MF G d y pc L (.ref a :: st) h Q := by
  intro p l e R s m as below meth c H locs cells slots ls hx hl hr hL
  obtain ⟨hlen, cell, h1, h2, h3, h4⟩ := rep_obj hr hc hq
  have hk : k < N := by
    have := (List.getElem?_eq_some_iff.mp hv).1
    have h9 : fs.length = N := hlen
    omega
  have hK := hx.2.2.2.2.2.2.2.2.1
  obtain ⟨cf, kf, fi, fd, hi, hsl, hst⟩ := K_field hK hq hk
  have hun : cell.vm ≠ .unknown := fun e9 => by rw [h3] at e9; cases e9
  have hslot : cell.slots[fd.slot]? = some v := by rw [hsl]; exact h4 k v hv
  have hown := hx.2.2.2.2.2.2.2.1
  have kw := kk p l e R s m as below meth c H locs cells slots ls hx hl hr hL
  rcases hw with hw | ⟨host, hw⟩ | ⟨ref, hw, hs⟩
  · exact W.getf hx.1 hx.2.1 hown (hK.1 _ hw rfl _) hi hst h1 hun hslot rfl rfl hdg kw
  · exact va_Wgetf hx.1 hx.2.1 hown (hK.1 _ hw rfl _) hi hst h1 hun hslot rfl rfl hdg kw
  · exact W.getf hx.1 hx.2.1 hown (hK.1 _ hw rfl _) (u_same (hK.1 _ hs rfl as) _ hi) hst h1 hun hslot rfl rfl hdg kw
theorem set_slot_size (cell : Cell) (i : Nat) (v : Value) : (cell.setSlot i v).slots.size = cell.slots.size := by simp [Cell.setSlot]
theorem set_slot_get (cell : Cell) (i j : Nat) (v : Value) : (cell.setSlot i v).slots[j]? = if j = i ∧ i < cell.slots.size then some v else cell.slots[j]? := by
  by_cases e : j = i
  · subst e
    by_cases hlt : j < cell.slots.size
    · simp [Cell.setSlot, hlt]
    · have h9 : cell.slots[j]? = none := by simpa using hlt
      simp [Cell.setSlot, hlt]
  · simp [Cell.setSlot, e, Array.getElem?_setIfInBounds_ne (Ne.symm e)]
/-- two fields of one class lie apart -/
theorem K_apart {G : GL} {s : State} {ci j k : Nat} {q : vw_C} (hK : KS G s) (hq : clAll[ci]? = some q) (hj : j < q.2.2) (hk : k < q.2.2) (hne : (q.2.1 j).2.1 ≠ (q.2.1 k).2.1 ∨ ((q.2.1 j).2.2.2 = true ∧ (q.2.1 k).2.2.2 = true ∧ (q.2.1 j).1 ≠ (q.2.1 k).1)) (hd : ∃ t, parseFieldDescriptor (q.2.1 j).2.2.1 = some t) (hd2 : ∃ t, parseFieldDescriptor (q.2.1 k).2.2.1 = some t) : G.cI ci j ≠ G.cI ci k := by
  obtain ⟨hS, hfc, kC, hkC, hkind⟩ := hK.2.1 ci q hq
  obtain ⟨cf, kf, fi, fd, hi, hsl⟩ := hS k hk
  obtain ⟨cf', kf', fi', fd', hi', hsl'⟩ := hS j hj
  have hl1 := u_lays (args := #[]) (K_lays hK hq #[]) (fun w h => h) hk
  have hl2 := u_lays (args := #[]) (K_lays hK hq #[]) (fun w h => h) hj
  obtain ⟨t, ht⟩ := hd
  obtain ⟨t2, ht2⟩ := hd2
  have n1 : fd.name = (q.2.1 k).2.1 := (State.fieldFound?_type hi ht2).1
  have n2 : fd'.name = (q.2.1 j).2.1 := (State.fieldFound?_type hi' ht).1
  intro e9
  rcases hne with hne | ⟨f1, f2, hne⟩
  · exact u_apart hl2 hl1 hi' hi (by rw [n1, n2]; exact hne) (by rw [hsl, hsl', e9])
  · have l1 := K_lays hK hq #[] _ (u_in_lay hk)
    have l2 := K_lays hK hq #[] _ (u_in_lay hj)
    unfold u_lay at l1 l2
    rw [if_pos f2] at l1
    rw [if_pos f1] at l2
    obtain ⟨a1, _, c1, k1, i1, g1, b1, -, d1, -, -, -, o1, -, x1, y1, z1, -⟩ := Cond.laysFinal_spec l1
    obtain ⟨a2, _, c2, k2, i2, g2, b2, -, d2, -, -, -, o2, -, x2, y2, z2, -⟩ := Cond.laysFinal_spec l2
    cases b1.symm.trans b2
    cases hi.symm.trans d1
    cases hi'.symm.trans d2
    rw [hsl] at y1
    rw [hsl', e9] at y2
    cases y1.symm.trans y2
    obtain ⟨m1, u1, v1⟩ := Vm.findClass_spec o1
    obtain ⟨m2, u2, v2⟩ := Vm.findClass_spec o2
    have w1 := State.fieldFound?_class hi
    have w2 := State.fieldFound?_class hi'
    cases u1.symm.trans w1
    cases u2.symm.trans w2
    exact hne (by rw [← v1, ← v2, ← z1, ← z2])
/-- a store into an object's cell, in the picture -/
theorem rep_putf {s : State} {H H' : Heap} {a k kd : Nat} {fs : List Value} {v : Value} {q : vw_C} {cell : Cell} (hK : KS G s) (hr : RepH G h H) (hc : h.1 a = some (kd, true, fs)) (hq : clAll[kd]? = some q) (hk : k < fs.length)
    (h1 : H[a]? = some cell) (e1 : H'[a]? = some (cell.setSlot (G.cI kd k) v)) (e2 : H'.size = H.size) (e3 : ∀ z : Nat, z ≠ a → H'[z]? = H[z]?) : RepH G (h.put a (fs.set k v)) H' := by
  obtain ⟨hlen, cell0, g1, g2, g3, g4⟩ := rep_obj hr hc hq
  cases g1.symm.trans h1
  refine rep_put hr hc h1 e1 e2 (set_slot_size _ _ _) e3 ⟨_, e1, g2, g3, fun _ => ⟨q, hq, by rw [List.length_set]; exact hlen, fun j w hj => ?_⟩, fun h100 => absurd (clAll_lt hq) (by simpa using h100)⟩
  have hslot : G.cI kd k < cell.slots.size := (Array.getElem?_eq_some_iff.mp (g4 k _ (List.getElem?_eq_getElem hk))).1
  rw [set_slot_get]
  by_cases e : j = k
  · subst e
    rw [List.getElem?_set_self hk] at hj
    rw [if_pos ⟨rfl, hslot⟩]; exact hj
  · rw [List.getElem?_set_ne (Ne.symm e)] at hj
    have hjl : j < fs.length := (List.getElem?_eq_some_iff.mp hj).1
    obtain ⟨ty, -, hty, hnm⟩ := clAll_ok kd q hq
    have hap := K_apart (j := j) (k := k) hK hq (by omega) (by omega) (hnm j (by omega) k (by omega) e) ⟨_, hty j (by omega)⟩ ⟨_, hty k (by omega)⟩
    rw [if_neg (fun e9 => hap e9.1)]
    exact g4 j w hj
theorem r_putfield {a k kd index : Nat} {fs : List Value} {v : Value} {C : String} {T : u_T} {N : Nat} {ty : Nat → FieldType} (hdg : decode y.2.1 pc = .ok (.putfield index, 3)) (hc : h.1 a = some (kd, true, fs)) (hk : k < fs.length) (hq : clAll[kd]? = some (C, T, N)) (hy : kYAll[kd]? = some ty)
    (hw : FLink y.1.cls index (T k).1 (T k).2.1 (T k).2.2.1) (hfin : (T k).2.2.2 = false ∨ ((T k).2.2.2 = true ∧ y.1.name = "<init>" ∧ (T k).1 = y.1.cls)) (hn : narrow (ty k) v = v) (hf : fits (ty k) v = true)
    (kk : MF G d y (pc + 3) L st (h.put a (fs.set k v)) Q) : MF G d y pc L (v :: .ref a :: st) h Q := by
  intro p l e R s m as below meth c H locs cells slots ls hx hl hr hL
  obtain ⟨hlen, cell, h1, h2, h3, h4⟩ := rep_obj hr hc hq
  have hlen : fs.length = N := hlen
  have hK := hx.2.2.2.2.2.2.2.2.1
  have hkN : k < N := by omega
  obtain ⟨cf, kf, fi, fd, hi, hsl, hst⟩ := K_field hK hq hkN
  obtain ⟨ty', hy', hty, -⟩ := clAll_ok kd _ hq
  cases hy.symm.trans hy'
  obtain ⟨hS, hfc, kC, hkC, hkind⟩ := hK.2.1 kd _ hq
  have hlays := u_lays (args := as) (K_lays hK hq as) (fun w h => h) hkN
  have hnf := u_fits hfc hkC hkind hlays hi (hty k hkN) hn hf
  have hown := hx.2.2.2.2.2.2.2.1
  have hb : G.H0.size ≤ a := (hr.2.2.2.1 a _ hc).2 rfl
  have hslot : fd.slot < cell.slots.size := by rw [hsl]; exact (Array.getElem?_eq_some_iff.mp (h4 k _ (List.getElem?_eq_getElem hk))).1
  have ha : a < H.size := (Array.getElem?_eq_some_iff.mp h1).1
  have hun : cell.vm ≠ .unknown := fun e9 => by rw [h3] at e9; cases e9
  have hfit9 : s.fitsSlot cell.cls cell.vm fd.slot v = true := by rw [h2, h3]; exact hnf.2
  have hF : hasFlag fd.accessFlags Acc.final = false ∨ (m.cls = cf ∧ meth.name = "<init>") := by
    have hlay := K_lays hK hq as _ (u_in_lay hkN)
    unfold u_lay at hlay
    rcases hfin with hfin | ⟨hfin, hin, hdecl⟩
    · rw [hfin] at hlay
      exact Or.inl (u_store hfc hkC hkind hlay hi (hty k hkN) hn hf).1
    · rw [if_pos hfin] at hlay
      right
      obtain ⟨_, _, c', _, _, _, -, -, hf', -, -, -, hown2, -⟩ := Cond.laysFinal_spec hlay
      have e1 : c' = cf := by have := hi.symm.trans hf'; simp at this; exact this.1.symm
      have hd9 : (T k).1 = y.1.cls := hdecl
      have hown2 : s.vm.findClass (T k).1 = some c' := hown2
      rw [hd9] at hown2
      exact ⟨by rw [← e1]; exact Option.some.inj (hown.symm.trans hown2), by rw [hx.2.2.2.2.2.2.1]; exact hin⟩
  have kw : W p l e R s m as below meth c (H.setIfInBounds a (cell.setSlot fd.slot v)) (locs ++ [⟨a, fd.slot⟩]) cells slots (MEnd G s below Q) (F0 m (pc + 3) ls st) := by
    refine kk p l e R s m as below meth c _ _ cells slots ls hx (fun z hz => ?_) (rep_putf hK hr hc hq hk h1 (by rw [← hsl]; simp [ha]) (by simp) (fun z hz => by simp [Array.getElem?_setIfInBounds, Ne.symm hz])) hL
    rcases List.mem_append.mp hz with h9 | h9
    · exact hl z h9
    · simp only [List.mem_singleton] at h9
      rw [h9]; exact hb
  rcases hw with hw | ⟨host, hw⟩ | ⟨ref, hw, hs⟩
  · exact W.putf hx.1 hx.2.1 hown (hK.1 _ hw rfl _) hi hst hF h1 hun hslot hnf.1 hfit9 rfl rfl hdg kw
  · exact va_Wputf hx.1 hx.2.1 hown (hK.1 _ hw rfl _) hi hst hF h1 hun hslot hnf.1 hfit9 rfl rfl hdg kw
  · exact W.putf hx.1 hx.2.1 hown (hK.1 _ hw rfl _) (u_same (hK.1 _ hs rfl as) _ hi) hst hF h1 hun hslot hnf.1 hfit9 rfl rfl hdg kw
/-! arrays -/
theorem isArr {s : State} {cell : Cell} {k : Nat} {ty : FieldType} (hK : KS G s) (ht : arrAll[k]? = some ty) (h2 : cell.cls = G.cC (100 + k)) (h3 : cell.vm = .none) : s.isArrayOf cell ty := by
  obtain ⟨-, kc, h5, comp, h6⟩ := (hK.2.2.1 k ty ht).1 0 (fun _ => .null)
  exact ⟨(fun q e => by rw [h3] at e; cases e), kc, by rw [h2]; exact h5, comp, h6⟩
theorem arrAll_lt {k : Nat} {ty : FieldType} (h : arrAll[k]? = some ty) : k < 100 := Nat.lt_trans (List.getElem?_eq_some_iff.mp h).1 (by decide)
theorem inB {cell : Cell} {fs : List Value} (h4 : cell.slots.toList = fs) {i : Int32} {v : Value} (h0 : ¬ i < 0) (hv : fs[i.toNatClampNeg]? = some v) : ¬ (i < 0 ∨ cell.slots.size ≤ i.toNatClampNeg) ∧ cell.slots[i.toNatClampNeg]? = some v := by
  have h9 : cell.slots[i.toNatClampNeg]? = some v := by rw [← h4, Array.getElem?_toList] at hv; exact hv
  refine ⟨fun h => ?_, h9⟩
  rcases h with h | h
  · exact h0 h
  · have := (Array.getElem?_eq_some_iff.mp h9).1
    omega
theorem r_iaload {a : Nat} {w : Bool} {fs : List Value} {i : Int32} {v : Int32} (hdg : decode y.2.1 pc = .ok (.iaload, 1)) (hc : h.1 a = some (100, w, fs)) (h0 : ¬ i < 0) (hv : fs[i.toNatClampNeg]? = some (.int v)) (kk : MF G d y (pc + 1) L (.int v :: st) h Q) : MF G d y pc L (.int i :: .ref a :: st) h Q := by
  intro p l e R s m as below meth c H locs cells slots ls hx hl hr hL
  obtain ⟨cell, h1, h2, h3, h4⟩ := rep_arr hr hc (by decide) (by decide)
  have hK := hx.2.2.2.2.2.2.2.2.1
  obtain ⟨b1, b2⟩ := inB h4 h0 hv
  exact W.iald hx.1 hx.2.1 h1 (isArr (k := 0) hK rfl h2 h3) (fun e9 => by rw [h3] at e9; cases e9) b1 b2 rfl rfl hdg (kk p l e R s m as below meth c H locs cells slots ls hx hl hr hL)
theorem r_baload {a : Nat} {w : Bool} {fs : List Value} {i : Int32} {v : Int32} (hdg : decode y.2.1 pc = .ok (.baload, 1)) (hc : h.1 a = some (101, w, fs)) (h0 : ¬ i < 0) (hv : fs[i.toNatClampNeg]? = some (.int v)) (kk : MF G d y (pc + 1) L (.int v :: st) h Q) : MF G d y pc L (.int i :: .ref a :: st) h Q := by
  intro p l e R s m as below meth c H locs cells slots ls hx hl hr hL
  obtain ⟨cell, h1, h2, h3, h4⟩ := rep_arr hr hc (by decide) (by decide)
  have hK := hx.2.2.2.2.2.2.2.2.1
  obtain ⟨b1, b2⟩ := inB h4 h0 hv
  exact W.bald hx.1 hx.2.1 h1 (isArr (k := 1) hK rfl h2 h3) (fun e9 => by rw [h3] at e9; cases e9) b1 b2 rfl rfl hdg (kk p l e R s m as below meth c H locs cells slots ls hx hl hr hL)
theorem r_laload {a : Nat} {w : Bool} {fs : List Value} {i : Int32} {v : Int64} (hdg : decode y.2.1 pc = .ok (.laload, 1)) (hc : h.1 a = some (102, w, fs)) (h0 : ¬ i < 0) (hv : fs[i.toNatClampNeg]? = some (.long v)) (kk : MF G d y (pc + 1) L (.long v :: st) h Q) : MF G d y pc L (.int i :: .ref a :: st) h Q := by
  intro p l e R s m as below meth c H locs cells slots ls hx hl hr hL
  obtain ⟨cell, h1, h2, h3, h4⟩ := rep_arr hr hc (by decide) (by decide)
  have hK := hx.2.2.2.2.2.2.2.2.1
  obtain ⟨b1, b2⟩ := inB h4 h0 hv
  exact W.lald hx.1 hx.2.1 h1 (isArr (k := 2) hK rfl h2 h3) (fun e9 => by rw [h3] at e9; cases e9) b1 b2 rfl rfl hdg (kk p l e R s m as below meth c H locs cells slots ls hx hl hr hL)
theorem r_zaload {a : Nat} {w : Bool} {fs : List Value} {i : Int32} {v : Int32} (hdg : decode y.2.1 pc = .ok (.baload, 1)) (hc : h.1 a = some (103, w, fs)) (h0 : ¬ i < 0) (hv : fs[i.toNatClampNeg]? = some (.int v)) (kk : MF G d y (pc + 1) L (.int v :: st) h Q) : MF G d y pc L (.int i :: .ref a :: st) h Q := by
  intro p l e R s m as below meth c H locs cells slots ls hx hl hr hL
  obtain ⟨cell, h1, h2, h3, h4⟩ := rep_arr hr hc (by decide) (by decide)
  have hK := hx.2.2.2.2.2.2.2.2.1
  obtain ⟨b1, b2⟩ := inB h4 h0 hv
  exact W.zald hx.1 hx.2.1 h1 (isArr (k := 3) hK rfl h2 h3) (fun e9 => by rw [h3] at e9; cases e9) b1 b2 rfl rfl hdg (kk p l e R s m as below meth c H locs cells slots ls hx hl hr hL)
theorem r_aaload {a kd : Nat} {w : Bool} {fs : List Value} {i : Int32} {v : Value} {ty : FieldType} (hdg : decode y.2.1 pc = .ok (.aaload, 1)) (hc : h.1 a = some (100 + kd, w, fs)) (ht : arrAll[kd]? = some ty) (hrt : ty.isReference = true) (h0 : ¬ i < 0) (hv : fs[i.toNatClampNeg]? = some v) (kk : MF G d y (pc + 1) L (v :: st) h Q) : MF G d y pc L (.int i :: .ref a :: st) h Q := by
  intro p l e R s m as below meth c H locs cells slots ls hx hl hr hL
  obtain ⟨cell, h1, h2, h3, h4⟩ := rep_arr hr hc (by omega) (by have := arrAll_lt ht; omega)
  have hK := hx.2.2.2.2.2.2.2.2.1
  obtain ⟨b1, b2⟩ := inB h4 h0 hv
  exact W.aald hx.1 hx.2.1 h1 (isArr hK ht h2 h3) hrt (fun e9 => by rw [h3] at e9; cases e9) b1 b2 rfl rfl hdg (kk p l e R s m as below meth c H locs cells slots ls hx hl hr hL)
theorem rep_puta {H H' : Heap} {a kd i : Nat} {fs : List Value} {v : Value} {cell : Cell} (hr : RepH G h H) (hc : h.1 a = some (kd, true, fs)) (hk : 100 ≤ kd) (hk3 : kd < 300) (h1 : H[a]? = some cell) (e1 : H'[a]? = some (cell.setSlot i v)) (e2 : H'.size = H.size) (e3 : ∀ z : Nat, z ≠ a → H'[z]? = H[z]?) : RepH G (h.put a (fs.set i v)) H' := by
  obtain ⟨cell0, g1, g2, g3, g4⟩ := rep_arr hr hc hk hk3
  cases g1.symm.trans h1
  refine rep_put hr hc h1 e1 e2 (set_slot_size _ _ _) e3 ⟨_, e1, g2, g3, fun h100 => absurd h100 (by simp; omega), fun _ _ => ?_⟩
  rw [← g4]
  simp [Cell.setSlot]
theorem locs_app {locs : List Loc} {a i b : Nat} (hl : ∀ z ∈ locs, b ≤ z.base) (hb : b ≤ a) : ∀ z ∈ locs ++ [(⟨a, i⟩ : Loc)], b ≤ z.base := by
  intro z hz
  rcases List.mem_append.mp hz with h9 | h9
  · exact hl z h9
  · simp only [List.mem_singleton] at h9
    rw [h9]; exact hb
theorem inB2 {cell : Cell} {fs : List Value} (h4 : cell.slots.toList = fs) {i : Int32} (h0 : ¬ i < 0) (hv : i.toNatClampNeg < fs.length) : ¬ (i < 0 ∨ cell.slots.size ≤ i.toNatClampNeg) := by
  rw [← h4, Array.length_toList] at hv
  rintro (h | h)
  · exact h0 h
  · omega
theorem r_iastore {a : Nat} {fs : List Value} {i : Int32} {v : Int32} (hdg : decode y.2.1 pc = .ok (.iastore, 1)) (hc : h.1 a = some (100, true, fs)) (h0 : ¬ i < 0) (hv : i.toNatClampNeg < fs.length) (kk : MF G d y (pc + 1) L st (h.put a (fs.set i.toNatClampNeg (.int v))) Q) : MF G d y pc L (.int v :: .int i :: .ref a :: st) h Q := by
  intro p l e R s m as below meth c H locs cells slots ls hx hl hr hL
  obtain ⟨cell, h1, h2, h3, h4⟩ := rep_arr hr hc (by decide) (by decide)
  have hK := hx.2.2.2.2.2.2.2.2.1
  exact W.iast hx.1 hx.2.1 h1 (isArr (k := 0) hK rfl h2 h3) (fun e9 => by rw [h3] at e9; cases e9) (inB2 h4 h0 hv) rfl rfl hdg (fun H1 e1 e2 e3 => kk p l e R s m as below meth c H1 _ cells slots ls hx (locs_app hl ((hr.2.2.2.1 a _ hc).2 rfl)) (rep_puta hr hc (by decide) (by decide) h1 e1 e2 e3) hL)
theorem r_bastore {a : Nat} {fs : List Value} {i : Int32} {v : Int32} (hdg : decode y.2.1 pc = .ok (.bastore, 1)) (hc : h.1 a = some (101, true, fs)) (h0 : ¬ i < 0) (hv : i.toNatClampNeg < fs.length) (kk : MF G d y (pc + 1) L st (h.put a (fs.set i.toNatClampNeg (narrow .byte (.int v)))) Q) : MF G d y pc L (.int v :: .int i :: .ref a :: st) h Q := by
  intro p l e R s m as below meth c H locs cells slots ls hx hl hr hL
  obtain ⟨cell, h1, h2, h3, h4⟩ := rep_arr hr hc (by decide) (by decide)
  have hK := hx.2.2.2.2.2.2.2.2.1
  exact W.bast hx.1 hx.2.1 h1 (isArr (k := 1) hK rfl h2 h3) (fun e9 => by rw [h3] at e9; cases e9) (inB2 h4 h0 hv) rfl rfl hdg (fun H1 e1 e2 e3 => kk p l e R s m as below meth c H1 _ cells slots ls hx (locs_app hl ((hr.2.2.2.1 a _ hc).2 rfl)) (rep_puta hr hc (by decide) (by decide) h1 e1 e2 e3) hL)
theorem r_lastore {a : Nat} {fs : List Value} {i : Int32} {v : Int64} (hdg : decode y.2.1 pc = .ok (.lastore, 1)) (hc : h.1 a = some (102, true, fs)) (h0 : ¬ i < 0) (hv : i.toNatClampNeg < fs.length) (kk : MF G d y (pc + 1) L st (h.put a (fs.set i.toNatClampNeg (.long v))) Q) : MF G d y pc L (.long v :: .int i :: .ref a :: st) h Q := by
  intro p l e R s m as below meth c H locs cells slots ls hx hl hr hL
  obtain ⟨cell, h1, h2, h3, h4⟩ := rep_arr hr hc (by decide) (by decide)
  have hK := hx.2.2.2.2.2.2.2.2.1
  exact W.last hx.1 hx.2.1 h1 (isArr (k := 2) hK rfl h2 h3) (fun e9 => by rw [h3] at e9; cases e9) (inB2 h4 h0 hv) rfl rfl hdg (fun H1 e1 e2 e3 => kk p l e R s m as below meth c H1 _ cells slots ls hx (locs_app hl ((hr.2.2.2.1 a _ hc).2 rfl)) (rep_puta hr hc (by decide) (by decide) h1 e1 e2 e3) hL)
theorem r_zastore {a : Nat} {fs : List Value} {i : Int32} {v : Int32} (hdg : decode y.2.1 pc = .ok (.bastore, 1)) (hc : h.1 a = some (103, true, fs)) (h0 : ¬ i < 0) (hv : i.toNatClampNeg < fs.length) (kk : MF G d y (pc + 1) L st (h.put a (fs.set i.toNatClampNeg (narrow .boolean (.int v)))) Q) : MF G d y pc L (.int v :: .int i :: .ref a :: st) h Q := by
  intro p l e R s m as below meth c H locs cells slots ls hx hl hr hL
  obtain ⟨cell, h1, h2, h3, h4⟩ := rep_arr hr hc (by decide) (by decide)
  have hK := hx.2.2.2.2.2.2.2.2.1
  exact W.zast hx.1 hx.2.1 h1 (isArr (k := 3) hK rfl h2 h3) (fun e9 => by rw [h3] at e9; cases e9) (inB2 h4 h0 hv) rfl rfl hdg (fun H1 e1 e2 e3 => kk p l e R s m as below meth c H1 _ cells slots ls hx (locs_app hl ((hr.2.2.2.1 a _ hc).2 rfl)) (rep_puta hr hc (by decide) (by decide) h1 e1 e2 e3) hL)
end
