/-! CALLS: entering a method, coming back -/
set_option maxRecDepth 100000
/-- the word of a method's code -/
def cwOf (z : MI) : Cond := match z.2.2.2.2 with
  | [] => .code z.1 z.2.1 z.2.2.1 z.2.2.2.1
  | a :: b => .codeWith z.1 z.2.1 z.2.2.1 z.2.2.2.1 (a :: b)
theorem cw_spec {z : MI} {args : Array Value} {s : State} (h : (cwOf z).before args s = true) :
    ∃ (mk : MethodId) (methM : Method) (cM : Code), s.methodNamed? z.1 = some mk ∧ s.vm.method? mk = some methM ∧ methM.code = some cM ∧ cM.code = z.2.1 ∧ cM.maxLocals = z.2.2.1 ∧ methM.sig.returnType = z.2.2.2.1 ∧ methM.locks = false ∧
      cM.exceptionTable.toList.map (fun h => (h.startPc, h.endPc, h.handlerPc, h.catchType)) = z.2.2.2.2 ∧ parseMethodDescriptor z.1.desc = some methM.sig := by
  obtain ⟨nm, cc, ml, rt, hh⟩ := z
  cases hh with
  | nil =>
    have h9 : (Cond.code nm cc ml rt).before args s = true := h
    obtain ⟨mk, hn⟩ := Cond.code_named h9
    obtain ⟨methM, cM, a1, a2, a3, a4, a5, a6, a7, a8⟩ := Cond.code_spec hn h9
    refine ⟨mk, methM, cM, hn, a1, a2, a3, a4, a5, a6, ?_, a8⟩
    rw [Array.isEmpty_iff] at a7
    rw [a7]; rfl
  | cons a b =>
    have h9 : (Cond.codeWith nm cc ml rt (a :: b)).before args s = true := h
    obtain ⟨mk, methM, cM, hn, a1, a2, a3, a4, a5, a6, a7, a8⟩ := Cond.codeWith_spec h9
    exact ⟨mk, methM, cM, hn, a1, a2, a3, a4, a6, a7, a5, a8⟩
theorem cw_ride (z : MI) : rideW (cwOf z) = true := by
  obtain ⟨nm, cc, ml, rt, hh⟩ := z
  cases hh <;> rfl
/-- what is asked of a callee: its code's word, a plain name, its class initialised, n parameters -/
def Callee (z : MI) (n : Nat) : Prop := cwOf z ∈ lw_tbl ∧ plainFor z.1 = true ∧ Cond.initialized z.1.cls ∈ lw_tbl ∧ (z.1.cls ≠ "java/lang/invoke/MethodHandle" ∧ z.1.cls ≠ "java/lang/invoke/VarHandle") ∧ (parseMethodDescriptor z.1.desc).map (fun d => d.parameters.length) = some n ∧ z.2.2.1 ≤ 60
theorem Callee.len {z : MI} {n : Nat} (h : Callee z n) {sig : MethodDescriptor} (hs : parseMethodDescriptor z.1.desc = some sig) : n = sig.parameters.length := by
  have h9 := h.2.2.2.2.1
  rw [hs] at h9
  exact (Option.some.inj h9).symm
/-- arguments laid into variables -/
def Ent : List Value → List Value → Prop
  | [], [] => True
  | v :: as, w :: L => v = w ∧ ((v.category = 1 ∧ (∀ n, v ≠ .retAddr n) ∧ Ent as L) ∨ (v.category = 2 ∧ ∃ L', L = .retAddr 2 :: L' ∧ Ent as L'))
  | _, _ => False
theorem ent_0 : Ent [] [] := trivial
theorem ent_i {x : Int32} {as L : List Value} (h : Ent as L) : Ent (.int x :: as) (.int x :: L) := ⟨rfl, Or.inl ⟨rfl, (fun n h => by cases h), h⟩⟩
theorem ent_f {x : UInt32} {as L : List Value} (h : Ent as L) : Ent (.float x :: as) (.float x :: L) := ⟨rfl, Or.inl ⟨rfl, (fun n h => by cases h), h⟩⟩
theorem ent_r {x : Nat} {as L : List Value} (h : Ent as L) : Ent (.ref x :: as) (.ref x :: L) := ⟨rfl, Or.inl ⟨rfl, (fun n h => by cases h), h⟩⟩
theorem ent_n {as L : List Value} (h : Ent as L) : Ent (.null :: as) (.null :: L) := ⟨rfl, Or.inl ⟨rfl, (fun n h => by cases h), h⟩⟩
theorem ent_q {o : Option Nat} {as L : List Value} (h : Ent as L) : Ent (va_rf o :: as) (va_rf o :: L) := ⟨rfl, Or.inl ⟨rf_cat o, rf_nr o, h⟩⟩
theorem ent_v {v : Value} {as L : List Value} (hv : v.isRef = true) (h : Ent as L) : Ent (v :: as) (v :: L) := by
  obtain ⟨o, rfl⟩ := isRef_rf hv
  exact ent_q h
theorem ent_j {x : Int64} {as L : List Value} (h : Ent as L) : Ent (.long x :: as) (.long x :: .retAddr 2 :: L) := ⟨rfl, Or.inr ⟨rfl, L, rfl, h⟩⟩
theorem ent_d {x : UInt64} {as L : List Value} (h : Ent as L) : Ent (.double x :: as) (.double x :: .retAddr 2 :: L) := ⟨rfl, Or.inr ⟨rfl, L, rfl, h⟩⟩
theorem ent_args : ∀ (as L0 : List Value), Ent as L0 → (lg_sl as).length = L0.length ∧ ∀ (b : Nat) (tail : List Value) (i : Nat) (v : Value), (∀ x, tail.head? = some x → x = .retAddr 0) → (L0 ++ tail)[i]? = some v → i < L0.length → (∀ n, v ≠ .retAddr n) → (v.category = 2 → (L0 ++ tail)[i + 1]? = some (.retAddr 2)) → (b + i, v) ∈ lv_args b as := by
  intro as
  induction as with
  | nil =>
    intro L0 h
    cases L0 with
    | nil => exact ⟨rfl, fun b tail i v _ h1 h2 => by simp at h2⟩
    | cons a t => exact h.elim
  | cons a as ih =>
    intro L0 h
    cases L0 with
    | nil => exact h.elim
    | cons w L =>
      obtain ⟨rfl, ⟨h1, h2, h3⟩ | ⟨h1, L', rfl, h3⟩⟩ := h
      · obtain ⟨g1, g2⟩ := ih L h3
        refine ⟨?_, fun b tail i v ht hi hl hn hw => ?_⟩
        · show ((if a.category = 2 then [Slot.val a, .second] else [.val a]) ++ lg_sl as).length = _
          rw [if_neg (by omega)]; simp [g1]
        · cases i with
          | zero =>
            have : a = v := by simpa using hi
            subst this
            simp [lv_args]
          | succ i =>
            have hm := g2 (b + 1) tail i v ht (by simpa using hi) (by simpa using hl) hn (fun q => by simpa using hw q)
            show _ ∈ (b, a) :: lv_args (if a.category = 2 then b + 2 else b + 1) as
            rw [if_neg (by omega)]
            refine List.mem_cons_of_mem _ ?_
            rw [show b + (i + 1) = b + 1 + i by omega]; exact hm
      · obtain ⟨g1, g2⟩ := ih L' h3
        refine ⟨?_, fun b tail i v ht hi hl hn hw => ?_⟩
        · show ((if a.category = 2 then [Slot.val a, .second] else [.val a]) ++ lg_sl as).length = _
          rw [if_pos h1]; simp [g1]
        · match i with
          | 0 =>
            have : a = v := by simpa using hi
            subst this
            simp [lv_args]
          | 1 =>
            have : v = .retAddr 2 := by simpa using hi.symm
            exact absurd this (hn 2)
          | i + 2 =>
            have hm := g2 (b + 2) tail i v ht (by simpa using hi) (by simpa using hl) hn (fun q => by simpa using hw q)
            show _ ∈ (b, a) :: lv_args (if a.category = 2 then b + 2 else b + 1) as
            rw [if_pos h1]
            refine List.mem_cons_of_mem _ ?_
            rw [show b + (i + 2) = b + 2 + i by omega]; exact hm
theorem ent_rel {as L0 Lz : List Value} {n : Nat} (h : Ent as L0) (hLz : Lz = L0 ++ List.replicate (n - L0.length) (.retAddr 0)) (hn : L0.length ≤ n) :
    LRel Lz (lg_sl as ++ List.replicate (n - (lg_sl as).length) Slot.unset).toArray ∧ Lz.length = n := by
  obtain ⟨g1, g2⟩ := ent_args as L0 h
  have hlen : Lz.length = n := by rw [hLz]; simp; omega
  refine ⟨LRel.of hlen (lv_entry as (by rw [g1]; exact hn)) fun q hq => ?_, hlen⟩
  obtain ⟨h1, h2, h3⟩ := lvl_mem.mp hq
  rw [hLz] at h1 h3
  by_cases hi : q.1 < L0.length
  · have hm := g2 0 _ q.1 q.2 (fun x hx => by
      cases hk : n - L0.length with
      | zero => rw [hk] at hx; simp at hx
      | succ k => rw [hk, List.replicate_succ] at hx; exact (Option.some.inj hx).symm) h1 hi h2 h3
    simpa using hm
  · rw [List.getElem?_append_right (by omega)] at h1
    have := List.mem_of_getElem? h1
    have := List.eq_of_mem_replicate this
    exact absurd this (h2 0)
section
variable {G : GL} {d pc : Nat} {y : MI} {L rest : List Value} {h : AH} {Q : Out → AH → Prop}
variable {p : Program} {l : Launch} {e : Env} {R : Room} {s : State} {m : MethodId} {args : Array Value} {below : List Frame} {meth : Method} {c : Code} {H : Heap} {locs : List Loc} {cells slots : Nat} {ls : Array Slot}
theorem cat_le (v : Value) : v.category ≤ 2 := by rcases lv_cat v with h9 | h9 <;> omega
theorem sum_cat (st : List Value) : (st.map fun v => v.category).sum ≤ 2 * st.length := by
  induction st with
  | nil => simp
  | cons a t ih =>
    have := cat_le a
    simp only [List.map_cons, List.sum_cons, List.length_cons]
    omega
/-- the callee's frame entered, and come back from: by its number -/
theorem call_enter {T : State} {z : MI} {ig : Instr} {len : Nat} {mk : MethodId} {methk : Method} {ck : Code} {As Lz L0 : List Value} {Q2 : Out → AH → Prop}
    (hx : MX G (d + 1) y p l R s m meth c) (X : Stand p l e R s m args below meth c T locs cells slots) (hl : ∀ z ∈ locs, G.H0.size ≤ z.base) (hr : RepH G h T.heap) (hL : LRel L ls) (hLn : L.length = y.2.2.1)
    (hdg : decode y.2.1 pc = .ok (ig, len)) (hmk : T.vm.method? mk = some methk) (hck : methk.code = some ck) (hlk : methk.locks = false) (hpk : T.plainMethod mk) (hrest : rest.length ≤ 20) (hz60 : ck.maxLocals ≤ 60)
    (hZ : ∀ (R' : Room) (s' : State), s'.vm = T.vm → s'.heap = T.heap → s'.slotsUsed = T.slotsUsed → d ≤ R'.frames → 4000 + 200 * d ≤ R'.locals → G.capC ≤ s'.heap.size + R'.cells → G.capS ≤ s'.slotsUsed + R'.slots → MX G d z p l R' s' mk methk ck)
    (hent : Ent As L0) (hLz : Lz = L0 ++ List.replicate (ck.maxLocals - L0.length) (.retAddr 0)) (hL0 : L0.length ≤ ck.maxLocals)
    (k : MF G d z 0 Lz [] h Q2) (kn : ∀ v h', Q2 (.inl v) h' → MF G (d + 1) y (pc + len) L (v.toList ++ rest) h' Q) (kx : ∀ q h', Q2 (.inr q) h' → MT G (d + 1) y pc L rest h' q Q) :
    ∃ t, Steps p.tables e below (doInvoke e (T.setTop (F0 m pc ls rest)) [] mk As.toArray).1 t ∧ MEnd G s below Q t := by
  have hb := book_sum X.book
  have hX2 := X
  obtain ⟨s1, s2, s3, s4, s5, s6⟩ := X.same
  have hu : (T.setVm s.vm).slotsUsed = T.slotsUsed := rfl
  have hh : (T.setVm s.vm).heap = T.heap := rfl
  have s2' : s.heap.size ≤ T.heap.size := s2
  have hsl : s.slotsUsed ≤ T.slotsUsed := by rw [hu] at s4; omega
  have X' : Stand p l e R s m args below meth c T locs (T.heap.size - s.heap.size) (T.slotsUsed - s.slotsUsed) :=
    { X with same := ⟨s1, s2, (by show T.heap.size ≤ _; omega), s4, (by rw [hu] at s4; omega), s6⟩ }
  have hsize : (F0 m pc ls rest).locals.size = c.maxLocals := by
    show ls.size = _
    rw [hL.1, hLn, hx.2.2.1]
  obtain ⟨-, -, -, -, -, -, -, -, hKS, hst9, f1, f2, c1, c2, c3⟩ := id hx
  obtain ⟨r1, r2, r3, r4, r5, r6⟩ := id hr
  have hsum := sum_cat rest
  have hdc : decode c.code (F0 m pc ls rest).pc = .ok (ig, len) := by rw [hx.2.1]; exact hdg
  obtain ⟨Y, hdo⟩ := X'.into (g := F0 m pc ls rest) rfl hsize hdc (mk := mk) (methk := methk) (ck := ck) As.toArray (R' := { frames := d, cells := G.capC - T.heap.size, slots := G.capS - T.slotsUsed, locals := 4000 + 200 * d }) hmk hck hlk hpk
    (by show d + 1 ≤ _; omega)
    (by show 2 * 0 + (rest.map fun v => v.category).sum + (ck.maxLocals + 11) + (4000 + 200 * d) ≤ R.locals; omega)
    (by show T.heap.size - s.heap.size + (G.capC - T.heap.size) ≤ R.cells; omega) (by show T.slotsUsed - s.slotsUsed + (G.capS - T.slotsUsed) ≤ R.slots; rw [← hb] at r6; omega)
  rw [hdo]
  rw [lg_entry_eq]
  rw [lg_entry_eq] at Y
  obtain ⟨e1, e2⟩ := ent_rel (n := ck.maxLocals) hent hLz hL0
  have hmx := hZ { frames := d, cells := G.capC - T.heap.size, slots := G.capS - T.slotsUsed, locals := 4000 + 200 * d } (T.calling (F0 m pc ls rest) mk As.toArray) rfl rfl rfl (Nat.le_refl _) (Nat.le_refl _) (by show G.capC ≤ T.heap.size + (G.capC - T.heap.size); omega) (by show G.capS ≤ T.slotsUsed + (G.capS - T.slotsUsed); omega)
  have hk := k p l e _ _ _ As.toArray (.java (F0 m pc ls rest) :: below) _ _ T.heap [] 0 0 _ hmx (fun z hz => nomatch hz) hr e1
  obtain ⟨t, st1, o, h', L9, k9, n9, a1, a2, a3, a4, a5, a6, a7⟩ := hk _ (by rfl) Y
  cases o with
  | inl v =>
    obtain ⟨T2, X2, hW2, -, ht⟩ := X'.outOf (g := F0 m pc ls rest) rfl hdc (v := v) a2 a5 a6
    have hr2 : RepH G h' T2.heap := by rw [ht] at a4; exact a4
    obtain ⟨t2, st2, hend⟩ := kn v h' a3 p l e R s m args below meth c T2.heap _ _ _ ls hx (fun z hz => by
      rcases List.mem_append.mp hz with h9 | h9
      · exact hl z h9
      · exact a7 z h9) hr2 hL T2 rfl X2
    refine ⟨t2, (Steps.weaken (mid := [.java (F0 m pc ls rest)]) st1).trans ?_, hend⟩
    rw [ht]; exact st2
  | inr q =>
    obtain ⟨T2, X2, hW2, -, ht⟩ := X'.outOfThrown (g := F0 m pc ls rest) rfl a2 a5 a6
    have hr2 : RepH G h' T2.heap := by rw [ht] at a4; exact a4
    obtain ⟨t2, st2, hend⟩ := kx q h' a3 p l e R s m args below meth c T2.heap _ _ _ ls hx (fun z hz => by
      rcases List.mem_append.mp hz with h9 | h9
      · exact hl z h9
      · exact a7 z h9) hr2 hL T2 rfl X2
    refine ⟨t2, (Steps.weaken (mid := [.java (F0 m pc ls rest)]) st1).trans ?_, hend⟩
    rw [ht]; exact st2
end
