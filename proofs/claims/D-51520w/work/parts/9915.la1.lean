/-! linked lists -/
set_option maxRecDepth 100000
theorem i32_dec {a : Nat} : i32 (a + 1) + (-1) = i32 a := by
  rw [← i32_succ, Int32.add_assoc, show (1 : Int32) + (-1) = 0 from by decide, Int32.add_zero]
/-- a node and its item -/
abbrev NP : Type := Nat × Nat
def ndV (ps : List NP) (i : Nat) : Value := match ps[i]? with
  | some p => .ref p.1
  | none => .null
def prV (ps : List NP) : Nat → Value
  | 0 => .null
  | i + 1 => ndV ps i
theorem ndV_ref {ps : List NP} {i : Nat} : (ndV ps i).isRef = true := by unfold ndV; split <;> rfl
theorem prV_ref {ps : List NP} {i : Nat} : (prV ps i).isRef = true := by cases i; rfl; exact ndV_ref
theorem ndV_s {ps : List NP} {i : Nat} {p : NP} (h : ps[i]? = some p) : ndV ps i = .ref p.1 := by unfold ndV; rw [h]
theorem ndV_n {ps : List NP} {i : Nat} (h : ps.length ≤ i) : ndV ps i = .null := by unfold ndV; rw [List.getElem?_eq_none h]
theorem ndV_app {ps : List NP} {p : NP} {i : Nat} (h : i < ps.length) : ndV (ps ++ [p]) i = ndV ps i := by unfold ndV; rw [List.getElem?_append_left h]
theorem ndV_last {ps : List NP} {p : NP} : ndV (ps ++ [p]) ps.length = .ref p.1 := by unfold ndV; simp
theorem prV_app {ps : List NP} {p : NP} {i : Nat} (h : i ≤ ps.length) : prV (ps ++ [p]) i = prV ps i := by
  cases i with
  | zero => rfl
  | succ i => exact ndV_app (by omega)
/-- a linked list at a -/
def LLh (h : AH) (a : Nat) (ps : List NP) : Prop := ∃ mc : Int32, h.1 a = some (18, true, [.int mc, .int (i32 ps.length), ndV ps 0, prV ps ps.length]) ∧ (∀ (i : Nat) (p : NP), ps[i]? = some p → h.1 p.1 = some (19, true, [.ref p.2, ndV ps (i + 1), prV ps i])) ∧ (∀ (i j : Nat) (p q : NP), ps[i]? = some p → ps[j]? = some q → p.1 = q.1 → i = j) ∧ ps.length ≤ 100
theorem LLh.chg {h h' : AH} {a c : Nat} {ps : List NP} {F : Nat → Prop} (hp : LLh h a ps) (hc : Chg c F h h') (ha : ¬ F a) (hd : ∀ p, p ∈ ps → ¬ F p.1) : LLh h' a ps := by
  obtain ⟨mc, h1, h2, h3⟩ := hp
  exact ⟨mc, hc.2.2.2.2 _ _ h1 (show KX 18 from by decide) ha, fun i p hi => hc.2.2.2.2 _ _ (h2 i p hi) (show KX 19 from by decide) (hd p (List.mem_of_getElem? hi)), h3⟩
theorem LLh.app {h h' : AH} {a n q : Nat} {ps : List NP} {mc : Int32} (hp : LLh h a ps) (hn0 : ∀ p, p ∈ ps → p.1 ≠ n) (hl : ps.length < 100) (hn : h'.1 n = some (19, true, [.ref q, .null, prV ps ps.length])) (ha : h'.1 a = some (18, true, [.int mc, .int (i32 (ps.length + 1)), ndV (ps ++ [(n, q)]) 0, .ref n])) (hlast : ∀ i p, ps[i]? = some p → i + 1 = ps.length → h'.1 p.1 = some (19, true, [.ref p.2, .ref n, prV ps i])) (ho : ∀ i p, ps[i]? = some p → i + 1 < ps.length → h'.1 p.1 = h.1 p.1) : LLh h' a (ps ++ [(n, q)]) := by
  obtain ⟨mc0, h1, h2, h3, h4⟩ := hp
  have hlen : (ps ++ [(n, q)]).length = ps.length + 1 := by simp
  have at1 : ∀ i p, (ps ++ [(n, q)])[i]? = some p → (i < ps.length ∧ ps[i]? = some p) ∨ (i = ps.length ∧ p = (n, q)) := by
    intro i p hi
    have hil := (List.getElem?_eq_some_iff.mp hi).1
    rw [hlen] at hil
    by_cases e : i < ps.length
    · rw [List.getElem?_append_left e] at hi
      exact Or.inl ⟨e, hi⟩
    · have e2 : i = ps.length := by omega
      subst e2
      rw [List.getElem?_append_right (Nat.le_refl _), Nat.sub_self] at hi
      exact Or.inr ⟨rfl, (Option.some.inj hi).symm⟩
  refine ⟨mc, ?_, fun i p hi => ?_, fun i j p r hi hj e => ?_, by omega⟩
  · rw [hlen]
    show _ = some (18, true, [.int mc, .int (i32 (ps.length + 1)), ndV (ps ++ [(n, q)]) 0, ndV (ps ++ [(n, q)]) ps.length])
    rw [ndV_last]
    exact ha
  · rcases at1 i p hi with ⟨e1, e2⟩ | ⟨e1, e2⟩
    · rw [prV_app (by omega)]
      by_cases e : i + 1 = ps.length
      · rw [e, ndV_last]
        exact hlast i p e2 e
      · rw [ndV_app (by omega), ho i p e2 (by omega)]
        exact h2 i p e2
    · subst e1; subst e2
      rw [prV_app (Nat.le_refl _), ndV_n (by omega)]
      exact hn
  · rcases at1 i p hi with ⟨e1, e2⟩ | ⟨e1, e2⟩
    · rcases at1 j r hj with ⟨f1, f2⟩ | ⟨f1, f2⟩
      · exact h3 i j p r e2 f2 e
      · subst f2
        exact absurd e (hn0 p (List.mem_of_getElem? e2))
    · rcases at1 j r hj with ⟨f1, f2⟩ | ⟨f1, f2⟩
      · subst e2
        exact absurd e.symm (hn0 r (List.mem_of_getElem? f2))
      · omega
theorem LLh.tl {h h' : AH} {a : Nat} {p : NP} {t : List NP} {mc : Int32} (hp : LLh h a (p :: t)) (ha : h'.1 a = some (18, true, [.int mc, .int (i32 t.length), ndV t 0, prV t t.length])) (hf : ∀ r, t[0]? = some r → h'.1 r.1 = some (19, true, [.ref r.2, ndV t 1, .null])) (ho : ∀ i r, 0 < i → t[i]? = some r → h'.1 r.1 = h.1 r.1) : LLh h' a t := by
  obtain ⟨mc0, h1, h2, h3, h4⟩ := hp
  have h4' : t.length + 1 ≤ 100 := h4
  refine ⟨mc, ha, fun i r hi => ?_, fun i j r s hi hj e => ?_, by omega⟩
  · cases i with
    | zero => exact hf r hi
    | succ i =>
      rw [ho (i + 1) r (by omega) hi]
      exact h2 (i + 2) r hi
  · have := h3 (i + 1) (j + 1) r s hi hj e
    omega
theorem LLh.node_ne {h : AH} {a i : Nat} {p : NP} {ps : List NP} (hp : LLh h a ps) (hi : ps[i]? = some p) : p.1 ≠ a := by
  obtain ⟨mc, h1, h2, -⟩ := hp
  intro e
  have := h2 i p hi
  rw [e, h1] at this
  cases this
section
variable {G : GL} {d : Nat} {h : AH} {a : Nat} {ps : List NP} {Qx : Nat → AH → Prop}
theorem s_llInit {K : AH → Prop} (ha : h.1 a = some (18, true, [.int 0, .int 0, .null, .null])) (HK : ∀ h', LLh h' a [] → Chg 0 (fun q => q = a) h h' → K h') : MF G (d + 4) mi_LinkedList_init 0 [.ref a] [] h (cV K Qx) := by
  have h1 := AH.put_self (fs' := [.int 0, .int 0, .null, .null]) ha
  have h2 := AH.put_self (fs' := [.int 0, .int 0, .null, .null]) h1
  have c1 := Chg.put (F := fun q => q = a) (fs' := [.int 0, .int 0, .null, .null]) ha (by decide) rfl
  have c2 := Chg.put (F := fun q => q = a) (fs' := [.int 0, .int 0, .null, .null]) h1 (by decide) rfl
  refine b_LinkedList_init_0 (b_AbstractSequentialList_init_0 (b_AbstractList_init_0 (b_AbstractCollection_init_0 (cV_mk (pF_of ha (by simp) (by simp) (cV_mk (cV_mk (pF_of h1 (by simp) (by simp) (cV_mk (HK _ ⟨0, h2, fun i p hi => by simp at hi, fun i j p q hi => by simp at hi, by simp⟩ (c1.same c2)))))))))))
theorem s_llSize {K : Int32 → AH → Prop} (hp : LLh h a ps) (HK : K (i32 ps.length) h) : MF G d mi_LinkedList_size 0 [.ref a] [] h (cI K Qx) := by
  obtain ⟨mc, h1, -⟩ := hp
  exact b_LinkedList_size_0 (gI_of h1 (by simp) rfl (cI_mk HK))
theorem s_llAdd {q : Nat} {K : AH → Prop} (hp : LLh h a ps) (hl : ps.length < 100) (hroom : 7 ≤ h.2.2) (HK : ∀ h', LLh h' a (ps ++ [(h.2.1, q)]) → Chg 7 (fun x => x = a ∨ ∃ p, p ∈ ps ∧ x = p.1) h h' → h.2.1 < h'.2.1 → K h') : MF G (d + 3) mi_LinkedList_addLast 0 [.ref a, .ref q] [] h (cV K Qx) := by
  have hp0 := hp
  obtain ⟨mc, h1, h2, h3, h4⟩ := hp
  refine MF.wfh fun hw => b_LinkedList_addLast_0 rfl ⟨hasKs_of h1 (by simp), b_LinkedList_linkLast_0 rfl (gR_of h1 (by simp) rfl prV_ref ⟨_, _, rfl, rfl, hroom, b_LinkedListNode_init_0 prV_ref rfl rfl ?_⟩)⟩
  have hal : a < h.2.1 := hw _ _ h1
  have nlt : ∀ p, p ∈ ps → p.1 < h.2.1 := fun p hp => by
    obtain ⟨i, hi⟩ := List.mem_iff_getElem?.mp hp
    exact hw _ _ (h2 i p hi)
  have c0 := Chg.new (kd := 19) (fs := [.null, .null, .null]) hw hroom
  have n0 : (h.new 19 [.null, .null, .null] 7).1 h.2.1 = some (19, true, [.null, .null, .null]) := AH.new_self
  have n1 := AH.put_self (fs' := [.ref q, .null, .null]) n0
  have n2 := AH.put_self (fs' := [.ref q, .null, .null]) n1
  have n3 := AH.put_self (fs' := [.ref q, .null, prV ps ps.length]) n2
  have b1 := Chg.put (F := fun x => x = h.2.1) (fs' := [.ref q, .null, .null]) n0 (by decide) rfl
  have b2 := Chg.put (F := fun x => x = h.2.1) (fs' := [.ref q, .null, .null]) n1 (by decide) rfl
  have b3 := Chg.put (F := fun x => x = h.2.1) (fs' := [.ref q, .null, prV ps ps.length]) n2 (by decide) rfl
  have cN := c0.trans ((b1.same b2).same b3) (F := F0s) fun x y e h9 => by have := hw _ _ e; omega
  refine pF_of n0 (by simp) (by simp) (pF_of n1 (by simp) (by simp) (pF_of n2 (by simp) (by simp) (cV_mk ?_)))
  generalize hM : (((h.new 19 [.null, .null, .null] 7).put h.2.1 [.ref q, .null, .null]).put h.2.1 [.ref q, .null, .null]).put h.2.1 [.ref q, .null, prV ps ps.length] = M at *
  have hM' : (((h.new 19 [.null, .null, .null] 7).put h.2.1 ([.null, .null, .null].set 0 (.ref q))).put h.2.1 ([.ref q, .null, .null].set 1 .null)).put h.2.1 ([.ref q, .null, .null].set 2 (prV ps ps.length)) = M := hM
  rw [hM']
  have hM2 : M.2.1 = h.2.1 + 1 := by rw [← hM]; rfl
  have a0 : M.1 a = some (18, true, [.int mc, .int (i32 ps.length), ndV ps 0, prV ps ps.length]) := cN.2.2.2.2 _ _ h1 (show KX 18 from by decide) fun h9 => h9
  have m2 : ∀ i p, ps[i]? = some p → M.1 p.1 = some (19, true, [.ref p.2, ndV ps (i + 1), prV ps i]) := fun i p hi => cN.2.2.2.2 _ _ (h2 i p hi) (show KX 19 from by decide) fun h9 => h9
  have hna : h.2.1 ≠ a := by omega
  have a1 := AH.put_self (fs' := [.int mc, .int (i32 ps.length), ndV ps 0, .ref h.2.1]) a0
  have p1 := Chg.put (F := fun x => x = a ∨ ∃ p, p ∈ ps ∧ x = p.1) (fs' := [.int mc, .int (i32 ps.length), ndV ps 0, .ref h.2.1]) a0 (by decide) (Or.inl rfl)
  have nall : ∀ (i : Nat) (p : NP), ps[i]? = some p → p.1 ≠ a := fun i p hi => hp0.node_ne hi
  refine pF_of a0 (by simp) (by simp) ⟨fun hnull => ?_, fun q5 hq5 => ?_⟩
  · have hps : ps = [] := by
      cases hps : ps with
      | nil => rfl
      | cons x t =>
        rw [hps] at hnull
        have : ndV (x :: t) t.length = .null := hnull
        obtain ⟨y, hy⟩ : ∃ y, (x :: t)[t.length]? = some y := ⟨_, List.getElem?_eq_getElem (by simp)⟩
        rw [ndV_s hy] at this
        cases this
    subst hps
    have a2 := AH.put_self (fs' := [.int mc, .int (i32 0), .ref h.2.1, .ref h.2.1]) a1
    have a3 := AH.put_self (fs' := [.int mc, .int (i32 1), .ref h.2.1, .ref h.2.1]) a2
    have a4 := AH.put_self (fs' := [.int (mc + 1), .int (i32 1), .ref h.2.1, .ref h.2.1]) a3
    have p2 := Chg.put (F := fun x => x = a ∨ ∃ p, p ∈ ([] : List NP) ∧ x = p.1) (fs' := [.int mc, .int (i32 0), .ref h.2.1, .ref h.2.1]) a1 (by decide) (Or.inl rfl)
    have p3 := Chg.put (F := fun x => x = a ∨ ∃ p, p ∈ ([] : List NP) ∧ x = p.1) (fs' := [.int mc, .int (i32 1), .ref h.2.1, .ref h.2.1]) a2 (by decide) (Or.inl rfl)
    have p4 := Chg.put (F := fun x => x = a ∨ ∃ p, p ∈ ([] : List NP) ∧ x = p.1) (fs' := [.int (mc + 1), .int (i32 1), .ref h.2.1, .ref h.2.1]) a3 (by decide) (Or.inl rfl)
    refine pF_of a1 (by simp) (by simp) (gI_of a2 (by simp) rfl (pF_of a2 (by simp) (by simp) (gI_of a3 (by simp) rfl (pF_of a3 (by simp) (by simp) (cV_mk (cV_mk (HK _ ?_ ?_ ?_)))))))
    · refine LLh.app hp0 (fun p h9 => (List.not_mem_nil h9).elim) (by simp) ?_ a4 (fun i p hi => by simp at hi) fun i p hi => by simp at hi
      rw [AH.put_ne hna, AH.put_ne hna, AH.put_ne hna, AH.put_ne hna]
      exact n3
    · exact (cN.mono (Nat.le_refl _) (F' := fun x => x = a ∨ ∃ p, p ∈ ([] : List NP) ∧ x = p.1) fun _ h9 => h9.elim).same (((p1.same p2).same p3).same p4)
    · show h.2.1 < M.2.1; omega
  · obtain ⟨k, hk⟩ : ∃ k, ps.length = k + 1 := by
      cases hps : ps.length with
      | zero => rw [hps] at hq5; cases hq5
      | succ k => exact ⟨k, rfl⟩
    have hkl : k < ps.length := by omega
    have hr := List.getElem?_eq_getElem hkl
    generalize ps[k] = r at hr
    have hq5' : q5 = r.1 := by
      rw [hk] at hq5
      have : ndV ps k = .ref q5 := hq5
      rw [ndV_s hr] at this
      cases this; rfl
    subst hq5'
    have hra := nall k r hr
    have hrn : r.1 ≠ h.2.1 := by have := nlt r (List.mem_of_getElem? hr); omega
    have r0 : (M.put a [.int mc, .int (i32 ps.length), ndV ps 0, .ref h.2.1]).1 r.1 = some (19, true, [.ref r.2, ndV ps (k + 1), prV ps k]) := by rw [AH.put_ne hra]; exact m2 k r hr
    have r1 := AH.put_self (fs' := [.ref r.2, .ref h.2.1, prV ps k]) r0
    have p2 := Chg.put (F := fun x => x = a ∨ ∃ p, p ∈ ps ∧ x = p.1) (fs' := [.ref r.2, .ref h.2.1, prV ps k]) r0 (by decide) (Or.inr ⟨r, List.mem_of_getElem? hr, rfl⟩)
    have a2 : ((M.put a [.int mc, .int (i32 ps.length), ndV ps 0, .ref h.2.1]).put r.1 [.ref r.2, .ref h.2.1, prV ps k]).1 a = some (18, true, [.int mc, .int (i32 ps.length), ndV ps 0, .ref h.2.1]) := by rw [AH.put_ne (Ne.symm hra)]; exact a1
    have a3 := AH.put_self (fs' := [.int mc, .int (i32 (ps.length + 1)), ndV ps 0, .ref h.2.1]) a2
    have a4 := AH.put_self (fs' := [.int (mc + 1), .int (i32 (ps.length + 1)), ndV ps 0, .ref h.2.1]) a3
    have p3 := Chg.put (F := fun x => x = a ∨ ∃ p, p ∈ ps ∧ x = p.1) (fs' := [.int mc, .int (i32 (ps.length + 1)), ndV ps 0, .ref h.2.1]) a2 (by decide) (Or.inl rfl)
    have p4 := Chg.put (F := fun x => x = a ∨ ∃ p, p ∈ ps ∧ x = p.1) (fs' := [.int (mc + 1), .int (i32 (ps.length + 1)), ndV ps 0, .ref h.2.1]) a3 (by decide) (Or.inl rfl)
    refine pF_of r0 (by simp) (by simp) (gI_of a2 (by simp) rfl (pF_of a2 (by simp) (by simp) ?_))
    rw [i32_succ]
    refine gI_of a3 (by simp) rfl (pF_of a3 (by simp) (by simp) (cV_mk (cV_mk (HK _ ?_ ?_ ?_))))
    · refine LLh.app (mc := mc + 1) hp0 (fun p h9 => by have := nlt p h9; omega) hl ?_ ?_ (fun i p hi he => ?_) fun i p hi he => ?_
      · show ((_ : AH).put a _).1 _ = _
        rw [AH.put_ne hna, AH.put_ne hna, AH.put_ne (Ne.symm hrn), AH.put_ne hna]
        exact n3
      · rw [ndV_app (by omega)]
        exact a4
      · have e9 : i = k := by omega
        subst e9
        rw [hr] at hi
        cases hi
        show ((_ : AH).put a _).1 _ = _
        rw [AH.put_ne hra, AH.put_ne hra]
        exact r1
      · have hpr : p.1 ≠ r.1 := fun e9 => by have := h3 i k p r hi hr e9; omega
        have hpa := nall i p hi
        show ((_ : AH).put a _).1 _ = _
        rw [AH.put_ne hpa, AH.put_ne hpa, AH.put_ne hpr, AH.put_ne hpa, m2 i p hi, h2 i p hi]
    · exact (cN.mono (Nat.le_refl _) (F' := fun x => x = a ∨ ∃ p, p ∈ ps ∧ x = p.1) fun _ h9 => h9.elim).same (((p1.same p2).same p3).same p4)
    · show h.2.1 < M.2.1; omega
theorem s_llRemove {p : NP} {t : List NP} {K : Value → AH → Prop} (hp : LLh h a (p :: t)) (HK : ∀ h', LLh h' a t → Chg 0 (fun x => x = a ∨ ∃ r, r ∈ p :: t ∧ x = r.1) h h' → h'.2 = h.2 → K (.ref p.2) h') : MF G (d + 1) mi_LinkedList_removeFirst 0 [.ref a, .retAddr 0] [] h (cR K Qx) := by
  have hp0 := hp
  obtain ⟨mc, h1, h2, h3, h4⟩ := hp
  have hpa : p.1 ≠ a := hp0.node_ne (i := 0) rfl
  have n0 : h.1 p.1 = some (19, true, [.ref p.2, ndV (p :: t) 1, .null]) := h2 0 p rfl
  have hnt : ∀ i, ndV (p :: t) (i + 1) = ndV t i := fun i => rfl
  rw [hnt] at n0
  have h1' : h.1 a = some (18, true, [.int mc, .int (i32 (t.length + 1)), .ref p.1, ndV (p :: t) t.length]) := h1
  have n1 := AH.put_self (fs' := [.null, ndV t 0, .null]) n0
  have n2 := AH.put_self (fs' := [.null, .null, .null]) n1
  have a0 : ((h.put p.1 [.null, ndV t 0, .null]).put p.1 [.null, .null, .null]).1 a = some (18, true, [.int mc, .int (i32 (t.length + 1)), .ref p.1, ndV (p :: t) t.length]) := by
    rw [AH.put_ne (Ne.symm hpa), AH.put_ne (Ne.symm hpa)]; exact h1'
  have a1 := AH.put_self (fs' := [.int mc, .int (i32 (t.length + 1)), ndV t 0, ndV (p :: t) t.length]) a0
  have q1 := Chg.put (F := fun x => x = a ∨ ∃ r, r ∈ p :: t ∧ x = r.1) (fs' := [.null, ndV t 0, .null]) n0 (by decide) (Or.inr ⟨p, List.mem_cons_self, rfl⟩)
  have q2 := Chg.put (F := fun x => x = a ∨ ∃ r, r ∈ p :: t ∧ x = r.1) (fs' := [.null, .null, .null]) n1 (by decide) (Or.inr ⟨p, List.mem_cons_self, rfl⟩)
  have q3 := Chg.put (F := fun x => x = a ∨ ∃ r, r ∈ p :: t ∧ x = r.1) (fs' := [.int mc, .int (i32 (t.length + 1)), ndV t 0, ndV (p :: t) t.length]) a0 (by decide) (Or.inl rfl)
  have nne : ∀ (i : Nat) (r : NP), t[i]? = some r → r.1 ≠ p.1 ∧ r.1 ≠ a := fun i r hi => ⟨fun e => by have := h3 (i + 1) 0 r p hi rfl e; omega, hp0.node_ne (i := i + 1) hi⟩
  refine b_LinkedList_removeFirst_0 (gR_of h1' (by simp) rfl rfl ⟨(fun e => by cases e), fun q e => ?_⟩)
  cases e
  refine ⟨hasKs_of h1' (by simp), b_LinkedList_unlinkFirst_0 rfl (dR_of (gR_of n0 (by simp) rfl rfl (gR_of n0 (by simp) rfl ndV_ref (pF_of n0 (by simp) (by simp) (pF_of n1 (by simp) (by simp) (pF_of a0 (by simp) (by simp) ⟨fun hnull => ?_, fun q7 hq7 => ?_⟩))))))⟩
  · have ht : t = [] := by
      cases t with
      | nil => rfl
      | cons x t => exact absurd hnull (by intro e; cases e)
    subst ht
    have a2 := AH.put_self (fs' := [.int mc, .int (i32 1), .null, .null]) a1
    have a3 := AH.put_self (fs' := [.int mc, .int (i32 0), .null, .null]) a2
    have a4 := AH.put_self (fs' := [.int (mc + 1), .int (i32 0), .null, .null]) a3
    have q4 := Chg.put (F := fun x => x = a ∨ ∃ r, r ∈ [p] ∧ x = r.1) (fs' := [.int mc, .int (i32 1), .null, .null]) a1 (by decide) (Or.inl rfl)
    have q5 := Chg.put (F := fun x => x = a ∨ ∃ r, r ∈ [p] ∧ x = r.1) (fs' := [.int mc, .int (i32 0), .null, .null]) a2 (by decide) (Or.inl rfl)
    have q6 := Chg.put (F := fun x => x = a ∨ ∃ r, r ∈ [p] ∧ x = r.1) (fs' := [.int (mc + 1), .int (i32 0), .null, .null]) a3 (by decide) (Or.inl rfl)
    refine pF_of a1 (by simp) (by simp) (gI_of a2 (by simp) rfl (pF_of a2 (by simp) (by simp) (gI_of a3 (by simp) rfl (pF_of a3 (by simp) (by simp) (cR_mk rfl (cR_mk rfl (HK _ (LLh.tl hp0 a4 (fun r hr => by simp at hr) fun i r _ hr => by simp at hr) (((((q1.same q2).same q3).same q4).same q5).same q6) rfl)))))))
  · obtain ⟨r, t', rfl⟩ : ∃ r t', t = r :: t' := by
      cases t with
      | nil => cases hq7
      | cons r t' => exact ⟨r, t', rfl⟩
    have e9 : q7 = r.1 := by cases hq7; rfl
    subst e9
    obtain ⟨m1, m2⟩ := nne 0 r rfl
    have r0 : (((h.put p.1 [.null, ndV (r :: t') 0, .null]).put p.1 [.null, .null, .null]).put a [.int mc, .int (i32 ((r :: t').length + 1)), ndV (r :: t') 0, ndV (p :: r :: t') (r :: t').length]).1 r.1 = some (19, true, [.ref r.2, ndV (r :: t') 1, .ref p.1]) := by
      rw [AH.put_ne m2, AH.put_ne m1, AH.put_ne m1]
      exact h2 1 r rfl
    have r1 := AH.put_self (fs' := [.ref r.2, ndV (r :: t') 1, .null]) r0
    have q4 := Chg.put (F := fun x => x = a ∨ ∃ z, z ∈ p :: r :: t' ∧ x = z.1) (fs' := [.ref r.2, ndV (r :: t') 1, .null]) r0 (by decide) (Or.inr ⟨r, by simp, rfl⟩)
    have a2 := a1
    rw [← AH.put_ne (fs := [.ref r.2, ndV (r :: t') 1, .null]) (Ne.symm m2)] at a2
    have a3 := AH.put_self (fs' := [.int mc, .int (i32 (r :: t').length), ndV (r :: t') 0, ndV (p :: r :: t') (r :: t').length]) a2
    have a4 := AH.put_self (fs' := [.int (mc + 1), .int (i32 (r :: t').length), ndV (r :: t') 0, ndV (p :: r :: t') (r :: t').length]) a3
    have q5 := Chg.put (F := fun x => x = a ∨ ∃ z, z ∈ p :: r :: t' ∧ x = z.1) (fs' := [.int mc, .int (i32 (r :: t').length), ndV (r :: t') 0, ndV (p :: r :: t') (r :: t').length]) a2 (by decide) (Or.inl rfl)
    have q6 := Chg.put (F := fun x => x = a ∨ ∃ z, z ∈ p :: r :: t' ∧ x = z.1) (fs' := [.int (mc + 1), .int (i32 (r :: t').length), ndV (r :: t') 0, ndV (p :: r :: t') (r :: t').length]) a3 (by decide) (Or.inl rfl)
    refine pF_of r0 (by simp) (by simp) (gI_of a2 (by simp) rfl (pF_of a2 (by simp) (by simp) ?_))
    rw [i32_pred]
    refine gI_of a3 (by simp) rfl (pF_of a3 (by simp) (by simp) (cR_mk rfl (cR_mk rfl (HK _ (LLh.tl (mc := mc + 1) hp0 ?_ (fun z hz => ?_) fun i z h0 hz => ?_) (((((q1.same q2).same q3).same q4).same q5).same q6) rfl))))
    · exact a4
    · cases hz
      show ((_ : AH).put a _).1 _ = _
      rw [AH.put_ne m2, AH.put_ne m2]
      exact r1
    · obtain ⟨z1, z2⟩ := nne i z hz
      have z3 : z.1 ≠ r.1 := fun e => by have := h3 (i + 1) 1 z r hz rfl e; omega
      show ((_ : AH).put a _).1 _ = _
      rw [AH.put_ne z2, AH.put_ne z2, AH.put_ne z3, AH.put_ne z2, AH.put_ne z1, AH.put_ne z1]
theorem s_llFirst {p : NP} {t : List NP} {K : Value → AH → Prop} (hp : LLh h a (p :: t)) (HK : K (.ref p.2) h) : MF G (d + 1) mi_LinkedList_getFirst 0 [.ref a, .retAddr 0] [] h (cR K Qx) := by
  obtain ⟨mc, h1, h2, h3, h4⟩ := hp
  have n0 : h.1 p.1 = some (19, true, [.ref p.2, ndV (p :: t) 1, .null]) := h2 0 p rfl
  have h1' : h.1 a = some (18, true, [.int mc, .int (i32 (t.length + 1)), .ref p.1, ndV (p :: t) t.length]) := h1
  refine b_LinkedList_getFirst_0 (gR_of h1' (by simp) rfl rfl ⟨(fun e => by cases e), fun q e => ?_⟩)
  cases e
  exact gR_of n0 (by simp) rfl rfl (cR_mk rfl HK)
theorem s_llNode {i : Nat} {p : NP} {K : Value → AH → Prop} (hp : LLh h a ps) (hi : ps[i]? = some p) (HK : K (.ref p.1) h) : MF G d mi_LinkedList_node 0 [.ref a, .int (i32 i), .retAddr 0, .retAddr 0] [] h (cR K Qx) := by
  obtain ⟨mc, h1, h2, h3, h4⟩ := hp
  have hil := (List.getElem?_eq_some_iff.mp hi).1
  have fwd : ∀ r j, r + j = i → MF G d mi_LinkedList_node 17 [.ref a, .int (i32 i), ndV ps j, .int (i32 j)] [] h (cR K Qx) := by
    intro r
    induction r with
    | zero =>
      intro j hj
      have : j = i := by omega
      subst this
      refine b_LinkedList_node_17 ndV_ref ⟨fun _ => ?_, fun hn => absurd ((i32_le (by omega) (by omega)).mpr (Nat.le_refl _)) hn⟩
      rw [ndV_s hi]
      exact cR_mk rfl HK
    | succ r ih =>
      intro j hj
      have hx := List.getElem?_eq_getElem (l := ps) (i := j) (by omega)
      refine b_LinkedList_node_17 ndV_ref ⟨fun hle => absurd ((i32_le (by omega) (by omega)).mp hle) (by omega), fun _ => ?_⟩
      rw [ndV_s hx, i32_succ]
      exact dR_of (gR_of (h2 j _ hx) (by simp) rfl ndV_ref (ih (j + 1) (by omega)))
  have bwd : ∀ r j, r + i = j → j < ps.length → MF G d mi_LinkedList_node 47 [.ref a, .int (i32 i), ndV ps j, .int (i32 j)] [] h (cR K Qx) := by
    intro r
    induction r with
    | zero =>
      intro j hj hjl
      have : j = i := by omega
      subst this
      refine b_LinkedList_node_47 ndV_ref ⟨fun _ => ?_, fun hn => absurd ((i32_le (by omega) (by omega)).mpr (Nat.le_refl _)) hn⟩
      rw [ndV_s hi]
      exact cR_mk rfl HK
    | succ r ih =>
      intro j hj hjl
      obtain ⟨j', rfl⟩ : ∃ j', j = j' + 1 := ⟨j - 1, by omega⟩
      have hx := List.getElem?_eq_getElem (l := ps) (i := j' + 1) hjl
      refine b_LinkedList_node_47 ndV_ref ⟨fun hle => absurd ((i32_le (by omega) (by omega)).mp hle) (by omega), fun _ => ?_⟩
      rw [ndV_s hx, i32_dec]
      exact dR_of (gR_of (h2 (j' + 1) _ hx) (by simp) rfl prV_ref (ih j' (by omega) (by omega)))
  refine b_LinkedList_node_0 (gI_of h1 (by simp) rfl ⟨fun _ => gR_of h1 (by simp) rfl prV_ref (gI_of h1 (by simp) rfl ?_), fun _ => gR_of h1 (by simp) rfl ndV_ref (fwd i 0 rfl)⟩)
  obtain ⟨k, hk⟩ : ∃ k, ps.length = k + 1 := ⟨ps.length - 1, by omega⟩
  have e1 : prV ps ps.length = ndV ps k := by rw [hk]; rfl
  have e2 : i32 ps.length - 1 = i32 k := by rw [hk]; exact i32_pred
  rw [e1, e2]
  exact bwd (k - i) k (by omega) (by omega)
theorem s_llGet {i : Nat} {p : NP} {K : Value → AH → Prop} (hp : LLh h a ps) (hi : ps[i]? = some p) (HK : K (.ref p.2) h) : MF G (d + 2) mi_LinkedList_get 0 [.ref a, .int (i32 i)] [] h (cR K Qx) := by
  have hp0 := hp
  obtain ⟨mc, h1, h2, h3, h4⟩ := hp
  have hil := (List.getElem?_eq_some_iff.mp hi).1
  exact b_LinkedList_get_0 ⟨hasKs_of h1 (by simp), b_LinkedList_checkElementIndex_0 ⟨hasKs_of h1 (by simp), b_LinkedList_isElementIndex_0 ⟨fun h9 => absurd h9 (i32_nn (by omega)), fun _ => gI_of h1 (by simp) rfl ⟨fun hle => absurd ((i32_le (by omega) (by omega)).mp hle) (by omega), fun _ => cI_mk ⟨fun _ => cV_mk ⟨hasKs_of h1 (by simp), s_llNode hp0 hi (dR_of (gR_of (h2 i p hi) (by simp) rfl rfl (cR_mk rfl HK)))⟩, fun h9 => absurd h9 (by decide)⟩⟩⟩⟩⟩
end
/-- an iterator over a linked list stands ahead of element cur -/
def ItL (h : AH) (it a : Nat) (ps : List NP) (cur : Nat) : Prop := ∃ (lr : Value) (mc : Int32) (w : Bool) (v1 v2 v3 : Value), h.1 it = some (20, true, [lr, ndV ps cur, .int (i32 cur), .int mc, .ref a]) ∧ h.1 a = some (18, w, [.int mc, v1, v2, v3]) ∧ lr.isRef = true
theorem ItL.chg {h h' : AH} {it a cur c : Nat} {ps : List NP} {F : Nat → Prop} (hi : ItL h it a ps cur) (hc : Chg c F h h') (h1 : ¬ F it) (h2 : ¬ F a) : ItL h' it a ps cur := by
  obtain ⟨lr, mc, w, v1, v2, v3, e1, e2, e3⟩ := hi
  exact ⟨lr, mc, w, v1, v2, v3, hc.2.2.2.2 _ _ e1 (show KX 20 from by decide) h1, hc.2.2.2.2 _ _ e2 (show KX 18 from by decide) h2, e3⟩
theorem ItL.hk {h : AH} {it a cur : Nat} {ps : List NP} (hi : ItL h it a ps cur) : hasK h it 20 := by
  obtain ⟨lr, mc, w, v1, v2, v3, e1, e2, e3⟩ := hi
  exact ⟨_, _, e1⟩
section
variable {G : GL} {d : Nat} {h : AH} {a : Nat} {ps : List NP} {Qx : Nat → AH → Prop}
theorem s_llIter {K : Value → AH → Prop} (hp : LLh h a ps) (hroom : 9 ≤ h.2.2) (HK : ∀ h', ItL h' h.2.1 a ps 0 → Chg 9 F0s h h' → h'.2.1 = h.2.1 + 1 → K (.ref h.2.1) h') : MF G (d + 4) mi_AbstractSequentialList_iterator 0 [.ref a] [] h (cR K Qx) := by
  have hp0 := hp
  obtain ⟨mc, h1, h2, h3, h4⟩ := hp
  have hk : hasK h a 18 := ⟨_, _, h1⟩
  refine MF.wfh fun hw => b_AbstractSequentialList_iterator_0 ⟨18, mi_AbstractList_listIterator, hk, rfl, b_AbstractList_listIterator_0 ⟨18, mi_LinkedList_listIterator, hk, rfl, b_LinkedList_listIterator_0 ⟨hasKs_of h1 (by simp), b_LinkedList_checkPositionIndex_0 ⟨hasKs_of h1 (by simp), b_LinkedList_isPositionIndex_0 ⟨fun h9 => absurd h9 (by decide), fun _ => gI_of h1 (by simp) rfl ⟨fun h9 => absurd ((i32_lt (b := 0) (by omega) (by omega)).mp h9) (by omega), fun _ => cI_mk ⟨fun _ => cV_mk ⟨_, _, rfl, rfl, hroom, b_LinkedListListItr_init_0 rfl ?_⟩, fun h9 => absurd h9 (by decide)⟩⟩⟩⟩⟩⟩⟩
  have hne : a ≠ h.2.1 := by have := hw _ _ h1; omega
  have c0 := Chg.new (kd := 20) (fs := [.null, .null, .int 0, .int 0, .null]) hw hroom
  have i0 : (h.new 20 [.null, .null, .int 0, .int 0, .null] 9).1 h.2.1 = some (20, true, [.null, .null, .int 0, .int 0, .null]) := AH.new_self
  have i1 := AH.put_self (fs' := [.null, .null, .int 0, .int 0, .ref a]) i0
  have i2 := AH.put_self (fs' := [.null, .null, .int 0, .int mc, .ref a]) i1
  have i3 := AH.put_self (fs' := [.null, ndV ps 0, .int 0, .int mc, .ref a]) i2
  have i4 := AH.put_self (fs' := [.null, ndV ps 0, .int 0, .int mc, .ref a]) i3
  have p1 := Chg.put (F := fun q => q = h.2.1) (fs' := [.null, .null, .int 0, .int 0, .ref a]) i0 (by decide) rfl
  have p2 := Chg.put (F := fun q => q = h.2.1) (fs' := [.null, .null, .int 0, .int mc, .ref a]) i1 (by decide) rfl
  have p3 := Chg.put (F := fun q => q = h.2.1) (fs' := [.null, ndV ps 0, .int 0, .int mc, .ref a]) i2 (by decide) rfl
  have p4 := Chg.put (F := fun q => q = h.2.1) (fs' := [.null, ndV ps 0, .int 0, .int mc, .ref a]) i3 (by decide) rfl
  have ca := c0.trans (((p1.same p2).same p3).same p4) (F := F0s) fun q y e9 h9 => by have := hw _ _ e9; omega
  have cb := c0.trans (p1.same p2) (F := F0s) fun q y e9 h9 => by have := hw _ _ e9; omega
  have a1 : ((h.new 20 [.null, .null, .int 0, .int 0, .null] 9).put h.2.1 [.null, .null, .int 0, .int 0, .ref a]).1 a = some (18, true, [.int mc, .int (i32 ps.length), ndV ps 0, prV ps ps.length]) := by rw [AH.put_ne hne, AH.new_ne hne]; exact h1
  have a2 : (((h.new 20 [.null, .null, .int 0, .int 0, .null] 9).put h.2.1 [.null, .null, .int 0, .int 0, .ref a]).put h.2.1 [.null, .null, .int 0, .int mc, .ref a]).1 a = some (18, true, [.int mc, .int (i32 ps.length), ndV ps 0, prV ps ps.length]) := by rw [AH.put_ne hne]; exact a1
  have fin : K (.ref h.2.1) (((((h.new 20 [.null, .null, .int 0, .int 0, .null] 9).put h.2.1 [.null, .null, .int 0, .int 0, .ref a]).put h.2.1 [.null, .null, .int 0, .int mc, .ref a]).put h.2.1 [.null, ndV ps 0, .int 0, .int mc, .ref a]).put h.2.1 [.null, ndV ps 0, .int 0, .int mc, .ref a]) :=
    HK _ ⟨.null, mc, true, .int (i32 ps.length), ndV ps 0, prV ps ps.length, i4, by rw [AH.put_ne hne, AH.put_ne hne]; exact a2, rfl⟩ ca rfl
  refine pF_of i0 (by simp) (by simp) (gR_of i1 (by simp) rfl rfl (dR_of (gI_of a1 (by simp) rfl (pF_of i1 (by simp) (by simp) (dR_of (gI_of a2 (by simp) rfl ⟨fun hn => ⟨hasKs_of a2 (by simp), ?_⟩, fun he => ?_⟩))))))
  · have hl : 0 < ps.length := by
      cases hps : ps with
      | nil => rw [hps] at hn; exact absurd rfl hn
      | cons x t => simp
    have hx := List.getElem?_eq_getElem hl
    have hp2 : LLh (((h.new 20 [.null, .null, .int 0, .int 0, .null] 9).put h.2.1 [.null, .null, .int 0, .int 0, .ref a]).put h.2.1 [.null, .null, .int 0, .int mc, .ref a]) a ps := hp0.chg cb (fun h9 => h9) fun _ _ h9 => h9
    refine s_llNode (i := 0) hp2 hx (pF_of i2 (by simp) (by simp) ?_)
    rw [ndV_s hx] at i3 fin
    exact pF_of i3 (by simp) (by simp) (cV_mk (cR_mk rfl (cR_mk rfl (cR_mk rfl fin))))
  · have hl : ps.length = 0 := by
      have := (i32_eq (a := 0) (b := ps.length) (by omega) (by omega)).mp he
      omega
    rw [ndV_n (by omega)] at i3 fin
    exact pF_of i2 (by simp) (by simp) (pF_of i3 (by simp) (by simp) (cV_mk (cR_mk rfl (cR_mk rfl (cR_mk rfl fin)))))
theorem s_llHas {it cur : Nat} {K : Int32 → AH → Prop} (hp : LLh h a ps) (hi : ItL h it a ps cur) (hc : cur ≤ ps.length) (HK : K (b01 (decide (cur < ps.length))) h) : MF G d mi_LinkedListListItr_hasNext 0 [.ref it] [] h (cI K Qx) := by
  obtain ⟨mc, h1, h2, h3, h4⟩ := hp
  obtain ⟨lr, mc2, w2, v1, v2, v3, e1, e2, e3⟩ := hi
  refine b_LinkedListListItr_hasNext_0 (gI_of e1 (by simp) rfl (gR_of e1 (by simp) rfl rfl (dR_of (gI_of h1 (by simp) rfl ⟨fun he => cI_mk ?_, fun hn => cI_mk ?_⟩))))
  · rw [decide_eq_false (fun h9 => by have := (i32_le (by omega) (by omega)).mp he; omega)] at HK; exact HK
  · rw [decide_eq_true (by have : ¬ ps.length ≤ cur := fun h9 => hn ((i32_le (by omega) (by omega)).mpr h9); omega)] at HK; exact HK
theorem s_llNext {it cur : Nat} {p : NP} {K : Value → AH → Prop} (hp : LLh h a ps) (hi : ItL h it a ps cur) (hx : ps[cur]? = some p) (HK : ∀ h', ItL h' it a ps (cur + 1) → Chg 0 (fun q => q = it) h h' → h'.2.1 = h.2.1 → K (.ref p.2) h') : MF G (d + 2) mi_LinkedListListItr_next 0 [.ref it] [] h (cR K Qx) := by
  have hp0 := hp
  have hi0 := hi
  obtain ⟨mc, h1, h2, h3, h4⟩ := hp
  obtain ⟨lr, mc2, w2, v1, v2, v3, e1, e2, e3⟩ := hi
  rw [h1] at e2
  cases e2
  have hcl := (List.getElem?_eq_some_iff.mp hx).1
  have hna : a ≠ it := fun e => by subst e; rw [h1] at e1; cases e1
  have hnp : p.1 ≠ it := fun e => by have := h2 cur p hx; rw [e, e1] at this; cases this
  rw [ndV_s hx] at e1
  have j1 := AH.put_self (fs' := [.ref p.1, .ref p.1, .int (i32 cur), .int mc, .ref a]) e1
  have j2 := AH.put_self (fs' := [.ref p.1, ndV ps (cur + 1), .int (i32 cur), .int mc, .ref a]) j1
  have j3 := AH.put_self (fs' := [.ref p.1, ndV ps (cur + 1), .int (i32 (cur + 1)), .int mc, .ref a]) j2
  refine b_LinkedListListItr_next_0 ⟨hasKs_of e1 (by simp), b_LinkedListListItr_checkForComodification_0 (gR_of e1 (by simp) rfl rfl (dR_of (gI_of h1 (by simp) rfl (gI_of e1 (by simp) rfl ⟨fun _ => cV_mk ?_, fun hn => absurd rfl hn⟩))))⟩
  refine ⟨hasKs_of e1 (by simp), s_llHas hp0 hi0 (by omega) ⟨fun _ => ?_, fun hz => absurd hz (by rw [decide_eq_true hcl]; decide)⟩⟩
  have n1 : (h.put it [.ref p.1, .ref p.1, .int (i32 cur), .int mc, .ref a]).1 p.1 = some (19, true, [.ref p.2, ndV ps (cur + 1), prV ps cur]) := by rw [AH.put_ne hnp]; exact h2 cur p hx
  refine gR_of e1 (by simp) rfl rfl (pF_of e1 (by simp) (by simp) (gR_of j1 (by simp) rfl rfl (dR_of (gR_of n1 (by simp) rfl ndV_ref (pF_of j1 (by simp) (by simp) (gI_of j2 (by simp) rfl (pF_of j2 (by simp) (by simp) ?_)))))))
  rw [i32_succ]
  refine gR_of j3 (by simp) rfl rfl (dR_of (gR_of (kd := 19) (w := true) (fs := [.ref p.2, ndV ps (cur + 1), prV ps cur]) ?_ (by simp) rfl rfl (cR_mk rfl (HK _ ⟨.ref p.1, mc, true, .int (i32 ps.length), ndV ps 0, prV ps ps.length, j3, ?_, rfl⟩ ?_ rfl))))
  · show ((_ : AH).put it _).1 _ = _
    rw [AH.put_ne hnp, AH.put_ne hnp, AH.put_ne hnp]
    exact h2 cur p hx
  · show ((_ : AH).put it _).1 _ = _
    rw [AH.put_ne hna, AH.put_ne hna, AH.put_ne hna]; exact h1
  · exact ((Chg.put (F := fun q => q = it) (fs' := [.ref p.1, .ref p.1, .int (i32 cur), .int mc, .ref a]) e1 (by decide) rfl).same (Chg.put (F := fun q => q = it) (fs' := [.ref p.1, ndV ps (cur + 1), .int (i32 cur), .int mc, .ref a]) j1 (by decide) rfl)).same (Chg.put (F := fun q => q = it) (fs' := [.ref p.1, ndV ps (cur + 1), .int (i32 (cur + 1)), .int mc, .ref a]) j2 (by decide) rfl)
end
/-- the iteration over a linked list; I goes along -/
def LlP (I : AH → Nat → Prop) (a base : Nat) (ps : List NP) (it : Nat) (h : AH) (i : Nat) : Prop := ItL h it a ps i ∧ base ≤ it ∧ I h i
def LlR (I : AH → Nat → Prop) (a base : Nat) (ps : List NP) (it : Nat) (h : AH) (i : Nat) (v : Value) : Prop := ItL h it a ps (i + 1) ∧ base ≤ it ∧ I h i ∧ ∃ p, ps[i]? = some p ∧ v = .ref p.2
theorem ll_iter {G : GL} {d a base : Nat} {ps : List NP} {I : AH → Nat → Prop} (hA : ∀ h i, I h i → LLh h a ps) (hI : ∀ h h' i q, I h i → base ≤ q → Chg 0 (fun x => x = q) h h' → I h' i) : IterOK G (d + 2) ps.length (LlP I a base ps) (LlR I a base ps) := by
  refine ⟨fun it h i K X hP hi HK => ?_, fun it h i K X hP hi HK => ?_⟩
  · obtain ⟨p1, p2, p3⟩ := hP
    exact ⟨20, mi_LinkedListListItr_hasNext, p1.hk, rfl, s_llHas (hA h i p3) p1 hi HK⟩
  · obtain ⟨p1, p2, p3⟩ := hP
    have hx := List.getElem?_eq_getElem hi
    exact ⟨20, mi_LinkedListListItr_next, p1.hk, rfl, s_llNext (d := d) (hA h i p3) p1 hx fun h' q1 q2 q3 => HK _ h' rfl ⟨q1, p2, hI _ _ _ _ p3 p2 q2, _, hx, rfl⟩⟩
theorem ll_begin {G : GL} {d : Nat} {h : AH} {a base : Nat} {ps : List NP} {I : AH → Nat → Prop} (hp : LLh h a ps) (hroom : 9 ≤ h.2.2) (hb : base ≤ h.2.1) (hI : ∀ h', Chg 9 F0s h h' → I h' 0) : ∀ K' X', (∀ it h', LlP I a base ps it h' 0 → K' (.ref it) h') → vL G (d + 4) h a dsp_Iterable_iterator [.ref a] (cR K' X') := by
  intro K' X' HK
  have hk : hasK h a 18 := by obtain ⟨mc, h1, -⟩ := hp; exact ⟨_, _, h1⟩
  exact ⟨18, mi_AbstractSequentialList_iterator, hk, rfl, s_llIter hp hroom fun h' i1 c1 _ => HK _ h' ⟨i1, hb, hI h' c1⟩⟩
