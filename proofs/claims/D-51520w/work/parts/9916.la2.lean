/-! array deques -/
set_option maxRecDepth 100000
theorem ad_sub : ∀ hd, hd < 17 → ∀ n, n < 10 → (0 ≤ (i32 ((hd + n) % 17) - i32 hd) → i32 ((hd + n) % 17) - i32 hd = i32 n) ∧ (¬ 0 ≤ (i32 ((hd + n) % 17) - i32 hd) → (i32 ((hd + n) % 17) - i32 hd) + i32 17 = i32 n) := by decide +kernel
theorem ad_emp : ∀ hd, hd < 17 → ∀ n, n < 10 → (i32 hd = i32 ((hd + n) % 17) ↔ n = 0) := by decide +kernel
theorem ad_inc : ∀ t, t < 17 → ((i32 t + 1) < i32 17 → i32 t + 1 = i32 ((t + 1) % 17)) ∧ (¬ (i32 t + 1) < i32 17 → (0 : Int32) = i32 ((t + 1) % 17)) := by decide +kernel
theorem ad_dec : ∀ t, t < 17 → (0 ≤ (i32 t + (-1)) → i32 t + (-1) = i32 ((t + 16) % 17)) ∧ (¬ 0 ≤ (i32 t + (-1)) → i32 17 - 1 = i32 ((t + 16) % 17)) := by decide +kernel
/-- a deque at a, of 17 places -/
def ADh (h : AH) (a : Nat) (vs : List Nat) (F : Nat → Prop) : Prop := ∃ (arr hd : Nat) (sl : List Value), h.1 a = some (31, true, [.ref arr, .int (i32 hd), .int (i32 ((hd + vs.length) % 17))]) ∧ h.1 arr = some (104, true, sl) ∧ sl.length = 17 ∧ hd < 17 ∧ vs.length ≤ 9 ∧ (∀ (i v : Nat), vs[i]? = some v → sl[(hd + i) % 17]? = some (.ref v)) ∧ ∀ x, F x ↔ (x = a ∨ x = arr)
theorem ADh.chg {h h' : AH} {a c : Nat} {vs : List Nat} {F F' : Nat → Prop} (hp : ADh h a vs F) (hc : Chg c F' h h') (hd : ∀ x, F x → ¬ F' x) : ADh h' a vs F := by
  obtain ⟨arr, hdd, sl, h1, h2, h3, h4, h5, h6, h7⟩ := hp
  exact ⟨arr, hdd, sl, hc.2.2.2.2 _ _ h1 (show KX 31 from by decide) (hd _ ((h7 a).mpr (Or.inl rfl))), hc.2.2.2.2 _ _ h2 (show KX 104 from by decide) (hd _ ((h7 arr).mpr (Or.inr rfl))), h3, h4, h5, h6, h7⟩
theorem ADh.low {h : AH} {a : Nat} {vs : List Nat} {F : Nat → Prop} (hp : ADh h a vs F) (hw : WFh h) : ∀ x, F x → x < h.2.1 := by
  obtain ⟨arr, hdd, sl, h1, h2, h3, h4, h5, h6, h7⟩ := hp
  intro x hx
  rcases (h7 x).mp hx with rfl | rfl
  · exact hw _ _ h1
  · exact hw _ _ h2
theorem ADh.has {h : AH} {a : Nat} {vs : List Nat} {F : Nat → Prop} (hp : ADh h a vs F) : hasKs h a [31] := by
  obtain ⟨arr, hdd, sl, h1, -⟩ := hp
  exact hasKs_of h1 (by simp)
theorem ADh.self {h : AH} {a : Nat} {vs : List Nat} {F : Nat → Prop} (hp : ADh h a vs F) : F a := by
  obtain ⟨arr, hdd, sl, h1, h2, h3, h4, h5, h6, h7⟩ := hp
  exact (h7 a).mpr (Or.inl rfl)
section
variable {G : GL} {d : Nat} {h : AH} {a : Nat} {vs : List Nat} {F : Nat → Prop} {Qx : Nat → AH → Prop}
theorem s_adInit {K : AH → Prop} (ha : h.1 a = some (31, true, [.null, .int 0, .int 0])) (hroom : 21 ≤ h.2.2) (HK : ∀ h' F', ADh h' a [] F' → Chg 21 (fun q => q = a) h h' → (∀ x, F' x → x = a ∨ h.2.1 ≤ x) → K h') : MF G (d + 2) mi_ArrayDeque_init 0 [.ref a] [] h (cV K Qx) := by
  refine MF.wfh fun hw => b_ArrayDeque_init_0 (b_AbstractCollection_init_0 (cV_mk ⟨_, _, rfl, rfl, by decide, by decide, hroom, ?_⟩))
  have hne : a ≠ h.2.1 := by have := hw _ _ ha; omega
  have e17 : (17 : Int32).toNatClampNeg = 17 := rfl
  have a1 : (h.new 104 (List.replicate 17 .null) 21).1 a = some (31, true, [.null, .int 0, .int 0]) := by rw [AH.new_ne (by exact hne)]; exact ha
  have c1 := Chg.new (kd := 104) (fs := List.replicate 17 .null) hw hroom
  have c2 := Chg.put (F := fun q => q = a) (fs' := [.ref h.2.1, .int 0, .int 0]) a1 (by decide) rfl
  refine pF_of a1 (by simp) (by simp) (cV_mk (HK _ (fun x => x = a ∨ x = h.2.1) ⟨h.2.1, 0, List.replicate 17 .null, AH.put_self a1, ?_, by simp, by decide, by simp, fun i v hv => by simp at hv, fun x => Iff.rfl⟩ ?_ fun x hx => ?_))
  · show ((_ : AH).put a _).1 _ = _
    rw [AH.put_ne (Ne.symm hne)]
    exact AH.new_self
  · exact (c1.mono (F' := fun q => q = a) (Nat.le_refl _) fun _ h9 => h9.elim).same c2
  · rcases hx with h9 | h9
    · exact Or.inl h9
    · exact Or.inr (by omega)
theorem s_adSize {K : Int32 → AH → Prop} (hp : ADh h a vs F) (HK : K (i32 vs.length) h) : MF G (d + 1) mi_ArrayDeque_size 0 [.ref a] [] h (cI K Qx) := by
  obtain ⟨arr, hdd, sl, h1, h2, h3, h4, h5, h6, h7⟩ := hp
  obtain ⟨s1, s2⟩ := ad_sub hdd h4 vs.length (by omega)
  refine b_ArrayDeque_size_0 (gI_of h1 (by simp) rfl (gI_of h1 (by simp) rfl (gR_of h1 (by simp) rfl rfl (dR_of (aL_of h2 (b_ArrayDeque_sub_0 ⟨fun h9 => cI_mk (cI_mk ?_), fun h9 => cI_mk (cI_mk ?_)⟩))))))
  · rw [s1 h9]; exact HK
  · have e := s2 h9
    rw [h3]
    rw [show Int32.ofNat 17 = i32 17 from rfl, e]; exact HK
theorem s_adEmpty {K : Int32 → AH → Prop} (hp : ADh h a vs F) (HK : K (b01 (decide (vs.length = 0))) h) : MF G d mi_ArrayDeque_isEmpty 0 [.ref a] [] h (cI K Qx) := by
  obtain ⟨arr, hdd, sl, h1, h2, h3, h4, h5, h6, h7⟩ := hp
  have e := ad_emp hdd h4 vs.length (by omega)
  refine b_ArrayDeque_isEmpty_0 (gI_of h1 (by simp) rfl (gI_of h1 (by simp) rfl ⟨fun h9 => cI_mk ?_, fun h9 => cI_mk ?_⟩))
  · rw [decide_eq_false (fun h8 => h9 (e.mpr h8))] at HK; exact HK
  · rw [decide_eq_true (e.mp h9)] at HK; exact HK
theorem s_adAdd {q : Nat} {K : AH → Prop} (hp : ADh h a vs F) (hl : vs.length ≤ 8) (ho : isC h q "java/lang/Object") (HK : ∀ h', ADh h' a (vs ++ [q]) F → Chg 0 F h h' → h'.2 = h.2 → K h') : MF G (d + 1) mi_ArrayDeque_addLast 0 [.ref a, .ref q, .retAddr 0] [] h (cV K Qx) := by
  obtain ⟨arr, hdd, sl, h1, h2, h3, h4, h5, h6, h7⟩ := hp
  have hne : arr ≠ a := fun e => by subst e; rw [h1] at h2; cases h2
  have ht : (hdd + vs.length) % 17 < 17 := Nat.mod_lt _ (by decide)
  obtain ⟨i1, i2⟩ := ad_inc _ ht
  have e3 := ad_emp hdd h4 (vs.length + 1) (by omega)
  have em : ((hdd + vs.length) % 17 + 1) % 17 = (hdd + (vs.length + 1)) % 17 := by omega
  rw [em] at i1 i2
  refine b_ArrayDeque_addLast_0 rfl ⟨(fun e => by cases e), fun q1 e => ?_⟩
  cases e
  refine gR_of h1 (by simp) rfl rfl (gI_of h1 (by simp) rfl (dR_of ⟨ho, pA_of h2 (i32_nn (by omega)) (by rw [i32_nat (by omega), h3]; exact ht) ?_⟩))
  rw [i32_nat (by omega)]
  have a1 : (h.put arr (sl.set ((hdd + vs.length) % 17) (.ref q))).1 a = some (31, true, [.ref arr, .int (i32 hdd), .int (i32 ((hdd + vs.length) % 17))]) := by rw [AH.put_ne (Ne.symm hne)]; exact h1
  have r1 := AH.put_self (fs' := sl.set ((hdd + vs.length) % 17) (.ref q)) h2
  have c1 := Chg.put (F := F) (fs' := sl.set ((hdd + vs.length) % 17) (.ref q)) h2 (by decide) ((h7 arr).mpr (Or.inr rfl))
  have c2 := Chg.put (F := F) (fs' := [.ref arr, .int (i32 hdd), .int (i32 ((hdd + (vs.length + 1)) % 17))]) a1 (by decide) ((h7 a).mpr (Or.inl rfl))
  have fin : ∀ y9, y9 = i32 ((hdd + (vs.length + 1)) % 17) → pF (h.put arr (sl.set ((hdd + vs.length) % 17) (.ref q))) a [31] 2 (.int y9) fun h10 => ((¬ i32 hdd = y9 → cV K Qx (.inl none) h10) ∧ (i32 hdd = y9 → (hasKs h10 a [31] ∧ MF G d mi_ArrayDeque_grow 0 [.ref a, .int 1, .retAddr 0, .retAddr 0, .retAddr 0, .retAddr 0, .retAddr 0, .retAddr 0, .retAddr 0] [] h10 (cV (fun h12 => cV K Qx (.inl none) h12) (fun q9 h9 => cV K Qx (.inr q9) h9))))) := by
    intro y9 e9
    subst e9
    refine pF_of a1 (by simp) (by simp) ⟨fun _ => cV_mk (HK _ ⟨arr, hdd, sl.set ((hdd + vs.length) % 17) (.ref q), ?_, ?_, by rw [List.length_set]; exact h3, h4, by rw [List.length_append, List.length_singleton]; omega, fun i v hv => ?_, h7⟩ (c1.same c2) rfl), fun he => absurd (e3.mp he) (by omega)⟩
    · rw [List.length_append, List.length_singleton]
      exact AH.put_self a1
    · show ((_ : AH).put a _).1 _ = _
      rw [AH.put_ne hne]
      exact r1
    · have hvl := (List.getElem?_eq_some_iff.mp hv).1
      rw [List.length_append, List.length_singleton] at hvl
      by_cases e : i = vs.length
      · subst e
        rw [List.getElem?_append_right (Nat.le_refl _), Nat.sub_self] at hv
        cases hv
        rw [List.getElem?_set_self (by omega)]
      · rw [List.getElem?_append_left (by omega)] at hv
        rw [List.getElem?_set_ne (by omega)]
        exact h6 i v hv
  refine gI_of a1 (by simp) rfl (gI_of a1 (by simp) rfl (aL_of r1 (b_ArrayDeque_inc_0 ⟨fun h9 => cI_mk (fin _ ?_), fun h9 => cI_mk (fin _ ?_)⟩)))
  · refine i1 ?_
    rw [List.length_set, h3] at h9
    exact h9
  · refine i2 fun h8 => h9 ?_
    rw [List.length_set, h3]
    exact h8
theorem s_adFirst {v : Nat} {K : Value → AH → Prop} (hp : ADh h a (v :: vs) F) (HK : ∀ h', ADh h' a vs F → Chg 0 F h h' → h'.2 = h.2 → K (.ref v) h') : MF G (d + 2) mi_ArrayDeque_removeFirst 0 [.ref a, .retAddr 0] [] h (cR K Qx) := by
  obtain ⟨arr, hdd, sl, h1, h2, h3, h4, h5, h6, h7⟩ := hp
  have h5' : vs.length + 1 ≤ 9 := h5
  have hne : arr ≠ a := fun e => by subst e; rw [h1] at h2; cases h2
  have e0 : sl[hdd]? = some (.ref v) := by
    have := h6 0 v rfl
    rw [Nat.add_zero, Nat.mod_eq_of_lt h4] at this
    exact this
  obtain ⟨i1, i2⟩ := ad_inc _ h4
  refine b_ArrayDeque_removeFirst_0 ⟨hasKs_of h1 (by simp), b_ArrayDeque_pollFirst_0 (gR_of h1 (by simp) rfl rfl (gI_of h1 (by simp) rfl (b_ArrayDeque_elementAt_0 rfl (dR_of (aR_of h2 (i32_nn (by omega)) (by rw [i32_nat (by omega)]; exact e0) rfl (cR_mk rfl ⟨(fun e => by cases e), fun q4 e => ?_⟩))))))⟩
  cases e
  refine dR_of (pA_of h2 (i32_nn (by omega)) (by rw [i32_nat (by omega), h3]; exact h4) ?_)
  rw [i32_nat (by omega)]
  have a1 : (h.put arr (sl.set hdd .null)).1 a = some (31, true, [.ref arr, .int (i32 hdd), .int (i32 ((hdd + (v :: vs).length) % 17))]) := by rw [AH.put_ne (Ne.symm hne)]; exact h1
  have r1 := AH.put_self (fs' := sl.set hdd .null) h2
  have c1 := Chg.put (F := F) (fs' := sl.set hdd .null) h2 (by decide) ((h7 arr).mpr (Or.inr rfl))
  have c2 := Chg.put (F := F) (fs' := [.ref arr, .int (i32 ((hdd + 1) % 17)), .int (i32 ((hdd + (v :: vs).length) % 17))]) a1 (by decide) ((h7 a).mpr (Or.inl rfl))
  have fin : ∀ y9, y9 = i32 ((hdd + 1) % 17) → pF (h.put arr (sl.set hdd .null)) a [31] 1 (.int y9) fun h9 => cR (fun v1 h1 => ((v1 = .null → nW h1 33 [.null, .null, .null, .null, .null, .int 0] 10 fun q3 h3 => MF G (d + 1) mi_NoSuchElementException_init_2 0 [.ref q3] [] h3 (cV (fun h4 => cR K Qx (.inr q3) h4) (fun q9 h9 => cR K Qx (.inr q9) h9))) ∧ (∀ q2, v1 = .ref q2 → cR K Qx (.inl (some (.ref q2))) h1))) (fun q9 h9 => cR K Qx (.inr q9) h9) (.inl (some (.ref v))) h9 := by
    intro y9 e9
    subst e9
    refine pF_of a1 (by simp) (by simp) (cR_mk rfl ⟨(fun e => by cases e), fun q2 e => ?_⟩)
    cases e
    refine cR_mk rfl (HK _ ⟨arr, (hdd + 1) % 17, sl.set hdd .null, ?_, ?_, by rw [List.length_set]; exact h3, Nat.mod_lt _ (by decide), by omega, fun i u hu => ?_, h7⟩ (c1.same c2) rfl)
    · have e8 : ((hdd + 1) % 17 + vs.length) % 17 = (hdd + (v :: vs).length) % 17 := by rw [List.length_cons]; omega
      rw [e8]
      exact AH.put_self a1
    · show ((_ : AH).put a _).1 _ = _
      rw [AH.put_ne hne]
      exact r1
    · have hl := (List.getElem?_eq_some_iff.mp hu).1
      have := h6 (i + 1) u hu
      rw [show ((hdd + 1) % 17 + i) % 17 = (hdd + (i + 1)) % 17 from by omega, List.getElem?_set_ne (by omega)]
      exact this
  refine aL_of r1 (b_ArrayDeque_inc_0 ⟨fun h9 => cI_mk (fin _ ?_), fun h9 => cI_mk (fin _ ?_)⟩)
  · refine i1 ?_
    rw [List.length_set, h3] at h9
    exact h9
  · refine i2 fun h8 => h9 ?_
    rw [List.length_set, h3]
    exact h8
theorem s_adLast {v : Nat} {K : Value → AH → Prop} (hp : ADh h a (vs ++ [v]) F) (HK : ∀ h', ADh h' a vs F → Chg 0 F h h' → h'.2 = h.2 → K (.ref v) h') : MF G (d + 2) mi_ArrayDeque_removeLast 0 [.ref a, .retAddr 0] [] h (cR K Qx) := by
  obtain ⟨arr, hdd, sl, h1, h2, h3, h4, h5, h6, h7⟩ := hp
  have hlen : (vs ++ [v]).length = vs.length + 1 := by simp
  rw [hlen] at h1 h5
  have hne : arr ≠ a := fun e => by subst e; rw [h1] at h2; cases h2
  have ht : (hdd + (vs.length + 1)) % 17 < 17 := Nat.mod_lt _ (by decide)
  have e0 : sl[(hdd + vs.length) % 17]? = some (.ref v) := h6 vs.length v (by rw [List.getElem?_append_right (Nat.le_refl _), Nat.sub_self]; rfl)
  obtain ⟨i1, i2⟩ := ad_dec _ ht
  have em : ((hdd + (vs.length + 1)) % 17 + 16) % 17 = (hdd + vs.length) % 17 := by omega
  rw [em] at i1 i2
  have hm : (hdd + vs.length) % 17 < 17 := Nat.mod_lt _ (by decide)
  have a1 := AH.put_self (fs' := [.ref arr, .int (i32 hdd), .int (i32 ((hdd + vs.length) % 17))]) h1
  have r1 : (h.put a [.ref arr, .int (i32 hdd), .int (i32 ((hdd + vs.length) % 17))]).1 arr = some (104, true, sl) := by rw [AH.put_ne hne]; exact h2
  have c1 := Chg.put (F := F) (fs' := [.ref arr, .int (i32 hdd), .int (i32 ((hdd + vs.length) % 17))]) h1 (by decide) ((h7 a).mpr (Or.inl rfl))
  have c2 := Chg.put (F := F) (fs' := sl.set ((hdd + vs.length) % 17) .null) r1 (by decide) ((h7 arr).mpr (Or.inr rfl))
  have fin : ∀ y5, y5 = i32 ((hdd + vs.length) % 17) → MF G d mi_ArrayDeque_elementAt 0 [.ref arr, .int y5] [] h (cR (fun v6 h6 => ((v6 = .null → cR (fun v1 h1 => ((v1 = .null → nW h1 33 [.null, .null, .null, .null, .null, .int 0] 10 fun q3 h3 => MF G (d + 1) mi_NoSuchElementException_init_2 0 [.ref q3] [] h3 (cV (fun h4 => cR K Qx (.inr q3) h4) (fun q9 h9 => cR K Qx (.inr q9) h9))) ∧ (∀ q2, v1 = .ref q2 → cR K Qx (.inl (some (.ref q2))) h1))) (fun q9 h9 => cR K Qx (.inr q9) h9) (.inl (some (.null))) h6) ∧ (∀ q7, v6 = .ref q7 → pF h6 a [31] 2 (.int y5) fun h8 => pA h8 arr 104 y5 .null fun h9 => cR (fun v1 h1 => ((v1 = .null → nW h1 33 [.null, .null, .null, .null, .null, .int 0] 10 fun q3 h3 => MF G (d + 1) mi_NoSuchElementException_init_2 0 [.ref q3] [] h3 (cV (fun h4 => cR K Qx (.inr q3) h4) (fun q9 h9 => cR K Qx (.inr q9) h9))) ∧ (∀ q2, v1 = .ref q2 → cR K Qx (.inl (some (.ref q2))) h1))) (fun q9 h9 => cR K Qx (.inr q9) h9) (.inl (some (.ref q7))) h9))) (fun q9 h9 => cR (fun v1 h1 => ((v1 = .null → nW h1 33 [.null, .null, .null, .null, .null, .int 0] 10 fun q3 h3 => MF G (d + 1) mi_NoSuchElementException_init_2 0 [.ref q3] [] h3 (cV (fun h4 => cR K Qx (.inr q3) h4) (fun q9 h9 => cR K Qx (.inr q9) h9))) ∧ (∀ q2, v1 = .ref q2 → cR K Qx (.inl (some (.ref q2))) h1))) (fun q9 h9 => cR K Qx (.inr q9) h9) (.inr q9) h9)) := by
    intro y5 e5
    subst e5
    refine b_ArrayDeque_elementAt_0 rfl (dR_of (aR_of h2 (i32_nn (by omega)) (by rw [i32_nat (by omega)]; exact e0) rfl (cR_mk rfl ⟨(fun e => by cases e), fun q7 e => ?_⟩)))
    cases e
    refine pF_of h1 (by simp) (by simp) (pA_of r1 (i32_nn (by omega)) (by rw [i32_nat (by omega), h3]; exact hm) (cR_mk rfl ⟨(fun e => by cases e), fun q2 e => ?_⟩))
    cases e
    rw [i32_nat (by omega)]
    refine cR_mk rfl (HK _ ⟨arr, hdd, sl.set ((hdd + vs.length) % 17) .null, ?_, AH.put_self r1, by rw [List.length_set]; exact h3, h4, by omega, fun i u hu => ?_, h7⟩ (c1.same c2) rfl)
    · rw [AH.put_ne (Ne.symm hne)]
      exact a1
    · have hl := (List.getElem?_eq_some_iff.mp hu).1
      rw [List.getElem?_set_ne (by omega)]
      exact h6 i u (by rw [List.getElem?_append_left hl]; exact hu)
  refine b_ArrayDeque_removeLast_0 ⟨hasKs_of h1 (by simp), b_ArrayDeque_pollLast_0 (gR_of h1 (by simp) rfl rfl (gI_of h1 (by simp) rfl (dR_of (aL_of h2 (b_ArrayDeque_dec_0 ⟨fun h9 => cI_mk (fin _ (i1 h9)), fun h9 => cI_mk (fin _ ?_)⟩)))))⟩
  rw [h3]
  exact i2 h9
theorem s_adClear12 {arr : Nat} {K : AH → Prop} {e : Nat} (he : e < 100) : ∀ r i h (sl : List Value), i + r = e → h.1 arr = some (104, true, sl) → e ≤ sl.length → (∀ h' sl', h'.1 arr = some (104, true, sl') → sl'.length = sl.length → Chg 0 (fun q => q = arr) h h' → h'.2 = h.2 → K h') → MF G d mi_ArrayDeque_circularClear 12 [.ref arr, .int (i32 i), .int (i32 e), .int (i32 e)] [] h (cV K Qx) := by
  intro r
  induction r with
  | zero =>
    intro i h sl hi h1 hl HK
    refine b_ArrayDeque_circularClear_12 rfl ⟨fun _ => ⟨fun hn => absurd rfl hn, fun _ => cV_mk (HK h sl h1 rfl Chg.refl rfl)⟩, fun hn => absurd ((i32_le (by omega) (by omega)).mpr (by omega)) hn⟩
  | succ r ih =>
    intro i h sl hi h1 hl HK
    refine b_ArrayDeque_circularClear_12 rfl ⟨fun hle => absurd ((i32_le (by omega) (by omega)).mp hle) (by omega), fun _ => dR_of (pA_of h1 (i32_nn (by omega)) (by rw [i32_nat (by omega)]; omega) ?_)⟩
    rw [i32_succ]
    have c1 := Chg.put (F := fun q => q = arr) (fs' := sl.set (i32 i).toNatClampNeg .null) h1 (by decide) rfl
    exact ih (i + 1) _ _ (by omega) (AH.put_self h1) (by rw [List.length_set]; exact hl) fun h' sl' a1 a2 a3 a4 => HK h' sl' a1 (a2.trans List.length_set) (c1.same a3) a4
theorem s_adClear17 {arr : Nat} {K : AH → Prop} {e : Nat} (he : e < 17) : ∀ r i h (sl : List Value), i + r = 17 → h.1 arr = some (104, true, sl) → sl.length = 17 → (∀ h' sl', h'.1 arr = some (104, true, sl') → sl'.length = sl.length → Chg 0 (fun q => q = arr) h h' → h'.2 = h.2 → K h') → MF G d mi_ArrayDeque_circularClear 12 [.ref arr, .int (i32 i), .int (i32 e), .int (i32 17)] [] h (cV K Qx) := by
  intro r
  induction r with
  | zero =>
    intro i h sl hi h1 hl HK
    refine b_ArrayDeque_circularClear_12 rfl ⟨fun _ => ⟨fun _ => s_adClear12 (by omega) e 0 h sl (by omega) h1 (by omega) HK, fun he9 => absurd ((i32_eq (by omega) (by omega)).mp he9) (by omega)⟩, fun hn => absurd ((i32_le (by omega) (by omega)).mpr (by omega)) hn⟩
  | succ r ih =>
    intro i h sl hi h1 hl HK
    refine b_ArrayDeque_circularClear_12 rfl ⟨fun hle => absurd ((i32_le (by omega) (by omega)).mp hle) (by omega), fun _ => dR_of (pA_of h1 (i32_nn (by omega)) (by rw [i32_nat (by omega)]; omega) ?_)⟩
    rw [i32_succ]
    have c1 := Chg.put (F := fun q => q = arr) (fs' := sl.set (i32 i).toNatClampNeg .null) h1 (by decide) rfl
    exact ih (i + 1) _ _ (by omega) (AH.put_self h1) (by rw [List.length_set]; exact hl) fun h' sl' a1 a2 a3 a4 => HK h' sl' a1 (a2.trans List.length_set) (c1.same a3) a4
theorem s_adClear {K : AH → Prop} (hp : ADh h a vs F) (HK : ∀ h', ADh h' a [] F → Chg 0 F h h' → h'.2 = h.2 → K h') : MF G (d + 1) mi_ArrayDeque_clear 0 [.ref a] [] h (cV K Qx) := by
  obtain ⟨arr, hdd, sl, h1, h2, h3, h4, h5, h6, h7⟩ := hp
  have hne : arr ≠ a := fun e => by subst e; rw [h1] at h2; cases h2
  have ht : (hdd + vs.length) % 17 < 17 := Nat.mod_lt _ (by decide)
  have fin : ∀ (h' : AH) (sl' : List Value), h'.1 arr = some (104, true, sl') → sl'.length = sl.length → Chg 0 (fun q => q = arr) h h' → h'.2 = h.2 → pF h' a [31] 2 (.int 0) fun h5 => pF h5 a [31] 1 (.int 0) fun h6 => cV K Qx (.inl none) h6 := by
    intro h' sl' a1 a2 a3 a4
    have b1 : h'.1 a = some (31, true, [.ref arr, .int (i32 hdd), .int (i32 ((hdd + vs.length) % 17))]) := a3.2.2.2.2 _ _ h1 (show KX 31 from by decide) (Ne.symm hne)
    have b2 := AH.put_self (fs' := [.ref arr, .int (i32 hdd), .int 0]) b1
    have c1 := Chg.put (F := F) (fs' := [.ref arr, .int (i32 hdd), .int 0]) b1 (by decide) ((h7 a).mpr (Or.inl rfl))
    have c2 := Chg.put (F := F) (fs' := [.ref arr, .int 0, .int 0]) b2 (by decide) ((h7 a).mpr (Or.inl rfl))
    refine pF_of b1 (by simp) (by simp) (pF_of b2 (by simp) (by simp) (cV_mk (HK _ ⟨arr, 0, sl', AH.put_self b2, ?_, a2.trans h3, by decide, by simp, fun i v hv => by simp at hv, h7⟩ (((a3.mono (F' := F) (Nat.le_refl _) fun x h9 => (h7 x).mpr (Or.inr h9)).same c1).same c2) a4)))
    show ((_ : AH).put a _).1 _ = _
    rw [AH.put_ne hne, AH.put_ne hne]
    exact a1
  refine b_ArrayDeque_clear_0 (gR_of h1 (by simp) rfl rfl (gI_of h1 (by simp) rfl (gI_of h1 (by simp) rfl (b_ArrayDeque_circularClear_0 rfl ⟨fun hlt => dR_of (aL_of h2 ?_), fun hge => ?_⟩))))
  · have hlt' := (i32_lt (by omega) (by omega)).mp hlt
    rw [h3]
    exact s_adClear17 ht (17 - hdd) hdd h sl (by omega) h2 h3 fin
  · have hge' : hdd ≤ (hdd + vs.length) % 17 := by
      have : ¬ (hdd + vs.length) % 17 < hdd := fun h9 => hge ((i32_lt (by omega) (by omega)).mpr h9)
      omega
    exact s_adClear12 (by omega) ((hdd + vs.length) % 17 - hdd) hdd h sl (by omega) h2 (by omega) fin
end
