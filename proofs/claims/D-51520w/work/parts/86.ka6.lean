/-! priority queues in the machine -/
set_option maxRecDepth 100000
/-- a priority queue at a, its slots at arr; its elements in the heap's order -/
def PQh (Eh : AH → Value → Int → Prop) (h : AH) (a arr : Nat) (es : List VI) : Prop := ∃ (mc : Int32) (sl : List Value), h.1 a = some (29, true, [.ref arr, .int (i32 es.length), .null, .int mc]) ∧ h.1 arr = some (104, true, sl) ∧ sl.length ≤ 130 ∧ es.length ≤ sl.length ∧ 1 ≤ sl.length ∧ SlA sl es ∧ (∀ i, es.length ≤ i → i < sl.length → sl[i]? = some .null) ∧ (∀ x, x ∈ es → Eh h x.1 x.2) ∧ hpA rkV es
theorem vL.up {G : GL} {d d' : Nat} {h : AH} {b : Nat} {dsp : Nat → Option MI} {L0 : List Value} {Q2 : Out → AH → Prop} (hd : d ≤ d') (k : vL G d h b dsp L0 Q2) : vL G d' h b dsp L0 Q2 := by
  obtain ⟨kd, z, h1, h2, h3⟩ := k
  exact ⟨kd, z, h1, h2, h3.up hd⟩
theorem CmpS.up {G : GL} {d d' cc : Nat} {F : Nat → Prop} {Eh : AH → Value → Int → Prop} (hC : CmpS G d cc F Eh) (hd : d ≤ d') : CmpS G d' cc F Eh := ⟨hC.1, hC.2.1, fun h q u n1 n2 K Qx a b c e => (hC.2.2 h q u n1 n2 K Qx a b c e).up hd⟩
def Fpq (a arr : Nat) : Nat → Prop := fun q => q = a ∨ q = arr
theorem PQh.ne {Eh : AH → Value → Int → Prop} {h : AH} {a arr : Nat} {es : List VI} (hp : PQh Eh h a arr es) : a ≠ arr := by
  obtain ⟨mc, sl, h1, h2, -⟩ := hp
  intro e
  subst e
  rw [h1] at h2; cases h2
theorem PQh.chg {Eh : AH → Value → Int → Prop} {h h' : AH} {a arr c : Nat} {es : List VI} {F : Nat → Prop} (hp : PQh Eh h a arr es) (hc : Chg c F h h') (ha : ¬ F a) (hr : ¬ F arr) (hE : ∀ v n, Eh h v n → Eh h' v n) : PQh Eh h' a arr es := by
  obtain ⟨mc, sl, h1, h2, h3, h4, h5, h6, h7, h8, h9⟩ := hp
  exact ⟨mc, sl, hc.2.2.2.2 _ _ h1 (show KX 29 from by decide) ha, hc.2.2.2.2 _ _ h2 (show KX 104 from by decide) hr, h3, h4, h5, h6, h7, fun x hx => hE _ _ (h8 x hx), h9⟩
section
variable {G : GL} {d cc : Nat} {F : Nat → Prop} {Eh : AH → Value → Int → Prop} {h : AH} {a arr : Nat} {es : List VI} {Qx : Nat → AH → Prop}
theorem s_pqInit {K : AH → Prop} (ha : h.1 a = some (29, true, [.null, .int 0, .null, .int 0])) (hroom : 15 ≤ h.2.2) (HK : ∀ h', PQh Eh h' a h.2.1 [] → Chg 15 (fun q => q = a) h h' → h'.2.1 = h.2.1 + 1 → K h') : MF G (d + 4) mi_PriorityQueue_init 0 [.ref a] [] h (cV K Qx) := by
  refine MF.wfh fun hw => b_PriorityQueue_init_0 (b_PriorityQueue_init_2_0 rfl (b_AbstractQueue_init_0 (b_AbstractCollection_init_0 (cV_mk (cV_mk ⟨fun _ => ?_, fun hn => absurd (by decide) hn⟩)))))
  have hne : a ≠ h.2.1 := by have := hw _ _ ha; omega
  refine ⟨_, _, rfl, rfl, by decide, by decide, hroom, ?_⟩
  have ha1 : (h.new 104 (List.replicate 11 .null) 15).1 a = some (29, true, [.null, .int 0, .null, .int 0]) := by rw [AH.new_ne hne]; exact ha
  have ha2 := AH.put_self (fs' := [.ref h.2.1, .int 0, .null, .int 0]) ha1
  have ha3 := AH.put_self (fs' := [.ref h.2.1, .int 0, .null, .int 0]) ha2
  refine pF_of ha1 (by simp) (by simp) (pF_of ha2 (by simp) (by simp) (cV_mk (cV_mk (HK _ ⟨0, List.replicate 11 .null, ha3, ?_, by simp, by simp, by simp, fun i x hx => by simp at hx, fun i h1 h2 => ?_, fun x hx => (List.not_mem_nil hx).elim, fun i x y _ hx => by simp at hx⟩ ?_ rfl))))
  · rw [AH.put_ne (Ne.symm hne), AH.put_ne (Ne.symm hne)]
    exact AH.new_self
  · rw [List.getElem?_replicate, if_pos (by simpa using h2)]
  · have c1 := Chg.new (kd := 104) (fs := List.replicate 11 .null) hw hroom
    have c2 := Chg.put (F := fun q => q = a) (fs' := [.ref h.2.1, .int 0, .null, .int 0]) ha1 (by decide) rfl
    have c3 := Chg.put (F := fun q => q = a) (fs' := [.ref h.2.1, .int 0, .null, .int 0]) ha2 (by decide) rfl
    exact ((c1.mono (F' := fun q => q = a) (Nat.le_refl _) fun _ h9 => h9.elim).same c2).same c3
theorem SlA.up {sl : List Value} {es : List VI} {x : VI} (h : SlA sl es) : SlX sl (es ++ [x]) es.length := by
  intro i y hi hy
  have hlt := (List.getElem?_eq_some_iff.mp hy).1
  rw [List.length_append, List.length_singleton] at hlt
  rw [List.getElem?_append_left (by omega)] at hy
  exact h i y hy
theorem hp_add {es : List VI} {x : VI} (hH : hpA rkV es) : hpA rkV (pqUp rkV es.length (es ++ [x]) es.length x) := by
  refine pqUp_heap es.length (es ++ [x]) es.length x (Nat.le_refl _) (by simp) (fun i a b hi hik hip h1 h2 => ?_) (fun i a hi hip h1 => ?_) (fun i a b hi hip _ h1 _ => ?_)
  · have hlt := (List.getElem?_eq_some_iff.mp h1).1
    rw [List.length_append, List.length_singleton] at hlt
    rw [List.getElem?_append_left (by omega)] at h1 h2
    exact hH i a b hi h1 h2
  · have hlt := (List.getElem?_eq_some_iff.mp h1).1
    rw [List.length_append, List.length_singleton] at hlt
    omega
  · have hlt := (List.getElem?_eq_some_iff.mp h1).1
    rw [List.length_append, List.length_singleton] at hlt
    omega
/-- the element is put at its place -/
theorem s_offer43 (hC : CmpS G d cc F Eh) (hFa : F a) (hFr : F arr) {x : VI} {mc : Int32} {sl : List Value} {K : Int32 → AH → Prop} (ha : h.1 a = some (29, true, [.ref arr, .int (i32 es.length), .null, .int mc])) (hr : h.1 arr = some (104, true, sl)) (h130 : sl.length ≤ 130) (hlt : es.length < sl.length) (hS : SlA sl es) (hnull : ∀ i, es.length ≤ i → i < sl.length → sl[i]? = some .null) (hE : ∀ x, x ∈ es → Eh h x.1 x.2) (hx : Eh h x.1 x.2) (hH : hpA rkV es) (hroom : es.length * cc ≤ h.2.2) (HK : ∀ h', PQh Eh h' a arr (pqUp rkV es.length (es ++ [x]) es.length x) → Chg (es.length * cc) (Fpq a arr) h h' → K 1 h') : MF G (d + 3) mi_PriorityQueue_offer 43 [.ref a, x.1, .int (i32 es.length)] [] h (cI K Qx) := by
  have hks : hasKs h a [29] := hasKs_of ha (by simp)
  have hne : a ≠ arr := fun e => by subst e; rw [ha] at hr; cases hr
  obtain ⟨q, hq, o1, o2⟩ := hC.obj hx
  refine b_PriorityQueue_offer_43 (hC.ref hx) ⟨hks, b_PriorityQueue_siftUp_0 (hC.ref hx) (gR_of ha (by simp) rfl rfl ⟨fun _ => gR_of ha (by simp) rfl rfl (b_PriorityQueue_siftUpComparable_0 (hC.ref hx) rfl ⟨fun q9 h9 => by rw [hq] at h9; cases h9; exact o2, ?_⟩), fun q2 h9 => by cases h9⟩)⟩
  refine s_siftUpC hC hFr es.length (es ++ [x]) es.length x h sl _ _ (Nat.le_refl _) (by simp) (by simp; omega) (by omega) hr hS.up (fun i y hi hy => ?_) hx hroom fun h1 sl' a1 a2 a3 a4 a5 => ?_
  · have hlt2 := (List.getElem?_eq_some_iff.mp hy).1
    rw [List.length_append, List.length_singleton] at hlt2
    rw [List.getElem?_append_left (by omega)] at hy
    exact hE y (List.mem_of_getElem? hy)
  · have ha1 : h1.1 a = some (29, true, [.ref arr, .int (i32 es.length), .null, .int mc]) := a5.2.2.2.2 _ _ ha (show KX 29 from by decide) hne
    have hup : (pqUp rkV es.length (es ++ [x]) es.length x).length = es.length + 1 := by rw [pqUp_len]; simp
    have c2 := Chg.put (F := Fpq a arr) (fs' := [.ref arr, .int (i32 (es.length + 1)), .null, .int mc]) ha1 (by decide) (Or.inl rfl)
    have c1 := a5.mono (c' := es.length * cc) (F' := Fpq a arr) (Nat.le_refl _) fun q9 h9 => Or.inr h9
    have c12 := c1.same c2
    have cF : ∀ h', Chg (es.length * cc + 0) (Fpq a arr) h h' → ∀ y : VI, Eh h y.1 y.2 → Eh h' y.1 y.2 := fun h' c y hy => hC.1 _ _ _ _ _ hy (c.mono (Nat.le_refl _) fun q9 h9 => by rcases h9 with e | e <;> rw [e] <;> assumption)
    refine cV_mk (pF_of ha1 (by simp) (by simp) (cI_mk ?_))
    rw [i32_succ]
    refine HK _ ⟨mc, sl', ?_, ?_, by rw [a2]; exact h130, by rw [hup, a2]; exact hlt, by rw [a2]; omega, a3, fun i hi hi2 => ?_, fun y hy => ?_, hp_add hH⟩ c12
    · rw [AH.put_self ha1, hup]; rfl
    · rw [AH.put_ne (Ne.symm hne)]; exact a1
    · rw [hup] at hi
      rw [a2] at hi2
      rw [a4 i (by simp; omega)]
      exact hnull i (by omega) hi2
    · have hm := (pqUp_perm es.length (es ++ [x]) es.length x (by simp)).mem_iff.mp hy
      have hset : (es ++ [x]).set es.length x = es ++ [x] := by
        rw [List.set_append_right _ _ (Nat.le_refl _), Nat.sub_self]; rfl
      rw [hset, List.mem_append, List.mem_singleton] at hm
      rcases hm with hm | rfl
      · exact cF _ c12 y (hE y hm)
      · exact cF _ c12 _ hx
theorem s_pqAdd (hC : CmpS G d cc F Eh) (hp : PQh Eh h a arr es) (hFa : F a) (hFr : F arr) (hFn : ∀ q, h.2.1 ≤ q → F q) {x : VI} {K : Int32 → AH → Prop} (hx : Eh h x.1 x.2) (h61 : es.length ≤ 61) (hroom : es.length * cc + 140 ≤ h.2.2) (HK : ∀ h' arr', PQh Eh h' a arr' (pqUp rkV es.length (es ++ [x]) es.length x) → Chg (es.length * cc + 140) (Fpq a arr) h h' → (arr' = arr ∨ h.2.1 ≤ arr') → K 1 h') : MF G (d + 5) mi_PriorityQueue_add 0 [.ref a, x.1] [] h (cI K Qx) := by
  have hne := hp.ne
  obtain ⟨mc, sl, ha, hr, h130, hle, h1, hS, hnull, hE, hH⟩ := hp
  have hks : hasKs h a [29] := hasKs_of ha (by simp)
  obtain ⟨q, hq, o1, o2⟩ := hC.obj hx
  refine MF.wfh fun hw => b_PriorityQueue_add_0 (hC.ref hx) ⟨hks, b_PriorityQueue_offer_0 (hC.ref hx) ⟨fun h9 => (by rw [hq] at h9; cases h9), fun q1 hq1 => gI_of ha (by simp) rfl (pF_of ha (by simp) (by simp) ?_)⟩⟩
  have ha1 := AH.put_self (fs' := [.ref arr, .int (i32 es.length), .null, .int (mc + 1)]) ha
  have hr1 : (h.put a [.ref arr, .int (i32 es.length), .null, .int (mc + 1)]).1 arr = some (104, true, sl) := by rw [AH.put_ne (Ne.symm hne)]; exact hr
  have c1 := Chg.put (F := Fpq a arr) (fs' := [.ref arr, .int (i32 es.length), .null, .int (mc + 1)]) ha (by decide) (Or.inl rfl)
  have hFpq : ∀ q9, Fpq a arr q9 → F q9 := fun q9 h9 => by rcases h9 with e | e <;> rw [e] <;> assumption
  have c1F := c1.mono (c' := 0) (F' := F) (Nat.le_refl _) hFpq
  refine gI_of ha1 (by simp) rfl (gR_of ha1 (by simp) rfl rfl (dR_of (aL_of hr1 ⟨fun hlt => ?_, fun hge => ?_⟩)))
  · have hlt' : es.length < sl.length := (i32_lt (by omega) (by omega)).mp hlt
    rw [← hq1]
    refine s_offer43 (hC.up (Nat.le_succ d)) hFa hFr ha1 hr1 h130 hlt' hS hnull (fun y hy => hC.1 _ _ _ _ _ (hE y hy) c1F) (hC.1 _ _ _ _ _ hx c1F) hH (by rw [AH.put_2]; omega) fun h' hp' c' => ⟨rfl, cI_mk (HK h' arr hp' ((c1.same c').mono (by omega) fun _ h9 => h9) (Or.inl rfl))⟩
  · have hge' : es.length = sl.length := by
      have : ¬ es.length < sl.length := fun h9 => hge ((i32_lt (by omega) (by omega)).mpr h9)
      omega
    have hks1 := hasKs_of ha1 (ks := [29]) (by simp)
    rw [i32_succ]
    -- the new slots
    have e1 : i32 (es.length + 1) - i32 sl.length = i32 1 := by rw [i32_sub (by omega)]; congr 1; omega
    have e2 : i32 sl.length + 2 = i32 (sl.length + 2) := i32_add _ 2
    have emax : sl.length + max 1 (sl.length + 2) = 2 * sl.length + 2 := by omega
    refine ⟨hks1, b_PriorityQueue_grow_0 (gR_of ha1 (by simp) rfl rfl (dR_of (aL_of hr1 ⟨fun h64 => absurd ((i32_le (a := 64) (by omega) (by omega)).mp h64) (by omega), fun _ => b_PriorityQueue_grow_25 ?_⟩)))⟩
    show MF G (d + 2) mi_ArraysSupport_newLength 0 [.int (i32 sl.length), .int (i32 (es.length + 1) - i32 sl.length), .int (i32 sl.length + 2), .retAddr 0] [] _ _
    rw [e1, e2]
    refine s_newLength (by omega) (by omega) (by omega) (by omega) ?_
    rw [emax]
    refine gR_of ha1 (by simp) rfl rfl (s_copyOfO hr1 (by omega) (by omega) (fun v hv => ?_) (by rw [AH.put_2]; omega) fun h2 g1 g2 g3 g4 => ?_)
    · obtain ⟨i, hi⟩ := List.mem_iff_getElem?.mp hv
      have hil := (List.getElem?_eq_some_iff.mp hi).1
      have hei := List.getElem?_eq_getElem (l := es) (i := i) (by omega)
      have hsi := hS i _ hei
      rw [hi] at hsi
      cases hsi
      have hEi := hC.1 _ _ _ _ _ (hE _ (List.mem_of_getElem? hei)) c1F
      obtain ⟨q3, hq3, p1, -⟩ := hC.obj hEi
      rw [hq3]
      exact ⟨rfl, fun q4 h9 => by cases h9; exact ⟨_, rfl, p1⟩⟩
    · have hal : a < h.2.1 := hw _ _ ha
      have harl : arr < h.2.1 := hw _ _ hr
      have ha2 : h2.1 a = some (29, true, [.ref arr, .int (i32 es.length), .null, .int (mc + 1)]) := g2.2.2.2.2 _ _ ha1 (show KX 29 from by decide) fun h9 => h9
      have ha3 := AH.put_self (fs' := [.ref h.2.1, .int (i32 es.length), .null, .int (mc + 1)]) ha2
      have c3 := Chg.put (F := Fpq a arr) (fs' := [.ref h.2.1, .int (i32 es.length), .null, .int (mc + 1)]) ha2 (by decide) (Or.inl rfl)
      have c13 := (c1.trans0 g2).same c3
      have c13F := c13.mono (c' := 2 * sl.length + 2 + 4) (F' := F) (by omega) hFpq
      refine pF_of ha2 (by simp) (by simp) (cV_mk ?_)
      rw [← hq1]
      have hr3 : (h2.put a [.ref h.2.1, .int (i32 es.length), .null, .int (mc + 1)]).1 h.2.1 = some (104, true, sl ++ List.replicate (2 * sl.length + 2 - sl.length) .null) := by
        rw [AH.put_ne (by omega)]
        exact g1
      refine s_offer43 (arr := h.2.1) (hC.up (Nat.le_succ d)) hFa (hFn _ (Nat.le_refl _)) ha3 hr3 (by rw [List.length_append, List.length_replicate]; omega) (by rw [List.length_append, List.length_replicate]; omega) (fun i y hy => ?_) (fun i hi hi2 => ?_) (fun y hy => hC.1 _ _ _ _ _ (hE y hy) c13F) (hC.1 _ _ _ _ _ hx c13F) hH (by have := c13.2.1; rw [AH.put_2] at this ⊢; omega) fun h' hp' c' => ⟨rfl, cI_mk (HK h' h.2.1 hp' ?_ (Or.inr (Nat.le_refl _)))⟩
      · have hyl := (List.getElem?_eq_some_iff.mp hy).1
        rw [List.getElem?_append_left (by omega)]
        exact hS i y hy
      · rw [List.length_append, List.length_replicate] at hi2
        rw [List.getElem?_append_right (by omega), List.getElem?_replicate, if_pos (by omega)]
      · exact (c13.trans c' fun q9 y9 e9 h9 => by
          rcases h9 with h9 | h9
          · exact Or.inl h9
          · have := hw _ _ e9; omega).mono (by omega) fun _ h9 => h9
theorem s_pqSize {K : Int32 → AH → Prop} (hp : PQh Eh h a arr es) (HK : K (i32 es.length) h) : MF G d mi_PriorityQueue_size 0 [.ref a] [] h (cI K Qx) := by
  obtain ⟨mc, sl, ha, -⟩ := hp
  exact b_PriorityQueue_size_0 (gI_of ha (by simp) rfl (cI_mk HK))
/-- the least one, or null -/
def pqTop : List VI → Value
  | [] => .null
  | x :: _ => x.1
theorem s_pqPeek (hC : CmpS G d cc F Eh) {K : Value → AH → Prop} (hp : PQh Eh h a arr es) (HK : K (pqTop es) h) {d' : Nat} : MF G d' mi_PriorityQueue_peek 0 [.ref a] [] h (cR K Qx) := by
  obtain ⟨mc, sl, ha, hr, h130, hle, h1, hS, hnull, hE, hH⟩ := hp
  have e0 : sl[(0 : Int32).toNatClampNeg]? = some (pqTop es) := by
    cases es with
    | nil => exact hnull 0 (Nat.le_refl _) h1
    | cons x t => exact hS 0 x rfl
  have hv : (pqTop es).isRef = true := by
    cases es with
    | nil => rfl
    | cons x t => exact hC.ref (hE x List.mem_cons_self)
  exact b_PriorityQueue_peek_0 (gR_of ha (by simp) rfl rfl (dR_of (aR_of hr (by decide) e0 hv (cR_mk hv HK))))
end
