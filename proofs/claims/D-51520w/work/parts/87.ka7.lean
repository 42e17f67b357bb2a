/-! priority queues: the least goes; one goes; iterators -/
set_option maxRecDepth 100000
def pqPol : List VI → List VI
  | [] => []
  | x :: t => if t.length = 0 then [] else pqDn rkV t.length ((x :: t).take t.length) 0 ((x :: t).getD t.length x)
theorem pqPol_c {x : VI} {t : List VI} : pqPol (x :: t) = if t.length = 0 then [] else pqDn rkV t.length ((x :: t).take t.length) 0 ((x :: t).getD t.length x) := rfl
theorem hp_take {es : List VI} {n : Nat} (hH : hpA rkV es) : hpA rkV (es.take n) := by
  intro i a b hi h1 h2
  have hl := (List.getElem?_eq_some_iff.mp h1).1
  rw [List.length_take] at hl
  rw [List.getElem?_take_of_lt (by omega)] at h1 h2
  exact hH i a b hi h1 h2
theorem pqPol_len {x : VI} {t : List VI} : (pqPol (x :: t)).length = t.length := by
  rw [pqPol_c]
  split
  · rename_i h; simpa using h.symm
  · rw [pqDn_len, List.length_take, List.length_cons]; omega
theorem pqPol_heap {es : List VI} (hH : hpA rkV es) : hpA rkV (pqPol es) := by
  cases es with
  | nil => exact hH
  | cons x t =>
    rw [pqPol_c]
    split
    · intro i a b _ h1; simp at h1
    · rename_i h0
      have hl : ((x :: t).take t.length).length = t.length := by rw [List.length_take, List.length_cons]; omega
      have hT := hp_take (n := t.length) hH
      obtain ⟨m1, -⟩ := pqDn_heap (key := rkV) t.length ((x :: t).take t.length) 0 ((x :: t).getD t.length x) (by omega) (by omega) (fun i a b hi _ _ h1 h2 => hT i a b hi h1 h2)
      exact fun i a b hi h1 h2 => m1 i a b hi (by omega) h1 h2
theorem pqPol_perm {x : VI} {t : List VI} : (x :: t).Perm (x :: pqPol (x :: t)) := by
  rw [pqPol_c]
  split
  · rename_i h
    have : t = [] := List.eq_nil_of_length_eq_zero h
    subst this
    exact List.Perm.refl _
  · rename_i h
    refine List.Perm.cons x ?_
    obtain ⟨n, hn⟩ : ∃ n, t.length = n + 1 := ⟨t.length - 1, by omega⟩
    have hl : ((x :: t).take t.length).length = t.length := by rw [List.length_take, List.length_cons]; omega
    refine List.Perm.trans ?_ (pqDn_perm t.length _ 0 _ (by omega)).symm
    have e1 : (x :: t).take t.length = x :: t.take n := by rw [hn]; rfl
    have e2 : (x :: t).getD t.length x = t.getD n x := by rw [hn]; rfl
    rw [e1, e2]
    show t.Perm (t.getD n x :: t.take n)
    have e3 : t = t.take n ++ [t.getD n x] := by
      have h4 := getD_at (l := t) (i := n) (x := x) (by omega)
      obtain ⟨h5, h6⟩ := List.getElem?_eq_some_iff.mp h4
      rw [← h6, ← List.take_succ_eq_append_getElem h5, ← hn, List.take_length]
    exact (by
      have := List.perm_append_comm (l₁ := t.take n) (l₂ := [t.getD n x])
      rw [← e3] at this
      exact this)
section
variable {G : GL} {d cc : Nat} {F : Nat → Prop} {Eh : AH → Value → Int → Prop} {h : AH} {a arr : Nat} {Qx : Nat → AH → Prop}
theorem s_pqPoll (hC : CmpS G d cc F Eh) {x : VI} {t : List VI} (hp : PQh Eh h a arr (x :: t)) (hFa : F a) (hFr : F arr) {K : Value → AH → Prop} (hroom : t.length * (2 * cc) ≤ h.2.2) (HK : ∀ h', PQh Eh h' a arr (pqPol (x :: t)) → Chg (t.length * (2 * cc)) (Fpq a arr) h h' → K x.1 h') : MF G (d + 2) mi_PriorityQueue_poll 0 [.ref a, .retAddr 0, .retAddr 0, .retAddr 0, .retAddr 0, .retAddr 0] [] h (cR K Qx) := by
  have hne := hp.ne
  have hFpq : ∀ q9, Fpq a arr q9 → F q9 := fun q9 h9 => by rcases h9 with e | e <;> rw [e] <;> assumption
  obtain ⟨mc, sl, ha, hr, h130, hle, h1, hS, hnull, hE, hH⟩ := hp
  have hle' : t.length + 1 ≤ sl.length := hle
  have hEx := hE x List.mem_cons_self
  obtain ⟨q, hq, o1, o2⟩ := hC.obj hEx
  have hxr := hC.ref hEx
  -- the last one
  have hlast := getD_at (l := x :: t) (i := t.length) (x := x) (by simp)
  have hElast := hE _ (List.mem_of_getElem? hlast)
  have hslast := hS _ _ hlast
  refine b_PriorityQueue_poll_0 (gR_of ha (by simp) rfl rfl (dR_of (aR_of hr (by decide) (hS 0 x rfl) hxr ⟨fun h9 => (by rw [hq] at h9; cases h9), fun q4 hq4 => ?_⟩)))
  rw [← hq4]
  have ha1 := AH.put_self (fs' := [.ref arr, .int (i32 (x :: t).length), .null, .int (mc + 1)]) ha
  have ha2 := AH.put_self (fs' := [.ref arr, .int (i32 t.length), .null, .int (mc + 1)]) ha1
  have en : i32 (x :: t).length - 1 = i32 t.length := i32_pred
  refine gI_of ha (by simp) rfl (pF_of ha (by simp) (by simp) (gI_of ha1 (by simp) rfl (pF_of ha1 (by simp) (by simp) ?_)))
  rw [en]
  have c1 := (Chg.put (F := Fpq a arr) (fs' := [.ref arr, .int (i32 (x :: t).length), .null, .int (mc + 1)]) ha (by decide) (Or.inl rfl)).same (Chg.put (F := Fpq a arr) (fs' := [.ref arr, .int (i32 t.length), .null, .int (mc + 1)]) ha1 (by decide) (Or.inl rfl))
  have hr2 : ((h.put a [.ref arr, .int (i32 (x :: t).length), .null, .int (mc + 1)]).put a [.ref arr, .int (i32 t.length), .null, .int (mc + 1)]).1 arr = some (104, true, sl) := by
    rw [AH.put_ne (Ne.symm hne), AH.put_ne (Ne.symm hne)]; exact hr
  refine aR_of hr2 (i32_nn (by omega)) (by rw [i32_nat (by omega)]; exact hslast) (hC.ref hElast) (pA_of hr2 (i32_nn (by omega)) (by rw [i32_nat (by omega)]; omega) ?_)
  rw [i32_nat (by omega)]
  have c2 := c1.same (Chg.put (F := Fpq a arr) (fs' := sl.set t.length .null) hr2 (by decide) (Or.inr rfl))
  have hr3 := AH.put_self (fs' := sl.set t.length .null) hr2
  have ha3 : (((h.put a [.ref arr, .int (i32 (x :: t).length), .null, .int (mc + 1)]).put a [.ref arr, .int (i32 t.length), .null, .int (mc + 1)]).put arr (sl.set t.length .null)).1 a = some (29, true, [.ref arr, .int (i32 t.length), .null, .int (mc + 1)]) := by
    rw [AH.put_ne hne]; exact ha2
  have c2F := c2.mono (c' := 0) (F' := F) (Nat.le_refl _) hFpq
  have nul : ∀ i, t.length ≤ i → i < sl.length → (sl.set t.length .null)[i]? = some .null := by
    intro i hi hi2
    by_cases e : t.length = i
    · subst e; rw [List.getElem?_set_self hi2]
    · rw [List.getElem?_set_ne e]
      exact hnull i (by rw [List.length_cons]; omega) hi2
  have hslot : ∀ i y, i < t.length → (x :: t)[i]? = some y → (sl.set t.length .null)[i]? = some y.1 := by
    intro i y hi hy
    rw [List.getElem?_set_ne (by omega)]
    exact hS i y hy
  by_cases h0 : t.length = 0
  · refine ⟨fun _ => cR_mk hxr (HK _ ?_ (c2.mono (by omega) fun _ h9 => h9)), fun hn => absurd ((i32_le (b := 0) (by omega) (by omega)).mpr (by omega)) hn⟩
    have ep : pqPol (x :: t) = [] := if_pos h0
    rw [ep]
    refine ⟨mc + 1, sl.set t.length .null, ?_, hr3, by rw [List.length_set]; exact h130, Nat.zero_le _, by rw [List.length_set]; exact h1, fun i y hy => by simp at hy, fun i _ hi2 => nul i (by omega) (by rw [List.length_set] at hi2; exact hi2), fun y hy => (List.not_mem_nil hy).elim, fun i y z _ hy => by simp at hy⟩
    exact ha3.trans (by rw [h0]; rfl)
  · refine ⟨fun hle9 => absurd ((i32_le (b := 0) (by omega) (by omega)).mp hle9) (by omega), fun _ => gR_of ha3 (by simp) rfl rfl ⟨fun _ => ?_, fun q13 h9 => by cases h9⟩⟩
    have hEl3 := hC.1 _ _ _ _ _ hElast c2F
    obtain ⟨ql, hql, ol1, ol2⟩ := hC.obj hEl3
    refine b_PriorityQueue_siftDownComparable_0 (hC.ref hEl3) rfl ⟨fun q9 h9 => by rw [hql] at h9; cases h9; exact ol2, ?_⟩
    rw [shr1 (by omega)]
    have hl : ((x :: t).take t.length).length = t.length := by rw [List.length_take, List.length_cons]; omega
    have ep : pqPol (x :: t) = pqDn rkV t.length ((x :: t).take t.length) 0 ((x :: t).getD t.length x) := if_neg h0
    have tk : ∀ i y, ((x :: t).take t.length)[i]? = some y → i < t.length ∧ (x :: t)[i]? = some y := by
      intro i y hy
      have hlt := (List.getElem?_eq_some_iff.mp hy).1
      rw [hl] at hlt
      rw [List.getElem?_take_of_lt hlt] at hy
      exact ⟨hlt, hy⟩
    have h7 := s_siftDnC hC hFr (K := fun h14 => cR K Qx (.inl (some x.1)) h14) (Qx := fun q9 h9 => cR K Qx (.inr q9) h9) t.length ((x :: t).take t.length) 0 ((x :: t).getD t.length x) _ (sl.set t.length .null) (.retAddr 0) (.retAddr 0) (.retAddr 0) (by omega) (by omega) (by rw [List.length_set]; omega) (by rw [List.length_set]; omega) hr3 (fun i y _ hy => hslot i y (tk i y hy).1 (tk i y hy).2) (fun i y _ hy => hC.1 _ _ _ _ _ (hE y (List.mem_of_getElem? (tk i y hy).2)) c2F) hEl3 (by have := c2.2.1; omega) fun h' sl' a1 a2 a3 a4 a5 => cR_mk hxr (HK h' ?_ ?_)
    · rw [hl] at h7
      exact h7
    · refine ⟨mc + 1, sl', ?_, a1, by rw [a2, List.length_set]; exact h130, ?_, by rw [a2, List.length_set]; exact h1, by rw [ep]; exact a3, fun i hi hi2 => ?_, fun y hy => ?_, pqPol_heap hH⟩
      · rw [pqPol_len]
        exact a5.2.2.2.2 _ _ ha3 (show KX 29 from by decide) hne
      · rw [pqPol_len, a2, List.length_set]; omega
      · rw [pqPol_len] at hi
        rw [a4 i (by omega)]
        rw [a2, List.length_set] at hi2
        exact nul i hi hi2
      · have hm : y ∈ x :: t := (pqPol_perm.mem_iff).mpr (List.mem_cons_of_mem _ hy)
        have a5F := a5.mono (c' := t.length * (2 * cc)) (F' := F) (Nat.le_refl _) fun q9 h9 => by rw [h9]; exact hFr
        exact hC.1 _ _ _ _ _ (hC.1 _ _ _ _ _ (hE y hm) c2F) a5F
    · exact (c2.same (a5.mono (Nat.le_refl _) fun q9 h9 => Or.inr h9)).mono (by omega) fun _ h9 => h9
/-- an iterator over a queue stands ahead of element cur -/
def ItP (h : AH) (it a cur : Nat) : Prop := ∃ (lr : Int32) (v3 : Value) (mc : Int32) (w : Bool) (v0 v1 v2 : Value), h.1 it = some (30, true, [.int (i32 cur), .int lr, .null, v3, .int mc, .ref a]) ∧ h.1 a = some (29, w, [v0, v1, v2, .int mc])
theorem s_pqIter {es : List VI} {K : Value → AH → Prop} (hp : PQh Eh h a arr es) (hroom : 10 ≤ h.2.2) (HK : ∀ h', ItP h' h.2.1 a 0 → Chg 10 F0s h h' → h'.2.1 = h.2.1 + 1 → K (.ref h.2.1) h') : MF G (d + 2) mi_PriorityQueue_iterator 0 [.ref a] [] h (cR K Qx) := by
  obtain ⟨mc, sl, ha, -⟩ := hp
  refine MF.wfh fun hw => b_PriorityQueue_iterator_0 ⟨_, _, rfl, rfl, hroom, b_PriorityQueueItr_init_0 rfl ?_⟩
  have hne : a ≠ h.2.1 := by have := hw _ _ ha; omega
  have hi0 : (h.new 30 [.int 0, .int 0, .null, .null, .int 0, .null] 10).1 h.2.1 = some (30, true, [.int 0, .int 0, .null, .null, .int 0, .null]) := AH.new_self
  have hi1 := AH.put_self (fs' := [.int 0, .int 0, .null, .null, .int 0, .ref a]) hi0
  have hi2 := AH.put_self (fs' := [.int 0, .int (-1), .null, .null, .int 0, .ref a]) hi1
  have hi3 := AH.put_self (fs' := [.int 0, .int (-1), .null, .null, .int mc, .ref a]) hi2
  have ha2 : (((h.new 30 [.int 0, .int 0, .null, .null, .int 0, .null] 10).put h.2.1 [.int 0, .int 0, .null, .null, .int 0, .ref a]).put h.2.1 [.int 0, .int (-1), .null, .null, .int 0, .ref a]).1 a = some (29, true, [.ref arr, .int (i32 es.length), .null, .int mc]) := by
    rw [AH.put_ne hne, AH.put_ne hne, AH.new_ne hne]; exact ha
  refine pF_of hi0 (by simp) (by simp) (pF_of hi1 (by simp) (by simp) (gR_of hi2 (by simp) rfl rfl (dR_of (gI_of ha2 (by simp) rfl (pF_of hi2 (by simp) (by simp) (cV_mk (cR_mk rfl (HK _ ⟨-1, .null, mc, true, .ref arr, .int (i32 es.length), .null, hi3, ?_⟩ ?_ rfl))))))))
  · rw [AH.put_ne hne]; exact ha2
  · have c1 := Chg.new (kd := 30) (fs := [.int 0, .int 0, .null, .null, .int 0, .null]) hw hroom
    have p1 := Chg.put (F := fun q => q = h.2.1) (fs' := [.int 0, .int 0, .null, .null, .int 0, .ref a]) hi0 (by decide) rfl
    have p2 := Chg.put (F := fun q => q = h.2.1) (fs' := [.int 0, .int (-1), .null, .null, .int 0, .ref a]) hi1 (by decide) rfl
    have p3 := Chg.put (F := fun q => q = h.2.1) (fs' := [.int 0, .int (-1), .null, .null, .int mc, .ref a]) hi2 (by decide) rfl
    exact c1.trans ((p1.same p2).same p3) fun q x e h9 => by have := hw _ _ e; omega
theorem s_pqHas {es : List VI} {it cur : Nat} {K : Int32 → AH → Prop} (hp : PQh Eh h a arr es) (hi : ItP h it a cur) (hc : cur ≤ es.length) (HK : K (b01 (decide (cur < es.length))) h) : MF G (d + 1) mi_PriorityQueueItr_hasNext 0 [.ref it] [] h (cI K Qx) := by
  obtain ⟨mc, sl, ha, hr, h130, hle, -⟩ := hp
  obtain ⟨lr, v3, mc2, w, v0, v1, v2, hi1, hi2⟩ := hi
  refine b_PriorityQueueItr_hasNext_0 (gI_of hi1 (by simp) rfl (gR_of hi1 (by simp) rfl rfl (dR_of (gI_of ha (by simp) rfl ⟨fun hlt => cI_mk ?_, fun hge => gR_of hi1 (by simp) rfl rfl ⟨fun _ => cI_mk ?_, fun q7 h9 => by cases h9⟩⟩))))
  · rw [decide_eq_true ((i32_lt (by omega) (by omega)).mp hlt)] at HK; exact HK
  · rw [decide_eq_false (fun h9 => hge ((i32_lt (by omega) (by omega)).mpr h9))] at HK; exact HK
theorem s_pqNext {es : List VI} {it cur : Nat} {x : VI} {K : Value → AH → Prop} (hC : CmpS G d cc F Eh) {d' : Nat} (hp : PQh Eh h a arr es) (hi : ItP h it a cur) (hx : es[cur]? = some x) (HK : ∀ h', ItP h' it a (cur + 1) → Chg 0 (fun q => q = it) h h' → h'.2.1 = h.2.1 → K x.1 h') : MF G (d' + 1) mi_PriorityQueueItr_next 0 [.ref it] [] h (cR K Qx) := by
  obtain ⟨mc, sl, ha, hr, h130, hle, h1, hS, hnull, hE, hH⟩ := hp
  obtain ⟨lr, v3, mc2, w, v0, v1, v2, hi1, hi2⟩ := hi
  have hcl := (List.getElem?_eq_some_iff.mp hx).1
  rw [ha] at hi2
  cases hi2
  have hna : a ≠ it := fun e => by subst e; rw [ha] at hi1; cases hi1
  have hnr : arr ≠ it := fun e => by subst e; rw [hr] at hi1; cases hi1
  have hxr := hC.ref (hE x (List.mem_of_getElem? hx))
  have j1 := AH.put_self (fs' := [.int (i32 (cur + 1)), .int lr, .null, v3, .int mc, .ref a]) hi1
  have j2 := AH.put_self (fs' := [.int (i32 (cur + 1)), .int (i32 cur), .null, v3, .int mc, .ref a]) j1
  refine b_PriorityQueueItr_next_0 (gI_of hi1 (by simp) rfl (gR_of hi1 (by simp) rfl rfl (dR_of (gI_of ha (by simp) rfl ⟨fun _ => gI_of hi1 (by simp) rfl (gR_of hi1 (by simp) rfl rfl (dR_of (gI_of ha (by simp) rfl ⟨fun hle9 => absurd ((i32_le (by omega) (by omega)).mp hle9) (by omega), fun _ => gR_of hi1 (by simp) rfl rfl (dR_of (gR_of ha (by simp) rfl rfl (gI_of hi1 (by simp) rfl (pF_of hi1 (by simp) (by simp) ?_))))⟩))), fun hn => absurd rfl hn⟩))))
  rw [i32_succ]
  refine pF_of j1 (by simp) (by simp) (dR_of (aR_of (w := true) (fs := sl) ?_ (i32_nn (by omega)) (by rw [i32_nat (by omega)]; exact hS cur x hx) hxr (cR_mk hxr (HK _ ⟨i32 cur, v3, mc, true, .ref arr, .int (i32 es.length), .null, j2, ?_⟩ ?_ rfl))))
  · rw [AH.put_ne hnr, AH.put_ne hnr]; exact hr
  · rw [AH.put_ne hna, AH.put_ne hna]; exact ha
  · exact (Chg.put (F := fun q => q = it) (fs' := [.int (i32 (cur + 1)), .int lr, .null, v3, .int mc, .ref a]) hi1 (by decide) rfl).same (Chg.put (F := fun q => q = it) (fs' := [.int (i32 (cur + 1)), .int (i32 cur), .null, v3, .int mc, .ref a]) j1 (by decide) rfl)
end
