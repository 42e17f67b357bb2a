/-! queues of numbers: one goes, in the machine -/
set_option maxRecDepth 100000
section
variable {G : GL} {h : AH} {a arr : Nat} {es : List VI} {Qx : Nat → AH → Prop}
theorem EI.inj {es : List VI} (hE : ∀ x : VI, x ∈ es → EI h x.1 x.2) : ∀ x, x ∈ es → ∀ z, z ∈ es → x.1 = z.1 → x = z := by
  intro x hx z hz e
  have h1 := hE x hx
  rw [e] at h1
  exact Prod.ext e (h1.fun (hE z hz))
theorem s_pqRemAt (hp : PQh EI h a arr es) {i : Nat} (hi : i < es.length) {K : Value → AH → Prop} (HK : ∀ v h', v.isRef = true → PQh EI h' a arr (pqRem es i) → Chg 0 (Fpq a arr) h h' → K v h') : MF G 6 mi_PriorityQueue_removeAt 0 [.ref a, .int (i32 i), .retAddr 0, .retAddr 0, .retAddr 0] [] h (cR K Qx) := by
  have hC : CmpS G 3 0 (fun _ => True) EI := cmpI
  have hne := hp.ne
  obtain ⟨mc, sl, ha, hr, h130, hle, h1, hS, hnull, hE, hH⟩ := hp
  have hinj := EI.inj hE
  obtain ⟨n, hn⟩ : ∃ n, es.length = n + 1 := ⟨es.length - 1, by omega⟩
  have hn1 : es.length - 1 = n := by omega
  have hremP := pqRem_heap hinj hi hH
  have hremL := pqRem_len (es := es) (i := i) (by omega)
  rw [hn1] at hremL
  have hremE : ∀ y, y ∈ pqRem es i → y ∈ es := by
    intro y hy
    have := pqRem_perm hinj (getD_at (x := ((.null, 0) : VI)) hi)
    exact this.mem_iff.mpr (List.mem_cons_of_mem _ hy)
  have ha1 := AH.put_self (fs' := [.ref arr, .int (i32 es.length), .null, .int (mc + 1)]) ha
  have ha2 := AH.put_self (fs' := [.ref arr, .int (i32 n), .null, .int (mc + 1)]) ha1
  have en : i32 es.length - 1 = i32 n := by rw [hn]; exact i32_pred
  refine b_PriorityQueue_removeAt_0 (gR_of ha (by simp) rfl rfl (gI_of ha (by simp) rfl (pF_of ha (by simp) (by simp) (gI_of ha1 (by simp) rfl (pF_of ha1 (by simp) (by simp) ?_)))))
  rw [en]
  have c1 := (Chg.put (F := Fpq a arr) (fs' := [.ref arr, .int (i32 es.length), .null, .int (mc + 1)]) ha (by decide) (Or.inl rfl)).same (Chg.put (F := Fpq a arr) (fs' := [.ref arr, .int (i32 n), .null, .int (mc + 1)]) ha1 (by decide) (Or.inl rfl))
  have hr2 : ((h.put a [.ref arr, .int (i32 es.length), .null, .int (mc + 1)]).put a [.ref arr, .int (i32 n), .null, .int (mc + 1)]).1 arr = some (104, true, sl) := by
    rw [AH.put_ne (Ne.symm hne), AH.put_ne (Ne.symm hne)]; exact hr
  have nul : ∀ j, n ≤ j → j < sl.length → (sl.set n .null)[j]? = some .null := by
    intro j hj hj2
    by_cases e : n = j
    · subst e; rw [List.getElem?_set_self hj2]
    · rw [List.getElem?_set_ne e]
      exact hnull j (by omega) hj2
  have hslot : ∀ (j : Nat) (y : VI), (es.take n)[j]? = some y → (sl.set n .null)[j]? = some y.1 := by
    intro j y hy
    obtain ⟨q1, q2⟩ := take_at (by omega) hy
    rw [List.getElem?_set_ne (by omega)]
    exact hS j y q2
  have c2 := c1.same (Chg.put (F := Fpq a arr) (fs' := sl.set n .null) hr2 (by decide) (Or.inr rfl))
  have hr3 := AH.put_self (fs' := sl.set n .null) hr2
  have ha3 : (((h.put a [.ref arr, .int (i32 es.length), .null, .int (mc + 1)]).put a [.ref arr, .int (i32 n), .null, .int (mc + 1)]).put arr (sl.set n .null)).1 a = some (29, true, [.ref arr, .int (i32 n), .null, .int (mc + 1)]) := by
    rw [AH.put_ne hne]; exact ha2
  have hl : (es.take n).length = n := by rw [List.length_take]; omega
  refine ⟨fun hne9 => dR_of ?_, fun he9 => dR_of ?_⟩
  · have hin : ¬ i = n := fun h9 => hne9 (by rw [h9])
    have hlast := getD_at (l := es) (i := n) (x := (.null, 0)) (by omega)
    have hElast := hE _ (List.mem_of_getElem? hlast)
    have hslast := hS _ _ hlast
    have eP : pqRem es i = if ((pqDn rkV n (es.take n) i (es.getD n (.null, 0))).getD i (.null, 0)).1 = (es.getD n (.null, 0)).1 then pqUp rkV i (pqDn rkV n (es.take n) i (es.getD n (.null, 0))) i (es.getD n (.null, 0)) else pqDn rkV n (es.take n) i (es.getD n (.null, 0)) := by
      unfold pqRem
      rw [hn1, if_neg hin]
    generalize es.getD n (.null, 0) = last at *
    refine aR_of hr2 (i32_nn (by omega)) (by rw [i32_nat (by omega)]; exact hslast) (hC.ref hElast) (pA_of hr2 (i32_nn (by omega)) (by rw [i32_nat (by omega)]; omega) ?_)
    rw [i32_nat (by omega)]
    have hEl3 := hElast.chg c2
    obtain ⟨ql, hql, ol1, ol2⟩ := hC.obj hEl3
    have hks3 := hasKs_of ha3 (ks := [29]) (by simp)
    refine ⟨hks3, b_PriorityQueue_siftDown_0 (hC.ref hEl3) (gR_of ha3 (by simp) rfl rfl ⟨fun _ => gR_of ha3 (by simp) rfl rfl (gI_of ha3 (by simp) rfl (b_PriorityQueue_siftDownComparable_0 (hC.ref hEl3) rfl ⟨fun q9 h9 => by rw [hql] at h9; cases h9; exact ol2, ?_⟩)), fun q2 h9 => by cases h9⟩)⟩
    rw [shr1 (by omega)]
    have hDl := pqDn_len (key := rkV) n (es.take n) i last
    have hDp := pqDn_perm (key := rkV) n (es.take n) i last (by omega)
    have hDE : ∀ y, y ∈ pqDn rkV n (es.take n) i last → y ∈ es := by
      intro y hy
      have h9 := hDp.mem_iff.mp hy
      rcases List.mem_or_eq_of_mem_set h9 with h8 | h8
      · exact List.mem_of_mem_take h8
      · rw [h8]; exact List.mem_of_getElem? hlast
    have h7 := s_siftDnC hC trivial (arr := arr) (K := fun h4 => cV (fun h10 => aR h10 arr 104 (i32 i) fun v11 => ((¬ (v11 : Value) = last.1 → cR K Qx (.inl (some (.null))) h10) ∧ ((v11 : Value) = last.1 → (hasKs h10 a [29] ∧ MF G 5 mi_PriorityQueue_siftUp 0 [.ref a, .int (i32 i), last.1] [] h10 (cV (fun h13 => aR h13 arr 104 (i32 i) fun v14 => (((v14 : Value) = last.1 → cR K Qx (.inl (some (.null))) h13) ∧ (¬ (v14 : Value) = last.1 → cR K Qx (.inl (some (last.1))) h13))) (fun q9 h9 => cR K Qx (.inr q9) h9)))))) (fun q9 h9 => cR K Qx (.inr q9) h9) (.inl none) h4) (Qx := fun q9 h9 => cV (fun h10 => aR h10 arr 104 (i32 i) fun v11 => ((¬ (v11 : Value) = last.1 → cR K Qx (.inl (some (.null))) h10) ∧ ((v11 : Value) = last.1 → (hasKs h10 a [29] ∧ MF G 5 mi_PriorityQueue_siftUp 0 [.ref a, .int (i32 i), last.1] [] h10 (cV (fun h13 => aR h13 arr 104 (i32 i) fun v14 => (((v14 : Value) = last.1 → cR K Qx (.inl (some (.null))) h13) ∧ (¬ (v14 : Value) = last.1 → cR K Qx (.inl (some (last.1))) h13))) (fun q9 h9 => cR K Qx (.inr q9) h9)))))) (fun q9 h9 => cR K Qx (.inr q9) h9) (.inr q9) h9) n (es.take n) i last _ (sl.set n .null) (.retAddr 0) (.retAddr 0) (.retAddr 0) (by omega) (by omega) (by rw [List.length_set]; omega) (by rw [List.length_set]; omega) hr3 (fun j y _ hy => hslot j y hy) (fun j y _ hy => (hE y (List.mem_of_getElem? (take_at (by omega) hy).2)).chg c2) hEl3 (by omega) fun h' sl' a1 a2 a3 a4 a5 => cV_mk ?_
    · rw [hl] at h7
      exact h7
    · have c3 := (c2.same (a5.mono (F' := Fpq a arr) (Nat.le_refl _) fun q9 h9 => Or.inr h9)).mono (c' := 0) (by omega) fun _ h9 => h9
      have ha4 : h'.1 a = some (29, true, [.ref arr, .int (i32 n), .null, .int (mc + 1)]) := a5.2.2.2.2 _ _ ha3 (show KX 29 from by decide) hne
      have hDi := getD_at (l := pqDn rkV n (es.take n) i last) (i := i) (x := (.null, 0)) (by omega)
      have hsi := a3 i _ hDi
      have hEi := (hE _ (hDE _ (List.mem_of_getElem? hDi))).chg c3
      rw [List.length_set] at a2
      refine aR_of a1 (i32_nn (by omega)) (by rw [i32_nat (by omega)]; exact hsi) (hC.ref hEi) ⟨fun hne2 => cR_mk rfl (HK _ h' rfl ?_ c3), fun he2 => ⟨hasKs_of ha4 (by simp), ?_⟩⟩
      · rw [if_neg hne2] at eP
        rw [eP] at hremP hremL hremE ⊢
        refine ⟨mc + 1, sl', by rw [hremL]; exact ha4, a1, by rw [a2]; exact h130, by rw [hremL, a2]; omega, by rw [a2]; exact h1, a3, fun j hj hj2 => ?_, fun y hy => (hE y (hremE y hy)).chg c3, hremP⟩
        rw [hremL] at hj
        rw [a4 j (by omega)]
        exact nul j hj (by omega)
      · rw [if_pos he2] at eP
        have hEl4 := hElast.chg c3
        obtain ⟨ql4, hql4, ol3, ol4⟩ := hC.obj hEl4
        refine b_PriorityQueue_siftUp_0 (hC.ref hEl4) (gR_of ha4 (by simp) rfl rfl ⟨fun _ => gR_of ha4 (by simp) rfl rfl (b_PriorityQueue_siftUpComparable_0 (hC.ref hEl4) rfl ⟨fun q9 h9 => by rw [hql4] at h9; cases h9; exact ol4, ?_⟩), fun q2 h9 => by cases h9⟩)
        refine s_siftUpC hC trivial i (pqDn rkV n (es.take n) i last) i last h' sl' _ _ (Nat.le_refl _) (by omega) (by omega) (by omega) a1 a3.x (fun j y _ hy => (hE y (hDE y (List.mem_of_getElem? hy))).chg c3) hEl4 (by omega) fun h2 sl2 b1 b2 b3 b4 b5 => cV_mk ?_
        have c4 := (c3.same (b5.mono (F' := Fpq a arr) (Nat.le_refl _) fun q9 h9 => Or.inr h9)).mono (c' := 0) (by omega) fun _ h9 => h9
        have ha5 : h2.1 a = some (29, true, [.ref arr, .int (i32 n), .null, .int (mc + 1)]) := b5.2.2.2.2 _ _ ha4 (show KX 29 from by decide) hne
        rw [eP] at hremP hremL hremE HK
        have hUi := getD_at (l := pqUp rkV i (pqDn rkV n (es.take n) i last) i last) (i := i) (x := (.null, 0)) (by omega)
        have hsi2 := b3 i _ hUi
        have hEi2 := (hE _ (hremE _ (List.mem_of_getElem? hUi))).chg c4
        have fin : PQh EI h2 a arr (pqUp rkV i (pqDn rkV n (es.take n) i last) i last) := by
          refine ⟨mc + 1, sl2, by rw [hremL]; exact ha5, b1, by rw [b2, a2]; exact h130, by rw [hremL, b2, a2]; omega, by rw [b2, a2]; exact h1, b3, fun j hj hj2 => ?_, fun y hy => (hE y (hremE y hy)).chg c4, hremP⟩
          rw [hremL] at hj
          rw [b4 j (by omega), a4 j (by omega)]
          exact nul j hj (by omega)
        exact aR_of b1 (i32_nn (by omega)) (by rw [i32_nat (by omega)]; exact hsi2) (hC.ref hEi2) ⟨fun _ => cR_mk rfl (HK _ h2 rfl fin c4), fun _ => cR_mk (hC.ref hEl4) (HK _ h2 (hC.ref hEl4) fin c4)⟩
  · have hin : i = n := ((i32_eq (by omega) (by omega)).mp he9).symm
    subst hin
    refine pA_of hr2 (i32_nn (by omega)) (by rw [i32_nat (by omega)]; omega) (cR_mk rfl ?_)
    rw [i32_nat (by omega)]
    have eP : pqRem es i = es.take i := by
      unfold pqRem
      rw [hn1, if_pos rfl]
    rw [eP] at hremP hremL hremE HK
    refine HK _ _ rfl ⟨mc + 1, sl.set i .null, by rw [hremL]; exact ha3, hr3, by rw [List.length_set]; exact h130, by rw [hremL, List.length_set]; omega, by rw [List.length_set]; exact h1, fun j y hy => hslot j y hy, fun j hj hj2 => ?_, fun y hy => (hE y (hremE y hy)).chg c2, hremP⟩ (c2.mono (by omega) fun _ h9 => h9)
    rw [hremL] at hj
    rw [List.length_set] at hj2
    exact nul j hj hj2
end
