/-! queues of numbers; one of them goes -/
set_option maxRecDepth 100000
/-- a boxed number below a million; its rank is itself -/
def EI (h : AH) (v : Value) (n : Int) : Prop := ∃ m : Nat, m < 1000000 ∧ n = m ∧ IntO h v (i32 m)
theorem EI.chg {c : Nat} {F : Nat → Prop} {h h' : AH} {v : Value} {n : Int} (hi : EI h v n) (hc : Chg c F h h') : EI h' v n := by
  obtain ⟨m, h1, h2, h3⟩ := hi
  exact ⟨m, h1, h2, h3.chg hc⟩
theorem EI.fun {h : AH} {v : Value} {n n' : Int} (h1 : EI h v n) (h2 : EI h v n') : n = n' := by
  obtain ⟨m, a1, rfl, r, e1, e2⟩ := h1
  obtain ⟨m', b1, rfl, r', f1, f2⟩ := h2
  rw [e1] at f1
  cases f1
  rw [e2] at f2
  have e9 : i32 m = i32 m' := by
    have := (Prod.mk.inj (Option.some.inj f2)).2
    have := (Prod.mk.inj this).2
    simpa using this
  have := (i32_eq (by omega) (by omega)).mp e9
  omega
theorem cmpI {G : GL} : CmpS G 3 0 (fun _ => True) EI := by
  refine ⟨fun h h' c v n hi hc => hi.chg hc, fun h v n hi => ?_, fun h q u n1 n2 K Qx h1 h2 _ HK => ?_⟩
  · obtain ⟨m, -, -, r, e, h1⟩ := hi
    exact ⟨r, 13, false, _, e, h1, Or.inr (Or.inr rfl)⟩
  · obtain ⟨m, a1, rfl, r, e1, e2⟩ := h1
    obtain ⟨m', b1, rfl, r', rfl, f2⟩ := h2
    cases e1
    refine ⟨13, mi_Integer_compareTo, ⟨false, _, e2⟩, rfl, ?_⟩
    show MF G 3 mi_Integer_compareTo 0 [.ref q, .ref r'] [] h (cI K Qx)
    refine b_Integer_compareTo_0 rfl ⟨fun q9 h9 => by cases h9; exact ⟨13, false, _, f2, ck_13⟩, hasKs_of e2 (by simp), b_Integer_compareTo_2_0 rfl (gI_of e2 (by simp) rfl (dR_of (gI_of f2 (by simp) rfl (b_Integer_compare_0 ⟨fun hle => ⟨fun hne => ?_, fun he => ?_⟩, fun hgt => ?_⟩))))⟩
    · have hle' := (i32_le (by omega) (by omega)).mp hle
      have hne' : ¬ m = m' := fun h9 => hne (by rw [h9])
      exact cI_mk (cI_mk (cI_mk (HK h 1 (Chg.refl) ⟨fun h9 => absurd h9 (by decide), fun h9 => by omega⟩ ⟨fun _ => by omega, fun _ => by decide⟩)))
    · have he' : m = m' := (i32_eq (by omega) (by omega)).mp he
      exact cI_mk (cI_mk (cI_mk (HK h 0 (Chg.refl) ⟨fun h9 => absurd h9 (by decide), fun h9 => by omega⟩ ⟨fun h9 => absurd h9 (by decide), fun h9 => by omega⟩)))
    · have hgt' : ¬ m' ≤ m := fun h9 => hgt ((i32_le (by omega) (by omega)).mpr h9)
      exact cI_mk (cI_mk (cI_mk (HK h (-1) (Chg.refl) ⟨fun _ => by omega, fun _ => by decide⟩ ⟨fun h9 => absurd h9 (by decide), fun h9 => by omega⟩)))
/-- the heap without the one at place i -/
def pqRem (es : List VI) (i : Nat) : List VI := if i = es.length - 1 then es.take (es.length - 1) else
  (fun l1 => if (l1.getD i (.null, 0)).1 = (es.getD (es.length - 1) (.null, 0)).1 then pqUp rkV i l1 i (es.getD (es.length - 1) (.null, 0)) else l1) (pqDn rkV (es.length - 1) (es.take (es.length - 1)) i (es.getD (es.length - 1) (.null, 0)))
theorem take_at {es : List VI} {n i : Nat} {y : VI} (hn : n ≤ es.length) (h : (es.take n)[i]? = some y) : i < n ∧ es[i]? = some y := by
  have hlt := (List.getElem?_eq_some_iff.mp h).1
  rw [List.length_take, Nat.min_eq_left hn] at hlt
  rw [List.getElem?_take_of_lt hlt] at h
  exact ⟨hlt, h⟩
theorem pqRem_len {es : List VI} {i : Nat} (h0 : 0 < es.length) : (pqRem es i).length = es.length - 1 := by
  unfold pqRem
  split
  · rw [List.length_take]; omega
  · dsimp only
    split
    · rw [pqUp_len, pqDn_len, List.length_take]; omega
    · rw [pqDn_len, List.length_take]; omega
theorem erase_perm {α : Type} : ∀ (l : List α) (i : Nat) (y : α), l[i]? = some y → l.Perm (y :: l.eraseIdx i) := by
  intro l
  induction l with
  | nil => intro i y h; simp at h
  | cons a l ih =>
    intro i y h
    cases i with
    | zero =>
      have : a = y := by simpa using h
      subst this
      exact List.Perm.refl _
    | succ i =>
      have := ih i y (by simpa using h)
      exact (List.Perm.cons a this).trans (List.Perm.swap _ _ _)
theorem set_same {l : List VI} {i : Nat} {y : VI} (h : l[i]? = some y) : l.set i y = l := by
  apply List.ext_getElem?
  intro j
  by_cases e : i = j
  · subst e
    rw [List.getElem?_set_self (List.getElem?_eq_some_iff.mp h).1, h]
  · rw [List.getElem?_set_ne e]
theorem pqRem_perm {es : List VI} {i : Nat} {y : VI} (hf : ∀ x, x ∈ es → ∀ z, z ∈ es → x.1 = z.1 → x = z) (hy : es[i]? = some y) : es.Perm (y :: pqRem es i) := by
  have hi := (List.getElem?_eq_some_iff.mp hy).1
  have hl : (es.take (es.length - 1)).length = es.length - 1 := by rw [List.length_take]; omega
  have hlast := getD_at (l := es) (i := es.length - 1) (x := (.null, 0)) (by omega)
  have hsp : es = es.take (es.length - 1) ++ [es.getD (es.length - 1) (.null, 0)] := by
    obtain ⟨h5, h6⟩ := List.getElem?_eq_some_iff.mp hlast
    rw [← h6, ← List.take_succ_eq_append_getElem h5, show es.length - 1 + 1 = es.length by omega, List.take_length]
  unfold pqRem
  split
  · rename_i e
    subst e
    rw [hy] at hlast
    have := Option.some.inj hlast
    rw [← this] at hsp
    have h9 := List.perm_append_comm (l₁ := es.take (es.length - 1)) (l₂ := [y])
    rw [← hsp] at h9
    exact h9
  · rename_i e
    dsimp only
    have base : es.Perm (y :: (es.take (es.length - 1)).set i (es.getD (es.length - 1) (.null, 0))) := by
      have hit : i < (es.take (es.length - 1)).length := by omega
      have hyt : (es.take (es.length - 1))[i] = y := by
        have := List.getElem?_take_of_lt (l := es) (show i < es.length - 1 by omega)
        rw [hy] at this
        exact (List.getElem?_eq_some_iff.mp this).2
      have p1 : ((es.take (es.length - 1)).set i (es.getD (es.length - 1) (.null, 0))).Perm (es.getD (es.length - 1) (.null, 0) :: (es.take (es.length - 1)).eraseIdx i) := by
        have p0 := erase_perm ((es.take (es.length - 1)).set i (es.getD (es.length - 1) (.null, 0))) i _ (List.getElem?_set_self hit)
        rw [List.eraseIdx_set_eq] at p0
        exact p0
      have p2 := (erase_perm (es.take (es.length - 1)) i y (by rw [← hyt]; exact List.getElem?_eq_getElem hit)).symm
      have p3 := List.perm_append_comm (l₁ := es.take (es.length - 1)) (l₂ := [es.getD (es.length - 1) (.null, 0)])
      rw [← hsp] at p3
      refine p3.trans ?_
      refine List.Perm.trans (List.Perm.cons _ p2.symm) ?_
      exact (List.Perm.swap _ _ _).trans (List.Perm.cons _ p1.symm)
    split
    · refine base.trans (List.Perm.cons _ ?_)
      rename_i heq
      have hD := pqDn_perm (key := rkV) (es.length - 1) (es.take (es.length - 1)) i (es.getD (es.length - 1) (.null, 0)) (by omega)
      have hDl := pqDn_len (key := rkV) (es.length - 1) (es.take (es.length - 1)) i (es.getD (es.length - 1) (.null, 0))
      generalize pqDn rkV (es.length - 1) (es.take (es.length - 1)) i (es.getD (es.length - 1) (.null, 0)) = l1 at *
      have hz := getD_at (l := l1) (i := i) (x := (.null, 0)) (by omega)
      have hzm : l1.getD i (.null, 0) ∈ es := by
        have h9 := hD.mem_iff.mp (List.mem_of_getElem? hz)
        exact base.mem_iff.mpr (List.mem_cons_of_mem _ h9)
      have hze := hf _ hzm _ (List.mem_of_getElem? hlast) heq
      rw [hze] at hz
      refine (pqUp_perm i l1 i _ (by omega)).trans ?_ |>.symm
      rw [set_same hz]
      exact hD
    · exact base.trans (List.Perm.cons _ (pqDn_perm _ _ _ _ (by omega)).symm)
/-- it is a heap again -/
theorem pqRem_heap {es : List VI} {i : Nat} (hf : ∀ x, x ∈ es → ∀ z, z ∈ es → x.1 = z.1 → x = z) (hi : i < es.length) (hH : hpA rkV es) : hpA rkV (pqRem es i) := by
  have hl : (es.take (es.length - 1)).length = es.length - 1 := by rw [List.length_take]; omega
  have hT := hp_take (n := es.length - 1) hH
  have hlast := getD_at (l := es) (i := es.length - 1) (x := (.null, 0)) (by omega)
  unfold pqRem
  split
  · exact hT
  · rename_i e
    dsimp only
    obtain ⟨m1, m2, m3⟩ := pqDn_heap (key := rkV) (es.length - 1) (es.take (es.length - 1)) i (es.getD (es.length - 1) (.null, 0)) (by omega) (by omega) (fun j a b hj _ _ h1 h2 => hT j a b hj h1 h2)
    have hei := getD_at (l := es.take (es.length - 1)) (i := i) (x := (.null, 0)) (by omega)
    generalize (es.take (es.length - 1)).getD i (.null, 0) = ei at *
    have hDl := pqDn_len (key := rkV) (es.length - 1) (es.take (es.length - 1)) i (es.getD (es.length - 1) (.null, 0))
    rcases m3 with ⟨st, hx⟩ | ⟨c, y, hc0, hci, hcy, hlt, hyi⟩
    · have hi1 : (pqDn rkV (es.length - 1) (es.take (es.length - 1)) i (es.getD (es.length - 1) (.null, 0)))[i]? = some (es.getD (es.length - 1) (.null, 0)) := by
        rw [st, List.getElem?_set_self (by omega)]
      have hgd : (pqDn rkV (es.length - 1) (es.take (es.length - 1)) i (es.getD (es.length - 1) (.null, 0))).getD i (.null, 0) = es.getD (es.length - 1) (.null, 0) := by
        rw [List.getD_eq_getElem?_getD (l := pqDn rkV _ _ _ _), hi1]; rfl
      rw [if_pos (by rw [hgd])]
      refine pqUp_heap i _ i _ (Nat.le_refl _) (by omega) (fun j a b hj hji hjp h1 h2 => m1 j a b hj hji h1 h2) (fun j a hj hjp h1 => m1 j a _ hj (by omega) h1 (by rw [hjp]; exact hi1)) (fun j a b hj hjp hi0 h1 h2 => ?_)
      rw [m2 _ (by omega)] at h2
      have q1 := hT i ei b hi0 hei h2
      have h1' : (es.take (es.length - 1))[j]? = some a := by
        rw [st, List.getElem?_set_ne (by omega)] at h1
        exact h1
      have q2 := hT j a ei hj h1' (by rw [hjp]; exact hei)
      omega
    · have hgd : (pqDn rkV (es.length - 1) (es.take (es.length - 1)) i (es.getD (es.length - 1) (.null, 0))).getD i (.null, 0) = y := by
        rw [List.getD_eq_getElem?_getD (l := pqDn rkV _ _ _ _), hyi]; rfl
      have hne : ¬ y.1 = (es.getD (es.length - 1) (.null, 0)).1 := by
        intro h9
        have := hf y (List.mem_of_getElem? (take_at (by omega) hcy).2) _ (List.mem_of_getElem? hlast) h9
        rw [this] at hlt
        omega
      rw [if_neg (by rw [hgd]; exact hne)]
      intro j a b hj h1 h2
      by_cases hji : j = i
      · subst hji
        rw [hyi] at h1
        cases h1
        rw [m2 _ (by omega)] at h2
        have q1 := hT j ei b hj hei h2
        have q2 := hT c y ei hc0 hcy (by rw [hci]; exact hei)
        omega
      · exact m1 j a b hj hji h1 h2
