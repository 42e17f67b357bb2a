/-! a player's stones in order -/
set_option maxRecDepth 100000
theorem i32_tri (a b : Int32) : a < b ∨ a = b ∨ b < a := by
  rw [Int32.lt_iff_toInt_lt, Int32.lt_iff_toInt_lt, ← Int32.toInt_inj]
  omega
theorem i32_asym {a b : Int32} (h : a < b) : ¬ b < a ∧ ¬ a = b := by
  rw [Int32.lt_iff_toInt_lt] at h
  rw [Int32.lt_iff_toInt_lt, ← Int32.toInt_inj]
  omega
theorem i32_tr {a b c : Int32} (h : a < b) (h1 : b < c) : a < c := by
  rw [Int32.lt_iff_toInt_lt] at *
  omega
/-- ahead: a strict order -/
theorem isAh_iff {g : GS} {k o : Nat} : isAh g k o = true ↔ p4 (hdA g k) 0 < p4 (hdA g o) 0 ∨ (p4 (hdA g k) 0 = p4 (hdA g o) 0 ∧ (p4 (hdA g k) 1 < p4 (hdA g o) 1 ∨ (p4 (hdA g k) 1 = p4 (hdA g o) 1 ∧ (p4 (hdA g k) 3 < p4 (hdA g o) 3 ∨ (p4 (hdA g k) 3 = p4 (hdA g o) 3 ∧ k < o))))) := by
  unfold isAh
  split
  · rename_i h0
    split
    · rename_i h1
      split
      · rename_i h3
        simp [h0, h1, h3]
      · rename_i h3
        simp [h0, h1, h3]
    · rename_i h1
      simp [h0, h1]
  · rename_i h0
    simp [h0]
theorem isAh_irr {g : GS} {k : Nat} : isAh g k k = false := by
  cases h : isAh g k k with
  | false => rfl
  | true =>
    rcases isAh_iff.mp h with h9 | ⟨-, h9 | ⟨-, h9 | ⟨-, h9⟩⟩⟩
    · exact absurd h9 (i32_asym h9).1
    · exact absurd h9 (i32_asym h9).1
    · exact absurd h9 (i32_asym h9).1
    · omega
theorem isAh_tr {g : GS} {a b c : Nat} (h1 : isAh g a b = true) (h2 : isAh g b c = true) : isAh g a c = true := by
  rw [isAh_iff] at *
  rcases h1 with h1 | ⟨e1, h1⟩
  · rcases h2 with h2 | ⟨e2, h2⟩
    · exact Or.inl (i32_tr h1 h2)
    · exact Or.inl (e2 ▸ h1)
  · rcases h2 with h2 | ⟨e2, h2⟩
    · exact Or.inl (e1 ▸ h2)
    · refine Or.inr ⟨e1.trans e2, ?_⟩
      rcases h1 with h1 | ⟨f1, h1⟩
      · rcases h2 with h2 | ⟨f2, h2⟩
        · exact Or.inl (i32_tr h1 h2)
        · exact Or.inl (f2 ▸ h1)
      · rcases h2 with h2 | ⟨f2, h2⟩
        · exact Or.inl (f1 ▸ h2)
        · refine Or.inr ⟨f1.trans f2, ?_⟩
          rcases h1 with h1 | ⟨k1, h1⟩
          · rcases h2 with h2 | ⟨k2, h2⟩
            · exact Or.inl (i32_tr h1 h2)
            · exact Or.inl (k2 ▸ h1)
          · rcases h2 with h2 | ⟨k2, h2⟩
            · exact Or.inl (k1 ▸ h2)
            · exact Or.inr ⟨k1.trans k2, by omega⟩
theorem isAh_tri {g : GS} {a b : Nat} (h : a ≠ b) : isAh g a b = true ∨ isAh g b a = true := by
  rw [isAh_iff, isAh_iff]
  rcases i32_tri (p4 (hdA g a) 0) (p4 (hdA g b) 0) with h0 | h0 | h0
  · exact Or.inl (Or.inl h0)
  · rcases i32_tri (p4 (hdA g a) 1) (p4 (hdA g b) 1) with h1 | h1 | h1
    · exact Or.inl (Or.inr ⟨h0, Or.inl h1⟩)
    · rcases i32_tri (p4 (hdA g a) 3) (p4 (hdA g b) 3) with h3 | h3 | h3
      · exact Or.inl (Or.inr ⟨h0, Or.inr ⟨h1, Or.inl h3⟩⟩)
      · rcases (by omega : a < b ∨ b < a) with h9 | h9
        · exact Or.inl (Or.inr ⟨h0, Or.inr ⟨h1, Or.inr ⟨h3, h9⟩⟩⟩)
        · exact Or.inr (Or.inr ⟨h0.symm, Or.inr ⟨h1.symm, Or.inr ⟨h3.symm, h9⟩⟩⟩)
      · exact Or.inr (Or.inr ⟨h0.symm, Or.inr ⟨h1.symm, Or.inl h3⟩⟩)
    · exact Or.inr (Or.inr ⟨h0.symm, Or.inl h1⟩)
  · exact Or.inr (Or.inl h0)
/-- the places of a player's stones; the same in order -/
def plc (g : GS) (p : Int32) : List Nat := (List.range g.hd.length).filter fun k => (hdA g k).2.2.1 == p
def ordP (g : GS) (p : Int32) : List Nat := (plc g p).mergeSort fun a b => !isAh g b a
theorem ordP_perm {g : GS} {p : Int32} : (ordP g p).Perm (plc g p) := List.mergeSort_perm _ _
theorem plc_nodup {g : GS} {p : Int32} : (plc g p).Nodup := List.Pairwise.filter _ List.nodup_range
theorem ordP_sorted {g : GS} {p : Int32} : (ordP g p).Pairwise fun a b => isAh g a b = true := by
  have h1 : (ordP g p).Pairwise fun a b => (!isAh g b a) = true := by
    refine List.pairwise_mergeSort (le := fun a b => !isAh g b a) (fun a b c hab hbc => ?_) (fun a b => ?_) _
    · simp only [Bool.not_eq_true'] at *
      cases h : isAh g c a with
      | false => rfl
      | true =>
        by_cases e : a = b
        · subst e; rw [h] at hbc; cases hbc
        · rcases isAh_tri e with h9 | h9
          · rw [isAh_tr h h9] at hbc; cases hbc
          · rw [h9] at hab; cases hab
    · by_cases e : a = b
      · subst e; rw [isAh_irr]; rfl
      · rcases isAh_tri (g := g) e with h9 | h9
        · cases h8 : isAh g b a with
          | false => rfl
          | true => have := isAh_tr h9 h8; rw [isAh_irr] at this; cases this
        · cases h8 : isAh g a b with
          | false => simp
          | true => have := isAh_tr h9 h8; rw [isAh_irr] at this; cases this
  have h2 : (ordP g p).Nodup := (ordP_perm.nodup_iff).mpr plc_nodup
  refine (h1.and h2).imp fun {a b} h9 => ?_
  rcases isAh_tri (g := g) h9.2 with h8 | h8
  · exact h8
  · have := h9.1; rw [h8] at this; cases this
theorem filter_all {α : Type} {P : α → Bool} {l : List α} (h : ∀ a, a ∈ l → P a = true) : (l.filter P).length = l.length := by rw [List.filter_eq_self.mpr h]
theorem filter_none {α : Type} {P : α → Bool} {l : List α} (h : ∀ a, a ∈ l → P a = false) : (l.filter P).length = 0 := by
  rw [List.filter_eq_nil_iff.mpr fun a ha => by rw [h a ha]; decide]; rfl
/-- how many are ahead of the one at place i -/
theorem ordP_rank {g : GS} {p : Int32} {i k : Nat} (h : (ordP g p)[i]? = some k) : ((plc g p).filter fun o => isAh g o k).length = i := by
  rw [← (ordP_perm.filter _).length_eq]
  obtain ⟨hi, hk⟩ := List.getElem?_eq_some_iff.mp h
  have hsp : ordP g p = (ordP g p).take i ++ k :: (ordP g p).drop (i + 1) := by
    rw [← hk, ← List.drop_eq_getElem_cons hi, List.take_append_drop]
  have hs := ordP_sorted (g := g) (p := p)
  rw [hsp, List.pairwise_append] at hs
  obtain ⟨-, s2, s3⟩ := hs
  rw [hsp, List.filter_append, List.length_append, filter_all fun a ha => s3 a ha k List.mem_cons_self, List.length_take, Nat.min_eq_left (by omega)]
  rw [filter_none fun a ha => ?_]
  · rfl
  · rcases List.mem_cons.mp ha with rfl | h9
    · exact isAh_irr
    · have := (List.pairwise_cons.mp s2).1 a h9
      cases h8 : isAh g a k with
      | false => rfl
      | true => have := isAh_tr this h8; rw [isAh_irr] at this; cases this
theorem rkN_eq {g : GS} {p : Int32} {k : Nat} : rkN g p k = i32 ((plc g p).filter fun o => isAh g o k).length := by
  have h : ∀ m, itn (fun a o => if (hdA g o).2.2.1 = p then (if isAh g o k then a + 1 else a) else a) 0 m = i32 (((List.range m).filter fun k => (hdA g k).2.2.1 == p).filter fun o => isAh g o k).length := by
    intro m
    induction m with
    | zero => rfl
    | succ m ih =>
      rw [itn_succ, ih, List.range_succ, List.filter_append, List.filter_append, List.length_append]
      by_cases h1 : (hdA g m).2.2.1 = p
      · rw [if_pos h1]
        by_cases h2 : isAh g m k = true
        · rw [if_pos h2]
          have e1 : ([m].filter fun k => (hdA g k).2.2.1 == p) = [m] := by simp [h1]
          rw [e1]
          have e2 : ([m].filter fun o => isAh g o k) = [m] := by simp [h2]
          rw [e2, i32_succ]; rfl
        · rw [if_neg h2]
          have e1 : ([m].filter fun k => (hdA g k).2.2.1 == p) = [m] := by simp [h1]
          rw [e1]
          have e2 : ([m].filter fun o => isAh g o k) = [] := by simp [h2]
          rw [e2]; rfl
      · rw [if_neg h1]
        have e1 : ([m].filter fun k => (hdA g k).2.2.1 == p) = [] := by simp [h1]
        rw [e1]; rfl
  exact h _
theorem plc_mem {g : GS} {p : Int32} {k : Nat} : k ∈ plc g p ↔ k < g.hd.length ∧ (hdA g k).2.2.1 = p := by
  unfold plc
  rw [List.mem_filter, List.mem_range, beq_iff_eq]
theorem plc_len {g : GS} {p : Int32} : (plc g p).length ≤ g.hd.length := by
  unfold plc
  refine Nat.le_trans (List.length_filter_le _ _) ?_
  rw [List.length_range]; exact Nat.le_refl _
/-- the stone at rank i -/
theorem rkL_at {g : GS} {p : Int32} (h61 : g.hd.length ≤ 61) {i k : Nat} (h : (ordP g p)[i]? = some k) : rkL g p (i32 i) g.hd.length 0 = i32 k := by
  have hkm : k ∈ plc g p := ordP_perm.mem_iff.mp (List.mem_of_getElem? h)
  have hk := plc_mem.mp hkm
  have hi : i < (ordP g p).length := (List.getElem?_eq_some_iff.mp h).1
  have hil := ordP_perm (g := g) (p := p) |>.length_eq
  have hpl := plc_len (g := g) (p := p)
  have main : ∀ r k0, r + k0 = g.hd.length → k0 ≤ k → rkL g p (i32 i) r k0 = i32 k := by
    intro r
    induction r with
    | zero => intro k0 h1 h2; omega
    | succ r ih =>
      intro k0 h1 h2
      show (if (hdA g k0).2.2.1 = p then (if rkN g p k0 = i32 i then i32 k0 else rkL g p (i32 i) r (k0 + 1)) else rkL g p (i32 i) r (k0 + 1)) = i32 k
      by_cases e : k0 = k
      · subst e
        rw [if_pos hk.2, if_pos (by rw [rkN_eq, ordP_rank h])]
      · have hnext := ih (k0 + 1) (by omega) (by omega)
        by_cases ho : (hdA g k0).2.2.1 = p
        · rw [if_pos ho]
          have hm : k0 ∈ plc g p := plc_mem.mpr ⟨by omega, ho⟩
          obtain ⟨j, hj⟩ := List.mem_iff_getElem?.mp (ordP_perm.mem_iff.mpr hm)
          have hjl : j < (ordP g p).length := (List.getElem?_eq_some_iff.mp hj).1
          rw [if_neg, hnext]
          rw [rkN_eq, ordP_rank hj]
          intro h9
          have : j = i := (i32_eq (by omega) (by omega)).mp h9
          subst this
          rw [h] at hj
          exact e (Option.some.inj hj).symm
        · rw [if_neg ho]; exact hnext
  exact main g.hd.length 0 rfl (Nat.zero_le _)
theorem rkL_no {g : GS} {p : Int32} (h61 : g.hd.length ≤ 61) {i : Int32} (h : ∀ j, j < (plc g p).length → i ≠ i32 j) : rkL g p i g.hd.length 0 = -1 := by
  have hil := ordP_perm (g := g) (p := p) |>.length_eq
  have main : ∀ r k0, r + k0 = g.hd.length → rkL g p i r k0 = -1 := by
    intro r
    induction r with
    | zero => intro k0 _; rfl
    | succ r ih =>
      intro k0 h1
      show (if (hdA g k0).2.2.1 = p then (if rkN g p k0 = i then i32 k0 else rkL g p i r (k0 + 1)) else rkL g p i r (k0 + 1)) = -1
      have hnext := ih (k0 + 1) (by omega)
      by_cases ho : (hdA g k0).2.2.1 = p
      · rw [if_pos ho]
        have hm : k0 ∈ plc g p := plc_mem.mpr ⟨by omega, ho⟩
        obtain ⟨j, hj⟩ := List.mem_iff_getElem?.mp (ordP_perm.mem_iff.mpr hm)
        have hjl : j < (ordP g p).length := (List.getElem?_eq_some_iff.mp hj).1
        rw [if_neg, hnext]
        rw [rkN_eq, ordP_rank hj]
        intro h9
        exact h j (by omega) h9.symm
      · rw [if_neg ho]; exact hnext
  exact main g.hd.length 0 rfl
theorem plc_stn {g : GS} {p : Int32} : (plc g p).length = stn g p := by
  have h : ∀ m, m ≤ g.hd.length → ((List.range m).filter fun k => (hdA g k).2.2.1 == p).length = cn (fun x : HS => x.2.2.1 == p) (g.hd.take m) := by
    intro m
    induction m with
    | zero => intro _; rfl
    | succ m ih =>
      intro hm
      rw [cn_take (hdA_at (by omega : m < g.hd.length)), ← ih (by omega), List.range_succ, List.filter_append, List.length_append]
      cases e : (hdA g m).2.2.1 == p with
      | true => simp [e]
      | false => simp [e]
  have := h g.hd.length (Nat.le_refl _)
  rw [List.take_length] at this
  exact this
