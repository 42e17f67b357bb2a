/-! heaps as lists: the plain laws -/
set_option maxRecDepth 100000
section
variable {α : Type} {key : α → Int}
def pqUp (key : α → Int) : Nat → List α → Nat → α → List α
  | 0, l, k, x => l.set k x
  | r + 1, l, k, x => if k = 0 then l.set k x else if key x < key (l.getD ((k - 1) / 2) x) then pqUp key r (l.set k (l.getD ((k - 1) / 2) x)) ((k - 1) / 2) x else l.set k x
def pqC (key : α → Int) (l : List α) (k : Nat) (x : α) : Nat := if l.length ≤ 2 * k + 1 + 1 then 2 * k + 1 else if key (l.getD (2 * k + 1 + 1) x) < key (l.getD (2 * k + 1) x) then 2 * k + 1 + 1 else 2 * k + 1
def pqDn (key : α → Int) : Nat → List α → Nat → α → List α
  | 0, l, k, x => l.set k x
  | r + 1, l, k, x => if l.length / 2 ≤ k then l.set k x else if key (l.getD (pqC key l k x) x) < key x then pqDn key r (l.set k (l.getD (pqC key l k x) x)) (pqC key l k x) x else l.set k x
/-- no one is less than the one above -/
def hpA (key : α → Int) (l : List α) : Prop := ∀ i a b, 0 < i → l[i]? = some a → l[(i - 1) / 2]? = some b → key b ≤ key a
theorem getD_at {l : List α} {i : Nat} {x : α} (h : i < l.length) : l[i]? = some (l.getD i x) := by
  rw [List.getD_eq_getElem?_getD, List.getElem?_eq_getElem h]; rfl
theorem set_at {l : List α} {k i : Nat} {x a : α} (h : (l.set k x)[i]? = some a) : (i = k ∧ a = x) ∨ (i ≠ k ∧ l[i]? = some a) := by
  by_cases e : k = i
  · subst e
    have hl := (List.getElem?_eq_some_iff.mp h).1
    rw [List.length_set] at hl
    rw [List.getElem?_set_self hl] at h
    exact Or.inl ⟨rfl, (Option.some.inj h).symm⟩
  · rw [List.getElem?_set_ne e] at h
    exact Or.inr ⟨Ne.symm e, h⟩
theorem pqUp_len : ∀ r (l : List α) k x, (pqUp key r l k x).length = l.length := by
  intro r
  induction r with
  | zero => intro l k x; exact List.length_set
  | succ r ih =>
    intro l k x
    unfold pqUp
    split
    · exact List.length_set
    · split
      · rw [ih]; exact List.length_set
      · exact List.length_set
theorem pqDn_len : ∀ r (l : List α) k x, (pqDn key r l k x).length = l.length := by
  intro r
  induction r with
  | zero => intro l k x; exact List.length_set
  | succ r ih =>
    intro l k x
    unfold pqDn
    split
    · exact List.length_set
    · split
      · rw [ih]; exact List.length_set
      · exact List.length_set
theorem swap_perm {l : List α} {k p : Nat} {x e : α} (hk : k < l.length) (hp : l[p]? = some e) (hkp : k ≠ p) : ((l.set k e).set p x).Perm (l.set k x) := by
  obtain ⟨hpl, he⟩ := List.getElem?_eq_some_iff.mp hp
  have h1 : k < (l.set k x).length := by rw [List.length_set]; exact hk
  have h2 : p < (l.set k x).length := by rw [List.length_set]; exact hpl
  have := List.set_set_perm h1 h2
  have e1 : (l.set k x)[p] = e := by rw [List.getElem_set_ne hkp]; exact he
  have e2 : (l.set k x)[k] = x := List.getElem_set_self _
  rw [e1, e2, List.set_set] at this
  exact this
theorem pqUp_perm : ∀ r (l : List α) k x, k < l.length → (pqUp key r l k x).Perm (l.set k x) := by
  intro r
  induction r with
  | zero => intro l k x _; exact List.Perm.refl _
  | succ r ih =>
    intro l k x hk
    unfold pqUp
    split
    · exact List.Perm.refl _
    · split
      · refine (ih _ _ _ (by rw [List.length_set]; omega)).trans (swap_perm hk (getD_at (by omega)) (by omega))
      · exact List.Perm.refl _
theorem pqUp_heap : ∀ r (l : List α) k x, k ≤ r → k < l.length → (∀ i a b, 0 < i → i ≠ k → (i - 1) / 2 ≠ k → l[i]? = some a → l[(i - 1) / 2]? = some b → key b ≤ key a) → (∀ i a, 0 < i → (i - 1) / 2 = k → l[i]? = some a → key x ≤ key a) → (∀ i a b, 0 < i → (i - 1) / 2 = k → 0 < k → l[i]? = some a → l[(k - 1) / 2]? = some b → key b ≤ key a) → hpA key (pqUp key r l k x) := by
  intro r
  induction r with
  | zero =>
    intro l k x hkr hk ha hb hc i a b hi h1 h2
    have : k = 0 := by omega
    subst this
    rcases set_at h1 with ⟨e, rfl⟩ | ⟨e, k1⟩
    · omega
    · rcases set_at h2 with ⟨e2, rfl⟩ | ⟨e2, k2⟩
      · exact hb i a hi e2 k1
      · exact ha i a b hi e e2 k1 k2
  | succ r ih =>
    intro l k x hkr hk ha hb hc
    have stop : (0 < k → ∀ b, l[(k - 1) / 2]? = some b → key b ≤ key x) → hpA key (l.set k x) := by
      intro hp i a b hi h1 h2
      rcases set_at h1 with ⟨e, rfl⟩ | ⟨e, k1⟩
      · subst e
        rcases set_at h2 with ⟨e2, rfl⟩ | ⟨e2, k2⟩
        · omega
        · exact hp hi b k2
      · rcases set_at h2 with ⟨e2, rfl⟩ | ⟨e2, k2⟩
        · exact hb i a hi e2 k1
        · exact ha i a b hi e e2 k1 k2
    unfold pqUp
    split
    · rename_i h0
      exact stop fun h9 => by omega
    · rename_i h0
      have hp := getD_at (l := l) (i := (k - 1) / 2) (x := x) (by omega)
      generalize l.getD ((k - 1) / 2) x = e at hp
      split
      · rename_i hlt
        refine ih _ _ _ (by omega) (by rw [List.length_set]; omega) (fun i a b hi hik hipk h1 h2 => ?_) (fun i a hi hip h1 => ?_) (fun i a b hi hip hp0 h1 h2 => ?_)
        · rcases set_at h1 with ⟨e1, rfl⟩ | ⟨e1, k1⟩
          · subst e1; exact absurd rfl hipk
          · rcases set_at h2 with ⟨e2, rfl⟩ | ⟨e2, k2⟩
            · exact hc i a b hi e2 (by omega) k1 hp
            · exact ha i a b hi e1 e2 k1 k2
        · rcases set_at h1 with ⟨e1, rfl⟩ | ⟨e1, k1⟩
          · omega
          · have := ha i a e hi e1 (by omega) k1 (by rw [hip]; exact hp)
            omega
        · have h2' : l[((k - 1) / 2 - 1) / 2]? = some b := by
            rcases set_at h2 with ⟨e2, rfl⟩ | ⟨e2, k2⟩
            · omega
            · exact k2
          have hbe := ha ((k - 1) / 2) e b hp0 (by omega) (by omega) hp h2'
          rcases set_at h1 with ⟨e1, rfl⟩ | ⟨e1, k1⟩
          · exact hbe
          · have := ha i a e hi e1 (by omega) k1 (by rw [hip]; exact hp)
            omega
      · rename_i hge
        exact stop fun _ b hb2 => by
          rw [hp] at hb2
          cases hb2
          omega
theorem pqC_ok {l : List α} {k : Nat} {x : α} (h : ¬ l.length / 2 ≤ k) : (pqC key l k x = 2 * k + 1 ∨ pqC key l k x = 2 * k + 1 + 1) ∧ pqC key l k x < l.length ∧ ∀ i a, 0 < i → (i - 1) / 2 = k → l[i]? = some a → key (l.getD (pqC key l k x) x) ≤ key a := by
  unfold pqC
  split
  · rename_i h1
    refine ⟨Or.inl rfl, by omega, fun i a hi hik hia => ?_⟩
    have hl := (List.getElem?_eq_some_iff.mp hia).1
    have : i = 2 * k + 1 := by omega
    subst this
    rw [getD_at (x := x) (by omega)] at hia
    cases hia
    exact Int.le_refl _
  · split
    · rename_i h1 h2
      refine ⟨Or.inr rfl, by omega, fun i a hi hik hia => ?_⟩
      have hl := (List.getElem?_eq_some_iff.mp hia).1
      rcases (by omega : i = 2 * k + 1 ∨ i = 2 * k + 1 + 1) with e | e
      · subst e
        rw [getD_at (x := x) (by omega)] at hia
        cases hia
        omega
      · subst e
        rw [getD_at (x := x) (by omega)] at hia
        cases hia
        exact Int.le_refl _
    · rename_i h1 h2
      refine ⟨Or.inl rfl, by omega, fun i a hi hik hia => ?_⟩
      have hl := (List.getElem?_eq_some_iff.mp hia).1
      rcases (by omega : i = 2 * k + 1 ∨ i = 2 * k + 1 + 1) with e | e
      · subst e
        rw [getD_at (x := x) (by omega)] at hia
        cases hia
        exact Int.le_refl _
      · subst e
        rw [getD_at (x := x) (by omega)] at hia
        cases hia
        omega
theorem pqDn_perm : ∀ r (l : List α) k x, k < l.length → (pqDn key r l k x).Perm (l.set k x) := by
  intro r
  induction r with
  | zero => intro l k x _; exact List.Perm.refl _
  | succ r ih =>
    intro l k x hk
    unfold pqDn
    split
    · exact List.Perm.refl _
    · rename_i h1
      obtain ⟨c1, c2, -⟩ := pqC_ok (key := key) (x := x) h1
      split
      · refine (ih _ _ _ (by rw [List.length_set]; exact c2)).trans (swap_perm hk (getD_at c2) (by omega))
      · exact List.Perm.refl _
theorem pqDn_main : ∀ r (l : List α) k x t, l.length ≤ k + r → k < l.length → t ≤ k → (∀ i a b, 0 < i → i ≠ t → i ≠ k → (i - 1) / 2 ≠ k → l[i]? = some a → l[(i - 1) / 2]? = some b → key b ≤ key a) → (k ≠ t → ∀ b, l[(k - 1) / 2]? = some b → key b ≤ key x ∧ ∀ i a, 0 < i → (i - 1) / 2 = k → l[i]? = some a → key b ≤ key a) →
    (∀ i a b, 0 < i → i ≠ t → (pqDn key r l k x)[i]? = some a → (pqDn key r l k x)[(i - 1) / 2]? = some b → key b ≤ key a) ∧ (∀ j, j < k → (pqDn key r l k x)[j]? = l[j]?) := by
  intro r
  induction r with
  | zero => intro l k x t hr hk; omega
  | succ r ih =>
    intro l k x t hr hk htk ha hc
    have stop : (∀ i a, 0 < i → (i - 1) / 2 = k → l[i]? = some a → key x ≤ key a) → (∀ i a b, 0 < i → i ≠ t → (l.set k x)[i]? = some a → (l.set k x)[(i - 1) / 2]? = some b → key b ≤ key a) ∧ (∀ j, j < k → (l.set k x)[j]? = l[j]?) := by
      intro hx
      refine ⟨fun i a b hi hit h1 h2 => ?_, fun j hj => List.getElem?_set_ne (by omega)⟩
      rcases set_at h1 with ⟨e, ea⟩ | ⟨e, k1⟩
      · subst e
        subst ea
        rcases set_at h2 with ⟨e2, eb⟩ | ⟨e2, k2⟩
        · omega
        · exact (hc hit b k2).1
      · rcases set_at h2 with ⟨e2, eb⟩ | ⟨e2, k2⟩
        · subst eb
          exact hx i a hi e2 k1
        · exact ha i a b hi hit e e2 k1 k2
    unfold pqDn
    split
    · rename_i h1
      exact stop fun i a hi hik hia => by
        have hl := (List.getElem?_eq_some_iff.mp hia).1
        omega
    · rename_i h1
      obtain ⟨c1, c2, c3⟩ := pqC_ok (key := key) (x := x) h1
      have hp := getD_at (l := l) (x := x) c2
      generalize pqC key l k x = c at *
      generalize l.getD c x = e at *
      split
      · rename_i hlt
        have hlen : (l.set k e).length = l.length := List.length_set
        have hck : (c - 1) / 2 = k := by omega
        obtain ⟨d1, d2⟩ := ih (l.set k e) c x t (by omega) (by omega) (by omega) (fun i a b hi hit hic hipc h1 h2 => by
          rcases set_at h1 with ⟨e1, ea⟩ | ⟨e1, k1⟩
          · subst e1
            subst ea
            rcases set_at h2 with ⟨e2, eb⟩ | ⟨e2, k2⟩
            · omega
            · exact (hc hit b k2).2 c a (by omega) hck hp
          · rcases set_at h2 with ⟨e2, eb⟩ | ⟨e2, k2⟩
            · subst eb
              exact c3 i a hi e2 k1
            · exact ha i a b hi hit e1 e2 k1 k2) (fun _ b h2 => by
          rcases set_at h2 with ⟨e2, eb⟩ | ⟨e2, k2⟩
          · subst eb
            refine ⟨by omega, fun i a hi hic h1 => ?_⟩
            rcases set_at h1 with ⟨e1, ea⟩ | ⟨e1, k1⟩
            · omega
            · exact ha i a b hi (by omega) e1 (by omega) k1 (by rw [hic]; exact hp)
          · exact absurd hck e2)
        exact ⟨d1, fun j hj => (d2 j (by omega)).trans (List.getElem?_set_ne (by omega))⟩
      · rename_i hge
        exact stop fun i a hi hik hia => by
          have := c3 i a hi hik hia
          omega
/-- behind going down: a heap but for the link above k; x stays, or a lesser one has come up -/
theorem pqDn_heap (r : Nat) (l : List α) (k : Nat) (x : α) (hr : l.length ≤ k + r) (hk : k < l.length) (ha : ∀ i a b, 0 < i → i ≠ k → (i - 1) / 2 ≠ k → l[i]? = some a → l[(i - 1) / 2]? = some b → key b ≤ key a) :
    (∀ i a b, 0 < i → i ≠ k → (pqDn key r l k x)[i]? = some a → (pqDn key r l k x)[(i - 1) / 2]? = some b → key b ≤ key a) ∧ (∀ j, j < k → (pqDn key r l k x)[j]? = l[j]?) ∧
    ((pqDn key r l k x = l.set k x ∧ ∀ i a, 0 < i → (i - 1) / 2 = k → l[i]? = some a → key x ≤ key a) ∨ ∃ i y, 0 < i ∧ (i - 1) / 2 = k ∧ l[i]? = some y ∧ key y < key x ∧ (pqDn key r l k x)[k]? = some y) := by
  obtain ⟨m1, m2⟩ := pqDn_main (key := key) r l k x k hr hk (Nat.le_refl _) (fun i a b hi _ hik hpk h1 h2 => ha i a b hi hik hpk h1 h2) (fun h9 => absurd rfl h9)
  refine ⟨m1, m2, ?_⟩
  cases r with
  | zero => omega
  | succ r =>
    unfold pqDn
    split
    · rename_i h1
      exact Or.inl ⟨rfl, fun i a hi hik hia => by
        have hl := (List.getElem?_eq_some_iff.mp hia).1
        omega⟩
    · rename_i h1
      obtain ⟨c1, c2, c3⟩ := pqC_ok (key := key) (x := x) h1
      have hp := getD_at (l := l) (x := x) c2
      generalize pqC key l k x = c at *
      generalize l.getD c x = e at *
      split
      · rename_i hlt
        refine Or.inr ⟨c, e, by omega, by omega, hp, hlt, ?_⟩
        have hlen : (l.set k e).length = l.length := List.length_set
        have key2 : ∀ r (l : List α) c x k, k < c → (pqDn key r l c x)[k]? = l[k]? := by
          intro r
          induction r with
          | zero => intro l c x k hkc; exact List.getElem?_set_ne (by omega)
          | succ r ih =>
            intro l c x k hkc
            unfold pqDn
            split
            · exact List.getElem?_set_ne (by omega)
            · rename_i h1
              have hc2 := (pqC_ok (key := key) (x := x) h1).1
              split
              · rw [ih _ _ _ _ (by omega)]
                exact List.getElem?_set_ne (by omega)
              · exact List.getElem?_set_ne (by omega)
        rw [key2 r _ c x k (by omega), List.getElem?_set_self hk]
      · rename_i hge
        exact Or.inl ⟨rfl, fun i a hi hik hia => by
          have := c3 i a hi hik hia
          omega⟩
end
