/-! the pure game; the twin's row of numbers holds it -/
set_option maxRecDepth 100000
abbrev HS : Type := Int32 × Int32 × Int32 × Int32
abbrev CS : Type := Int32 × Int32 × Int32
abbrev PL : Type := Int32 × Int32 × Int32
/-- numbers (as the row has them: 0 faces, 1 income, 4 spoilt, 5 round, 6 starter, 7 bank, 8 first stones, 9 first purses, 11.. accounts); players (name, purse, bid); cart (face, number, stale); stones held (face, number, owner, paid) -/
abbrev GS : Type := (Nat → Int32) × List PL × List CS × List HS
def GS.ns (g : GS) : Nat → Int32 := g.1
def GS.pl (g : GS) : List PL := g.2.1
def GS.ct (g : GS) : List CS := g.2.2.1
def GS.hd (g : GS) : List HS := g.2.2.2
def rowN (g : GS) (j : Nat) : Int32 := if j = 2 then i32 g.pl.length else if j = 3 then i32 g.ct.length else if j = 10 then i32 g.hd.length else g.ns j
def p3 (x : Int32 × Int32 × Int32) (j : Nat) : Int32 := if j = 0 then x.1 else if j = 1 then x.2.1 else x.2.2
def p4 (x : HS) (j : Nat) : Int32 := if j = 0 then x.1 else if j = 1 then x.2.1 else if j = 2 then x.2.2.1 else x.2.2.2
def TR (N : List Int32) (g : GS) : Prop := N.length = 457 ∧ g.pl.length ≤ 5 ∧ g.ct.length ≤ 60 ∧ g.hd.length ≤ 61 ∧ (∀ j, j < 18 → N[j]? = some (rowN g j)) ∧
  (∀ k x, g.pl[k]? = some x → ∀ j, j < 3 → N[18 + 3 * k + j]? = some (p3 x j)) ∧ (∀ k x, g.ct[k]? = some x → ∀ j, j < 3 → N[33 + 3 * k + j]? = some (p3 x j)) ∧ (∀ k x, g.hd[k]? = some x → ∀ j, j < 4 → N[213 + 4 * k + j]? = some (p4 x j))
section
variable {G : GL} {d : Nat} {h0 h : AH} {m : Nat} {A : Nat → Nat} {S : TS} {g : GS} {Qx : Nat → AH → Prop}
theorem s_held {k j : Nat} {x : HS} {K : Int32 → AH → Prop} (H : TWX h0 h m A S) (hR : TR (S.2 0) g) (hx : g.hd[k]? = some x) (hj : j < 4) (HK : K (p4 x j) h) : MF G d mi_M_held 0 [.ref m, .int (i32 k), .int (i32 j)] [] h (cI K Qx) := by
  have hk : k < g.hd.length := (List.getElem?_eq_some_iff.mp hx).1
  have h61 := hR.2.2.2.1
  exact b_M_held_0 (tw_g H (by decide) rfl (by decide) (ix4 213 k j) (by omega) (hR.2.2.2.2.2.2.2 k x hx j hj) (cI_mk HK))
theorem s_of {k j : Nat} {x : PL} {K : Int32 → AH → Prop} (H : TWX h0 h m A S) (hR : TR (S.2 0) g) (hx : g.pl[k]? = some x) (hj : j < 3) (HK : K (p3 x j) h) : MF G d mi_M_of 0 [.ref m, .int (i32 k), .int (i32 j)] [] h (cI K Qx) := by
  have hk : k < g.pl.length := (List.getElem?_eq_some_iff.mp hx).1
  have h61 := hR.2.1
  exact b_M_of_0 (tw_g H (by decide) rfl (by decide) (ix3 18 k j) (by omega) (hR.2.2.2.2.2.1 k x hx j hj) (cI_mk HK))
theorem s_inCart {k j : Nat} {x : CS} {K : Int32 → AH → Prop} (H : TWX h0 h m A S) (hR : TR (S.2 0) g) (hx : g.ct[k]? = some x) (hj : j < 3) (HK : K (p3 x j) h) : MF G d mi_M_inCart 0 [.ref m, .int (i32 k), .int (i32 j)] [] h (cI K Qx) := by
  have hk : k < g.ct.length := (List.getElem?_eq_some_iff.mp hx).1
  have h61 := hR.2.2.1
  exact b_M_inCart_0 (tw_g H (by decide) rfl (by decide) (ix3 33 k j) (by omega) (hR.2.2.2.2.2.2.1 k x hx j hj) (cI_mk HK))
/-- the row's numbers -/
theorem tw_n {j : Nat} {K : Int32 → Prop} (H : TWX h0 h m A S) (hR : TR (S.2 0) g) (hj : j < 18) (HK : K (rowN g j)) : gR h m [12] 0 fun v1 => dR v1 fun q2 => aI h q2 100 (i32 j) K :=
  tw_g H (by decide) rfl (by decide) rfl (by omega) (hR.2.2.2.2.1 j hj) HK
end
/-- how many of a list -/
def cn {α : Type} (P : α → Bool) (l : List α) : Nat := (l.filter P).length
theorem cn_take {α : Type} {P : α → Bool} {l : List α} {k : Nat} {x : α} (hx : l[k]? = some x) : cn P (l.take (k + 1)) = cn P (l.take k) + if P x then 1 else 0 := by
  obtain ⟨hk, rfl⟩ := List.getElem?_eq_some_iff.mp hx
  unfold cn
  rw [List.take_succ_eq_append_getElem hk, List.filter_append, List.length_append]
  cases hP : P l[k] <;> simp [hP]
theorem cn_le {α : Type} {P : α → Bool} {l : List α} : cn P l ≤ l.length := List.length_filter_le _ _
def cnt (g : GS) (p f n : Int32) : Nat := cn (fun x : HS => x.2.2.1 == p && x.1 == f && x.2.1 == n) g.hd
section
variable {G : GL} {d : Nat} {h0 h : AH} {m : Nat} {A : Nat → Nat} {S : TS} {g : GS} {Qx : Nat → AH → Prop}
theorem s_countOf {p f n : Int32} {K : Int32 → AH → Prop} (H : TWX h0 h m A S) (hR : TR (S.2 0) g) (HK : K (i32 (cnt g p f n)) h) : MF G (d + 1) mi_M_countOf 0 [.ref m, .int p, .int f, .int n, .retAddr 0, .retAddr 0] [] h (cI K Qx) := by
  refine b_M_countOf_0 ?_
  have h61 := hR.2.2.2.1
  have loop : ∀ r k, r + k = g.hd.length → MF G (d + 1) mi_M_countOf 6 [.ref m, .int p, .int f, .int n, .int (i32 (cn (fun x : HS => x.2.2.1 == p && x.1 == f && x.2.1 == n) (g.hd.take k))), .int (i32 k)] [] h (cI K Qx) := by
    intro r
    induction r with
    | zero =>
      intro k hk
      refine b_M_countOf_6 (tw_n (j := 10) H hR (by decide) ⟨fun _ => ?_, fun hn => absurd ((i32_le (by omega) (by omega)).mpr (by omega : g.hd.length ≤ k)) hn⟩)
      refine cI_mk ?_
      rw [List.take_of_length_le (by omega)]
      exact HK
    | succ r ih =>
      intro k hk
      obtain ⟨x, hx⟩ : ∃ x, g.hd[k]? = some x := ⟨_, List.getElem?_eq_getElem (by omega)⟩
      have hst := ih (k + 1) (by omega)
      rw [cn_take hx, ← i32_succ k] at hst
      refine b_M_countOf_6 (tw_n (j := 10) H hR (by decide) ⟨fun hn => absurd ((i32_le (by omega) (by omega)).mp hn) (by omega), fun _ => ⟨tw_K H, s_held (j := 2) H hR hx (by decide) ⟨fun hne => ?_, fun he => ⟨tw_K H, s_held (j := 0) H hR hx (by decide) ⟨fun hne => ?_, fun he2 => ⟨tw_K H, s_held (j := 1) H hR hx (by decide) ⟨fun hne => ?_, fun he3 => ?_⟩⟩⟩⟩⟩⟩⟩)
      · have hf : (x.2.2.1 == p && x.1 == f && x.2.1 == n) = false := by simp [show ¬ x.2.2.1 = p from hne]
        rw [hf] at hst; exact hst
      · have hf : (x.2.2.1 == p && x.1 == f && x.2.1 == n) = false := by simp [show ¬ x.1 = f from hne]
        rw [hf] at hst; exact hst
      · have hf : (x.2.2.1 == p && x.1 == f && x.2.1 == n) = false := by simp [show ¬ x.2.1 = n from hne]
        rw [hf] at hst; exact hst
      · have hf : (x.2.2.1 == p && x.1 == f && x.2.1 == n) = true := by simp [show x.2.2.1 = p from he, show x.1 = f from he2, show x.2.1 = n from he3]
        rw [hf, if_pos rfl, ← i32_succ] at hst; exact hst
  exact loop g.hd.length 0 rfl
end
