/-! search trees with links up: the plain picture -/
set_option maxRecDepth 100000
/-- fields of the nodes: 0 key, 1 value, 2 left, 3 right, 4 parent, 5 colour -/
abbrev TE : Type := Nat → Nat → Value
def upE (E : TE) (x k : Nat) (v : Value) : TE := fun y j => if y = x ∧ j = k then v else E y j
theorem upE_e {E : TE} {x k : Nat} {v : Value} : upE E x k v x k = v := by simp [upE]
theorem upE_n {E : TE} {x k y j : Nat} {v : Value} (h : ¬ (y = x ∧ j = k)) : upE E x k v y j = E y j := by simp only [upE, if_neg h]
/-- labels of the nodes: the key, the bounds below and above -/
abbrev TG : Type := (Nat → Int) × (Nat → Int) × (Nat → Int)
/-- a left or right link of x: nothing, or a node whose bounds are a, b -/
def Lnk (E : TE) (Nd : Nat → Prop) (g : TG) (x k : Nat) (a b : Int) : Prop := E x k = .null ∨ ∃ y, E x k = .ref y ∧ Nd y ∧ E y 4 = .ref x ∧ g.2.1 y = a ∧ g.2.2 y = b
/-- a search tree between A and B -/
def TOK (A B : Int) (E : TE) (Nd : Nat → Prop) (root : Value) (g : TG) : Prop :=
  ((root = .null ∧ ∀ x, ¬ Nd x) ∨ ∃ r, root = .ref r ∧ Nd r ∧ E r 4 = .null ∧ g.2.1 r = A ∧ g.2.2 r = B) ∧
  ∀ x, Nd x → A ≤ g.2.1 x ∧ g.2.1 x < g.1 x ∧ g.1 x < g.2.2 x ∧ g.2.2 x ≤ B ∧ Lnk E Nd g x 2 (g.2.1 x) (g.1 x) ∧ Lnk E Nd g x 3 (g.1 x) (g.2.2 x) ∧ ((E x 4 = .null ∧ root = .ref x) ∨ ∃ p, E x 4 = .ref p ∧ Nd p ∧ (E p 2 = .ref x ∨ E p 3 = .ref x))
/-- mirrored -/
def miE (E : TE) : TE := fun x k => if k = 2 then E x 3 else if k = 3 then E x 2 else E x k
def miG (g : TG) : TG := (fun x => - g.1 x, fun x => - g.2.2 x, fun x => - g.2.1 x)
theorem miE_2 {E : TE} {x : Nat} : miE E x 2 = E x 3 := rfl
theorem miE_3 {E : TE} {x : Nat} : miE E x 3 = E x 2 := rfl
theorem miE_4 {E : TE} {x : Nat} : miE E x 4 = E x 4 := rfl
theorem miE_miE {E : TE} : miE (miE E) = E := by
  funext x k
  unfold miE
  by_cases h2 : k = 2
  · subst h2; rfl
  · by_cases h3 : k = 3
    · subst h3; rfl
    · simp [h2, h3]
theorem miG_miG {g : TG} : miG (miG g) = g := by
  unfold miG
  simp
theorem TOK.mirror {A B : Int} {E : TE} {Nd : Nat → Prop} {root : Value} {g : TG} (h : TOK A B E Nd root g) : TOK (-B) (-A) (miE E) Nd root (miG g) := by
  obtain ⟨h1, h2⟩ := h
  refine ⟨?_, fun x hx => ?_⟩
  · rcases h1 with h1 | ⟨r, a, b, c, d, e⟩
    · exact Or.inl h1
    · exact Or.inr ⟨r, a, b, c, by show - g.2.2 r = -B; rw [e], by show - g.2.1 r = -A; rw [d]⟩
  · obtain ⟨a, b, c, d, e, f, k⟩ := h2 x hx
    refine ⟨by show -B ≤ - g.2.2 x; omega, by show - g.2.2 x < - g.1 x; omega, by show - g.1 x < - g.2.1 x; omega, by show - g.2.1 x ≤ -A; omega, ?_, ?_, ?_⟩
    · rcases f with f | ⟨y, y1, y2, y3, y4, y5⟩
      · exact Or.inl f
      · exact Or.inr ⟨y, y1, y2, y3, by show - g.2.2 y = - g.2.2 x; rw [y5], by show - g.2.1 y = - g.1 x; rw [y4]⟩
    · rcases e with e | ⟨y, y1, y2, y3, y4, y5⟩
      · exact Or.inl e
      · exact Or.inr ⟨y, y1, y2, y3, by show - g.2.2 y = - g.1 x; rw [y5], by show - g.2.1 y = - g.2.1 x; rw [y4]⟩
    · rcases k with k | ⟨p, p1, p2, p3 | p3⟩
      · exact Or.inl k
      · exact Or.inr ⟨p, p1, p2, Or.inr p3⟩
      · exact Or.inr ⟨p, p1, p2, Or.inl p3⟩
/-- p goes down to the left, r (right of p) comes up -/
def rotE (E : TE) (p r : Nat) : TE :=
  fun y j =>
    if y = p ∧ j = 3 then E r 2
    else if y = r ∧ j = 2 then .ref p
    else if y = p ∧ j = 4 then .ref r
    else if y = r ∧ j = 4 then E p 4
    else if j = 4 ∧ E r 2 = .ref y then .ref p
    else if E p 4 = .ref y ∧ j = 2 ∧ E y 2 = .ref p then .ref r
    else if E p 4 = .ref y ∧ j = 3 ∧ ¬ E y 2 = .ref p then .ref r
    else E y j
def rotR (root : Value) (E : TE) (p r : Nat) : Value := if E p 4 = .null then .ref r else root
def rotG (g : TG) (p r : Nat) : TG := (g.1, fun x => if x = r then g.2.1 p else g.2.1 x, fun x => if x = p then g.1 r else g.2.2 x)
section
variable {A B : Int} {E : TE} {Nd : Nat → Prop} {root : Value} {g : TG}
/-- what lies left and right of a node differs; a node is not its own child -/
theorem TOK.child (h : TOK A B E Nd root g) {x y : Nat} (hx : Nd x) : (E x 2 = .ref y → Nd y ∧ E y 4 = .ref x ∧ g.2.1 y = g.2.1 x ∧ g.2.2 y = g.1 x) ∧ (E x 3 = .ref y → Nd y ∧ E y 4 = .ref x ∧ g.2.1 y = g.1 x ∧ g.2.2 y = g.2.2 x) := by
  obtain ⟨a, b, c, d, e, f, k⟩ := h.2 x hx
  refine ⟨fun h2 => ?_, fun h3 => ?_⟩
  · rcases e with e | ⟨z, z1, z2, z3, z4, z5⟩
    · rw [h2] at e; cases e
    · rw [h2] at z1; cases z1; exact ⟨z2, z3, z4, z5⟩
  · rcases f with f | ⟨z, z1, z2, z3, z4, z5⟩
    · rw [h3] at f; cases f
    · rw [h3] at z1; cases z1; exact ⟨z2, z3, z4, z5⟩
theorem TOK.rot (h : TOK A B E Nd root g) {p r : Nat} (hp : Nd p) (hr : E p 3 = .ref r) : TOK A B (rotE E p r) Nd (rotR root E p r) (rotG g p r) := by
  obtain ⟨hrN, hrp, hrlo, hrhi⟩ := (h.child hp).2 hr
  obtain ⟨pa, pb, pc, pd, pe, pf, pk⟩ := h.2 p hp
  obtain ⟨ra, rb, rc, rd, re, rf, rk⟩ := h.2 r hrN
  have hpr : p ≠ r := by
    intro e
    subst e
    omega
  -- r is not the parent of p; no node is its own parent
  have hp4r : ¬ E p 4 = .ref r := by
    intro e
    rcases pk with ⟨k1, -⟩ | ⟨q, q1, q2, q3 | q3⟩
    · rw [e] at k1; cases k1
    · rw [e] at q1; cases q1
      obtain ⟨-, -, s1, s2⟩ := (h.child hrN).1 q3
      omega
    · rw [e] at q1; cases q1
      obtain ⟨-, -, s1, s2⟩ := (h.child hrN).2 q3
      omega
  have hp4p : ¬ E p 4 = .ref p := by
    intro e
    rcases pk with ⟨k1, -⟩ | ⟨q, q1, q2, q3 | q3⟩
    · rw [e] at k1; cases k1
    · rw [e] at q1; cases q1
      obtain ⟨-, -, s1, s2⟩ := (h.child hp).1 q3
      omega
    · rw [e] at q1; cases q1
      obtain ⟨-, -, s1, s2⟩ := (h.child hp).2 q3
      omega
  have hc : ∀ c, E r 2 = .ref c → Nd c ∧ E c 4 = .ref r ∧ g.2.1 c = g.1 p ∧ g.2.2 c = g.1 r ∧ c ≠ p ∧ c ≠ r := by
    intro c hc
    obtain ⟨c1, c2, c3, c4⟩ := (h.child hrN).1 hc
    have cc := h.2 c c1
    refine ⟨c1, c2, by omega, c4, fun e => ?_, fun e => ?_⟩
    · subst e; omega
    · subst e; omega
  have G1 : ∀ x, (rotG g p r).1 x = g.1 x := fun _ => rfl
  have Glr : (rotG g p r).2.1 r = g.2.1 p := if_pos rfl
  have Gl : ∀ x, x ≠ r → (rotG g p r).2.1 x = g.2.1 x := fun x hx => if_neg hx
  have Ghp : (rotG g p r).2.2 p = g.1 r := if_pos rfl
  have Gh : ∀ x, x ≠ p → (rotG g p r).2.2 x = g.2.2 x := fun x hx => if_neg hx
  have E0 : rotE E p r p 3 = E r 2 := if_pos ⟨rfl, rfl⟩
  have E1 : rotE E p r r 2 = .ref p := by unfold rotE; rw [if_neg (by rintro ⟨-, e⟩; cases e), if_pos ⟨rfl, rfl⟩]
  have E2 : rotE E p r p 4 = .ref r := by unfold rotE; rw [if_neg (by rintro ⟨-, e⟩; cases e), if_neg (by rintro ⟨-, e⟩; cases e), if_pos ⟨rfl, rfl⟩]
  have E3 : rotE E p r r 4 = E p 4 := by unfold rotE; rw [if_neg (by rintro ⟨-, e⟩; cases e), if_neg (by rintro ⟨-, e⟩; cases e), if_neg (by rintro ⟨e, -⟩; exact hpr e.symm), if_pos ⟨rfl, rfl⟩]
  have E4 : ∀ c, E r 2 = .ref c → rotE E p r c 4 = .ref p := fun c hc9 => by
    obtain ⟨-, -, -, -, c5, c6⟩ := hc c hc9
    unfold rotE
    rw [if_neg (by rintro ⟨-, e⟩; cases e), if_neg (by rintro ⟨-, e⟩; cases e), if_neg (by rintro ⟨e, -⟩; exact c5 e), if_neg (by rintro ⟨e, -⟩; exact c6 e), if_pos ⟨rfl, hc9⟩]
  have E5 : ∀ x, x ≠ p → x ≠ r → ¬ E r 2 = .ref x → rotE E p r x 4 = E x 4 := fun x h1 h2 h3 => by
    unfold rotE
    rw [if_neg (by rintro ⟨-, e⟩; cases e), if_neg (by rintro ⟨-, e⟩; cases e), if_neg (by rintro ⟨e, -⟩; exact h1 e), if_neg (by rintro ⟨e, -⟩; exact h2 e), if_neg (by rintro ⟨-, e⟩; exact h3 e), if_neg (by rintro ⟨-, e, -⟩; cases e), if_neg (by rintro ⟨-, e, -⟩; cases e)]
  have E6 : ∀ x, x ≠ r → rotE E p r x 2 = if E p 4 = .ref x ∧ E x 2 = .ref p then .ref r else E x 2 := fun x h1 => by
    unfold rotE
    rw [if_neg (by rintro ⟨-, e⟩; cases e), if_neg (by rintro ⟨e, -⟩; exact h1 e), if_neg (by rintro ⟨-, e⟩; cases e), if_neg (by rintro ⟨-, e⟩; cases e), if_neg (by rintro ⟨e, -⟩; cases e)]
    by_cases e : E p 4 = .ref x ∧ E x 2 = .ref p
    · rw [if_pos ⟨e.1, rfl, e.2⟩, if_pos e]
    · rw [if_neg (fun h9 => e ⟨h9.1, h9.2.2⟩), if_neg (by rintro ⟨-, e, -⟩; cases e), if_neg e]
  have E7 : ∀ x, x ≠ p → rotE E p r x 3 = if E p 4 = .ref x ∧ ¬ E x 2 = .ref p then .ref r else E x 3 := fun x h1 => by
    unfold rotE
    rw [if_neg (by rintro ⟨e, -⟩; exact h1 e), if_neg (by rintro ⟨-, e⟩; cases e), if_neg (by rintro ⟨-, e⟩; cases e), if_neg (by rintro ⟨-, e⟩; cases e), if_neg (by rintro ⟨e, -⟩; cases e), if_neg (by rintro ⟨-, e, -⟩; cases e)]
    by_cases e : E p 4 = .ref x ∧ ¬ E x 2 = .ref p
    · rw [if_pos ⟨e.1, rfl, e.2⟩, if_pos e]
    · rw [if_neg (fun h9 => e ⟨h9.1, h9.2.2⟩), if_neg e]
  -- a link kept: its node is neither p, r nor the one moved over
  have keepL : ∀ x k y, Nd x → x ≠ r → x ≠ p → (k = 2 ∨ k = 3) → E x k = .ref y → y ≠ p → y ≠ r ∧ ¬ E r 2 = .ref y := by
    intro x k y hx hxr hxp hk hxy hyp
    have hy4 : E y 4 = .ref x := by
      rcases hk with rfl | rfl
      · exact ((h.child hx).1 hxy).2.1
      · exact ((h.child hx).2 hxy).2.1
    refine ⟨fun e => ?_, fun e => ?_⟩
    · subst e
      rw [hrp] at hy4
      cases hy4
      exact hxp rfl
    · have := (hc y e).2.1
      rw [this] at hy4
      cases hy4
      exact hxr rfl
  refine ⟨?_, fun x hx => ?_⟩
  · rcases pk with ⟨k1, k2⟩ | ⟨q, q1, q2, q3⟩
    · refine Or.inr ⟨r, if_pos k1, hrN, by rw [E3]; exact k1, ?_, ?_⟩
      · rw [Glr]
        rcases h.1 with ⟨h1, h2⟩ | ⟨r0, a1, a2, a3, a4, a5⟩
        · exact absurd hp (h2 p)
        · rw [k2] at a1; cases a1; exact a4
      · rw [Gh r (Ne.symm hpr), hrhi]
        rcases h.1 with ⟨h1, h2⟩ | ⟨r0, a1, a2, a3, a4, a5⟩
        · exact absurd hp (h2 p)
        · rw [k2] at a1; cases a1; exact a5
    · rcases h.1 with ⟨h1, h2⟩ | ⟨r0, a1, a2, a3, a4, a5⟩
      · exact absurd hp (h2 p)
      · have n1 : r0 ≠ p := fun e => by subst e; rw [a3] at q1; cases q1
        have n2 : r0 ≠ r := fun e => by subst e; rw [hrp] at a3; cases a3
        have n3 : ¬ E r 2 = .ref r0 := fun e => by
          have := (hc r0 e).2.1
          rw [a3] at this; cases this
        refine Or.inr ⟨r0, ?_, a2, by rw [E5 r0 n1 n2 n3]; exact a3, by rw [Gl r0 n2]; exact a4, by rw [Gh r0 n1]; exact a5⟩
        unfold rotR
        rw [if_neg (by rw [q1]; intro e; cases e)]
        exact a1
  · obtain ⟨xa, xb, xc, xd, xe, xf, xk⟩ := h.2 x hx
    by_cases hxp : x = p
    · subst hxp
      refine ⟨by rw [Gl x hpr]; exact xa, by rw [Gl x hpr, G1]; exact xb, by rw [Ghp, G1]; omega, by rw [Ghp]; omega, ?_, ?_, Or.inr ⟨r, E2, hrN, Or.inl E1⟩⟩
      · rw [Gl x hpr, G1]
        unfold Lnk
        rw [E6 x hpr, if_neg (fun e => hp4p e.1)]
        rcases xe with e | ⟨y, y1, y2, y3, y4, y5⟩
        · exact Or.inl e
        · have n1 : y ≠ x := fun e => by subst e; omega
          have n2 : y ≠ r := fun e => by subst e; omega
          have n3 : ¬ E r 2 = .ref y := fun e => by
            have := (hc y e).2.1
            rw [y3] at this; cases this; exact hpr rfl
          exact Or.inr ⟨y, y1, y2, by rw [E5 y n1 n2 n3]; exact y3, by rw [Gl y n2]; exact y4, by rw [Gh y n1]; exact y5⟩
      · rw [Ghp, G1]
        unfold Lnk
        rw [E0]
        rcases re with e | ⟨y, y1, y2, y3, y4, y5⟩
        · exact Or.inl e
        · obtain ⟨-, -, c3, c4, c5, c6⟩ := hc y y1
          exact Or.inr ⟨y, y1, y2, E4 y y1, by rw [Gl y c6]; exact c3, by rw [Gh y c5]; exact c4⟩
    · by_cases hxr : x = r
      · subst hxr
        refine ⟨by rw [Glr]; exact pa, by rw [Glr, G1]; omega, by rw [Gh x hxp, G1]; exact xc, by rw [Gh x hxp]; exact xd, ?_, ?_, ?_⟩
        · rw [Glr, G1]
          exact Or.inr ⟨p, E1, hp, E2, Gl p hpr, Ghp⟩
        · rw [Gh x hxp, G1]
          unfold Lnk
          rw [E7 x hxp, if_neg (fun e => hp4r e.1)]
          rcases xf with e | ⟨y, y1, y2, y3, y4, y5⟩
          · exact Or.inl e
          · have n1 : y ≠ p := fun e => by subst e; rw [y3] at hp4r; exact hp4r rfl
            have n2 : y ≠ x := fun e => by subst e; omega
            have n3 : ¬ E x 2 = .ref y := fun e => by
              have := (hc y e).2.2.1
              omega
            exact Or.inr ⟨y, y1, y2, by rw [E5 y n1 n2 n3]; exact y3, by rw [Gl y n2]; exact y4, by rw [Gh y n1]; exact y5⟩
        · rw [E3]
          rcases pk with ⟨k1, k2⟩ | ⟨q, q1, q2, q3⟩
          · exact Or.inl ⟨k1, if_pos k1⟩
          · have n1 : q ≠ p := fun e => by subst e; exact hp4p q1
            have n2 : q ≠ x := fun e => by subst e; exact hp4r q1
            refine Or.inr ⟨q, q1, q2, ?_⟩
            by_cases e : E q 2 = .ref p
            · exact Or.inl (by rw [E6 q n2, if_pos ⟨q1, e⟩])
            · exact Or.inr (by rw [E7 q n1, if_pos ⟨q1, e⟩])
      · refine ⟨by rw [Gl x hxr]; exact xa, by rw [Gl x hxr, G1]; exact xb, by rw [Gh x hxp, G1]; exact xc, by rw [Gh x hxp]; exact xd, ?_, ?_, ?_⟩
        · rw [Gl x hxr, G1]
          unfold Lnk
          rw [E6 x hxr]
          by_cases e : E p 4 = .ref x ∧ E x 2 = .ref p
          · rw [if_pos e]
            obtain ⟨-, -, s1, s2⟩ := (h.child hx).1 e.2
            exact Or.inr ⟨r, rfl, hrN, by rw [E3]; exact e.1, by rw [Glr]; exact s1, by rw [Gh r (Ne.symm hpr), hrhi]; exact s2⟩
          · rw [if_neg e]
            rcases xe with e2 | ⟨y, y1, y2, y3, y4, y5⟩
            · exact Or.inl e2
            · have n1 : y ≠ p := fun e9 => by subst e9; exact e ⟨y3, y1⟩
              obtain ⟨n2, n3⟩ := keepL x 2 y hx hxr hxp (Or.inl rfl) y1 n1
              exact Or.inr ⟨y, y1, y2, by rw [E5 y n1 n2 n3]; exact y3, by rw [Gl y n2]; exact y4, by rw [Gh y n1]; exact y5⟩
        · rw [Gh x hxp, G1]
          unfold Lnk
          rw [E7 x hxp]
          by_cases e : E p 4 = .ref x ∧ ¬ E x 2 = .ref p
          · rw [if_pos e]
            have e3 : E x 3 = .ref p := by
              rcases pk with ⟨k1, k2⟩ | ⟨q, q1, q2, q3 | q3⟩
              · rw [e.1] at k1; cases k1
              · rw [e.1] at q1; cases q1; exact absurd q3 e.2
              · rw [e.1] at q1; cases q1; exact q3
            obtain ⟨-, -, s1, s2⟩ := (h.child hx).2 e3
            exact Or.inr ⟨r, rfl, hrN, by rw [E3]; exact e.1, by rw [Glr]; exact s1, by rw [Gh r (Ne.symm hpr), hrhi]; exact s2⟩
          · rw [if_neg e]
            rcases xf with e2 | ⟨y, y1, y2, y3, y4, y5⟩
            · exact Or.inl e2
            · have n1 : y ≠ p := fun e9 => by
                subst e9
                refine e ⟨y3, fun e8 => ?_⟩
                obtain ⟨-, -, s1, s2⟩ := (h.child hx).1 e8
                omega
              obtain ⟨n2, n3⟩ := keepL x 3 y hx hxr hxp (Or.inr rfl) y1 n1
              exact Or.inr ⟨y, y1, y2, by rw [E5 y n1 n2 n3]; exact y3, by rw [Gl y n2]; exact y4, by rw [Gh y n1]; exact y5⟩
        · by_cases hcx : E r 2 = .ref x
          · exact Or.inr ⟨p, E4 x hcx, hp, Or.inr (by rw [E0]; exact hcx)⟩
          · rw [E5 x hxp hxr hcx]
            rcases xk with ⟨k1, k2⟩ | ⟨q, q1, q2, q3⟩
            · refine Or.inl ⟨k1, ?_⟩
              unfold rotR
              rw [if_neg]
              · exact k2
              · intro e
                rcases pk with ⟨j1, j2⟩ | ⟨q, q1, -⟩
                · rw [k2] at j2; cases j2; exact hxp rfl
                · rw [e] at q1; cases q1
            · have n1 : q = r → E q 3 = .ref x := fun e => by
                subst e
                rcases q3 with q3 | q3
                · exact absurd q3 hcx
                · exact q3
              have n2 : q = p → E q 2 = .ref x := fun e => by
                subst e
                rcases q3 with q3 | q3
                · exact q3
                · rw [hr] at q3; cases q3; exact absurd rfl hxr
              refine Or.inr ⟨q, q1, q2, ?_⟩
              by_cases hqr : q = r
              · refine Or.inr ?_
                subst hqr
                rw [E7 q (Ne.symm hpr), if_neg (fun e => hp4r e.1)]
                exact n1 rfl
              · by_cases hqp : q = p
                · refine Or.inl ?_
                  subst hqp
                  rw [E6 q hqr, if_neg (fun e => hp4p e.1)]
                  exact n2 rfl
                · rcases q3 with q3 | q3
                  · refine Or.inl ?_
                    rw [E6 q hqr, if_neg (fun e => by rw [q3] at e; have := e.2; cases this; exact hxp rfl)]
                    exact q3
                  · refine Or.inr ?_
                    rw [E7 q hqp, if_neg (fun e => ?_)]
                    · exact q3
                    · have hqp4 : E q 3 = .ref p := by
                        rcases pk with ⟨k1, k2⟩ | ⟨q', q1', q2', q3' | q3'⟩
                        · rw [e.1] at k1; cases k1
                        · rw [e.1] at q1'; cases q1'; exact absurd q3' e.2
                        · rw [e.1] at q1'; cases q1'; exact q3'
                      rw [q3] at hqp4
                      cases hqp4
                      exact hxp rfl
end
