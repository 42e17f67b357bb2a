/-! search trees: looking for a key; neighbours; a leaf more -/
set_option maxRecDepth 100000
/-- one step of the search for k -/
def vsN (E : TE) (gk : Nat → Int) (k : Int) : Value → Value
  | .ref x => if k < gk x then E x 2 else if gk x < k then E x 3 else .null
  | _ => .null
def vsF (E : TE) (gk : Nat → Int) (k : Int) : Nat → Value → Value
  | 0, v => v
  | n + 1, v => vsF E gk k n (vsN E gk k v)
theorem vsF_out {E : TE} {gk : Nat → Int} {k : Int} : ∀ n v, vsF E gk k (n + 1) v = vsN E gk k (vsF E gk k n v) := by
  intro n
  induction n with
  | zero => intro v; rfl
  | succ n ih => intro v; exact ih (vsN E gk k v)
theorem vsF_null {E : TE} {gk : Nat → Int} {k : Int} : ∀ n, vsF E gk k n .null = .null := by
  intro n
  induction n with
  | zero => rfl
  | succ n ih => exact ih
theorem vsF_add {E : TE} {gk : Nat → Int} {k : Int} : ∀ m n v, vsF E gk k (m + n) v = vsF E gk k n (vsF E gk k m v) := by
  intro m
  induction m with
  | zero => intro n v; rw [Nat.zero_add]; rfl
  | succ m ih =>
    intro n v
    rw [show m + 1 + n = (m + n) + 1 by omega]
    exact ih n (vsN E gk k v)
section
variable {A B : Int} {E : TE} {Nd : Nat → Prop} {root : Value} {g : TG}
/-- every search for a key within the bounds of x comes to x -/
theorem TOK.via (h : TOK A B E Nd root g) : ∀ (m : Nat) x, Nd x → (B - A) - (g.2.2 x - g.2.1 x) ≤ m → ∃ n, ∀ k, g.2.1 x < k → k < g.2.2 x → vsF E g.1 k n root = .ref x := by
  intro m
  induction m with
  | zero =>
    intro x hx hm
    obtain ⟨a, b, c, d, e, f, q⟩ := h.2 x hx
    rcases q with ⟨q1, q2⟩ | ⟨p, p1, p2, p3⟩
    · exact ⟨0, fun _ _ _ => q2⟩
    · exfalso
      obtain ⟨pa, pb, pc, pd, -⟩ := h.2 p p2
      rcases p3 with p3 | p3
      · obtain ⟨-, -, s1, s2⟩ := (h.child p2).1 p3
        omega
      · obtain ⟨-, -, s1, s2⟩ := (h.child p2).2 p3
        omega
  | succ m ih =>
    intro x hx hm
    obtain ⟨a, b, c, d, e, f, q⟩ := h.2 x hx
    rcases q with ⟨q1, q2⟩ | ⟨p, p1, p2, p3⟩
    · exact ⟨0, fun _ _ _ => q2⟩
    · obtain ⟨pa, pb, pc, pd, -⟩ := h.2 p p2
      rcases p3 with p3 | p3
      · obtain ⟨-, -, s1, s2⟩ := (h.child p2).1 p3
        obtain ⟨n, hn⟩ := ih p p2 (by omega)
        refine ⟨n + 1, fun k k1 k2 => ?_⟩
        rw [vsF_out, hn k (by omega) (by omega)]
        show (if k < g.1 p then E p 2 else if g.1 p < k then E p 3 else .null) = _
        rw [if_pos (by omega)]; exact p3
      · obtain ⟨-, -, s1, s2⟩ := (h.child p2).2 p3
        obtain ⟨n, hn⟩ := ih p p2 (by omega)
        refine ⟨n + 1, fun k k1 k2 => ?_⟩
        rw [vsF_out, hn k (by omega) (by omega)]
        show (if k < g.1 p then E p 2 else if g.1 p < k then E p 3 else .null) = _
        rw [if_neg (by omega), if_pos (by omega)]; exact p3
theorem TOK.reach (h : TOK A B E Nd root g) {x : Nat} (hx : Nd x) : ∃ n, ∀ k, g.2.1 x < k → k < g.2.2 x → vsF E g.1 k n root = .ref x := by
  obtain ⟨m, hm⟩ : ∃ m : Nat, (B - A) - (g.2.2 x - g.2.1 x) ≤ m := ⟨((B - A) - (g.2.2 x - g.2.1 x)).toNat, by omega⟩
  exact h.via m x hx hm
/-- behind a node of key k nothing is found -/
theorem vsF_stop {k : Int} {n : Nat} {x : Nat} {v : Value} (h : vsF E g.1 k n v = .ref x) (hk : k = g.1 x) : ∀ m, n < m → vsF E g.1 k m v = .null := by
  intro m hm
  obtain ⟨j, rfl⟩ : ∃ j, m = (n + 1) + j := ⟨m - (n + 1), by omega⟩
  rw [vsF_add, vsF_out, h]
  have : vsN E g.1 k (.ref x) = .null := by
    show (if k < g.1 x then E x 2 else if g.1 x < k then E x 3 else .null) = _
    rw [if_neg (by omega), if_neg (by omega)]
  rw [this]
  exact vsF_null j
theorem vsF_same {k : Int} {n m : Nat} {x y : Nat} {v : Value} (h : vsF E g.1 k n v = .ref x) (hk : k = g.1 x) (h2 : vsF E g.1 k m v = .ref y) (hk2 : k = g.1 y) : x = y := by
  rcases Nat.lt_trichotomy n m with e | e | e
  · rw [vsF_stop h hk m e] at h2; cases h2
  · subst e; rw [h] at h2; cases h2; rfl
  · rw [vsF_stop h2 hk2 n e] at h; cases h
/-- keys tell the nodes apart -/
theorem TOK.inj (h : TOK A B E Nd root g) {x y : Nat} (hx : Nd x) (hy : Nd y) (e : g.1 x = g.1 y) : x = y := by
  obtain ⟨n, hn⟩ := h.reach hx
  obtain ⟨m, hm⟩ := h.reach hy
  obtain ⟨-, a1, a2, -⟩ := h.2 x hx
  obtain ⟨-, b1, b2, -⟩ := h.2 y hy
  exact vsF_same (hn (g.1 x) a1 a2) rfl (hm (g.1 x) (by omega) (by omega)) e
/-- no key lies between the bound below and a node with nothing left of it -/
theorem TOK.gapL (h : TOK A B E Nd root g) {x y : Nat} (hx : Nd x) (hy : Nd y) (hl : E x 2 = .null) : ¬ (g.2.1 x < g.1 y ∧ g.1 y < g.1 x) := by
  rintro ⟨h1, h2⟩
  obtain ⟨n, hn⟩ := h.reach hx
  obtain ⟨m, hm⟩ := h.reach hy
  obtain ⟨-, a1, a2, -⟩ := h.2 x hx
  obtain ⟨-, b1, b2, -⟩ := h.2 y hy
  have e1 := hn (g.1 y) h1 (by omega)
  have e2 := hm (g.1 y) b1 b2
  have e3 : vsF E g.1 (g.1 y) (n + 1) root = .null := by
    rw [vsF_out, e1]
    show (if g.1 y < g.1 x then E x 2 else if g.1 x < g.1 y then E x 3 else .null) = _
    rw [if_pos h2]; exact hl
  rcases Nat.lt_trichotomy n m with e | e | e
  · obtain ⟨j, rfl⟩ : ∃ j, m = (n + 1) + j := ⟨m - (n + 1), by omega⟩
    rw [vsF_add, e3, vsF_null] at e2; cases e2
  · subst e; rw [e1] at e2; cases e2; omega
  · rw [vsF_stop e2 rfl n e] at e1; cases e1
theorem TOK.gapR (h : TOK A B E Nd root g) {x y : Nat} (hx : Nd x) (hy : Nd y) (hl : E x 3 = .null) : ¬ (g.1 x < g.1 y ∧ g.1 y < g.2.2 x) := by
  rintro ⟨h1, h2⟩
  have := (h.mirror).gapL hx hy (show miE E x 2 = .null from hl)
  refine this ⟨?_, ?_⟩
  · show - g.2.2 x < - g.1 y; omega
  · show - g.1 y < - g.1 x; omega
/-- where a key can still lie -/
def Cnd (E : TE) (Nd : Nat → Prop) (g : TG) (k : Int) (v : Value) : Prop := ∀ y, Nd y → g.1 y = k → ∃ n, vsF E g.1 k n v = .ref y
theorem TOK.cnd (h : TOK A B E Nd root g) {k : Int} : Cnd E Nd g k root := fun y hy e => by
  obtain ⟨m, hm⟩ := h.reach hy
  obtain ⟨-, b1, b2, -⟩ := h.2 y hy
  exact ⟨m, hm k (by omega) (by omega)⟩
theorem Cnd.step {k : Int} {x : Nat} (hc : Cnd E Nd g k (.ref x)) (hk : ¬ k = g.1 x) : Cnd E Nd g k (if k < g.1 x then E x 2 else E x 3) := fun y hy e => by
  obtain ⟨n, hn⟩ := hc y hy e
  cases n with
  | zero =>
    have : x = y := by
      have h9 : Value.ref x = Value.ref y := hn
      cases h9; rfl
    subst this
    exact absurd e.symm hk
  | succ n =>
    refine ⟨n, ?_⟩
    have h9 : vsF E g.1 k n (vsN E g.1 k (.ref x)) = .ref y := hn
    have e2 : vsN E g.1 k (.ref x) = if k < g.1 x then E x 2 else E x 3 := by
      show (if k < g.1 x then E x 2 else if g.1 x < k then E x 3 else .null) = _
      by_cases h1 : k < g.1 x
      · rw [if_pos h1, if_pos h1]
      · rw [if_neg h1, if_neg h1, if_pos (by omega)]
    rw [← e2]; exact h9
theorem Cnd.none {k : Int} (hc : Cnd E Nd g k .null) {y : Nat} (hy : Nd y) : ¬ g.1 y = k := fun e => by
  obtain ⟨n, hn⟩ := hc y hy e
  rw [vsF_null] at hn; cases hn
/-- a leaf e comes left (s = 2) or right (s = 3) of t -/
def insE (E : TE) (t s e : Nat) (kr v c : Value) : TE := fun y j =>
  if y = e then (if j = 0 then kr else if j = 1 then v else if j = 4 then .ref t else if j = 5 then c else .null)
  else if y = t ∧ j = s then .ref e else E y j
def insG (g : TG) (t s e : Nat) (k : Int) : TG := (fun x => if x = e then k else g.1 x, fun x => if x = e then (if s = 2 then g.2.1 t else g.1 t) else g.2.1 x, fun x => if x = e then (if s = 2 then g.1 t else g.2.2 t) else g.2.2 x)
theorem TOK.ins (h : TOK A B E Nd root g) {t s e : Nat} {kr v c : Value} {k : Int} (ht : Nd t) (he : ¬ Nd e) (hs : (s = 2 ∧ g.2.1 t < k ∧ k < g.1 t) ∨ (s = 3 ∧ g.1 t < k ∧ k < g.2.2 t)) (hn : E t s = .null) : TOK A B (insE E t s e kr v c) (fun x => Nd x ∨ x = e) root (insG g t s e k) := by
  have hte : t ≠ e := fun e9 => he (e9 ▸ ht)
  have G1 : ∀ x, x ≠ e → (insG g t s e k).1 x = g.1 x := fun x hx => if_neg hx
  have G2 : ∀ x, x ≠ e → (insG g t s e k).2.1 x = g.2.1 x := fun x hx => if_neg hx
  have G3 : ∀ x, x ≠ e → (insG g t s e k).2.2 x = g.2.2 x := fun x hx => if_neg hx
  have E4 : ∀ x, x ≠ e → insE E t s e kr v c x 4 = E x 4 := fun x hx => by
    unfold insE
    rw [if_neg hx, if_neg (by rintro ⟨-, e9⟩; rcases hs with ⟨rfl, -⟩ | ⟨rfl, -⟩ <;> cases e9)]
  have EO : ∀ x j, x ≠ e → ¬ (x = t ∧ j = s) → insE E t s e kr v c x j = E x j := fun x j hx h9 => by
    unfold insE
    rw [if_neg hx, if_neg h9]
  have ET : insE E t s e kr v c t s = .ref e := by
    unfold insE
    rw [if_neg hte, if_pos ⟨rfl, rfl⟩]
  have Ne : ∀ x, Nd x → x ≠ e := fun x hx e9 => he (e9 ▸ hx)
  obtain ⟨ta, tb, tc, td, te, tf, tk⟩ := h.2 t ht
  refine ⟨?_, fun x hx => ?_⟩
  · rcases h.1 with ⟨h1, h2⟩ | ⟨r, a1, a2, a3, a4, a5⟩
    · exact absurd ht (h2 t)
    · exact Or.inr ⟨r, a1, Or.inl a2, by rw [E4 r (Ne r a2)]; exact a3, by rw [G2 r (Ne r a2)]; exact a4, by rw [G3 r (Ne r a2)]; exact a5⟩
  · rcases hx with hx | rfl
    · have hxe := Ne x hx
      obtain ⟨xa, xb, xc, xd, xe, xf, xk⟩ := h.2 x hx
      rw [G1 x hxe, G2 x hxe, G3 x hxe]
      refine ⟨xa, xb, xc, xd, ?_, ?_, ?_⟩
      · by_cases hc : x = t ∧ 2 = s
        · obtain ⟨rfl, rfl⟩ := hc
          refine Or.inr ⟨e, ET, Or.inr rfl, by unfold insE; rw [if_pos rfl]; rfl, ?_, ?_⟩
          · show (if e = e then (if 2 = 2 then g.2.1 x else g.1 x) else _) = _
            rw [if_pos rfl, if_pos rfl]
          · show (if e = e then (if 2 = 2 then g.1 x else g.2.2 x) else _) = _
            rw [if_pos rfl, if_pos rfl]
        · unfold Lnk
          rw [EO x 2 hxe hc]
          rcases xe with e2 | ⟨y, y1, y2, y3, y4, y5⟩
          · exact Or.inl e2
          · exact Or.inr ⟨y, y1, Or.inl y2, by rw [E4 y (Ne y y2)]; exact y3, by rw [G2 y (Ne y y2)]; exact y4, by rw [G3 y (Ne y y2)]; exact y5⟩
      · by_cases hc : x = t ∧ 3 = s
        · obtain ⟨rfl, rfl⟩ := hc
          refine Or.inr ⟨e, ET, Or.inr rfl, by unfold insE; rw [if_pos rfl]; rfl, ?_, ?_⟩
          · show (if e = e then (if 3 = 2 then g.2.1 x else g.1 x) else _) = _
            rw [if_pos rfl, if_neg (by decide)]
          · show (if e = e then (if 3 = 2 then g.1 x else g.2.2 x) else _) = _
            rw [if_pos rfl, if_neg (by decide)]
        · unfold Lnk
          rw [EO x 3 hxe hc]
          rcases xf with e2 | ⟨y, y1, y2, y3, y4, y5⟩
          · exact Or.inl e2
          · exact Or.inr ⟨y, y1, Or.inl y2, by rw [E4 y (Ne y y2)]; exact y3, by rw [G2 y (Ne y y2)]; exact y4, by rw [G3 y (Ne y y2)]; exact y5⟩
      · rw [E4 x hxe]
        rcases xk with xk | ⟨p, p1, p2, p3⟩
        · exact Or.inl xk
        · refine Or.inr ⟨p, p1, Or.inl p2, ?_⟩
          have n1 : ∀ j, E p j = .ref x → ¬ (p = t ∧ j = s) := by
            rintro j hj ⟨rfl, rfl⟩
            rw [hn] at hj; cases hj
          rcases p3 with p3 | p3
          · exact Or.inl (by rw [EO p 2 (Ne p p2) (n1 2 p3)]; exact p3)
          · exact Or.inr (by rw [EO p 3 (Ne p p2) (n1 3 p3)]; exact p3)
    · have e1 : (insG g t s x k).1 x = k := if_pos rfl
      have e2 : (insG g t s x k).2.1 x = if s = 2 then g.2.1 t else g.1 t := if_pos rfl
      have e3 : (insG g t s x k).2.2 x = if s = 2 then g.1 t else g.2.2 t := if_pos rfl
      have n2 : insE E t s x kr v c x 2 = .null := by unfold insE; rw [if_pos rfl]; rfl
      have n3 : insE E t s x kr v c x 3 = .null := by unfold insE; rw [if_pos rfl]; rfl
      have n4 : insE E t s x kr v c x 4 = .ref t := by unfold insE; rw [if_pos rfl]; rfl
      rw [e1, e2, e3]
      rcases hs with ⟨rfl, s1, s2⟩ | ⟨rfl, s1, s2⟩
      · rw [if_pos rfl, if_pos rfl]
        exact ⟨ta, s1, s2, by omega, Or.inl n2, Or.inl n3, Or.inr ⟨t, n4, Or.inl ht, Or.inl ET⟩⟩
      · rw [if_neg (by decide), if_neg (by decide)]
        exact ⟨by omega, s1, s2, td, Or.inl n2, Or.inl n3, Or.inr ⟨t, n4, Or.inl ht, Or.inr ET⟩⟩
end
