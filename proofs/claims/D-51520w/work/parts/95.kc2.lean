/-! search trees: a node goes; a key is put higher; the next one -/
set_option maxRecDepth 100000
/-- s, with nothing left of it, goes; what is right of it comes up -/
def delE (E : TE) (s : Nat) : TE := fun y j =>
  if j = 4 ∧ E s 3 = .ref y then E s 4
  else if E s 4 = .ref y ∧ j = 2 ∧ E y 2 = .ref s then E s 3
  else if E s 4 = .ref y ∧ j = 3 ∧ ¬ E y 2 = .ref s then E s 3
  else E y j
def delR (root : Value) (E : TE) (s : Nat) : Value := if E s 4 = .null then E s 3 else root
def delG (g : TG) (s : Nat) : TG := (g.1, fun x => if g.2.1 x = g.1 s then g.2.1 s else g.2.1 x, g.2.2)
section
variable {A B : Int} {E : TE} {Nd : Nat → Prop} {root : Value} {g : TG}
theorem TOK.noself (h : TOK A B E Nd root g) {x : Nat} (hx : Nd x) : ¬ E x 4 = .ref x ∧ ¬ E x 2 = .ref x ∧ ¬ E x 3 = .ref x := by
  obtain ⟨a, b, c, d, e, f, k⟩ := h.2 x hx
  have n2 : ¬ E x 2 = .ref x := fun e9 => by
    obtain ⟨-, -, s1, s2⟩ := (h.child hx).1 e9
    omega
  have n3 : ¬ E x 3 = .ref x := fun e9 => by
    obtain ⟨-, -, s1, s2⟩ := (h.child hx).2 e9
    omega
  refine ⟨fun e9 => ?_, n2, n3⟩
  rcases k with ⟨k1, -⟩ | ⟨q, q1, q2, q3⟩
  · rw [e9] at k1; cases k1
  · rw [e9] at q1; cases q1
    rcases q3 with q3 | q3
    · exact n2 q3
    · exact n3 q3
theorem TOK.sides (h : TOK A B E Nd root g) {x y : Nat} (hx : Nd x) (h2 : E x 2 = .ref y) (h3 : E x 3 = .ref y) : False := by
  obtain ⟨a, b, c, d, e, f, k⟩ := h.2 x hx
  obtain ⟨-, -, s1, s2⟩ := (h.child hx).1 h2
  obtain ⟨-, -, t1, t2⟩ := (h.child hx).2 h3
  omega
theorem TOK.del (h : TOK A B E Nd root g) {s : Nat} (hs : Nd s) (hl : E s 2 = .null) : TOK A B (delE E s) (fun x => Nd x ∧ x ≠ s) (delR root E s) (delG g s) := by
  obtain ⟨sa, sb, sc, sd, se, sf, sk⟩ := h.2 s hs
  have ns := h.noself hs
  have hc : ∀ r, E s 3 = .ref r → Nd r ∧ E r 4 = .ref s ∧ g.2.1 r = g.1 s ∧ g.2.2 r = g.2.2 s ∧ r ≠ s := fun r hr => by
    obtain ⟨a, b, c, d⟩ := (h.child hs).2 hr
    exact ⟨a, b, c, d, fun e => ns.2.2 (e ▸ hr)⟩
  have up : ∀ p, E s 4 = .ref p → Nd p ∧ p ≠ s ∧ (E p 2 = .ref s ∨ (¬ E p 2 = .ref s ∧ E p 3 = .ref s)) := fun p hp => by
    rcases sk with ⟨k1, -⟩ | ⟨q, q1, q2, q3⟩
    · rw [hp] at k1; cases k1
    · rw [hp] at q1; cases q1
      refine ⟨q2, fun e => ns.1 (e ▸ hp), ?_⟩
      rcases q3 with q3 | q3
      · exact Or.inl q3
      · exact Or.inr ⟨fun e => h.sides q2 e q3, q3⟩
  have G1 : ∀ x, (delG g s).1 x = g.1 x := fun _ => rfl
  have G3 : ∀ x, (delG g s).2.2 x = g.2.2 x := fun _ => rfl
  have Gy : ∀ x, g.2.1 x = g.1 s → (delG g s).2.1 x = g.2.1 s := fun x hx => if_pos hx
  have Gn : ∀ x, ¬ g.2.1 x = g.1 s → (delG g s).2.1 x = g.2.1 x := fun x hx => if_neg hx
  have D4 : ∀ x, E s 3 = .ref x → delE E s x 4 = E s 4 := fun x hx => if_pos ⟨rfl, hx⟩
  have D4n : ∀ x, ¬ E s 3 = .ref x → delE E s x 4 = E x 4 := fun x hx => by
    unfold delE
    rw [if_neg (fun e => hx e.2), if_neg (by rintro ⟨-, e, -⟩; cases e), if_neg (by rintro ⟨-, e, -⟩; cases e)]
  have D2 : ∀ x, delE E s x 2 = if E s 4 = .ref x ∧ E x 2 = .ref s then E s 3 else E x 2 := fun x => by
    unfold delE
    rw [if_neg (by rintro ⟨e, -⟩; cases e)]
    by_cases e : E s 4 = .ref x ∧ E x 2 = .ref s
    · rw [if_pos ⟨e.1, rfl, e.2⟩, if_pos e]
    · rw [if_neg (fun e9 => e ⟨e9.1, e9.2.2⟩), if_neg (by rintro ⟨-, e, -⟩; cases e), if_neg e]
  have D3 : ∀ x, delE E s x 3 = if E s 4 = .ref x ∧ ¬ E x 2 = .ref s then E s 3 else E x 3 := fun x => by
    unfold delE
    rw [if_neg (by rintro ⟨e, -⟩; cases e), if_neg (by rintro ⟨-, e, -⟩; cases e)]
    by_cases e : E s 4 = .ref x ∧ ¬ E x 2 = .ref s
    · rw [if_pos ⟨e.1, rfl, e.2⟩, if_pos e]
    · rw [if_neg (fun e9 => e ⟨e9.1, e9.2.2⟩), if_neg e]
  -- a child that is not s: its parent stays
  have keep : ∀ x y, Nd x → x ≠ s → E y 4 = .ref x → delE E s y 4 = .ref x := fun x y hx hxs hy => by
    rw [D4n y (fun e => by have := (hc y e).2.1; rw [hy] at this; cases this; exact hxs rfl)]
    exact hy
  refine ⟨?_, fun x hx => ?_⟩
  · rcases sk with ⟨k1, k2⟩ | ⟨p, p1, p2, p3⟩
    · have er : delR root E s = E s 3 := if_pos k1
      rw [er]
      rcases h.1 with ⟨h1, h2⟩ | ⟨r0, a1, a2, a3, a4, a5⟩
      · exact absurd hs (h2 s)
      · rw [k2] at a1; cases a1
        rcases sf with f | ⟨r, f1, f2, f3, f4, f5⟩
        · refine Or.inl ⟨f, fun x hx => ?_⟩
          obtain ⟨n, hn⟩ := h.reach hx.1
          obtain ⟨-, b1, b2, -⟩ := h.2 x hx.1
          have e2 := hn (g.1 x) b1 b2
          rw [k2] at e2
          cases n with
          | zero =>
            have e9 : Value.ref s = .ref x := e2
            cases e9
            exact hx.2 rfl
          | succ n =>
            have e3 : vsN E g.1 (g.1 x) (.ref s) = .null := by
              show (if g.1 x < g.1 s then E s 2 else if g.1 s < g.1 x then E s 3 else .null) = _
              rw [hl, f]
              split
              · rfl
              · split <;> rfl
            have e4 : vsF E g.1 (g.1 x) n (vsN E g.1 (g.1 x) (.ref s)) = .ref x := e2
            rw [e3, vsF_null] at e4
            cases e4
        · refine Or.inr ⟨r, f1, ⟨f2, (hc r f1).2.2.2.2⟩, by rw [D4 r f1]; exact k1, ?_, ?_⟩
          · rw [Gy r f4]; exact a4
          · rw [G3, f5]; exact a5
    · have er : delR root E s = root := if_neg (by rw [p1]; intro e; cases e)
      rw [er]
      rcases h.1 with ⟨h1, h2⟩ | ⟨r0, a1, a2, a3, a4, a5⟩
      · exact absurd hs (h2 s)
      · have n1 : r0 ≠ s := fun e => by subst e; rw [a3] at p1; cases p1
        refine Or.inr ⟨r0, a1, ⟨a2, n1⟩, ?_, ?_, by rw [G3]; exact a5⟩
        · rw [D4n r0 (fun e => by have := (hc r0 e).2.1; rw [a3] at this; cases this)]; exact a3
        · rw [Gn r0 (by omega)]; exact a4
  · obtain ⟨hx, hxs⟩ := hx
    obtain ⟨xa, xb, xc, xd, xe, xf, xk⟩ := h.2 x hx
    have hg : ¬ g.1 x = g.1 s := fun e => hxs (h.inj hx hs e)
    rw [G1, G3]
    refine ⟨?_, ?_, xc, xd, ?_, ?_, ?_⟩
    · by_cases e : g.2.1 x = g.1 s
      · rw [Gy x e]; exact sa
      · rw [Gn x e]; exact xa
    · by_cases e : g.2.1 x = g.1 s
      · rw [Gy x e]; omega
      · rw [Gn x e]; exact xb
    · unfold Lnk
      rw [D2]
      by_cases e : E s 4 = .ref x ∧ E x 2 = .ref s
      · rw [if_pos e]
        obtain ⟨-, -, s1, s2⟩ := (h.child hx).1 e.2
        rcases sf with f | ⟨r, f1, f2, f3, f4, f5⟩
        · exact Or.inl f
        · refine Or.inr ⟨r, f1, ⟨f2, (hc r f1).2.2.2.2⟩, by rw [D4 r f1]; exact e.1, ?_, ?_⟩
          · rw [Gy r f4, Gn x (by omega)]; exact s1
          · rw [G3, f5]; exact s2
      · rw [if_neg e]
        rcases xe with e2 | ⟨y, y1, y2, y3, y4, y5⟩
        · exact Or.inl e2
        · have n1 : y ≠ s := fun e9 => by subst e9; exact e ⟨y3, y1⟩
          refine Or.inr ⟨y, y1, ⟨y2, n1⟩, keep x y hx hxs y3, ?_, by rw [G3]; exact y5⟩
          by_cases e9 : g.2.1 x = g.1 s
          · rw [Gy x e9, Gy y (by omega)]
          · rw [Gn x e9, Gn y (by omega)]; exact y4
    · unfold Lnk
      rw [D3]
      by_cases e : E s 4 = .ref x ∧ ¬ E x 2 = .ref s
      · rw [if_pos e]
        obtain ⟨-, -, u3⟩ := up x e.1
        have u4 : E x 3 = .ref s := by
          rcases u3 with u3 | u3
          · exact absurd u3 e.2
          · exact u3.2
        obtain ⟨-, -, s1, s2⟩ := (h.child hx).2 u4
        rcases sf with f | ⟨r, f1, f2, f3, f4, f5⟩
        · exact Or.inl f
        · refine Or.inr ⟨r, f1, ⟨f2, (hc r f1).2.2.2.2⟩, by rw [D4 r f1]; exact e.1, ?_, ?_⟩
          · rw [Gy r f4]; exact s1
          · rw [G3, f5]; exact s2
      · rw [if_neg e]
        rcases xf with e2 | ⟨y, y1, y2, y3, y4, y5⟩
        · exact Or.inl e2
        · have n1 : y ≠ s := fun e9 => by
            subst e9
            exact e ⟨y3, fun e8 => h.sides hx e8 y1⟩
          refine Or.inr ⟨y, y1, ⟨y2, n1⟩, keep x y hx hxs y3, ?_, by rw [G3]; exact y5⟩
          rw [Gn y (by omega)]; exact y4
    · by_cases e : E s 3 = .ref x
      · rw [D4 x e]
        rcases sk with ⟨k1, k2⟩ | ⟨p, p1, p2, p3⟩
        · exact Or.inl ⟨k1, (show delR root E s = E s 3 from if_pos k1).trans e⟩
        · obtain ⟨u1, u2, u3⟩ := up p p1
          refine Or.inr ⟨p, p1, ⟨u1, u2⟩, ?_⟩
          rcases u3 with u3 | ⟨u3, u4⟩
          · exact Or.inl (by rw [D2, if_pos ⟨p1, u3⟩]; exact e)
          · exact Or.inr (by rw [D3, if_pos ⟨p1, u3⟩]; exact e)
      · rw [D4n x e]
        rcases xk with ⟨k1, k2⟩ | ⟨q, q1, q2, q3⟩
        · refine Or.inl ⟨k1, ?_⟩
          unfold delR
          rw [if_neg]
          · exact k2
          · intro e9
            rcases sk with ⟨j1, j2⟩ | ⟨p, p1, -⟩
            · rw [k2] at j2; cases j2; exact hxs rfl
            · rw [e9] at p1; cases p1
        · have n1 : q ≠ s := fun e9 => by
            subst e9
            rcases q3 with q3 | q3
            · rw [hl] at q3; cases q3
            · exact e q3
          refine Or.inr ⟨q, q1, ⟨q2, n1⟩, ?_⟩
          rcases q3 with q3 | q3
          · exact Or.inl (by rw [D2, if_neg (fun e9 => by rw [q3] at e9; have := e9.2; cases this; exact hxs rfl)]; exact q3)
          · refine Or.inr ?_
            rw [D3, if_neg (fun e9 => ?_)]
            · exact q3
            · obtain ⟨-, -, u3⟩ := up q e9.1
              rcases u3 with u3 | ⟨-, u3⟩
              · exact e9.2 u3
              · rw [q3] at u3; cases u3; exact hxs rfl
/-- a bound above is B or a key -/
theorem TOK.hiK (h : TOK A B E Nd root g) : ∀ (m : Nat) x, Nd x → (B - A) - (g.2.2 x - g.2.1 x) ≤ m → g.2.2 x = B ∨ ∃ y, Nd y ∧ g.1 y = g.2.2 x := by
  intro m
  induction m with
  | zero =>
    intro x hx hm
    obtain ⟨a, b, c, d, -⟩ := h.2 x hx
    exact Or.inl (by omega)
  | succ m ih =>
    intro x hx hm
    obtain ⟨a, b, c, d, e, f, q⟩ := h.2 x hx
    rcases q with ⟨q1, q2⟩ | ⟨p, p1, p2, p3⟩
    · rcases h.1 with ⟨h1, h2⟩ | ⟨r0, a1, a2, a3, a4, a5⟩
      · exact absurd hx (h2 x)
      · rw [q2] at a1; cases a1; exact Or.inl a5
    · obtain ⟨pa, pb, pc, pd, -⟩ := h.2 p p2
      rcases p3 with p3 | p3
      · obtain ⟨-, -, s1, s2⟩ := (h.child p2).1 p3
        exact Or.inr ⟨p, p2, s2.symm⟩
      · obtain ⟨-, -, s1, s2⟩ := (h.child p2).2 p3
        rw [s2]
        exact ih p p2 (by omega)
/-- the key of p is put higher, no other key being passed -/
def relF (g : TG) (p : Nat) (k : Int) (v : Int) : Int := if v = g.1 p then k else v
def relG (g : TG) (p : Nat) (k : Int) : TG := (fun x => relF g p k (g.1 x), fun x => relF g p k (g.2.1 x), fun x => relF g p k (g.2.2 x))
theorem TOK.relab (h : TOK A B E Nd root g) {p : Nat} {k : Int} (hp : Nd p) (hk : g.1 p < k) (hB : k < B) (hno : ∀ y, Nd y → ¬ (g.1 p < g.1 y ∧ g.1 y ≤ k)) : TOK A B E Nd root (relG g p k) := by
  obtain ⟨pa, pb, pc, pd, -⟩ := h.2 p hp
  have hip : k < g.2.2 p := by
    rcases h.hiK ((B - A) - (g.2.2 p - g.2.1 p)).toNat p hp (by omega) with e | ⟨y, y1, y2⟩
    · omega
    · have := hno y y1
      omega
  have F1 : ∀ v, v = g.1 p → relF g p k v = k := fun v hv => if_pos hv
  have F2 : ∀ v, ¬ v = g.1 p → relF g p k v = v := fun v hv => if_neg hv
  have LL : ∀ x j a b, Lnk E Nd g x j a b → Lnk E Nd (relG g p k) x j (relF g p k a) (relF g p k b) := fun x j a b hl => by
    rcases hl with e | ⟨y, y1, y2, y3, y4, y5⟩
    · exact Or.inl e
    · exact Or.inr ⟨y, y1, y2, y3, by show relF g p k (g.2.1 y) = _; rw [y4], by show relF g p k (g.2.2 y) = _; rw [y5]⟩
  refine ⟨?_, fun x hx => ?_⟩
  · rcases h.1 with h1 | ⟨r, a1, a2, a3, a4, a5⟩
    · exact Or.inl h1
    · refine Or.inr ⟨r, a1, a2, a3, ?_, ?_⟩
      · show relF g p k (g.2.1 r) = A
        rw [F2 _ (by omega)]; exact a4
      · show relF g p k (g.2.2 r) = B
        rw [F2 _ (by omega)]; exact a5
  · obtain ⟨a, b, c, d, e, f, q⟩ := h.2 x hx
    have hn := hno x hx
    refine ⟨?_, ?_, ?_, ?_, LL _ _ _ _ e, LL _ _ _ _ f, q⟩
    · show A ≤ relF g p k (g.2.1 x)
      by_cases e1 : g.2.1 x = g.1 p
      · rw [F1 _ e1]; omega
      · rw [F2 _ e1]; exact a
    · show relF g p k (g.2.1 x) < relF g p k (g.1 x)
      by_cases e1 : g.2.1 x = g.1 p
      · rw [F1 _ e1, F2 _ (by omega)]; omega
      · rw [F2 _ e1]
        by_cases e2 : g.1 x = g.1 p
        · rw [F1 _ e2]; omega
        · rw [F2 _ e2]; exact b
    · show relF g p k (g.1 x) < relF g p k (g.2.2 x)
      by_cases e2 : g.1 x = g.1 p
      · have e3 : x = p := h.inj hx hp e2
        subst e3
        rw [F1 _ e2, F2 _ (by omega)]; exact hip
      · rw [F2 _ e2]
        by_cases e3 : g.2.2 x = g.1 p
        · rw [F1 _ e3]; omega
        · rw [F2 _ e3]; exact c
    · show relF g p k (g.2.2 x) ≤ B
      by_cases e3 : g.2.2 x = g.1 p
      · rw [F1 _ e3]; omega
      · rw [F2 _ e3]; exact d
/-- v is the node with the next key above k -/
def Nxt (Nd : Nat → Prop) (gk : Nat → Int) (k : Int) (v : Value) : Prop := (v = .null ∧ ∀ y, Nd y → ¬ k < gk y) ∨ ∃ y, v = .ref y ∧ Nd y ∧ k < gk y ∧ ∀ z, Nd z → ¬ (k < gk z ∧ gk z < gk y)
theorem TOK.nxtR (h : TOK A B E Nd root g) {x y : Nat} (hy : Nd y) (hlo : g.2.1 y = g.1 x) (hl : E y 2 = .null) : Nxt Nd g.1 (g.1 x) (.ref y) := by
  obtain ⟨a, b, c, d, -⟩ := h.2 y hy
  refine Or.inr ⟨y, rfl, hy, by omega, fun z hz hzz => ?_⟩
  exact h.gapL hy hz hl (by omega)
theorem TOK.nxtU (h : TOK A B E Nd root g) {x p : Nat} (hx : Nd x) (hp : Nd p) (hr : E x 3 = .null) (hh : g.2.2 x = g.1 p) : Nxt Nd g.1 (g.1 x) (.ref p) := by
  obtain ⟨a, b, c, d, -⟩ := h.2 x hx
  refine Or.inr ⟨p, rfl, hp, by omega, fun z hz hzz => ?_⟩
  exact h.gapR hx hz hr (by omega)
theorem TOK.nxtN (h : TOK A B E Nd root g) {x : Nat} (hx : Nd x) (hr : E x 3 = .null) (hh : g.2.2 x = B) : Nxt Nd g.1 (g.1 x) .null := by
  obtain ⟨a, b, c, d, -⟩ := h.2 x hx
  refine Or.inl ⟨rfl, fun y hy hlt => ?_⟩
  obtain ⟨a', b', c', d', -⟩ := h.2 y hy
  exact h.gapR hx hy hr (by omega)
theorem TOK.nxt1 (h : TOK A B E Nd root g) {y : Nat} (hy : Nd y) (hlo : g.2.1 y = A) (hl : E y 2 = .null) : Nxt Nd g.1 A (.ref y) := by
  obtain ⟨a, b, c, d, -⟩ := h.2 y hy
  refine Or.inr ⟨y, rfl, hy, by omega, fun z hz hzz => ?_⟩
  exact h.gapL hy hz hl (by omega)
end
