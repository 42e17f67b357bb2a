/-! search trees: colours and turns behind a node less -/
set_option maxRecDepth 100000
section
variable {A B : Int} {g : TG} {G : GL} {d : Nat} {c : Nat} {F : Nat → Prop} {h0 : AH} {m : Nat} {Nd : Nat → Prop} {f : Nat → Value} {E KV : TE} {gk : Nat → Int} {C : Nat → Int32} {root : Value} {sz mo : Int32} {h : AH} {Qx : Nat → AH → Prop} {K : AH → Prop}
theorem rotG_lo {p r x : Nat} (hx : x ≠ r) : (rotG g p r).2.1 x = g.2.1 x := if_neg hx
theorem rotG_hi {p r x : Nat} (hx : x ≠ p) : (rotG g p r).2.2 x = g.2.2 x := if_neg hx
theorem rotM_lo {p r x : Nat} (hx : x ≠ p) : (miG (rotG (miG g) p r)).2.1 x = g.2.1 x := by
  show - (if x = p then _ else - g.2.1 x) = _
  rw [if_neg hx]; omega
theorem rotM_hi {p r x : Nat} (hx : x ≠ r) : (miG (rotG (miG g) p r)).2.2 x = g.2.2 x := by
  show - (if x = r then _ else - g.2.2 x) = _
  rw [if_neg hx]; omega
/-- leaves below x that are to stay leaves -/
def LF (lf : Nat → Prop) (E : TE) (Nd : Nat → Prop) (g : TG) (x : Nat) : Prop := ∀ s, lf s → Nd s ∧ E s 2 = .null ∧ E s 3 = .null ∧ g.2.1 x ≤ g.2.1 s ∧ g.2.2 s ≤ g.2.2 x
def TFinL (lf : Nat → Prop) (c : Nat) (F : Nat → Prop) (h0 : AH) (m : Nat) (Nd : Nat → Prop) (f : Nat → Value) (sz mo : Int32) (A B : Int) (gk : Nat → Int) (KV : TE) (K : AH → Prop) : Prop := ∀ h' E' C' root' g', TT c F h0 m Nd f sz mo A B gk KV E' C' root' g' h' → (∀ s, lf s → E' s 2 = .null ∧ E' s 3 = .null) → K h'
variable {lf : Nat → Prop}
theorem LF.ends {x : Nat} (hL : LF lf E Nd g x) : ∀ s, lf s → E s 2 = .null ∧ E s 3 = .null := fun s hs => ⟨(hL s hs).2.1, (hL s hs).2.2.1⟩
theorem LF.rotL {x p r : Nat} (hL : LF lf E Nd g x) (hx1 : x ≠ p) (hx2 : x ≠ r) (hs : ∀ s, lf s → s ≠ p ∧ s ≠ r ∧ ¬ E p 4 = .ref s) : LF lf (rotE E p r) Nd (rotG g p r) x := fun s hs1 => by
  obtain ⟨a, b, cc, dd, e⟩ := hL s hs1
  obtain ⟨n1, n2, n3⟩ := hs s hs1
  refine ⟨a, ?_, ?_, ?_, ?_⟩
  · unfold rotE; grind
  · unfold rotE; grind
  · rw [rotG_lo hx2, rotG_lo n2]; exact dd
  · rw [rotG_hi hx1, rotG_hi n1]; exact e
theorem LF.rotR {x p r : Nat} (hL : LF lf E Nd g x) (hx1 : x ≠ p) (hx2 : x ≠ r) (hs : ∀ s, lf s → s ≠ p ∧ s ≠ r ∧ ¬ E p 4 = .ref s) : LF lf (miE (rotE (miE E) p r)) Nd (miG (rotG (miG g) p r)) x := fun s hs1 => by
  obtain ⟨a, b, cc, dd, e⟩ := hL s hs1
  obtain ⟨n1, n2, n3⟩ := hs s hs1
  refine ⟨a, ?_, ?_, ?_, ?_⟩
  · unfold miE rotE; grind
  · unfold miE rotE; grind
  · rw [rotM_lo hx1, rotM_lo n1]; exact dd
  · rw [rotM_hi hx2, rotM_hi n2]; exact e
theorem LF.up {x p : Nat} (hL : LF lf E Nd g x) (hT : TOK A B E Nd root g) (hx : Nd x) (h4 : E x 4 = .ref p) : LF lf E Nd g p := fun s hs => by
  obtain ⟨a, b, cc, dd, e⟩ := hL s hs
  obtain ⟨hp, h23, -⟩ := hT.par4 hx h4
  obtain ⟨a', b', cc', dd', -⟩ := hT.2 p hp
  refine ⟨a, b, cc, ?_, ?_⟩
  · rcases h23 with e | e
    · obtain ⟨-, -, s1, s2⟩ := (hT.child hp).1 e
      omega
    · obtain ⟨-, -, s1, s2⟩ := (hT.child hp).2 e
      omega
  · rcases h23 with e | e
    · obtain ⟨-, -, s1, s2⟩ := (hT.child hp).1 e
      omega
    · obtain ⟨-, -, s1, s2⟩ := (hT.child hp).2 e
      omega
/-- such a leaf lies not at x's parent, nor at its parent, nor on the other side -/
theorem LF.far {x p : Nat} (hL : LF lf E Nd g x) (hT : TOK A B E Nd root g) (hx : Nd x) (h4 : E x 4 = .ref p) : ∀ s, lf s → s ≠ p ∧ ¬ E p 4 = .ref s := fun s hs => by
  obtain ⟨a, b, cc, dd, e⟩ := hL s hs
  have w1 := hT.wid hx h4
  have hp := (hT.par4 hx h4).1
  refine ⟨fun e9 => ?_, fun e9 => ?_⟩
  · subst e9
    omega
  · have w2 := hT.wid hp e9
    omega
theorem LF.sideL {x p r : Nat} (hL : LF lf E Nd g x) (hT : TOK A B E Nd root g) (hp : Nd p) (h2 : E p 2 = .ref x) (hlo : g.1 p ≤ g.2.1 r) : ∀ s, lf s → s ≠ r := fun s hs e9 => by
  subst e9
  obtain ⟨a, b, cc, dd, e⟩ := hL s hs
  obtain ⟨-, -, s1, s2⟩ := (hT.child hp).1 h2
  obtain ⟨-, b1, b2, -⟩ := hT.2 s a
  omega
theorem LF.sideR {x p r : Nat} (hL : LF lf E Nd g x) (hT : TOK A B E Nd root g) (hp : Nd p) (h2 : E p 3 = .ref x) (hlo : g.2.2 r ≤ g.1 p) : ∀ s, lf s → s ≠ r := fun s hs e9 => by
  subst e9
  obtain ⟨a, b, cc, dd, e⟩ := hL s hs
  obtain ⟨-, -, s1, s2⟩ := (hT.child hp).2 h2
  obtain ⟨-, b1, b2, -⟩ := hT.2 s a
  omega
theorem fcl_ne {v : Value} {k : Nat} (hv : NV Nd v) (hc : ¬ fcl C (fl E k v) = 1) : ∃ s, v = .ref s ∧ Nd s := by
  rcases hv with rfl | h9
  · exact absurd rfl hc
  · exact h9
theorem fcl_no {v : Value} (hv : NV Nd v) (hc : ¬ fcl C v = 1) : ∃ s, v = .ref s ∧ Nd s := by
  rcases hv with rfl | h9
  · exact absurd rfl hc
  · exact h9
theorem s_fixDel345 {v u : Value} (hE : ∀ s, lf s → E s 2 = .null ∧ E s 3 = .null) (hT : TT c F h0 m Nd f sz mo A B gk KV E C root g h) (hv : NV Nd v) (HK : TFinL lf c F h0 m Nd f sz mo A B gk KV K) : MF G (d + 1) mi_TreeMap_fixAfterDeletion 345 [.ref m, v, u] [] h (cV K Qx) :=
  b_TreeMap_fixAfterDeletion_345 hv.isRef (s_sco hT.1 hv (Or.inr rfl) fun h' W' => cV_mk (HK _ _ _ _ _ (hT.col W') hE))
theorem s_fixDelE {v u : Value} (hE : ∀ s, lf s → E s 2 = .null ∧ E s 3 = .null) (hT : TT c F h0 m Nd f sz mo A B gk KV E C root g h) (hv : v = root) (HK : TFinL lf c F h0 m Nd f sz mo A B gk KV K) : MF G (d + 1) mi_TreeMap_fixAfterDeletion 0 [.ref m, v, u] [] h (cV K Qx) := by
  subst hv
  exact b_TreeMap_fixAfterDeletion_0 hT.2.1.rootV.isRef (hT.1.gT ⟨fun _ => s_fixDel345 hE hT hT.2.1.rootV HK, fun h9 => absurd rfl h9⟩)
theorem s_fixDel143 {x p s : Nat} (hL : LF lf E Nd g x) (hx2 : E p 2 = .ref x) (hT : TT c F h0 m Nd f sz mo A B gk KV E C root g h) (hx : Nd x) (h4 : E x 4 = .ref p) (h3 : E p 3 = .ref s) (HK : TFinL lf c F h0 m Nd f sz mo A B gk KV K) : MF G (d + 1) mi_TreeMap_fixAfterDeletion 143 [.ref m, .ref x, .ref s] [] h (cV K Qx) := by
  obtain ⟨p1, p2, p3⟩ := hT.2.1.par4 hx h4
  have nx : NV Nd (.ref x) := Or.inr ⟨x, rfl, hx⟩
  have np : NV Nd (.ref p) := Or.inr ⟨p, rfl, p1⟩
  have ns : NV Nd (.ref s) := Or.inr ⟨s, rfl, ((hT.2.1.child p1).2 h3).1⟩
  refine b_TreeMap_fixAfterDeletion_143 rfl rfl (s_par hT.1 nx h4 (s_col hT.1 np (s_sco hT.1 ns (hT.1.2.2.2.2.2.2.1 p) fun h1 W1 => ?_)))
  refine s_par W1 nx h4 (s_sco W1 np (Or.inr rfl) fun h2 W2 => s_rig W2 ns rfl (s_sco W2 (hT.2.1.nvf ns).2.1 (Or.inr rfl) fun h3' W3 => ?_))
  refine s_par W3 nx h4 ⟨W3.hasK (by simp), (hT.col W3).rotL p1 h3 fun h5 T5 => T5.1.gT ?_⟩
  obtain ⟨-, s4, sl1, sl2⟩ := (hT.2.1.child p1).2 h3
  have hxs : x ≠ s := fun e => by subst e; exact hT.2.1.sides p1 hx2 h3
  have hL5 := hL.rotL p3 hxs fun s9 h9 => ⟨(hL.far hT.2.1 hx h4 s9 h9).1, hL.sideL hT.2.1 p1 hx2 (Int.le_of_eq sl1.symm) s9 h9, (hL.far hT.2.1 hx h4 s9 h9).2⟩
  exact s_fixDelE hL5.ends T5 rfl HK
theorem s_fixDel106 {x p s : Nat} (hL : LF lf E Nd g x) (hT : TT c F h0 m Nd f sz mo A B gk KV E C root g h) (hx : Nd x) (h4 : E x 4 = .ref p) (h2 : E p 2 = .ref x) (h3 : E p 3 = .ref s) (hred : ¬ fcl C (E s 2) = 1 ∨ ¬ fcl C (E s 3) = 1) (HK : TFinL lf c F h0 m Nd f sz mo A B gk KV K) : MF G (d + 1) mi_TreeMap_fixAfterDeletion 106 [.ref m, .ref x, .ref s] [] h (cV K Qx) := by
  obtain ⟨p1, p2, p3⟩ := hT.2.1.par4 hx h4
  obtain ⟨s1, s4, -, -⟩ := (hT.2.1.child p1).2 h3
  have nx : NV Nd (.ref x) := Or.inr ⟨x, rfl, hx⟩
  have np : NV Nd (.ref p) := Or.inr ⟨p, rfl, p1⟩
  have ns : NV Nd (.ref s) := Or.inr ⟨s, rfl, s1⟩
  refine b_TreeMap_fixAfterDeletion_106 rfl rfl (s_rig hT.1 ns rfl (s_col hT.1 (hT.2.1.nvf ns).2.1 ⟨fun _ => s_fixDel143 hL h2 hT hx h4 h3 HK, fun hc => ?_⟩))
  have hl : ¬ fcl C (E s 2) = 1 := by
    rcases hred with e | e
    · exact e
    · exact absurd hc e
  obtain ⟨l, l2, l1⟩ := fcl_no (hT.2.1.nv s1).1 hl
  have nl : NV Nd (.ref l) := Or.inr ⟨l, rfl, l1⟩
  refine s_lef hT.1 ns l2 (s_sco hT.1 nl (Or.inr rfl) fun h1' W1 => s_sco W1 ns (Or.inl rfl) fun h2' W2 => ⟨W2.hasK (by simp), (hT.col W2).rotR s1 l2 fun h3' T3 => ?_⟩)
  have l4 := ((hT.2.1.child s1).1 l2).2.1
  have a1 : x ≠ s := fun e => by subst e; exact hT.2.1.sides p1 h2 h3
  have a2 : s ≠ p := (hT.2.1.par4 s1 s4).2.2
  have a3 : l ≠ p := hT.2.1.two l1 l4 s4
  have a4 : x ≠ l := fun e => by subst e; rw [h4] at l4; cases l4; exact a2 rfl
  have a5 : ¬ E l 3 = .ref x := fun e => by
    have := ((hT.2.1.child l1).2 e).2.1
    rw [h4] at this; cases this; exact a3 rfl
  have b4 : (miE (rotE (miE E) s l)) x 4 = .ref p := by
    unfold miE rotE
    grind
  have b3 : (miE (rotE (miE E) s l)) p 3 = .ref l := by
    unfold miE rotE
    grind
  have b2 : (miE (rotE (miE E) s l)) p 2 = .ref x := by
    unfold miE rotE
    grind
  obtain ⟨-, -, sl1, sl2⟩ := (hT.2.1.child p1).2 h3
  obtain ⟨-, -, ll1, ll2⟩ := (hT.2.1.child s1).1 l2
  have hL3 := hL.rotR a1 a4 fun s9 h9 => ⟨hL.sideL hT.2.1 p1 h2 (Int.le_of_eq sl1.symm) s9 h9, hL.sideL hT.2.1 p1 h2 (Int.le_of_eq (sl1.symm.trans ll1.symm)) s9 h9, fun e9 => (hL.far hT.2.1 hx h4 s9 h9).1 (by rw [s4] at e9; cases e9; rfl)⟩
  exact s_par T3.1 nx b4 (s_rig T3.1 np b3 (s_fixDel143 hL3 b2 T3 hx b4 b3 HK))
theorem s_fixDel71 {x p : Nat} {v : Value} (hL : LF lf E Nd g x) (hT : TT c F h0 m Nd f sz mo A B gk KV E C root g h) (hx : Nd x) (h4 : E x 4 = .ref p) (h2 : E p 2 = .ref x) (h3 : E p 3 = v) (HK : TFinL lf c F h0 m Nd f sz mo A B gk KV K)
    (IH : ∀ (C' : Nat → Int32) (h' : AH), TT c F h0 m Nd f sz mo A B gk KV E C' root g h' → MF G (d + 1) mi_TreeMap_fixAfterDeletion 0 [.ref m, .ref p, v] [] h' (cV K Qx)) : MF G (d + 1) mi_TreeMap_fixAfterDeletion 71 [.ref m, .ref x, v] [] h (cV K Qx) := by
  obtain ⟨p1, p2, p3⟩ := hT.2.1.par4 hx h4
  have nx : NV Nd (.ref x) := Or.inr ⟨x, rfl, hx⟩
  have nv : NV Nd v := h3 ▸ (hT.2.1.nv p1).2.1
  have nvf := hT.2.1.nvf nv
  refine b_TreeMap_fixAfterDeletion_71 rfl nv.isRef (s_lef hT.1 nv rfl (s_col hT.1 nvf.1 ⟨fun hc => ?_, fun hc => s_rig hT.1 nv rfl (s_col hT.1 nvf.2.1 ⟨fun hc2 => ?_, fun hc2 => ?_⟩)⟩))
  · obtain ⟨s, rfl, hs⟩ := fcl_ne nv hc
    exact s_fixDel106 hL hT hx h4 h2 h3 (Or.inl hc) HK
  · obtain ⟨s, rfl, hs⟩ := fcl_ne nv hc2
    exact s_fixDel106 hL hT hx h4 h2 h3 (Or.inr hc2) HK
  · exact s_sco hT.1 nv (Or.inl rfl) fun h1 W1 => s_par W1 nx h4 (IH _ _ (hT.col W1))
theorem s_fixDel302 {x p s : Nat} (hL : LF lf E Nd g x) (hx2 : E p 3 = .ref x) (hT : TT c F h0 m Nd f sz mo A B gk KV E C root g h) (hx : Nd x) (h4 : E x 4 = .ref p) (h3 : E p 2 = .ref s) (HK : TFinL lf c F h0 m Nd f sz mo A B gk KV K) : MF G (d + 1) mi_TreeMap_fixAfterDeletion 302 [.ref m, .ref x, .ref s] [] h (cV K Qx) := by
  obtain ⟨p1, p2, p3⟩ := hT.2.1.par4 hx h4
  have nx : NV Nd (.ref x) := Or.inr ⟨x, rfl, hx⟩
  have np : NV Nd (.ref p) := Or.inr ⟨p, rfl, p1⟩
  have ns : NV Nd (.ref s) := Or.inr ⟨s, rfl, ((hT.2.1.child p1).1 h3).1⟩
  refine b_TreeMap_fixAfterDeletion_302 rfl rfl (s_par hT.1 nx h4 (s_col hT.1 np (s_sco hT.1 ns (hT.1.2.2.2.2.2.2.1 p) fun h1 W1 => ?_)))
  refine s_par W1 nx h4 (s_sco W1 np (Or.inr rfl) fun h2 W2 => s_lef W2 ns rfl (s_sco W2 (hT.2.1.nvf ns).1 (Or.inr rfl) fun h3' W3 => ?_))
  refine s_par W3 nx h4 ⟨W3.hasK (by simp), (hT.col W3).rotR p1 h3 fun h5 T5 => T5.1.gT ?_⟩
  obtain ⟨-, s4, sl1, sl2⟩ := (hT.2.1.child p1).1 h3
  have hxs : x ≠ s := fun e => by subst e; exact hT.2.1.sides p1 h3 hx2
  have hL5 := hL.rotR p3 hxs fun s9 h9 => ⟨(hL.far hT.2.1 hx h4 s9 h9).1, hL.sideR hT.2.1 p1 hx2 (Int.le_of_eq sl2) s9 h9, (hL.far hT.2.1 hx h4 s9 h9).2⟩
  exact s_fixDelE hL5.ends T5 rfl HK
theorem s_fixDel265 {x p s : Nat} (hL : LF lf E Nd g x) (hT : TT c F h0 m Nd f sz mo A B gk KV E C root g h) (hx : Nd x) (h4 : E x 4 = .ref p) (h2 : E p 3 = .ref x) (h3 : E p 2 = .ref s) (hred : ¬ fcl C (E s 3) = 1 ∨ ¬ fcl C (E s 2) = 1) (HK : TFinL lf c F h0 m Nd f sz mo A B gk KV K) : MF G (d + 1) mi_TreeMap_fixAfterDeletion 265 [.ref m, .ref x, .ref s] [] h (cV K Qx) := by
  obtain ⟨p1, p2, p3⟩ := hT.2.1.par4 hx h4
  obtain ⟨s1, s4, -, -⟩ := (hT.2.1.child p1).1 h3
  have nx : NV Nd (.ref x) := Or.inr ⟨x, rfl, hx⟩
  have np : NV Nd (.ref p) := Or.inr ⟨p, rfl, p1⟩
  have ns : NV Nd (.ref s) := Or.inr ⟨s, rfl, s1⟩
  refine b_TreeMap_fixAfterDeletion_265 rfl rfl (s_lef hT.1 ns rfl (s_col hT.1 (hT.2.1.nvf ns).1 ⟨fun _ => s_fixDel302 hL h2 hT hx h4 h3 HK, fun hc => ?_⟩))
  have hl : ¬ fcl C (E s 3) = 1 := by
    rcases hred with e | e
    · exact e
    · exact absurd hc e
  obtain ⟨l, l2, l1⟩ := fcl_no (hT.2.1.nv s1).2.1 hl
  have nl : NV Nd (.ref l) := Or.inr ⟨l, rfl, l1⟩
  refine s_rig hT.1 ns l2 (s_sco hT.1 nl (Or.inr rfl) fun h1' W1 => s_sco W1 ns (Or.inl rfl) fun h2' W2 => ⟨W2.hasK (by simp), (hT.col W2).rotL s1 l2 fun h3' T3 => ?_⟩)
  have l4 := ((hT.2.1.child s1).2 l2).2.1
  have a1 : x ≠ s := fun e => by subst e; exact hT.2.1.sides p1 h3 h2
  have a2 : s ≠ p := (hT.2.1.par4 s1 s4).2.2
  have a3 : l ≠ p := hT.2.1.two l1 l4 s4
  have a4 : x ≠ l := fun e => by subst e; rw [h4] at l4; cases l4; exact a2 rfl
  have a5 : ¬ E l 2 = .ref x := fun e => by
    have := ((hT.2.1.child l1).1 e).2.1
    rw [h4] at this; cases this; exact a3 rfl
  have b4 : (rotE E s l) x 4 = .ref p := by
    unfold rotE
    grind
  have b3 : (rotE E s l) p 2 = .ref l := by
    unfold rotE
    grind
  have b2 : (rotE E s l) p 3 = .ref x := by
    unfold rotE
    grind
  obtain ⟨-, -, sl1, sl2⟩ := (hT.2.1.child p1).1 h3
  obtain ⟨-, -, ll1, ll2⟩ := (hT.2.1.child s1).2 l2
  have hL3 := hL.rotL a1 a4 fun s9 h9 => ⟨hL.sideR hT.2.1 p1 h2 (Int.le_of_eq sl2) s9 h9, hL.sideR hT.2.1 p1 h2 (Int.le_of_eq (ll2.trans sl2)) s9 h9, fun e9 => (hL.far hT.2.1 hx h4 s9 h9).1 (by rw [s4] at e9; cases e9; rfl)⟩
  exact s_par T3.1 nx b4 (s_lef T3.1 np b3 (s_fixDel302 hL3 b2 T3 hx b4 b3 HK))
theorem s_fixDel230 {x p : Nat} {v : Value} (hL : LF lf E Nd g x) (hT : TT c F h0 m Nd f sz mo A B gk KV E C root g h) (hx : Nd x) (h4 : E x 4 = .ref p) (h2 : E p 3 = .ref x) (h3 : E p 2 = v) (HK : TFinL lf c F h0 m Nd f sz mo A B gk KV K)
    (IH : ∀ (C' : Nat → Int32) (h' : AH), TT c F h0 m Nd f sz mo A B gk KV E C' root g h' → MF G (d + 1) mi_TreeMap_fixAfterDeletion 0 [.ref m, .ref p, v] [] h' (cV K Qx)) : MF G (d + 1) mi_TreeMap_fixAfterDeletion 230 [.ref m, .ref x, v] [] h (cV K Qx) := by
  obtain ⟨p1, p2, p3⟩ := hT.2.1.par4 hx h4
  have nx : NV Nd (.ref x) := Or.inr ⟨x, rfl, hx⟩
  have nv : NV Nd v := h3 ▸ (hT.2.1.nv p1).1
  have nvf := hT.2.1.nvf nv
  refine b_TreeMap_fixAfterDeletion_230 rfl nv.isRef (s_rig hT.1 nv rfl (s_col hT.1 nvf.2.1 ⟨fun hc => ?_, fun hc => s_lef hT.1 nv rfl (s_col hT.1 nvf.1 ⟨fun hc2 => ?_, fun hc2 => ?_⟩)⟩))
  · obtain ⟨s, rfl, hs⟩ := fcl_ne nv hc
    exact s_fixDel265 hL hT hx h4 h2 h3 (Or.inl hc) HK
  · obtain ⟨s, rfl, hs⟩ := fcl_ne nv hc2
    exact s_fixDel265 hL hT hx h4 h2 h3 (Or.inr hc2) HK
  · exact s_sco hT.1 nv (Or.inl rfl) fun h1 W1 => s_par W1 nx h4 (IH _ _ (hT.col W1))
theorem s_fixDel0 : ∀ (n : Nat) {E : TE} {C : Nat → Int32} {root : Value} {g : TG} {h : AH} {x : Nat} {u : Value}, LF lf E Nd g x → TT c F h0 m Nd f sz mo A B gk KV E C root g h → Nd x → (B - A) - (g.2.2 x - g.2.1 x) < (n : Int) → TFinL lf c F h0 m Nd f sz mo A B gk KV K → MF G (d + 1) mi_TreeMap_fixAfterDeletion 0 [.ref m, .ref x, u] [] h (cV K Qx) := by
  intro n
  induction n with
  | zero =>
    intro E C root g h x u hL hT hx hn HK
    have := hT.2.1.wid2 hx
    omega
  | succ n ih =>
    intro E C root g h x u hL hT hx hn HK
    have nx : NV Nd (.ref x) := Or.inr ⟨x, rfl, hx⟩
    refine b_TreeMap_fixAfterDeletion_0 rfl (hT.1.gT ⟨fun _ => s_fixDel345 hL.ends hT nx HK, fun hne => s_col hT.1 nx ⟨fun _ => s_fixDel345 hL.ends hT nx HK, fun _ => ?_⟩⟩)
    obtain ⟨p, h4, p1, p2⟩ := hT.2.1.par hx hne
    have np : NV Nd (.ref p) := Or.inr ⟨p, rfl, p1⟩
    have w1 := hT.2.1.wid hx h4
    have hxp := (hT.2.1.par4 hx h4).2.2
    have npp := (hT.2.1.noself p1).1
    refine s_par hT.1 nx h4 (s_lef hT.1 np rfl ⟨fun hn2 => ?_, fun hn2 => ?_⟩)
    · have h2 : E p 3 = .ref x := (by
        rcases p2 with p2 | p2
        · exact absurd p2.symm hn2
        · exact p2)
      have hs := (hT.2.1.nv p1).1
      refine s_par hT.1 nx h4 (s_lef hT.1 np rfl (s_col hT.1 hs ⟨fun _ => ?_, fun hc => ?_⟩))
      · exact s_fixDel230 hL hT hx h4 h2 rfl HK fun C' h' T' => ih (hL.up hT.2.1 hx h4) T' p1 (by omega) HK
      · obtain ⟨s, h3, hsN⟩ := fcl_no hs (fun e => by rw [show fcl C (E p 2) = 0 from hc] at e; cases e)
        rw [show fl E 2 (.ref p) = .ref s from h3]
        have ns : NV Nd (.ref s) := Or.inr ⟨s, rfl, hsN⟩
        refine s_sco hT.1 ns (Or.inr rfl) fun h1' W1 => s_par W1 nx h4 (s_sco W1 np (Or.inl rfl) fun h2' W2 => s_par W2 nx h4 ⟨W2.hasK (by simp), (hT.col W2).rotR p1 h3 fun h3' T3 => ?_⟩)
        obtain ⟨-, s4, -, -⟩ := (hT.2.1.child p1).1 h3
        have a1 : x ≠ s := fun e => by subst e; exact hT.2.1.sides p1 h3 h2
        have a2 : p ≠ s := fun e => by subst e; exact npp s4
        have a3 : ¬ E s 3 = .ref x := fun e => by
          have := ((hT.2.1.child hsN).2 e).2.1
          rw [h4] at this; cases this; exact a2 rfl
        have b4 : (miE (rotE (miE E) p s)) x 4 = .ref p := by
          unfold miE rotE
          grind
        have b2 : (miE (rotE (miE E) p s)) p 3 = .ref x := by
          unfold miE rotE
          grind
        refine s_par T3.1 nx b4 (s_lef T3.1 np rfl ?_)
        have w2 := T3.2.1.wid hx b4
        have w3 := rotM_lo (g := g) (r := s) hxp
        have w4 := rotM_hi (g := g) (p := p) a1
        obtain ⟨-, -, sl1, sl2⟩ := (hT.2.1.child p1).1 h3
        have hL3 := hL.rotR hxp a1 fun s9 h9 => ⟨(hL.far hT.2.1 hx h4 s9 h9).1, hL.sideR hT.2.1 p1 h2 (Int.le_of_eq sl2) s9 h9, (hL.far hT.2.1 hx h4 s9 h9).2⟩
        exact s_fixDel230 hL3 T3 hx b4 b2 rfl HK fun C' h' T' => ih (hL3.up T3.2.1 hx b4) T' p1 (by omega) HK
    · have h2 : E p 2 = .ref x := hn2.symm
      have hs := (hT.2.1.nv p1).2.1
      refine s_par hT.1 nx h4 (s_rig hT.1 np rfl (s_col hT.1 hs ⟨fun _ => ?_, fun hc => ?_⟩))
      · exact s_fixDel71 hL hT hx h4 h2 rfl HK fun C' h' T' => ih (hL.up hT.2.1 hx h4) T' p1 (by omega) HK
      · obtain ⟨s, h3, hsN⟩ := fcl_no hs (fun e => by rw [show fcl C (E p 3) = 0 from hc] at e; cases e)
        rw [show fl E 3 (.ref p) = .ref s from h3]
        have ns : NV Nd (.ref s) := Or.inr ⟨s, rfl, hsN⟩
        refine s_sco hT.1 ns (Or.inr rfl) fun h1' W1 => s_par W1 nx h4 (s_sco W1 np (Or.inl rfl) fun h2' W2 => s_par W2 nx h4 ⟨W2.hasK (by simp), (hT.col W2).rotL p1 h3 fun h3' T3 => ?_⟩)
        obtain ⟨-, s4, -, -⟩ := (hT.2.1.child p1).2 h3
        have a1 : x ≠ s := fun e => by subst e; exact hT.2.1.sides p1 h2 h3
        have a2 : p ≠ s := fun e => by subst e; exact npp s4
        have a3 : ¬ E s 2 = .ref x := fun e => by
          have := ((hT.2.1.child hsN).1 e).2.1
          rw [h4] at this; cases this; exact a2 rfl
        have b4 : (rotE E p s) x 4 = .ref p := by
          unfold rotE
          grind
        have b2 : (rotE E p s) p 2 = .ref x := by
          unfold rotE
          grind
        refine s_par T3.1 nx b4 (s_rig T3.1 np rfl ?_)
        have w2 := T3.2.1.wid hx b4
        have w3 := rotG_lo (g := g) (p := p) a1
        have w4 := rotG_hi (g := g) (r := s) hxp
        obtain ⟨-, -, sl1, sl2⟩ := (hT.2.1.child p1).2 h3
        have hL3 := hL.rotL hxp a1 fun s9 h9 => ⟨(hL.far hT.2.1 hx h4 s9 h9).1, hL.sideL hT.2.1 p1 h2 (Int.le_of_eq sl1.symm) s9 h9, (hL.far hT.2.1 hx h4 s9 h9).2⟩
        exact s_fixDel71 hL3 T3 hx b4 b2 rfl HK fun C' h' T' => ih (hL3.up T3.2.1 hx b4) T' p1 (by omega) HK
theorem s_fixDel {x : Nat} (hL : LF lf E Nd g x) (hT : TT c F h0 m Nd f sz mo A B gk KV E C root g h) (hx : Nd x) (HK : TFinL lf c F h0 m Nd f sz mo A B gk KV K) : MF G (d + 1) mi_TreeMap_fixAfterDeletion 0 [.ref m, .ref x, .retAddr 0] [] h (cV K Qx) := by
  obtain ⟨n, hn⟩ : ∃ n : Nat, (B - A) - (g.2.2 x - g.2.1 x) < n := ⟨((B - A) - (g.2.2 x - g.2.1 x)).toNat + 1, by omega⟩
  exact s_fixDel0 n hL hT hx hn HK
end
