/-! search trees: colours and turns behind a node more or less -/
set_option maxRecDepth 100000
def TT (c : Nat) (F : Nat → Prop) (h0 : AH) (m : Nat) (Nd : Nat → Prop) (f : Nat → Value) (sz mo : Int32) (A B : Int) (gk : Nat → Int) (KV : TE) (E : TE) (C : Nat → Int32) (root : Value) (g : TG) (h : AH) : Prop :=
  TW c F h0 m Nd f E C root sz mo h ∧ TOK A B E Nd root g ∧ g.1 = gk ∧ ∀ x, E x 0 = KV x 0 ∧ E x 1 = KV x 1
theorem rotE_01 {E : TE} {p r x : Nat} : rotE E p r x 0 = E x 0 ∧ rotE E p r x 1 = E x 1 := by
  constructor <;> simp [rotE]
theorem rotM_01 {E : TE} {p r x : Nat} : miE (rotE (miE E) p r) x 0 = E x 0 ∧ miE (rotE (miE E) p r) x 1 = E x 1 := by
  constructor <;> simp [rotE, miE]
section
variable {A B : Int} {g : TG} {G : GL} {d : Nat} {c : Nat} {F : Nat → Prop} {h0 : AH} {m : Nat} {Nd : Nat → Prop} {f : Nat → Value} {E KV : TE} {gk : Nat → Int} {C : Nat → Int32} {root : Value} {sz mo : Int32} {h : AH} {Qx : Nat → AH → Prop} {K : AH → Prop}
theorem TT.col {h' : AH} {C' : Nat → Int32} (hT : TT c F h0 m Nd f sz mo A B gk KV E C root g h) (hW : TW c F h0 m Nd f E C' root sz mo h') : TT c F h0 m Nd f sz mo A B gk KV E C' root g h' := ⟨hW, hT.2⟩
theorem TT.rotL {p r : Nat} (hT : TT c F h0 m Nd f sz mo A B gk KV E C root g h) (hp : Nd p) (hr : E p 3 = .ref r) (HK : ∀ h', TT c F h0 m Nd f sz mo A B gk KV (rotE E p r) C (rotR root E p r) (rotG g p r) h' → K h') : MF G d mi_TreeMap_rotateLeft 0 [.ref m, .ref p, .retAddr 0] [] h (cV K Qx) :=
  s_rotL hT.1 hT.2.1 hp hr fun h' W' => HK h' ⟨W', hT.2.1.rot hp hr, hT.2.2.1, fun x => ⟨rotE_01.1.trans (hT.2.2.2 x).1, rotE_01.2.trans (hT.2.2.2 x).2⟩⟩
theorem TOK.rotM (h : TOK A B E Nd root g) {p r : Nat} (hp : Nd p) (hr : E p 2 = .ref r) : TOK A B (miE (rotE (miE E) p r)) Nd (rotR root E p r) (miG (rotG (miG g) p r)) := by
  have := (h.mirror.rot hp (show miE E p 3 = .ref r from hr)).mirror
  rw [Int.neg_neg, Int.neg_neg] at this
  exact this
theorem TT.rotR {p r : Nat} (hT : TT c F h0 m Nd f sz mo A B gk KV E C root g h) (hp : Nd p) (hr : E p 2 = .ref r) (HK : ∀ h', TT c F h0 m Nd f sz mo A B gk KV (miE (rotE (miE E) p r)) C (rotR root E p r) (miG (rotG (miG g) p r)) h' → K h') : MF G d mi_TreeMap_rotateRight 0 [.ref m, .ref p, .retAddr 0] [] h (cV K Qx) :=
  s_rotR hT.1 hT.2.1 hp hr fun h' W' => HK h' ⟨W', hT.2.1.rotM hp hr, by rw [← hT.2.2.1]; show (fun x => - - g.1 x) = g.1; funext x; omega, fun x => ⟨rotM_01.1.trans (hT.2.2.2 x).1, rotM_01.2.trans (hT.2.2.2 x).2⟩⟩
theorem s_rotL0 (HK : K h) : MF G d mi_TreeMap_rotateLeft 0 [.ref m, .null, .retAddr 0] [] h (cV K Qx) := b_TreeMap_rotateLeft_0 rfl ⟨fun _ => cV_mk HK, fun x e => (by cases e)⟩
theorem s_rotR0 (HK : K h) : MF G d mi_TreeMap_rotateRight 0 [.ref m, .null, .retAddr 0] [] h (cV K Qx) := b_TreeMap_rotateRight_0 rfl ⟨fun _ => cV_mk HK, fun x e => (by cases e)⟩
theorem TOK.par (h : TOK A B E Nd root g) {x : Nat} (hx : Nd x) (hn : ¬ Value.ref x = root) : ∃ p, E x 4 = .ref p ∧ Nd p ∧ (E p 2 = .ref x ∨ E p 3 = .ref x) := by
  obtain ⟨-, -, -, -, -, -, k⟩ := h.2 x hx
  rcases k with ⟨-, k⟩ | k
  · exact absurd k.symm hn
  · exact k
theorem TOK.par4 (h : TOK A B E Nd root g) {x p : Nat} (hx : Nd x) (h4 : E x 4 = .ref p) : Nd p ∧ (E p 2 = .ref x ∨ E p 3 = .ref x) ∧ x ≠ p := by
  obtain ⟨-, -, -, -, -, -, k⟩ := h.2 x hx
  have hne : x ≠ p := fun e => (h.noself hx).1 (e ▸ h4)
  rcases k with ⟨k, -⟩ | ⟨q, q1, q2, q3⟩
  · rw [h4] at k; cases k
  · rw [h4] at q1; cases q1; exact ⟨q2, q3, hne⟩
/-- how the bounds grow upwards -/
theorem TOK.wid (h : TOK A B E Nd root g) {x p : Nat} (hx : Nd x) (h4 : E x 4 = .ref p) : g.2.2 x - g.2.1 x < g.2.2 p - g.2.1 p := by
  obtain ⟨hp, h23, -⟩ := h.par4 hx h4
  obtain ⟨a, b, cc, dd, -⟩ := h.2 p hp
  rcases h23 with e | e
  · obtain ⟨-, -, s1, s2⟩ := (h.child hp).1 e
    omega
  · obtain ⟨-, -, s1, s2⟩ := (h.child hp).2 e
    omega
theorem TOK.wid2 (h : TOK A B E Nd root g) {x : Nat} (hx : Nd x) : g.2.2 x - g.2.1 x ≤ B - A := by
  obtain ⟨a, b, cc, dd, -⟩ := h.2 x hx
  omega
/-- two steps down come not back -/
theorem TOK.two (h : TOK A B E Nd root g) {x p q : Nat} (hx : Nd x) (h4 : E x 4 = .ref p) (h5 : E p 4 = .ref q) : x ≠ q := fun e => by
  subst e
  have a := h.wid hx h4
  have b := h.wid (h.par4 hx h4).1 h5
  omega
def TFin (c : Nat) (F : Nat → Prop) (h0 : AH) (m : Nat) (Nd : Nat → Prop) (f : Nat → Value) (sz mo : Int32) (A B : Int) (gk : Nat → Int) (KV : TE) (K : AH → Prop) : Prop := ∀ h' E' C' root' g', TT c F h0 m Nd f sz mo A B gk KV E' C' root' g' h' → K h'
theorem TT.fin {x : Nat} (hT : TT c F h0 m Nd f sz mo A B gk KV E C root g h) (hx : Nd x) (HK : TFin c F h0 m Nd f sz mo A B gk KV K) : gR h m [23] 3 fun v7 => dR v7 fun q8 => (narrow .boolean (.int 1) = .int 1 ∧ fits .boolean (.int 1) = true ∧ pF h q8 [24] 5 (.int 1) fun h9 => cV K Qx (.inl none) h9) := by
  obtain ⟨r, r1, r2, -⟩ := hT.2.1.rootS hx
  refine hT.1.gT ?_
  rw [r1]
  exact dR_of ⟨rfl, rfl, hT.1.pC r2 (Or.inr rfl) fun h' W' => cV_mk (HK _ _ _ _ _ (hT.col W'))⟩
theorem s_fixInsE {x : Nat} {u : Value} (hT : TT c F h0 m Nd f sz mo A B gk KV E C root g h) (hx : Nd x) (hp : ∀ p, E x 4 = .ref p → ¬ C p = 0) (HK : TFin c F h0 m Nd f sz mo A B gk KV K) : MF G (d + 1) mi_TreeMap_fixAfterInsertion 5 [.ref m, .ref x, u] [] h (cV K Qx) := by
  refine b_TreeMap_fixAfterInsertion_5 rfl ⟨fun e => (by cases e), fun x' e => ?_⟩
  cases e
  refine hT.1.gT ⟨fun e => hT.fin hx HK, fun e => ?_⟩
  obtain ⟨p, p1, p2, p3⟩ := hT.2.1.par hx e
  exact hT.1.gE hx p1 (dR_of (hT.1.gC p2 ⟨fun _ => hT.fin hx HK, fun e9 => absurd e9 (hp p p1)⟩))
theorem s_fixIns225 {x p : Nat} {u : Value} (hT : TT c F h0 m Nd f sz mo A B gk KV E C root g h) (hx : Nd x) (hu : u.isRef = true) (h4 : E x 4 = .ref p) (hq : ∀ q, E p 4 = .ref q → E q 3 = .ref p) (hp3 : E p 3 = .ref x) (HK : TFin c F h0 m Nd f sz mo A B gk KV K) : MF G (d + 1) mi_TreeMap_fixAfterInsertion 225 [.ref m, .ref x, u] [] h (cV K Qx) := by
  obtain ⟨p1, p2, p3⟩ := hT.2.1.par4 hx h4
  have nx : NV Nd (.ref x) := Or.inr ⟨x, rfl, hx⟩
  have np : NV Nd (.ref p) := Or.inr ⟨p, rfl, p1⟩
  have nq := (hT.2.1.nv p1).2.2
  refine b_TreeMap_fixAfterInsertion_225 rfl hu (s_par hT.1 nx h4 (s_sco hT.1 np (Or.inr rfl) fun h1 W1 => ?_))
  refine s_par W1 nx h4 (s_par W1 np rfl (s_sco W1 nq (Or.inl rfl) fun h2 W2 => ?_))
  refine s_par W2 nx h4 (s_par W2 np rfl ⟨W2.hasK (by simp), ?_⟩)
  rcases nq with e | ⟨q, e, hqN⟩
  · rw [show fl E 4 (.ref p) = .null from e]
    refine s_rotL0 ?_
    refine s_fixInsE (hT.col W2) hx (fun p' e' => ?_) HK
    rw [h4] at e'; cases e'
    rw [show fl E 4 (.ref p) = .null from e, upC_n (fun e9 => by cases e9), upC_s]
    decide
  · rw [show fl E 4 (.ref p) = .ref q from e]
    have hpq : p ≠ q := fun e9 => (hT.2.1.noself p1).1 (e9 ▸ e)
    refine (hT.col W2).rotL hqN (hq q e) fun h3 T3 => ?_
    refine s_fixInsE T3 hx (fun p' e' => ?_) HK
    have hxq := hT.2.1.two hx h4 e
    have e5 : (rotE E q p x 4) = E x 4 := by
      have n1 : ¬ E p 2 = .ref x := fun e9 => hT.2.1.sides p1 e9 hp3
      unfold rotE
      grind
    rw [e5, h4] at e'; cases e'
    rw [show fl E 4 (.ref p) = .ref q from e, upC_n (fun e9 => by cases e9; exact hpq rfl), upC_s]
    decide
theorem s_fixIns118 {x p : Nat} {u : Value} (hT : TT c F h0 m Nd f sz mo A B gk KV E C root g h) (hx : Nd x) (hu : u.isRef = true) (h4 : E x 4 = .ref p) (hq : ∀ q, E p 4 = .ref q → E q 2 = .ref p) (hp3 : E p 2 = .ref x) (HK : TFin c F h0 m Nd f sz mo A B gk KV K) : MF G (d + 1) mi_TreeMap_fixAfterInsertion 118 [.ref m, .ref x, u] [] h (cV K Qx) := by
  obtain ⟨p1, p2, p3⟩ := hT.2.1.par4 hx h4
  have nx : NV Nd (.ref x) := Or.inr ⟨x, rfl, hx⟩
  have np : NV Nd (.ref p) := Or.inr ⟨p, rfl, p1⟩
  have nq := (hT.2.1.nv p1).2.2
  refine b_TreeMap_fixAfterInsertion_118 rfl hu (s_par hT.1 nx h4 (s_sco hT.1 np (Or.inr rfl) fun h1 W1 => ?_))
  refine s_par W1 nx h4 (s_par W1 np rfl (s_sco W1 nq (Or.inl rfl) fun h2 W2 => ?_))
  refine s_par W2 nx h4 (s_par W2 np rfl ⟨W2.hasK (by simp), ?_⟩)
  rcases nq with e | ⟨q, e, hqN⟩
  · rw [show fl E 4 (.ref p) = .null from e]
    refine s_rotR0 ?_
    refine s_fixInsE (hT.col W2) hx (fun p' e' => ?_) HK
    rw [h4] at e'; cases e'
    rw [show fl E 4 (.ref p) = .null from e, upC_n (fun e9 => by cases e9), upC_s]
    decide
  · rw [show fl E 4 (.ref p) = .ref q from e]
    have hpq : p ≠ q := fun e9 => (hT.2.1.noself p1).1 (e9 ▸ e)
    refine (hT.col W2).rotR hqN (hq q e) fun h3 T3 => ?_
    refine s_fixInsE T3 hx (fun p' e' => ?_) HK
    have hxq := hT.2.1.two hx h4 e
    have e5 : (miE (rotE (miE E) q p) x 4) = E x 4 := by
      have n1 : ¬ E p 3 = .ref x := fun e9 => hT.2.1.sides p1 hp3 e9
      unfold miE rotE
      grind
    rw [e5, h4] at e'; cases e'
    rw [show fl E 4 (.ref p) = .ref q from e, upC_n (fun e9 => by cases e9; exact hpq rfl), upC_s]
    decide
theorem s_fixIns5 : ∀ (n : Nat) {E : TE} {C : Nat → Int32} {root : Value} {g : TG} {h : AH} {x : Nat} {u : Value}, TT c F h0 m Nd f sz mo A B gk KV E C root g h → Nd x → (B - A) - (g.2.2 x - g.2.1 x) < (n : Int) → TFin c F h0 m Nd f sz mo A B gk KV K → MF G (d + 1) mi_TreeMap_fixAfterInsertion 5 [.ref m, .ref x, u] [] h (cV K Qx) := by
  intro n
  induction n with
  | zero =>
    intro E C root g h x u hT hx hn HK
    have := hT.2.1.wid2 hx
    omega
  | succ n ih =>
    intro E C root g h x u hT hx hn HK
    refine b_TreeMap_fixAfterInsertion_5 rfl ⟨fun e => (by cases e), fun x' e => ?_⟩
    cases e
    refine hT.1.gT ⟨fun e => hT.fin hx HK, fun e => ?_⟩
    obtain ⟨p, h4, p1, p2⟩ := hT.2.1.par hx e
    have nx : NV Nd (.ref x) := Or.inr ⟨x, rfl, hx⟩
    have np : NV Nd (.ref p) := Or.inr ⟨p, rfl, p1⟩
    have nq := (hT.2.1.nv p1).2.2
    refine hT.1.gE hx h4 (dR_of (hT.1.gC p1 ⟨fun _ => hT.fin hx HK, fun hc => ?_⟩))
    refine s_par hT.1 nx h4 (s_par hT.1 nx h4 (s_par hT.1 np rfl (s_lef hT.1 nq rfl ⟨fun hR => ?_, fun hL => ?_⟩)))
    · refine s_par hT.1 nx h4 (s_par hT.1 np rfl (s_lef hT.1 nq rfl (s_col hT.1 (hT.2.1.nvf nq).1 ⟨fun hc2 => ?_, fun hc2 => ?_⟩)))
      · have hq3 : ∀ q, E p 4 = .ref q → E q 3 = .ref p := fun q hq => by
          have hR' : ¬ Value.ref p = fl E 2 (E p 4) := hR
          rw [hq] at hR'
          rcases (hT.2.1.par4 p1 hq).2.1 with e9 | e9
          · exact absurd e9.symm hR'
          · exact e9
        refine s_par hT.1 nx h4 (s_lef hT.1 np rfl ⟨fun hl => ?_, fun hl => ?_⟩)
        · refine s_fixIns225 hT hx (hT.2.1.nvf nq).1.isRef h4 hq3 ?_ HK
          rcases p2 with p2 | p2
          · exact absurd p2.symm hl
          · exact p2
        · have hl' : E p 2 = .ref x := hl.symm
          refine s_par hT.1 nx h4 ⟨hT.1.hasK (by simp), hT.rotR p1 hl' fun h1 T1 => ?_⟩
          have hxp := (hT.2.1.par4 hx h4).2.2
          refine s_fixIns225 T1 p1 (hT.2.1.nvf nq).1.isRef (p := x) ?_ (fun q hq => ?_) ?_ HK
          · unfold miE rotE
            grind
          · have hq' : E p 4 = .ref q := by
              rw [← hq]
              unfold miE rotE
              grind
            have a1 := hq3 q hq'
            have a2 := (hT.2.1.par4 p1 hq').2.2
            have a3 := hT.2.1.two hx h4 hq'
            unfold miE rotE
            grind
          · unfold miE rotE
            grind
      · have hu : NV Nd (fl E 2 (E p 4)) := (hT.2.1.nvf nq).1
        have hq : ∃ q, E p 4 = .ref q := by
          rcases nq with e9 | ⟨q, e9, -⟩
          · exfalso
            have hc2' : fcl C (fl E 2 (E p 4)) = 0 := hc2
            rw [e9] at hc2'
            exact absurd (show (1 : Int32) = 0 from hc2') (by decide)
          · exact ⟨q, e9⟩
        obtain ⟨q, hq⟩ := hq
        refine s_par hT.1 nx h4 (s_sco hT.1 np (Or.inr rfl) fun h1 W1 => s_sco W1 hu (Or.inr rfl) fun h2 W2 => ?_)
        refine s_par W2 nx h4 (s_par W2 np rfl (s_sco W2 nq (Or.inl rfl) fun h3 W3 => s_par W3 nx h4 (s_par W3 np hq ?_)))
        have w1 := hT.2.1.wid hx h4
        have w2 := hT.2.1.wid p1 hq
        exact ih (hT.col W3) (hT.2.1.par4 p1 hq).1 (by omega) HK
    · obtain ⟨q, hq, hqN, hq2⟩ : ∃ q, E p 4 = .ref q ∧ Nd q ∧ E q 2 = .ref p := by
        have hL' : Value.ref p = fl E 2 (E p 4) := hL
        rcases nq with e9 | ⟨q, e9, e8⟩
        · rw [e9] at hL'; cases hL'
        · rw [e9] at hL'; exact ⟨q, e9, e8, hL'.symm⟩
      refine s_par hT.1 nx h4 (s_par hT.1 np rfl (s_rig hT.1 nq rfl (s_col hT.1 (hT.2.1.nvf nq).2.1 ⟨fun hc2 => ?_, fun hc2 => ?_⟩)))
      · have hq3 : ∀ q', E p 4 = .ref q' → E q' 2 = .ref p := fun q' hq' => by
          rw [hq] at hq'; cases hq'; exact hq2
        refine s_par hT.1 nx h4 (s_rig hT.1 np rfl ⟨fun hl => ?_, fun hl => ?_⟩)
        · refine s_fixIns118 hT hx (hT.2.1.nvf nq).2.1.isRef h4 hq3 ?_ HK
          rcases p2 with p2 | p2
          · exact p2
          · exact absurd p2.symm hl
        · have hl' : E p 3 = .ref x := hl.symm
          refine s_par hT.1 nx h4 ⟨hT.1.hasK (by simp), hT.rotL p1 hl' fun h1 T1 => ?_⟩
          have hxp := (hT.2.1.par4 hx h4).2.2
          refine s_fixIns118 T1 p1 (hT.2.1.nvf nq).2.1.isRef (p := x) ?_ (fun q hq => ?_) ?_ HK
          · unfold rotE
            grind
          · have hq' : E p 4 = .ref q := by
              rw [← hq]
              unfold rotE
              grind
            have a1 := hq3 q hq'
            have a2 := (hT.2.1.par4 p1 hq').2.2
            have a3 := hT.2.1.two hx h4 hq'
            unfold rotE
            grind
          · unfold rotE
            grind
      · have hu : NV Nd (fl E 3 (E p 4)) := (hT.2.1.nvf nq).2.1
        refine s_par hT.1 nx h4 (s_sco hT.1 np (Or.inr rfl) fun h1 W1 => s_sco W1 hu (Or.inr rfl) fun h2 W2 => ?_)
        refine s_par W2 nx h4 (s_par W2 np rfl (s_sco W2 nq (Or.inl rfl) fun h3 W3 => s_par W3 nx h4 (s_par W3 np hq ?_)))
        have w1 := hT.2.1.wid hx h4
        have w2 := hT.2.1.wid p1 hq
        exact ih (hT.col W3) (hT.2.1.par4 p1 hq).1 (by omega) HK
theorem s_fixIns {x : Nat} (hT : TT c F h0 m Nd f sz mo A B gk KV E C root g h) (hx : Nd x) (HK : TFin c F h0 m Nd f sz mo A B gk KV K) : MF G (d + 1) mi_TreeMap_fixAfterInsertion 0 [.ref m, .ref x, .retAddr 0] [] h (cV K Qx) := by
  refine b_TreeMap_fixAfterInsertion_0 rfl (dR_of ⟨rfl, rfl, hT.1.pC hx (Or.inl rfl) fun h1 W1 => ?_⟩)
  obtain ⟨n, hn⟩ : ∃ n : Nat, (B - A) - (g.2.2 x - g.2.1 x) < n := ⟨((B - A) - (g.2.2 x - g.2.1 x)).toNat + 1, by omega⟩
  exact s_fixIns5 n (hT.col W1) hx hn HK
end
