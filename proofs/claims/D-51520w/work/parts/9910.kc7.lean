/-! search trees: an entry goes -/
set_option maxRecDepth 100000
section
variable {A B : Int} {E : TE} {Nd : Nat → Prop} {root : Value} {g : TG}
theorem delE_01 {s x : Nat} : delE E s x 0 = E x 0 ∧ delE E s x 1 = E x 1 := by
  constructor <;> simp [delE]
theorem delM_01 {s x : Nat} : miE (delE (miE E) s) x 0 = E x 0 ∧ miE (delE (miE E) s) x 1 = E x 1 := by
  constructor <;> simp [delE, miE]
theorem TOK.delM (h : TOK A B E Nd root g) {s : Nat} (hs : Nd s) (hl : E s 3 = .null) : TOK A B (miE (delE (miE E) s)) (fun x => Nd x ∧ x ≠ s) (if E s 4 = .null then E s 2 else root) (miG (delG (miG g) s)) := by
  have := (h.mirror.del hs (show miE E s 2 = .null from hl)).mirror
  rw [Int.neg_neg, Int.neg_neg] at this
  exact this
theorem TOK.alone (h : TOK A B E Nd root g) {s y : Nat} (hs : Nd s) (hy : Nd y) (h2 : E s 2 = .null) (h3 : E s 3 = .null) (h4 : E s 4 = .null) : y = s := by
  have h5 := (h.del hs h2).1
  rw [show delR root E s = .null by unfold delR; rw [if_pos h4]; exact h3] at h5
  rcases h5 with ⟨-, h5⟩ | ⟨r, h5, -⟩
  · by_cases e : y = s
    · exact e
    · exact absurd ⟨hy, e⟩ (h5 y)
  · cases h5
end
section
variable {A B : Int} {g : TG} {G : GL} {d : Nat} {c : Nat} {F : Nat → Prop} {h0 : AH} {m : Nat} {Nd : Nat → Prop} {f : Nat → Value} {E KV : TE} {gk : Nat → Int} {C : Nat → Int32} {root : Value} {sz mo : Int32} {h : AH} {Qx : Nat → AH → Prop} {K : AH → Prop}
/-- the end: a leaf is cut off -/
theorem s_del192 {s p0 : Nat} {u : Value} (hu : u.isRef = true) (hT : TT c F h0 m Nd f sz mo A B gk KV E C root g h) (hs : Nd s) (h2 : E s 2 = .null) (h3 : E s 3 = .null) (hp0 : Nd p0) (hne : p0 ≠ s) (HK : TFin c F h0 m (fun x => Nd x ∧ x ≠ s) f sz mo A B gk KV K) : MF G (d + 1) mi_TreeMap_deleteEntry 192 [.ref m, .ref s, u] [] h (cV K Qx) := by
  have h4 : ¬ E s 4 = .null := fun e => hne (hT.2.1.alone hs hp0 h2 h3 e)
  have hD := hT.2.1.del hs h2
  have hR : delR root E s = root := if_neg h4
  rw [hR] at hD
  have ns := (hT.2.1.noself hs).1
  have fin : ∀ h', TW c F h0 m (fun x => Nd x ∧ x ≠ s) f (delE E s) C root sz mo h' → K h' := fun h' W' => HK h' _ _ _ _ ⟨W', hD, hT.2.2.1, fun x => ⟨delE_01.1.trans (hT.2.2.2 x).1, delE_01.2.trans (hT.2.2.2 x).2⟩⟩
  refine b_TreeMap_deleteEntry_192 rfl hu (dR_of (hT.1.gE hs rfl ⟨fun e => absurd e h4, fun p e => hT.1.gE hs e (dR_of ?_)⟩))
  obtain ⟨p1, p2, p3⟩ := hT.2.1.par4 hs e
  refine hT.1.gE p1 rfl ⟨fun hn => hT.1.gE hs e (dR_of (hT.1.gE p1 rfl ⟨fun hn3 => ?_, fun _ => hT.1.gE hs e (dR_of (hT.1.pE p1 rfl fun h1 W1 => W1.pE hs rfl fun h2' W2 => cV_mk (fin _ ?_)))⟩)), fun hn => hT.1.gE hs e (dR_of (hT.1.pE p1 rfl fun h1 W1 => W1.pE hs rfl fun h2' W2 => cV_mk (fin _ ?_)))⟩
  · rcases p2 with p2 | p2
    · exact absurd p2.symm hn
    · exact absurd p2.symm hn3
  · refine W2.cong (fun x hx => hx.1) fun x hx j hj => ?_
    have hx2 := hx.2
    unfold delE upE
    grind
  · refine W2.cong (fun x hx => hx.1) fun x hx j hj => ?_
    have hx2 := hx.2
    have h8 : ¬ E p 3 = .ref s := fun e9 => hT.2.1.sides p1 hn.symm e9
    unfold delE upE
    grind
/-- the end with a replacement -/
theorem s_del133 {s r : Nat} {E' : TE} {root' : Value} {g' : TG} (hW : TW c F h0 m Nd f E C root' sz mo h) (hs : Nd s) (hr : Nd r) (hrs : r ≠ s) (hc : ∀ x, Nd x → x ≠ s → ∀ j, j < 5 → E' x j = E x j) (hT : TOK A B E' (fun x => Nd x ∧ x ≠ s) root' g') (hg : g'.1 = gk) (hKV : ∀ x, E' x 0 = KV x 0 ∧ E' x 1 = KV x 1) (HK : TFin c F h0 m (fun x => Nd x ∧ x ≠ s) f sz mo A B gk KV K) : MF G (d + 2) mi_TreeMap_deleteEntry 133 [.ref m, .ref s, .ref r] [] h (cV K Qx) := by
  refine b_TreeMap_deleteEntry_133 rfl rfl (dR_of (hW.pE hs rfl fun h1 W1 => W1.pE hs rfl fun h2 W2 => W2.pE hs rfl fun h3 W3 => ?_))
  have W4 : TW c F h0 m (fun x => Nd x ∧ x ≠ s) f E' C root' sz mo h3 := W3.cong (fun x hx => hx.1) fun x hx j hj => by
    rw [hc x hx.1 hx.2 j hj]
    have hx2 := hx.2
    unfold upE
    grind
  have T4 : TT c F h0 m (fun x => Nd x ∧ x ≠ s) f sz mo A B gk KV E' C root' g' h3 := ⟨W4, hT, hg, hKV⟩
  refine W3.gC hs ⟨fun _ => cV_mk (HK _ _ _ _ _ T4), fun _ => ⟨W3.hasK (by simp), ?_⟩⟩
  refine s_fixDel (lf := fun _ => False) (fun s9 h9 => h9.elim) T4 ⟨hr, hrs⟩ fun h5 E5 C5 root5 g5 T5 _ => cV_mk (HK _ _ _ _ _ T5)
theorem s_del75 {s : Nat} {rv u : Value} (hT : TT c F h0 m Nd f sz mo A B gk KV E C root g h) (hs : Nd s) (hrv : (E s 2 = .null ∧ rv = E s 3) ∨ (E s 3 = .null ∧ rv = E s 2 ∧ ¬ rv = .null)) (HK : TFin c F h0 m (fun x => Nd x ∧ x ≠ s) f sz mo A B gk KV K) : MF G (d + 2) mi_TreeMap_deleteEntry 75 [.ref m, .ref s, u] [rv] h (cV K Qx) := by
  have hnv : NV Nd rv := by
    rcases hrv with ⟨-, e⟩ | ⟨-, e, -⟩
    · rw [e]; exact (hT.2.1.nv hs).2.1
    · rw [e]; exact (hT.2.1.nv hs).1
  have hw : (E s 4).isRef = true := (hT.2.1.nv hs).2.2.isRef
  refine b_TreeMap_deleteEntry_75 rfl hnv.isRef ⟨fun e => dR_of (hT.1.gE hs rfl ⟨fun e4 => ?_, fun p e4 => ?_⟩), fun r e => dR_of ?_⟩
  · -- the only node
    rcases hrv with ⟨h2, h3⟩ | ⟨-, -, h9⟩
    · rw [e] at h3
      have hD := hT.2.1.del hs h2
      rw [show delR root E s = .null by unfold delR; rw [if_pos e4]; exact h3.symm] at hD
      refine hT.1.pR rfl fun h1 W1 => cV_mk (HK h1 _ _ _ _ ⟨W1.cong (fun x hx => hx.1) fun x hx j hj => ?_, hD, hT.2.2.1, fun x => ⟨delE_01.1.trans (hT.2.2.2 x).1, delE_01.2.trans (hT.2.2.2 x).2⟩⟩)
      unfold delE
      grind
    · exact absurd e h9
  · rcases hrv with ⟨h2, h3⟩ | ⟨-, -, h9⟩
    · rw [e] at h3
      have h3 := h3.symm
      obtain ⟨p1, p2, p3⟩ := hT.2.1.par4 hs e4
      refine hT.1.gC hs ⟨fun _ => s_del192 rfl hT hs h2 h3 p1 (Ne.symm p3) HK, fun _ => ⟨hT.1.hasK (by simp), ?_⟩⟩
      refine s_fixDel (lf := fun x => x = s) (fun s9 h9 => ?_) hT hs fun h5 E5 C5 root5 g5 T5 hl5 => ?_
      · subst h9
        exact ⟨hs, h2, h3, Int.le_refl _, Int.le_refl _⟩
      · exact s_del192 rfl T5 hs (hl5 s rfl).1 (hl5 s rfl).2 p1 (Ne.symm p3) HK
    · exact absurd e h9
  · subst e
    have hr := hnv.ref
    have ns := hT.2.1.noself hs
    have hrs : r ≠ s := fun e => by
      subst e
      rcases hrv with ⟨-, e⟩ | ⟨-, e, -⟩
      · exact ns.2.2 e.symm
      · exact ns.2.1 e.symm
    have hr4 : E r 4 = .ref s := by
      rcases hrv with ⟨-, e⟩ | ⟨-, e, -⟩
      · exact ((hT.2.1.child hs).2 e.symm).2.1
      · exact ((hT.2.1.child hs).1 e.symm).2.1
    have e4u : upE E r 4 (E s 4) s 4 = E s 4 := by unfold upE; grind
    refine hT.1.gE hs rfl (hT.1.pE hr hw fun h1 W1 => W1.gE hs e4u ⟨fun e4 => ?_, fun p e4 => ?_⟩)
    · refine W1.pR rfl fun h2 W2 => ?_
      rcases hrv with ⟨h2', h3⟩ | ⟨h3', h2, -⟩
      · refine s_del133 (E' := delE E s) W2 hs hr hrs (fun x hx hxs j hj => ?_) ?_ hT.2.2.1 (fun x => ⟨delE_01.1.trans (hT.2.2.2 x).1, delE_01.2.trans (hT.2.2.2 x).2⟩) HK (g' := delG g s)
        · unfold delE upE
          grind
        · have hD := hT.2.1.del hs h2'
          rw [show delR root E s = .ref r by unfold delR; rw [if_pos e4]; exact h3.symm] at hD
          exact hD
      · refine s_del133 (E' := miE (delE (miE E) s)) W2 hs hr hrs (fun x hx hxs j hj => ?_) ?_ (g' := miG (delG (miG g) s)) ?_ (fun x => ⟨delM_01.1.trans (hT.2.2.2 x).1, delM_01.2.trans (hT.2.2.2 x).2⟩) HK
        · unfold miE delE upE
          grind
        · have hD := hT.2.1.delM hs h3'
          rw [if_pos e4, ← h2] at hD
          exact hD
        · rw [← hT.2.2.1]; show (fun x => - - g.1 x) = g.1; funext x; omega
    · obtain ⟨p1, p2, p3⟩ := hT.2.1.par4 hs e4
      have hpr : p ≠ r := fun e => by subst e; exact hT.2.1.two hr hr4 e4 rfl
      have e2p : upE E r 4 (E s 4) p 2 = E p 2 := by unfold upE; grind
      have two : ∀ (h2 : AH) (k : Nat), (k = 2 ∨ k = 3) → E p k = .ref s → (k = 3 → ¬ E p 2 = .ref s) → TW c F h0 m Nd f (upE (upE E r 4 (E s 4)) p k (.ref r)) C root sz mo h2 → MF G (d + 2) mi_TreeMap_deleteEntry 133 [.ref m, .ref s, .ref r] [] h2 (cV K Qx) := by
        intro h2 k hk hps hk3 W2
        have hsd : ∀ e9 : E p 3 = .ref s, ¬ E p 2 = .ref s := fun e9 e8 => hT.2.1.sides p1 e8 e9
        have h4n : ¬ E s 4 = .null := by rw [e4]; intro e9; cases e9
        rcases hrv with ⟨h2', h3⟩ | ⟨h3', h2, -⟩
        · refine s_del133 (E' := delE E s) W2 hs hr hrs (fun x hx hxs j hj => ?_) ?_ hT.2.2.1 (fun x => ⟨delE_01.1.trans (hT.2.2.2 x).1, delE_01.2.trans (hT.2.2.2 x).2⟩) HK (g' := delG g s)
          · unfold delE upE
            grind
          · have hD := hT.2.1.del hs h2'
            rw [show delR root E s = root by unfold delR; rw [if_neg h4n]] at hD
            exact hD
        · refine s_del133 (E' := miE (delE (miE E) s)) W2 hs hr hrs (fun x hx hxs j hj => ?_) ?_ (g' := miG (delG (miG g) s)) ?_ (fun x => ⟨delM_01.1.trans (hT.2.2.2 x).1, delM_01.2.trans (hT.2.2.2 x).2⟩) HK
          · unfold miE delE upE
            grind
          · have hD := hT.2.1.delM hs h3'
            rw [if_neg h4n] at hD
            exact hD
          · rw [← hT.2.2.1]; show (fun x => - - g.1 x) = g.1; funext x; omega
      have e4u' : upE E r 4 (E s 4) s 4 = .ref p := e4u.trans e4
      refine W1.gE hs e4u' (dR_of (W1.gE p1 e2p ⟨fun hn => W1.gE hs e4u' (dR_of (W1.pE p1 rfl fun h2 W2 => ?_)), fun hn => W1.gE hs e4u' (dR_of (W1.pE p1 rfl fun h2 W2 => ?_))⟩))
      · have hp3 : E p 3 = .ref s := by
          rcases p2 with p2 | p2
          · exact absurd p2.symm hn
          · exact p2
        exact two h2 3 (Or.inr rfl) hp3 (fun _ e9 => hn e9.symm) W2
      · exact two h2 2 (Or.inl rfl) hn.symm (fun e9 => by cases e9) W2
end
