/-! the twin: acts -/
set_option maxRecDepth 100000
/-- only what an act may change has changed -/
def Sm (S S' : TS) : Prop := (∀ k, k ≠ 6 → k ≠ 7 → k ≠ 25 → S'.1 k = S.1 k) ∧ (∀ k, k ≠ 0 → k ≠ 1 → k ≠ 3 → S'.2 k = S.2 k)
theorem Sm.refl {S : TS} : Sm S S := ⟨fun _ _ _ _ => rfl, fun _ _ _ _ => rfl⟩
theorem Sm.trans {S S1 S2 : TS} (h : Sm S S1) (h1 : Sm S1 S2) : Sm S S2 := ⟨fun k a b c => (h1.1 k a b c).trans (h.1 k a b c), fun k a b c => (h1.2 k a b c).trans (h.2 k a b c)⟩
theorem Sm.F {S : TS} {k : Nat} {x : Int32} (h : k = 6 ∨ k = 7 ∨ k = 25) : Sm S (setF S k x) := ⟨fun j a b c => setF_n (by omega), fun _ _ _ _ => rfl⟩
theorem Sm.R {S : TS} {k : Nat} {l : List Int32} (h : k = 0 ∨ k = 1 ∨ k = 3) : Sm S (setR S k l) := ⟨fun _ _ _ _ => rfl, fun j a b c => setR_n (by omega)⟩
/-- the states kept -/
def Pst (S : TS) (ps : List GS) : Prop := S.1 6 = i32 ps.length ∧ ps.length ≤ 8 ∧ TPast (S.2 3) ps
theorem kept_len {ps : List GS} {g : GS} (h : ps.length ≤ 8) : (kept ps g).length ≤ 8 := by
  unfold kept
  split
  · rw [List.length_append, List.length_tail]; simp; omega
  · rw [List.length_append]; simp; omega
/-- the twin at rest between orders: its row holds g, the states kept are ps, sc: a script runs -/
def TA (S : TS) (g : GS) (ps : List GS) (sc : Bool) : Prop := TL S ∧ TR (S.2 0) g ∧ Pst S ps ∧ S.1 24 = b01 sc
def keptIf (sc : Bool) (ps : List GS) (g : GS) : List GS := if sc then ps else kept ps g
/-- behind an act: refused, or done -/
def TDone (S S' : TS) (g : GS) (ps : List GS) (sc : Bool) : Option GS → Prop
  | none => TA S' g ps sc ∧ Sm S S' ∧ S'.1 7 = S.1 7 + 1 ∧ S'.1 25 = 1
  | some g' => TA S' g' (keptIf sc ps g) sc ∧ Sm S S' ∧ S'.1 7 = S.1 7 ∧ S'.1 25 = S.1 25
section
variable {G : GL} {d : Nat} {h0 h : AH} {m : Nat} {A : Nat → Nat} {S : TS} {g : GS} {ps : List GS} {sc : Bool} {Qx : Nat → AH → Prop}
theorem TA.row {g' : GS} {N : List Int32} (h : TA S g ps sc) (hN : TR N g') : TA (setR S 0 N) g' ps sc :=
  ⟨TL_setR h.1 hN.1, by rw [setR_k]; exact hN, ⟨h.2.2.1.1, h.2.2.1.2.1, by rw [setR_n (by decide)]; exact h.2.2.1.2.2⟩, h.2.2.2⟩
theorem a_refuses {v : Int32} {K : Int32 → AH → Prop} (H : TWX h0 h m A S) (hT : TA S g ps sc) (HK : ∀ h' S', TWX h0 h' m A S' → TDone S S' g ps sc none → K v h') : MF G d mi_M_refuses 0 [.ref m, .int v] [] h (cI K Qx) :=
  s_refuses H fun h' H' => HK h' _ H' ⟨⟨TL_setF (TL_setF hT.1), hT.2.1, ⟨by rw [setF_n (by decide), setF_n (by decide)]; exact hT.2.2.1.1, hT.2.2.1.2⟩, by rw [setF_n (by decide), setF_n (by decide)]; exact hT.2.2.2⟩, (Sm.F (Or.inr (Or.inl rfl))).trans (Sm.F (Or.inr (Or.inr rfl))), by rw [setF_n (by decide), setF_1], setF_1⟩
theorem a_changes {K : AH → Prop} (H : TWX h0 h m A S) (hT : TA S g ps sc) (HK : ∀ h' S', TWX h0 h' m A S' → TDone S S' g ps sc (some g) → K h') : MF G (d + 1) mi_M_changes 0 [.ref m] [] h (cV K Qx) := by
  refine b_M_changes_0 (tw_I H (by decide) rfl ?_)
  rw [hT.2.2.2]
  refine ⟨fun hn => cV_mk (HK h S H ?_), fun hz => ⟨tw_K H, ?_⟩⟩
  · have := b01_1 hn
    subst this
    exact ⟨hT, Sm.refl, rfl, rfl⟩
  · have := b01_0 hz
    subst this
    refine s_keeps H hT.1 hT.2.1 hT.2.2.1.1 hT.2.2.1.2.1 hT.2.2.1.2.2 fun h' E' hP hl H' => cV_mk (HK h' _ H' ⟨⟨TL_setF (TL_setR hT.1 hl), ?_, ⟨setF_1, kept_len hT.2.2.1.2.1, ?_⟩, ?_⟩, (Sm.R (Or.inr (Or.inr rfl))).trans (Sm.F (Or.inl rfl)), ?_, ?_⟩)
    · rw [setF_2, setR_n (by decide)]; exact hT.2.1
    · rw [setF_2, setR_k]; exact hP
    · rw [setF_n (by decide), setR_1]; exact hT.2.2.2
    · rw [setF_n (by decide), setR_1]
    · rw [setF_n (by decide), setR_1]
/-- behind 'changes' the row goes on being changed -/
theorem TDone.row {S1 : TS} {g' g'' : GS} {N : List Int32} (h : TDone S S1 g ps sc (some g')) (hN : TR N g'') : TDone S (setR S1 0 N) g ps sc (some g'') :=
  ⟨h.1.row hN, h.2.1.trans (Sm.R (Or.inl rfl)), h.2.2.1, h.2.2.2⟩
/-- a bid -/
def aBid (g : GS) (k : Nat) (bid : Int32) : Int32 × Option GS :=
  if g.ct.length = 0 then (-2, none) else if bid ≤ (g.pl.getD k (0, 0, 0)).2.1 then ((g.pl.getD k (0, 0, 0)).2.2, some (g.wP (g.pl.set k ((g.pl.getD k (0, 0, 0)).1, (g.pl.getD k (0, 0, 0)).2.1, bid)))) else (-3, none)
theorem a_bidding {k : Nat} {bid : Int32} {K : Int32 → AH → Prop} (H : TWX h0 h m A S) (hT : TA S g ps sc) (hk : k < g.pl.length) (HK : ∀ h' S', TWX h0 h' m A S' → TDone S S' g ps sc (aBid g k bid).2 → K (aBid g k bid).1 h') : MF G (d + 2) mi_M_bidding 0 [.ref m, .int (i32 k), .int bid, .retAddr 0] [] h (cI K Qx) := by
  obtain ⟨x, hx⟩ : ∃ x, g.pl[k]? = some x := ⟨_, List.getElem?_eq_getElem hk⟩
  have hgd : g.pl.getD k (0, 0, 0) = x := by rw [List.getD_eq_getElem?_getD, hx]; rfl
  have h60 := hT.2.1.2.2.1
  unfold aBid at HK
  rw [hgd] at HK
  refine b_M_bidding_0 (tw_n (j := 3) H hT.2.1 (by decide) ⟨fun hn => ⟨tw_K H, s_of (j := 1) H hT.2.1 hx (by decide) ⟨fun hle => ?_, fun hgt => ?_⟩⟩, fun hz => ?_⟩)
  · have hc : ¬ g.ct.length = 0 := fun e => hn (by show i32 g.ct.length = 0; rw [e]; rfl)
    rw [if_neg hc, if_pos (show bid ≤ x.2.1 from hle)] at HK
    refine ⟨tw_K H, a_changes H hT fun h1 S1 H1 hD => ⟨tw_K H1, s_of (j := 2) H1 hD.1.2.1 hx (by decide) ⟨tw_K H1, s_puts (j := 2) H1 hD.1.2.1 hx (by decide) fun h2 N2 hN2 H2 => cI_mk (HK h2 _ H2 (hD.row hN2))⟩⟩⟩
  · have hc : ¬ g.ct.length = 0 := fun e => hn (by show i32 g.ct.length = 0; rw [e]; rfl)
    rw [if_neg hc, if_neg (show ¬ bid ≤ x.2.1 from hgt)] at HK
    exact ⟨tw_K H, a_refuses H hT fun h' S' H' hD => cI_mk (HK h' S' H' hD)⟩
  · have hc : g.ct.length = 0 := (i32_eq (b := 0) (by omega) (by omega)).mp hz
    rw [if_pos hc] at HK
    exact ⟨tw_K H, a_refuses H hT fun h' S' H' hD => cI_mk (HK h' S' H' hD)⟩
end
