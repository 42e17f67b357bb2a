/-! the twin: a sale asked for -/
set_option maxRecDepth 100000
/-- whose stones are held: players of the game -/
def OwnOK (g : GS) : Prop := ∀ (k : Nat) (s : HS), g.hd[k]? = some s → ∃ q, q < g.pl.length ∧ s.2.2.1 = i32 q
def aSell (g : GS) (p f n : Int32) : Int32 × Option GS := match stAt g p f n true with
  | none => (-4, none)
  | some k => (sGot g (g.hd.getD k (0, 0, 0, 0)) (g.pl.getD p.toNatClampNeg (0, 0, 0)), some (gSell g k (g.hd.getD k (0, 0, 0, 0)) p.toNatClampNeg (g.pl.getD p.toNatClampNeg (0, 0, 0))))
section
variable {G : GL} {d : Nat} {h0 h : AH} {m : Nat} {A : Nat → Nat} {S : TS} {g : GS} {ps : List GS} {sc : Bool} {Qx : Nat → AH → Prop}
theorem a_selling {q : Nat} {f n : Int32} {K : Int32 → AH → Prop} (H : TWX h0 h m A S) (hT : TA S g ps sc) (hq : q < g.pl.length) (hl : g.ct.length ≤ 59 ∨ g.hd.length = 0) (HK : ∀ h' S', TWX h0 h' m A S' → TDone S S' g ps sc (aSell g (i32 q) f n).2 → K (aSell g (i32 q) f n).1 h') : MF G (d + 2) mi_M_selling 0 [.ref m, .int (i32 q), .int f, .int n, .retAddr 0] [] h (cI K Qx) := by
  have h5 := hT.2.1.2.1
  have h61 := hT.2.1.2.2.2.1
  obtain ⟨y, hy⟩ : ∃ y, g.pl[q]? = some y := ⟨_, List.getElem?_eq_getElem hq⟩
  have hgy : g.pl.getD q (0, 0, 0) = y := by rw [List.getD_eq_getElem?_getD, hy]; rfl
  unfold aSell at HK
  refine b_M_selling_0 ⟨tw_K H, s_stoneAt (most := true) H hT.2.1 ⟨fun hn => ?_, fun hz => ?_⟩⟩
  · cases hb : stAt g (i32 q) f n true with
    | none => exact absurd (by rw [hb]; rfl) hn
    | some k =>
      rw [hb] at HK
      dsimp only at HK
      rw [i32_nat (by omega), hgy] at HK
      obtain ⟨hk, hP⟩ := sab_lt g (i32 q) f n true g.hd.length k hb
      obtain ⟨s, hs⟩ : ∃ s, g.hd[k]? = some s := ⟨_, List.getElem?_eq_getElem hk⟩
      have hgs : g.hd.getD k (0, 0, 0, 0) = s := by rw [List.getD_eq_getElem?_getD, hs]; rfl
      rw [hgs] at HK hP
      have how : s.2.2.1 = i32 q := by
        simp only [stP, Bool.and_eq_true, beq_iff_eq] at hP
        exact hP.1.1
      have hl9 : g.ct.length ≤ 59 := by
        rcases hl with h9 | h9
        · exact h9
        · omega
      refine ⟨tw_K H, a_changes H hT fun h1 S1 H1 hD => ⟨tw_K H1, s_sellsAt H1 hD.1.2.1 hs how hy hl9 fun h2 N2 hN2 H2 => cI_mk (HK h2 _ H2 (hD.row hN2))⟩⟩
  · cases hb : stAt g (i32 q) f n true with
    | none =>
      rw [hb] at HK
      exact ⟨tw_K H, a_refuses H hT fun h' S' H' hD => cI_mk (HK h' S' H' hD)⟩
    | some k =>
      rw [hb] at hz
      obtain ⟨hk, -⟩ := sab_lt g (i32 q) f n true g.hd.length k hb
      exact absurd hz (oe_some (by omega))
end
