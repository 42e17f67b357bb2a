/-! the twin: a hammer from its start -/
set_option maxRecDepth 100000
theorem itn_wn (g : GS) (most : Int32) (st : Nat) (hP : 0 < g.pl.length) : ∀ n, itn (wnS g most st) (-1) n = -1 ∨ ∃ k, k < g.pl.length ∧ itn (wnS g most st) (-1) n = i32 k := by
  intro n
  induction n with
  | zero => exact Or.inl rfl
  | succ n ih =>
    have hm : (st + n) % g.pl.length < g.pl.length := Nat.mod_lt _ hP
    have e : itn (wnS g most st) (-1) (n + 1) = wnS g most st (itn (wnS g most st) (-1) n) n := rfl
    rw [e]
    generalize itn (wnS g most st) (-1) n = b at ih
    unfold wnS
    split
    · split
      · exact Or.inr ⟨_, hm, rfl⟩
      · split
        · exact ih
        · exact Or.inr ⟨_, hm, rfl⟩
    · exact ih
theorem wnr_ok (g : GS) (st : Nat) (hP : 0 < g.pl.length) : wnr g st = -1 ∨ ∃ k, k < g.pl.length ∧ wnr g st = i32 k := by
  unfold wnr
  split
  · exact Or.inl rfl
  · split
    · exact Or.inl rfl
    · exact itn_wn g _ st hP _
def aHam (g : GS) (st : Nat) : Int32 × Option GS :=
  if g.ct.length = 0 then (-2, none) else if wnr g st = -1 then ((gUnw g (g.ct.getD 0 (0, 0, 0))).1, some (gRnd (gUnw g (g.ct.getD 0 (0, 0, 0))).2 st)) else (wnr g st, some (gRnd (gWon g (wnr g st).toNatClampNeg (g.pl.getD (wnr g st).toNatClampNeg (0, 0, 0)) (g.ct.getD 0 (0, 0, 0))) st))
theorem gWon_6 {g : GS} {k : Nat} {y : PL} {x : CS} : (gWon g k y x).ns 6 = g.ns 6 := by
  unfold gWon
  exact (wN_n (by decide)).trans ((wN_n (by decide)).trans ((wN_n (by decide)).trans rfl))
theorem gWon_pl {g : GS} {k : Nat} {y : PL} {x : CS} : (gWon g k y x).pl.length = g.pl.length := by
  unfold gWon
  rw [wN_pl, wN_pl, wN_pl, wP_pl, List.length_set]
theorem gUnw_6 {g : GS} {x : CS} : (gUnw g x).2.ns 6 = g.ns 6 := by
  unfold gUnw
  split
  · exact (wN_n (by decide)).trans rfl
  · exact (wN_n (by decide)).trans rfl
theorem gUnw_pl {g : GS} {x : CS} : (gUnw g x).2.pl = g.pl := by
  unfold gUnw
  split <;> rfl
section
variable {G : GL} {d : Nat} {h0 h : AH} {m : Nat} {A : Nat → Nat} {S : TS} {g : GS} {ps : List GS} {sc : Bool} {Qx : Nat → AH → Prop}
theorem a_hammering {st : Nat} {K : Int32 → AH → Prop} (H : TWX h0 h m A S) (hT : TA S g ps sc) (hst : g.ns 6 = i32 st) (hsl : st < 10) (hP : 0 < g.pl.length) (hl : g.hd.length ≤ 60) (HK : ∀ h' S', TWX h0 h' m A S' → TDone S S' g ps sc (aHam g st).2 → K (aHam g st).1 h') : MF G (d + 3) mi_M_hammering 0 [.ref m, .retAddr 0, .retAddr 0, .retAddr 0, .retAddr 0] [] h (cI K Qx) := by
  have h60 := hT.2.1.2.2.1
  have h5 := hT.2.1.2.1
  unfold aHam at HK
  refine b_M_hammering_0 (tw_n (j := 3) H hT.2.1 (by decide) ⟨fun hn => ?_, fun hz => ?_⟩)
  · have hc : ¬ g.ct.length = 0 := fun e => hn (by show i32 g.ct.length = 0; rw [e]; rfl)
    rw [if_neg hc] at HK
    obtain ⟨x, hx⟩ : ∃ x, g.ct[0]? = some x := ⟨_, List.getElem?_eq_getElem (by omega)⟩
    have hgx : g.ct.getD 0 (0, 0, 0) = x := by rw [List.getD_eq_getElem?_getD, hx]; rfl
    rw [hgx] at HK
    refine ⟨tw_K H, a_changes H hT fun h1 S1 H1 hD => ⟨tw_K H1, s_winner hst hsl hP H1 hD.1.2.1 ⟨fun hw => ?_, fun hw => ?_⟩⟩⟩
    · rw [if_neg hw] at HK
      rcases wnr_ok g st hP with e9 | ⟨k, hk, e9⟩
      · exact absurd e9 hw
      · obtain ⟨y, hy⟩ : ∃ y, g.pl[k]? = some y := ⟨_, List.getElem?_eq_getElem hk⟩
        have hgy : g.pl.getD k (0, 0, 0) = y := by rw [List.getD_eq_getElem?_getD, hy]; rfl
        rw [e9, i32_nat (by omega), hgy] at HK
        rw [e9]
        refine ⟨tw_K H1, s_inCart (k := 0) (j := 0) H1 hD.1.2.1 hx (by decide) ⟨tw_K H1, s_inCart (k := 0) (j := 1) H1 hD.1.2.1 hx (by decide) ⟨tw_K H1, s_isWon H1 hD.1.2.1 hx hy hl fun h2 N2 hN2 H2 => ?_⟩⟩⟩
        refine s_round (g := gWon g k y x) (st := st) H2 (by rw [setR_k]; exact hN2) (gWon_6.trans hst) hsl (by rw [gWon_pl]; exact hP) fun h3 N3 hN3 H3 => ?_
        rw [setR_R] at H3
        exact HK h3 _ H3 (hD.row hN3)
    · rw [if_pos hw] at HK
      refine ⟨tw_K H1, s_inCart (k := 0) (j := 0) H1 hD.1.2.1 hx (by decide) ⟨tw_K H1, s_inCart (k := 0) (j := 1) H1 hD.1.2.1 hx (by decide) ⟨tw_K H1, s_inCart (k := 0) (j := 2) H1 hD.1.2.1 hx (by decide) ⟨tw_K H1, s_goesUnwanted H1 hD.1.2.1 hx fun h2 N2 hN2 H2 => ?_⟩⟩⟩⟩
      refine s_round (g := (gUnw g x).2) (st := st) H2 (by rw [setR_k]; exact hN2) (gUnw_6.trans hst) hsl (by rw [gUnw_pl]; exact hP) fun h3 N3 hN3 H3 => ?_
      rw [setR_R] at H3
      exact HK h3 _ H3 (hD.row hN3)
  · have hc : g.ct.length = 0 := (i32_eq (b := 0) (by omega) (by omega)).mp hz
    rw [if_pos hc] at HK
    exact ⟨tw_K H, a_refuses H hT fun h' S' H' hD => cI_mk (HK h' S' H' hD)⟩
end
