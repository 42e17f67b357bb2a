/-! the twin: a hammer -/
set_option maxRecDepth 100000
def gUnw (g : GS) (x : CS) : Int32 × GS := if x.2.2 = 1 then (101, (g.wC g.ct.tail).wN 4 (g.ns 4 + 1)) else (100, ((g.wC g.ct.tail).wC (g.ct.tail ++ [(x.1, x.2.1, 1)])).wN 13 (g.ns 13 + 1))
def gWon (g : GS) (k : Nat) (y : PL) (x : CS) : GS :=
  (((((g.wC g.ct.tail).wH (g.hd ++ [(x.1, x.2.1, i32 k, y.2.2)])).wP (g.pl.set k (y.1, y.2.1 - y.2.2, y.2.2))).wN 7 (g.ns 7 + y.2.2)).wN 11 (g.ns 11 + 1)).wN 12 (g.ns 12 + y.2.2)
section
variable {G : GL} {d : Nat} {h0 h : AH} {m : Nat} {A : Nat → Nat} {S : TS} {g : GS} {Qx : Nat → AH → Prop}
theorem s_goesUnwanted {x : CS} {K : Int32 → AH → Prop} (H : TWX h0 h m A S) (hR : TR (S.2 0) g) (hx : g.ct[0]? = some x) (HK : ∀ h' N', TR N' (gUnw g x).2 → TWX h0 h' m A (setR S 0 N') → K (gUnw g x).1 h') : MF G (d + 1) mi_M_goesUnwanted 0 [.ref m, .int x.1, .int x.2.1, .int x.2.2] [] h (cI K Qx) := by
  have hk : 0 < g.ct.length := (List.getElem?_eq_some_iff.mp hx).1
  have h60 := hR.2.2.1
  unfold gUnw at HK
  refine b_M_goesUnwanted_0 ⟨tw_K H, s_takesFirst H hR hk fun h1 N1 hN1 H1 => ⟨fun hne => ?_, fun he => ?_⟩⟩
  · rw [if_neg hne] at HK
    refine ⟨tw_K H1, s_toEnd H1 (g := g.wC g.ct.tail) (by rw [setR_k]; exact hN1) (by show g.ct.tail.length ≤ 59; rw [List.length_tail]; omega) fun h2 N2 hN2 H2 => ⟨tw_K H2, s_counts (j := 2) H2 (by rw [setR_k]; exact hN2) (by decide) fun h3 N3 hN3 H3 => cI_mk (HK h3 N3 hN3 ?_)⟩⟩
    rw [setR_R, setR_R] at H3
    exact H3
  · rw [if_pos he] at HK
    refine tw_RR (k := 0) H1 (by decide) rfl (tw_aI (k := 0) H1 rfl (by decide) (n := 4) rfl (by omega) (by rw [setR_k]; exact hN1.2.2.2.2.1 4 (by decide)) (tw_pA (k := 0) H1 rfl (by decide) (n := 4) rfl (by omega) (by rw [setR_k]; rw [hN1.1]; decide) fun h2 H2 => cI_mk (HK h2 (N1.set 4 (g.ns 4 + 1)) (TR_num hN1 (by decide) (by decide) (by decide) (by decide)) ?_)))
    rw [setR_R, setR_k] at H2
    exact H2
theorem s_isWon {k : Nat} {y : PL} {x : CS} {K : Int32 → AH → Prop} (H : TWX h0 h m A S) (hR : TR (S.2 0) g) (hx : g.ct[0]? = some x) (hy : g.pl[k]? = some y) (hl : g.hd.length ≤ 60) (HK : ∀ h' N', TR N' (gWon g k y x) → TWX h0 h' m A (setR S 0 N') → K (i32 k) h') : MF G (d + 1) mi_M_isWon 0 [.ref m, .int (i32 k), .int x.1, .int x.2.1, .retAddr 0] [] h (cI K Qx) := by
  have hk : 0 < g.ct.length := (List.getElem?_eq_some_iff.mp hx).1
  refine b_M_isWon_0 ⟨tw_K H, s_of (j := 2) H hR hy (by decide) ⟨tw_K H, s_takesFirst H hR hk fun h1 N1 hN1 H1 => ⟨tw_K H1, s_gives H1 (g := g.wC g.ct.tail) (by rw [setR_k]; exact hN1) hl fun h2 N2 hN2 H2 => ?_⟩⟩⟩
  rw [setR_R] at H2
  refine ⟨tw_K H2, s_of (j := 1) (g := (g.wC g.ct.tail).wH (g.hd ++ [(x.1, x.2.1, i32 k, y.2.2)])) H2 (by rw [setR_k]; exact hN2) hy (by decide) ⟨tw_K H2, s_puts (j := 1) (g := (g.wC g.ct.tail).wH (g.hd ++ [(x.1, x.2.1, i32 k, y.2.2)])) (x := y) H2 (by rw [setR_k]; exact hN2) hy (by decide) fun h3 N3 hN3 H3 => ?_⟩⟩
  rw [setR_R] at H3
  refine tw_RR (k := 0) H3 (by decide) rfl (tw_aI (k := 0) H3 rfl (by decide) (n := 7) rfl (by omega) (by rw [setR_k]; exact hN3.2.2.2.2.1 7 (by decide)) (tw_pA (k := 0) H3 rfl (by decide) (n := 7) rfl (by omega) (by rw [setR_k]; rw [hN3.1]; decide) fun h4 H4 => ?_))
  rw [setR_R, setR_k] at H4
  have hN4 := TR_num (j := 7) (x := g.ns 7 + y.2.2) hN3 (by decide) (by decide) (by decide) (by decide)
  refine ⟨tw_K H4, s_counts (j := 0) H4 (by rw [setR_k]; exact hN4) (by decide) fun h5 N5 hN5 H5 => ?_⟩
  rw [setR_R] at H5
  refine ⟨tw_K H5, s_counts (j := 1) H5 (by rw [setR_k]; exact hN5) (by decide) fun h6 N6 hN6 H6 => cI_mk (HK h6 N6 hN6 ?_)⟩
  rw [setR_R] at H6
  exact H6
end
/-- incomes of a round: players before k have had theirs -/
def incP (g : GS) (y : PL) : PL := (y.1, y.2.1 + mn (g.ns 1) (9999 - y.2.1), 0)
def incK (g : GS) (k : Nat) : GS := (g.wP ((g.pl.take k).map (incP g) ++ g.pl.drop k)).wN 14 (itn (fun a j => a + mn (g.ns 1) (9999 - (g.pl.getD j (0, 0, 0)).2.1)) (g.ns 14) k)
/-- a round goes on -/
def gRnd (g : GS) (st : Nat) : GS := ((incK g g.pl.length).wN 6 (i32 ((st + 1) % g.pl.length))).wN 5 (g.ns 5 + 1)
