/-! the twin: a sale -/
set_option maxRecDepth 100000
def sGot (g : GS) (s : HS) (y : PL) : Int32 := mn (mn (s.2.2.2 / 2) (g.ns 7)) (9999 - y.2.1)
def gSell (g : GS) (k : Nat) (s : HS) (q : Nat) (y : PL) : GS :=
  ((((((g.wH (g.hd.eraseIdx k)).wC (g.ct ++ [(s.1, s.2.1, 0)])).wN 7 (g.ns 7 - sGot g s y)).wP (g.pl.set q (y.1, y.2.1 + sGot g s y, y.2.2))).wN 15 (g.ns 15 + 1)).wN 16 (g.ns 16 + sGot g s y))
section
variable {G : GL} {d : Nat} {h0 h : AH} {m : Nat} {A : Nat → Nat} {S : TS} {g : GS} {Qx : Nat → AH → Prop}
theorem s_sellsAt {k q : Nat} {s : HS} {y : PL} {K : Int32 → AH → Prop} (H : TWX h0 h m A S) (hR : TR (S.2 0) g) (hs : g.hd[k]? = some s) (hq : s.2.2.1 = i32 q) (hy : g.pl[q]? = some y) (hl : g.ct.length ≤ 59) (HK : ∀ h' N', TR N' (gSell g k s q y) → TWX h0 h' m A (setR S 0 N') → K (sGot g s y) h') : MF G (d + 1) mi_M_sellsAt 0 [.ref m, .int (i32 k), .retAddr 0, .retAddr 0, .retAddr 0, .retAddr 0] [] h (cI K Qx) := by
  have hk : k < g.hd.length := (List.getElem?_eq_some_iff.mp hs).1
  refine b_M_sellsAt_0 ⟨tw_K H, s_held (j := 2) H hR hs (by decide) ⟨tw_K H, s_held (j := 0) H hR hs (by decide) ⟨tw_K H, s_held (j := 1) H hR hs (by decide) ⟨tw_K H, s_held (j := 3) H hR hs (by decide) (tw_n (j := 7) H hR (by decide) ⟨tw_K H, ?_⟩)⟩⟩⟩⟩
  have e2 : p4 s 2 = i32 q := hq
  rw [e2]
  refine s_of (j := 1) H hR hy (by decide) ⟨tw_K H, s_takesHeld H hR hk fun h1 N1 hN1 H1 => ⟨tw_K H1, s_toEnd (g := g.wH (g.hd.eraseIdx k)) H1 (by rw [setR_k]; exact hN1) hl fun h2 N2 hN2 H2 => ?_⟩⟩
  rw [setR_R] at H2
  refine tw_RR (k := 0) H2 (by decide) rfl (tw_aI (k := 0) H2 rfl (by decide) (n := 7) rfl (by omega) (by rw [setR_k]; exact hN2.2.2.2.2.1 7 (by decide)) (tw_pA (k := 0) H2 rfl (by decide) (n := 7) rfl (by omega) (by rw [setR_k]; rw [hN2.1]; decide) fun h3 H3 => ?_))
  rw [setR_R, setR_k] at H3
  have hN3 := TR_num (j := 7) (x := g.ns 7 - sGot g s y) hN2 (by decide) (by decide) (by decide) (by decide)
  refine ⟨tw_K H3, s_of (j := 1) (g := ((g.wH (g.hd.eraseIdx k)).wC (g.ct ++ [(s.1, s.2.1, 0)])).wN 7 (g.ns 7 - sGot g s y)) H3 (by rw [setR_k]; exact hN3) hy (by decide) ⟨tw_K H3, s_puts (j := 1) (g := ((g.wH (g.hd.eraseIdx k)).wC (g.ct ++ [(s.1, s.2.1, 0)])).wN 7 (g.ns 7 - sGot g s y)) (x := y) H3 (by rw [setR_k]; exact hN3) hy (by decide) fun h4 N4 hN4 H4 => ?_⟩⟩
  rw [setR_R] at H4
  refine ⟨tw_K H4, s_counts (j := 4) H4 (by rw [setR_k]; exact hN4) (by decide) fun h5 N5 hN5 H5 => ?_⟩
  rw [setR_R] at H5
  refine ⟨tw_K H5, s_counts (j := 5) H5 (by rw [setR_k]; exact hN5) (by decide) fun h6 N6 hN6 H6 => cI_mk (HK h6 N6 hN6 ?_)⟩
  rw [setR_R] at H6
  exact H6
end
