/-! the twin: two stones change hands (the method) -/
set_option maxRecDepth 100000
/-- the stones k and o change hands -/
def hCh (l : List HS) (k o : Nat) (x z : HS) : List HS := (((l.set k (up4 x 2 z.2.2.1)).set o (up4 z 2 x.2.2.1)).set k (up4 (up4 x 2 z.2.2.1) 3 0)).set o (up4 (up4 z 2 x.2.2.1) 3 0)
section
variable {G : GL} {d : Nat} {h0 h : AH} {m : Nat} {A : Nat → Nat} {S : TS} {g : GS} {Qx : Nat → AH → Prop}
theorem s_changesHands {k o : Nat} {x z : HS} {K : AH → Prop} (H : TWX h0 h m A S) (hR : TR (S.2 0) g) (hx : g.hd[k]? = some x) (hz : g.hd[o]? = some z) (hne : k ≠ o) (HK : ∀ h' N', TR N' (g.wH (hCh g.hd k o x z)) → TWX h0 h' m A (setR S 0 N') → K h') : MF G (d + 1) mi_M_changesHands 0 [.ref m, .int (i32 k), .int (i32 o), .retAddr 0] [] h (cV K Qx) := by
  have hk : k < g.hd.length := (List.getElem?_eq_some_iff.mp hx).1
  have ho : o < g.hd.length := (List.getElem?_eq_some_iff.mp hz).1
  have h61 := hR.2.2.2.1
  refine b_M_changesHands_0 ⟨tw_K H, s_held (j := 2) H hR hx (by decide) (tw_R (k := 0) H (by decide) rfl ⟨tw_K H, s_held (j := 2) H hR hz (by decide) (dR_of (tw_pA (k := 0) H rfl (by decide) (ix4 213 k 2) (by omega) (by rw [hR.1]; omega) fun h1 H1 => ?_))⟩)⟩
  have hN1 := TR_held (j := 2) (v := z.2.2.1) hR hx (by decide)
  refine tw_RR (k := 0) H1 (by decide) rfl (tw_pA (k := 0) H1 rfl (by decide) (ix4 213 o 2) (by omega) (by rw [setR_k, List.length_set, hR.1]; omega) fun h2 H2 => ?_)
  rw [setR_R, setR_k] at H2
  have hz1 : (g.hd.set k (up4 x 2 z.2.2.1))[o]? = some z := by rw [List.getElem?_set_ne hne]; exact hz
  have hN2 := TR_held (j := 2) (v := x.2.2.1) hN1 hz1 (by decide)
  refine tw_RR (k := 0) H2 (by decide) rfl (tw_pA (k := 0) H2 rfl (by decide) (ix4 213 k 3) (by omega) (by rw [setR_k, List.length_set, List.length_set, hR.1]; omega) fun h3 H3 => ?_)
  rw [setR_R, setR_k] at H3
  have hx2 : ((g.hd.set k (up4 x 2 z.2.2.1)).set o (up4 z 2 x.2.2.1))[k]? = some (up4 x 2 z.2.2.1) := by rw [List.getElem?_set_ne (Ne.symm hne), List.getElem?_set_self hk]
  have hN3 := TR_held (j := 3) (v := 0) hN2 hx2 (by decide)
  refine tw_RR (k := 0) H3 (by decide) rfl (tw_pA (k := 0) H3 rfl (by decide) (ix4 213 o 3) (by omega) (by rw [setR_k, List.length_set, List.length_set, List.length_set, hR.1]; omega) fun h4 H4 => cV_mk ?_)
  rw [setR_R, setR_k] at H4
  have hz3 : (((g.hd.set k (up4 x 2 z.2.2.1)).set o (up4 z 2 x.2.2.1)).set k (up4 (up4 x 2 z.2.2.1) 3 0))[o]? = some (up4 z 2 x.2.2.1) := by rw [List.getElem?_set_ne hne, List.getElem?_set_self (by rw [List.length_set]; exact ho)]
  exact HK h4 _ (TR_held (j := 3) (v := 0) hN3 hz3 (by decide)) H4
end
