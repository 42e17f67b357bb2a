/-! the twin: a hammer, whole -/
set_option maxRecDepth 100000
theorem incK_pl {g : GS} {k : Nat} : (incK g k).pl = (g.pl.take k).map (incP g) ++ g.pl.drop k := rfl
theorem incK_at {g : GS} {k : Nat} {y : PL} (hy : g.pl[k]? = some y) : (incK g k).pl[k]? = some y := by
  have hk : k < g.pl.length := (List.getElem?_eq_some_iff.mp hy).1
  rw [incK_pl, List.getElem?_append_right (by simp; omega)]
  simp only [List.length_map, List.length_take, Nat.min_eq_left (Nat.le_of_lt hk), Nat.sub_self, List.getElem?_drop, Nat.add_zero]
  exact hy
theorem incK_len {g : GS} {k : Nat} (hk : k ≤ g.pl.length) : (incK g k).pl.length = g.pl.length := by
  rw [incK_pl]
  simp; omega
theorem wN_ct {g : GS} {j : Nat} {x : Int32} : (g.wN j x).ct = g.ct := rfl
theorem wN_hd {g : GS} {j : Nat} {x : Int32} : (g.wN j x).hd = g.hd := rfl
theorem wN_pl {g : GS} {j : Nat} {x : Int32} : (g.wN j x).pl = g.pl := rfl
theorem wP_ct {g : GS} {l : List PL} : (g.wP l).ct = g.ct := rfl
theorem wP_hd {g : GS} {l : List PL} : (g.wP l).hd = g.hd := rfl
theorem wP_pl {g : GS} {l : List PL} : (g.wP l).pl = l := rfl
theorem wP_ns {g : GS} {l : List PL} {i : Nat} : (g.wP l).ns i = g.ns i := rfl
theorem incK_ct {g : GS} {k : Nat} : (incK g k).ct = g.ct := rfl
theorem incK_hd {g : GS} {k : Nat} : (incK g k).hd = g.hd := rfl
theorem GS_ext {a b : GS} (h1 : ∀ i, a.ns i = b.ns i) (h2 : a.pl = b.pl) (h3 : a.ct = b.ct) (h4 : a.hd = b.hd) : a = b := by
  obtain ⟨a1, a2, a3, a4⟩ := a
  obtain ⟨b1, b2, b3, b4⟩ := b
  have e : a1 = b1 := funext h1
  have e2 : a2 = b2 := h2
  have e3 : a3 = b3 := h3
  have e4 : a4 = b4 := h4
  rw [e, e2, e3, e4]
theorem wN_e {g : GS} {j : Nat} {x : Int32} : (g.wN j x).ns j = x := if_pos rfl
theorem wN_n {g : GS} {i j : Nat} {x : Int32} (h : i ≠ j) : (g.wN j x).ns i = g.ns i := if_neg h
theorem incK_14 {g : GS} {k : Nat} : (incK g k).ns 14 = itn (fun a j => a + mn (g.ns 1) (9999 - (g.pl.getD j (0, 0, 0)).2.1)) (g.ns 14) k := by
  unfold incK
  exact wN_e
theorem incK_ns {g : GS} {k j : Nat} (hj : j ≠ 14) : (incK g k).ns j = g.ns j := if_neg hj
theorem incK_step {g : GS} {k : Nat} {y : PL} (hy : g.pl[k]? = some y) :
    (((incK g k).wP ((incK g k).pl.set k (y.1, y.2.1 + mn (g.ns 1) (9999 - y.2.1), y.2.2))).wP (((incK g k).pl.set k (y.1, y.2.1 + mn (g.ns 1) (9999 - y.2.1), y.2.2)).set k (y.1, y.2.1 + mn (g.ns 1) (9999 - y.2.1), 0))).wN 14 ((incK g k).ns 14 + mn (g.ns 1) (9999 - y.2.1)) = incK g (k + 1) := by
  have hk : k < g.pl.length := (List.getElem?_eq_some_iff.mp hy).1
  have hgd : g.pl.getD k (0, 0, 0) = y := by rw [List.getD_eq_getElem?_getD, hy]; rfl
  have hpl : (((incK g k).pl.set k (y.1, y.2.1 + mn (g.ns 1) (9999 - y.2.1), y.2.2)).set k (y.1, y.2.1 + mn (g.ns 1) (9999 - y.2.1), 0)) = (g.pl.take (k + 1)).map (incP g) ++ g.pl.drop (k + 1) := by
    rw [List.set_set, incK_pl]
    apply List.ext_getElem?
    intro j
    have hl1 : ((g.pl.take k).map (incP g)).length = k := by simp; omega
    have hl2 : ((g.pl.take (k + 1)).map (incP g)).length = k + 1 := by simp; omega
    by_cases e : k = j
    · subst e
      rw [List.getElem?_set_self (by simp; omega), List.getElem?_append_left (by omega)]
      rw [List.getElem?_map, List.getElem?_take, if_pos (by omega), hy]
      rfl
    · rw [List.getElem?_set_ne e]
      by_cases h1 : j < k
      · rw [List.getElem?_append_left (by omega), List.getElem?_append_left (by omega), List.getElem?_map, List.getElem?_map, List.getElem?_take, List.getElem?_take, if_pos h1, if_pos (by omega)]
      · rw [List.getElem?_append_right (by omega), List.getElem?_append_right (by omega), hl1, hl2, List.getElem?_drop, List.getElem?_drop]
        congr 1
        omega
  refine GS_ext (fun i => ?_) (wN_pl.trans (wP_pl.trans (hpl.trans incK_pl.symm))) (wN_ct.trans (wP_ct.trans (wP_ct.trans (incK_ct.trans incK_ct.symm)))) (wN_hd.trans (wP_hd.trans (wP_hd.trans (incK_hd.trans incK_hd.symm))))
  by_cases ei : i = 14
  · subst ei
    refine Eq.trans (wN_e (g := ((incK g k).wP ((incK g k).pl.set k (y.1, y.2.1 + mn (g.ns 1) (9999 - y.2.1), y.2.2))).wP (((incK g k).pl.set k (y.1, y.2.1 + mn (g.ns 1) (9999 - y.2.1), y.2.2)).set k (y.1, y.2.1 + mn (g.ns 1) (9999 - y.2.1), 0)))) ?_
    refine Eq.trans ?_ (incK_14 (g := g) (k := k + 1)).symm
    refine (congrArg (fun z => z + mn (g.ns 1) (9999 - y.2.1)) (incK_14 (g := g) (k := k))).trans ?_
    show itn _ _ k + _ = itn _ _ k + mn (g.ns 1) (9999 - (g.pl.getD k (0, 0, 0)).2.1)
    rw [hgd]
  · exact (wN_n (g := ((incK g k).wP ((incK g k).pl.set k (y.1, y.2.1 + mn (g.ns 1) (9999 - y.2.1), y.2.2))).wP (((incK g k).pl.set k (y.1, y.2.1 + mn (g.ns 1) (9999 - y.2.1), y.2.2)).set k (y.1, y.2.1 + mn (g.ns 1) (9999 - y.2.1), 0))) ei).trans (wP_ns.trans (wP_ns.trans ((incK_ns (g := g) (k := k) ei).trans (incK_ns (g := g) (k := k + 1) ei).symm)))
theorem incK_0 {g : GS} : incK g 0 = g := by
  refine GS_ext (fun i => ?_) ?_ incK_ct incK_hd
  · by_cases ei : i = 14
    · subst ei
      exact incK_14
    · exact incK_ns ei
  · rw [incK_pl, List.take_zero, List.map_nil, List.nil_append, List.drop_zero]
section
variable {G : GL} {d : Nat} {h0 h : AH} {m : Nat} {A : Nat → Nat} {S : TS} {g : GS} {Qx : Nat → AH → Prop}
theorem s_round {w told : Int32} {st : Nat} {u9 : Value} {K : Int32 → AH → Prop} (H : TWX h0 h m A S) (hR : TR (S.2 0) g) (hst : g.ns 6 = i32 st) (hsl : st < 10) (hP : 0 < g.pl.length) (HK : ∀ h' N', TR N' (gRnd g st) → TWX h0 h' m A (setR S 0 N') → K told h') : MF G (d + 1) mi_M_hammering 75 [.ref m, .int w, .int told, .int 0, u9] [] h (cI K Qx) := by
  have h5 := hR.2.1
  have loop : ∀ r k, r + k = g.pl.length → ∀ hh N u, TR N (incK g k) → TWX h0 hh m A (setR S 0 N) → MF G (d + 1) mi_M_hammering 75 [.ref m, .int w, .int told, .int (i32 k), u] [] hh (cI K Qx) := by
    intro r
    induction r with
    | zero =>
      intro k hk hh N u hN HH
      have : k = g.pl.length := by omega
      subst this
      have hl := incK_len (g := g) (k := g.pl.length) (Nat.le_refl _)
      have hN0 : TR ((setR S 0 N).2 0) (incK g g.pl.length) := by rw [setR_k]; exact hN
      have e2 : rowN (incK g g.pl.length) 2 = i32 g.pl.length := by show i32 (incK g g.pl.length).pl.length = _; rw [hl]
      have e6 : rowN (incK g g.pl.length) 6 = i32 st := by show (incK g g.pl.length).ns 6 = _; rw [incK_ns (by decide)]; exact hst
      refine b_M_hammering_75 (tw_n (j := 2) HH hN0 (by decide) ⟨fun _ => ?_, fun hn => absurd ?_ hn⟩)
      · refine tw_R (k := 0) HH (by decide) rfl (tw_n (j := 6) HH hN0 (by decide) (tw_n (j := 2) HH hN0 (by decide) ⟨fun hz => ?_, dR_of ?_⟩))
        · rw [e2] at hz
          exact absurd ((i32_eq (b := 0) (by omega) (by omega)).mp hz) (by omega)
        · rw [e2, e6, i32_succ, i32_mod (by omega) (by omega) hP]
          refine tw_pA (k := 0) HH rfl (by decide) (n := 6) rfl (by omega) (by rw [setR_k]; rw [hN.1]; decide) fun h1 H1 => ?_
          rw [setR_R, setR_k] at H1
          have hN1 := TR_num (j := 6) (x := i32 ((st + 1) % g.pl.length)) hN (by decide) (by decide) (by decide) (by decide)
          refine tw_RR (k := 0) H1 (by decide) rfl (tw_aI (k := 0) H1 rfl (by decide) (n := 5) rfl (by omega) (by rw [setR_k]; exact hN1.2.2.2.2.1 5 (by decide)) (tw_pA (k := 0) H1 rfl (by decide) (n := 5) rfl (by omega) (by rw [setR_k]; rw [hN1.1]; decide) fun h2 H2 => cI_mk ?_))
          rw [setR_R, setR_k] at H2
          exact HK h2 _ (TR_num (j := 5) (x := g.ns 5 + 1) hN1 (by decide) (by decide) (by decide) (by decide)) H2
      · rw [e2]
        exact (i32_le (by omega) (by omega)).mpr (Nat.le_refl _)
    | succ r ih =>
      intro k hk hh N u hN HH
      obtain ⟨y, hy⟩ : ∃ y, g.pl[k]? = some y := ⟨_, List.getElem?_eq_getElem (by omega)⟩
      have hl := incK_len (g := g) (k := k) (by omega)
      have hyk := incK_at hy
      have hN0 : TR ((setR S 0 N).2 0) (incK g k) := by rw [setR_k]; exact hN
      have e2 : rowN (incK g k) 2 = i32 g.pl.length := by show i32 (incK g k).pl.length = _; rw [hl]
      refine b_M_hammering_75 (tw_n (j := 2) HH hN0 (by decide) ⟨fun hn => absurd hn ?_, fun _ => tw_n (j := 1) HH hN0 (by decide) ⟨tw_K HH, s_of (j := 1) HH hN0 hyk (by decide) ⟨tw_K HH, s_of (j := 1) HH hN0 hyk (by decide) ⟨tw_K HH, s_puts (j := 1) HH hN0 hyk (by decide) fun h1 N1 hN1 H1 => ?_⟩⟩⟩⟩)
      · rw [e2]
        exact fun e => absurd ((i32_le (by omega) (by omega)).mp e) (by omega)
      · rw [setR_R] at H1
        have e1 : rowN (incK g k) 1 = g.ns 1 := incK_ns (by decide)
        have hkk : k < (incK g k).pl.length := by omega
        refine ⟨tw_K H1, s_puts (j := 2) (g := (incK g k).wP ((incK g k).pl.set k (y.1, y.2.1 + mn (rowN (incK g k) 1) (9999 - y.2.1), y.2.2))) (x := (y.1, y.2.1 + mn (rowN (incK g k) 1) (9999 - y.2.1), y.2.2)) H1 (by rw [setR_k]; exact hN1) (List.getElem?_set_self hkk) (by decide) fun h2 N2 hN2 H2 => ⟨tw_K H2, s_counts (j := 3) H2 (by rw [setR_k]; exact hN2) (by decide) fun h3 N3 hN3 H3 => ?_⟩⟩
        rw [setR_R, setR_R] at H3
        rw [i32_succ]
        refine ih (k + 1) (by omega) h3 N3 _ ?_ H3
        rw [← incK_step hy]
        rw [e1] at hN3
        exact hN3
  exact loop g.pl.length 0 rfl h (S.2 0) u9 (by rw [incK_0]; exact hR) (by rw [setR_same]; exact H)
end
