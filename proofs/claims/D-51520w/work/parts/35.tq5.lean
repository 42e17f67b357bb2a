/-! the twin: the row is changed -/
set_option maxRecDepth 100000
theorem gS_n {l : List Int32} {i j : Nat} {v : Int32} (h : i ≠ j) : (l.set i v)[j]? = l[j]? := List.getElem?_set_ne h
theorem gS_e {l : List Int32} {i : Nat} {v : Int32} (h : i < l.length) : (l.set i v)[i]? = some v := List.getElem?_set_self h
theorem setR_R {S : TS} {k : Nat} {l l' : List Int32} : setR (setR S k l) k l' = setR S k l' := by
  unfold setR
  congr 1
  funext j
  by_cases ej : j = k <;> simp [ej]
theorem setR_same {S : TS} {k : Nat} : setR S k (S.2 k) = S := by
  unfold setR
  have : (fun j => if j = k then S.2 k else S.2 j) = S.2 := by
    funext j
    by_cases ej : j = k <;> simp [ej]
  rw [this]
def GS.wH (g : GS) (l : List HS) : GS := (g.1, g.2.1, g.2.2.1, l)
def GS.wC (g : GS) (l : List CS) : GS := (g.1, g.2.1, l, g.2.2.2)
def GS.wP (g : GS) (l : List PL) : GS := (g.1, l, g.2.2.1, g.2.2.2)
def GS.wN (g : GS) (j : Nat) (x : Int32) : GS := (fun i => if i = j then x else g.1 i, g.2.1, g.2.2.1, g.2.2.2)
theorem TR_num {N : List Int32} {g : GS} {j : Nat} {x : Int32} (hR : TR N g) (hj : j < 18) (h2 : j ≠ 2) (h3 : j ≠ 3) (h10 : j ≠ 10) : TR (N.set j x) (g.wN j x) := by
  obtain ⟨r1, r2, r3, r4, r5, r6, r7, r8⟩ := hR
  refine ⟨by rw [List.length_set]; exact r1, r2, r3, r4, fun i hi => ?_, fun k y hk i hi => ?_, fun k y hk i hi => ?_, fun k y hk i hi => ?_⟩
  · by_cases e : j = i
    · subst e
      rw [gS_e (by omega)]
      simp [rowN, h2, h3, h10, GS.ns, GS.wN]
    · rw [gS_n e, r5 i hi]
      simp only [rowN, GS.ns, GS.wN, GS.pl, GS.ct, GS.hd, if_neg (Ne.symm e)]
  · rw [gS_n (by omega)]; exact r6 k y hk i hi
  · rw [gS_n (by omega)]; exact r7 k y hk i hi
  · rw [gS_n (by omega)]; exact r8 k y hk i hi
theorem TR_player {N : List Int32} {g : GS} {k j : Nat} {x : PL} {v : Int32} (hR : TR N g) (hx : g.pl[k]? = some x) (hj : j < 3) : TR (N.set (18 + 3 * k + j) v) (g.wP (g.pl.set k (if j = 0 then (v, x.2.1, x.2.2) else if j = 1 then (x.1, v, x.2.2) else (x.1, x.2.1, v)))) := by
  obtain ⟨r1, r2, r3, r4, r5, r6, r7, r8⟩ := hR
  have hk9 : k < g.pl.length := (List.getElem?_eq_some_iff.mp hx).1
  refine ⟨by rw [List.length_set]; exact r1, by show (g.pl.set k _).length ≤ 5; rw [List.length_set]; exact r2, r3, r4, fun i hi => ?_, fun q y hq i hi => ?_, fun q y hq i hi => ?_, fun q y hq i hi => ?_⟩
  · rw [gS_n (by omega), r5 i hi]
    simp only [rowN, GS.ns, GS.wP, GS.pl, GS.ct, GS.hd, List.length_set]
  · have hq' : (g.pl.set k (if j = 0 then (v, x.2.1, x.2.2) else if j = 1 then (x.1, v, x.2.2) else (x.1, x.2.1, v)))[q]? = some y := hq
    by_cases e : k = q
    · subst e
      rw [List.getElem?_set_self hk9] at hq'
      have hy := Option.some.inj hq'
      subst hy
      have hb := r6 k x hx i hi
      have hc : i = 0 ∨ i = 1 ∨ i = 2 := by omega
      have hc2 : j = 0 ∨ j = 1 ∨ j = 2 := by omega
      by_cases e : j = i
      · subst e
        rw [gS_e (by omega)]
        rcases hc with rfl | rfl | rfl <;> rfl
      · rw [gS_n (by omega), hb]
        rcases hc with rfl | rfl | rfl <;> rcases hc2 with rfl | rfl | rfl <;> first | rfl | exact absurd rfl e
    · rw [List.getElem?_set_ne e] at hq'
      rw [gS_n (by omega)]
      exact r6 q y hq' i hi
  · have := (List.getElem?_eq_some_iff.mp hq).1
    rw [gS_n (by omega)]; exact r7 q y hq i hi
  · rw [gS_n (by omega)]; exact r8 q y hq i hi
/-- a stone more at the end of those held -/
theorem TR_gives {N : List Int32} {g : GS} {f n p v : Int32} (hR : TR N g) (hl : g.hd.length ≤ 60) :
    TR (((((N.set (213 + 4 * g.hd.length + 0) f).set (213 + 4 * g.hd.length + 1) n).set (213 + 4 * g.hd.length + 2) p).set (213 + 4 * g.hd.length + 3) v).set 10 (i32 (g.hd.length + 1))) (g.wH (g.hd ++ [(f, n, p, v)])) := by
  obtain ⟨r1, r2, r3, r4, r5, r6, r7, r8⟩ := hR
  refine ⟨by simp only [List.length_set]; exact r1, r2, r3, by show (g.hd ++ [_]).length ≤ 61; simp; omega, fun i hi => ?_, fun q y hq i hi => ?_, fun q y hq i hi => ?_, fun q y hq i hi => ?_⟩
  · by_cases e : i = 10
    · subst e
      rw [gS_e (by simp only [List.length_set]; omega)]
      simp [rowN, GS.hd, GS.wH]
    · rw [gS_n (Ne.symm e), gS_n (by omega), gS_n (by omega), gS_n (by omega), gS_n (by omega), r5 i hi]
      simp only [rowN, GS.ns, GS.wH, GS.pl, GS.ct, GS.hd, if_neg e]
  · have := (List.getElem?_eq_some_iff.mp hq).1
    have hq2 : q < g.pl.length := this
    rw [gS_n (by omega), gS_n (by omega), gS_n (by omega), gS_n (by omega), gS_n (by omega)]; exact r6 q y hq i hi
  · have := (List.getElem?_eq_some_iff.mp hq).1
    have hq2 : q < g.ct.length := this
    rw [gS_n (by omega), gS_n (by omega), gS_n (by omega), gS_n (by omega), gS_n (by omega)]; exact r7 q y hq i hi
  · have hq' : (g.hd ++ [(f, n, p, v)])[q]? = some y := hq
    by_cases e : q < g.hd.length
    · rw [List.getElem?_append_left e] at hq'
      rw [gS_n (by omega), gS_n (by omega), gS_n (by omega), gS_n (by omega), gS_n (by omega)]; exact r8 q y hq' i hi
    · have hlt := (List.getElem?_eq_some_iff.mp hq').1
      simp only [List.length_append, List.length_singleton] at hlt
      have e2 : q = g.hd.length := by omega
      subst e2
      have hy : (f, n, p, v) = y := by simpa using hq'
      subst hy
      rw [gS_n (by omega)]
      have hc : i = 0 ∨ i = 1 ∨ i = 2 ∨ i = 3 := by omega
      rcases hc with rfl | rfl | rfl | rfl
      · rw [gS_n (by omega), gS_n (by omega), gS_n (by omega), gS_e (by omega)]; rfl
      · rw [gS_n (by omega), gS_n (by omega), gS_e (by simp only [List.length_set]; omega)]; rfl
      · rw [gS_n (by omega), gS_e (by simp only [List.length_set]; omega)]; rfl
      · rw [gS_e (by simp only [List.length_set]; omega)]; rfl
theorem TR_toEnd {N : List Int32} {g : GS} {f n t : Int32} (hR : TR N g) (hl : g.ct.length ≤ 59) :
    TR ((((N.set (33 + 3 * g.ct.length + 0) f).set (33 + 3 * g.ct.length + 1) n).set (33 + 3 * g.ct.length + 2) t).set 3 (i32 (g.ct.length + 1))) (g.wC (g.ct ++ [(f, n, t)])) := by
  obtain ⟨r1, r2, r3, r4, r5, r6, r7, r8⟩ := hR
  refine ⟨by simp only [List.length_set]; exact r1, r2, by show (g.ct ++ [_]).length ≤ 60; simp; omega, r4, fun i hi => ?_, fun q y hq i hi => ?_, fun q y hq i hi => ?_, fun q y hq i hi => ?_⟩
  · by_cases e : i = 3
    · subst e
      rw [gS_e (by simp only [List.length_set]; omega)]
      simp [rowN, GS.ct, GS.wC]
    · rw [gS_n (Ne.symm e), gS_n (by omega), gS_n (by omega), gS_n (by omega), r5 i hi]
      simp only [rowN, GS.ns, GS.wC, GS.pl, GS.ct, GS.hd, if_neg e]
  · have := (List.getElem?_eq_some_iff.mp hq).1
    have hq2 : q < g.pl.length := this
    rw [gS_n (by omega), gS_n (by omega), gS_n (by omega), gS_n (by omega)]; exact r6 q y hq i hi
  · have hq' : (g.ct ++ [(f, n, t)])[q]? = some y := hq
    by_cases e : q < g.ct.length
    · rw [List.getElem?_append_left e] at hq'
      rw [gS_n (by omega), gS_n (by omega), gS_n (by omega), gS_n (by omega)]; exact r7 q y hq' i hi
    · have hlt := (List.getElem?_eq_some_iff.mp hq').1
      simp only [List.length_append, List.length_singleton] at hlt
      have e2 : q = g.ct.length := by omega
      subst e2
      have hy : (f, n, t) = y := by simpa using hq'
      subst hy
      rw [gS_n (by omega)]
      have hc : i = 0 ∨ i = 1 ∨ i = 2 := by omega
      rcases hc with rfl | rfl | rfl
      · rw [gS_n (by omega), gS_n (by omega), gS_e (by omega)]; rfl
      · rw [gS_n (by omega), gS_e (by simp only [List.length_set]; omega)]; rfl
      · rw [gS_e (by simp only [List.length_set]; omega)]; rfl
  · have := (List.getElem?_eq_some_iff.mp hq).1
    have hq2 : q < g.hd.length := this
    rw [gS_n (by omega), gS_n (by omega), gS_n (by omega), gS_n (by omega)]; exact r8 q y hq i hi
section
variable {G : GL} {d : Nat} {h0 h : AH} {m : Nat} {A : Nat → Nat} {S : TS} {g : GS} {Qx : Nat → AH → Prop}
theorem s_puts {k j : Nat} {x : PL} {v : Int32} {K : AH → Prop} (H : TWX h0 h m A S) (hR : TR (S.2 0) g) (hx : g.pl[k]? = some x) (hj : j < 3) (HK : ∀ h' N', TR N' (g.wP (g.pl.set k (if j = 0 then (v, x.2.1, x.2.2) else if j = 1 then (x.1, v, x.2.2) else (x.1, x.2.1, v)))) → TWX h0 h' m A (setR S 0 N') → K h') : MF G d mi_M_puts 0 [.ref m, .int (i32 k), .int (i32 j), .int v] [] h (cV K Qx) := by
  have hk : k < g.pl.length := (List.getElem?_eq_some_iff.mp hx).1
  have h5 := hR.2.1
  exact b_M_puts_0 (tw_RR H (by decide) rfl (tw_pA H rfl (by decide) (ix3 18 k j) (by omega) (by rw [hR.1]; omega) fun h' H' => cV_mk (HK h' _ (TR_player hR hx hj) H')))
theorem s_counts {j : Nat} {v : Int32} {K : AH → Prop} (H : TWX h0 h m A S) (hR : TR (S.2 0) g) (hj : j < 7) (HK : ∀ h' N', TR N' (g.wN (11 + j) (g.ns (11 + j) + v)) → TWX h0 h' m A (setR S 0 N') → K h') : MF G d mi_M_counts 0 [.ref m, .int (i32 j), .int v] [] h (cV K Qx) := by
  have h457 := hR.1
  have e11 : (11 : Int32) + i32 j = i32 (11 + j) := i32_add 11 j
  refine b_M_counts_0 (tw_RR (k := 0) H (by decide) rfl (tw_aI (k := 0) H rfl (by decide) e11 (by omega) (hR.2.2.2.2.1 (11 + j) (by omega)) ?_))
  refine tw_pA (k := 0) H rfl (by decide) e11 (by omega) (by omega) fun h' H' => cV_mk (HK h' _ ?_ H')
  have e : rowN g (11 + j) = g.ns (11 + j) := by
    unfold rowN
    rw [if_neg (by omega), if_neg (by omega), if_neg (by omega)]
  rw [e]
  exact TR_num hR (by omega) (by omega) (by omega) (by omega)
theorem s_gives {p f n v : Int32} {K : AH → Prop} (H : TWX h0 h m A S) (hR : TR (S.2 0) g) (hl : g.hd.length ≤ 60) (HK : ∀ h' N', TR N' (g.wH (g.hd ++ [(f, n, p, v)])) → TWX h0 h' m A (setR S 0 N') → K h') : MF G d mi_M_gives 0 [.ref m, .int p, .int f, .int n, .int v, .retAddr 0] [] h (cV K Qx) := by
  have h457 := hR.1
  refine b_M_gives_0 (tw_n (j := 10) H hR (by decide) ?_)
  refine tw_RR H (by decide) rfl (tw_pA H rfl (by decide) (ix4 213 g.hd.length 0) (by omega) (by omega) fun h1 H1 => ?_)
  refine tw_RR H1 (by decide) rfl (tw_pA H1 rfl (by decide) (ix4 213 g.hd.length 1) (by omega) (by rw [setR_k, List.length_set]; omega) fun h2 H2 => ?_)
  rw [setR_R, setR_k] at H2
  refine tw_RR H2 (by decide) rfl (tw_pA H2 rfl (by decide) (ix4 213 g.hd.length 2) (by omega) (by rw [setR_k]; simp only [List.length_set]; omega) fun h3 H3 => ?_)
  rw [setR_R, setR_k] at H3
  refine tw_RR H3 (by decide) rfl (tw_pA H3 rfl (by decide) (ix4 213 g.hd.length 3) (by omega) (by rw [setR_k]; simp only [List.length_set]; omega) fun h4 H4 => ?_)
  rw [setR_R, setR_k] at H4
  have hten : (setR S 0 (((((S.2 0).set (213 + 4 * g.hd.length + 0) f).set (213 + 4 * g.hd.length + 1) n).set (213 + 4 * g.hd.length + 2) p).set (213 + 4 * g.hd.length + 3) v)).2 0 = ((((S.2 0).set (213 + 4 * g.hd.length + 0) f).set (213 + 4 * g.hd.length + 1) n).set (213 + 4 * g.hd.length + 2) p).set (213 + 4 * g.hd.length + 3) v := setR_k
  refine tw_RR (k := 0) H4 (by decide) rfl (tw_aI (k := 0) H4 rfl (by decide) (n := 10) rfl (by omega) (x := i32 g.hd.length) (by rw [hten, gS_n (by omega), gS_n (by omega), gS_n (by omega), gS_n (by omega)]; exact hR.2.2.2.2.1 10 (by decide)) ?_)
  refine tw_pA H4 rfl (by decide) (n := 10) rfl (by omega) (by rw [hten]; simp only [List.length_set]; omega) fun h5 H5 => cV_mk ?_
  rw [setR_R, hten, i32_succ] at H5
  exact HK h5 _ (TR_gives hR hl) H5
theorem s_toEnd {f n t : Int32} {K : AH → Prop} (H : TWX h0 h m A S) (hR : TR (S.2 0) g) (hl : g.ct.length ≤ 59) (HK : ∀ h' N', TR N' (g.wC (g.ct ++ [(f, n, t)])) → TWX h0 h' m A (setR S 0 N') → K h') : MF G d mi_M_toEnd 0 [.ref m, .int f, .int n, .int t, .retAddr 0] [] h (cV K Qx) := by
  have h457 := hR.1
  refine b_M_toEnd_0 (tw_n (j := 3) H hR (by decide) ?_)
  refine tw_RR H (by decide) rfl (tw_pA H rfl (by decide) (ix3 33 g.ct.length 0) (by omega) (by omega) fun h1 H1 => ?_)
  refine tw_RR H1 (by decide) rfl (tw_pA H1 rfl (by decide) (ix3 33 g.ct.length 1) (by omega) (by rw [setR_k, List.length_set]; omega) fun h2 H2 => ?_)
  rw [setR_R, setR_k] at H2
  refine tw_RR H2 (by decide) rfl (tw_pA H2 rfl (by decide) (ix3 33 g.ct.length 2) (by omega) (by rw [setR_k]; simp only [List.length_set]; omega) fun h3 H3 => ?_)
  rw [setR_R, setR_k] at H3
  have hten : (setR S 0 ((((S.2 0).set (33 + 3 * g.ct.length + 0) f).set (33 + 3 * g.ct.length + 1) n).set (33 + 3 * g.ct.length + 2) t)).2 0 = (((S.2 0).set (33 + 3 * g.ct.length + 0) f).set (33 + 3 * g.ct.length + 1) n).set (33 + 3 * g.ct.length + 2) t := setR_k
  refine tw_RR (k := 0) H3 (by decide) rfl (tw_aI (k := 0) H3 rfl (by decide) (n := 3) rfl (by omega) (x := i32 g.ct.length) (by rw [hten, gS_n (by omega), gS_n (by omega), gS_n (by omega)]; exact hR.2.2.2.2.1 3 (by decide)) ?_)
  refine tw_pA H3 rfl (by decide) (n := 3) rfl (by omega) (by rw [hten]; simp only [List.length_set]; omega) fun h5 H5 => cV_mk ?_
  rw [setR_R, hten, i32_succ] at H5
  exact HK h5 _ (TR_toEnd hR hl) H5
end
