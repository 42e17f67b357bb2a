/-! the twin: two stones change hands -/
set_option maxRecDepth 100000
def up4 (x : HS) (j : Nat) (v : Int32) : HS := if j = 0 then (v, x.2.1, x.2.2.1, x.2.2.2) else if j = 1 then (x.1, v, x.2.2.1, x.2.2.2) else if j = 2 then (x.1, x.2.1, v, x.2.2.2) else (x.1, x.2.1, x.2.2.1, v)
theorem TR_held {N : List Int32} {g : GS} {k j : Nat} {x : HS} {v : Int32} (hR : TR N g) (hx : g.hd[k]? = some x) (hj : j < 4) : TR (N.set (213 + 4 * k + j) v) (g.wH (g.hd.set k (up4 x j v))) := by
  obtain ⟨r1, r2, r3, r4, r5, r6, r7, r8⟩ := hR
  have hk9 : k < g.hd.length := (List.getElem?_eq_some_iff.mp hx).1
  refine ⟨by rw [List.length_set]; exact r1, r2, r3, by show (g.hd.set k _).length ≤ 61; rw [List.length_set]; exact r4, fun i hi => ?_, fun q y hq i hi => ?_, fun q y hq i hi => ?_, fun q y hq i hi => ?_⟩
  · rw [gS_n (by omega), r5 i hi]
    simp only [rowN, GS.ns, GS.wH, GS.pl, GS.ct, GS.hd, List.length_set]
  · have hq2 : q < g.pl.length := (List.getElem?_eq_some_iff.mp hq).1
    rw [gS_n (by omega)]; exact r6 q y hq i hi
  · have hq2 : q < g.ct.length := (List.getElem?_eq_some_iff.mp hq).1
    rw [gS_n (by omega)]; exact r7 q y hq i hi
  · have hq' : (g.hd.set k (up4 x j v))[q]? = some y := hq
    by_cases e : k = q
    · subst e
      rw [List.getElem?_set_self hk9] at hq'
      have hy := Option.some.inj hq'
      subst hy
      have hb := r8 k x hx i hi
      have hc : i = 0 ∨ i = 1 ∨ i = 2 ∨ i = 3 := by omega
      have hc2 : j = 0 ∨ j = 1 ∨ j = 2 ∨ j = 3 := by omega
      by_cases e : j = i
      · subst e
        rw [gS_e (by omega)]
        rcases hc with rfl | rfl | rfl | rfl <;> rfl
      · rw [gS_n (by omega), hb]
        rcases hc with rfl | rfl | rfl | rfl <;> rcases hc2 with rfl | rfl | rfl | rfl <;> first | rfl | exact absurd rfl e
    · rw [List.getElem?_set_ne e] at hq'
      rw [gS_n (by omega)]
      exact r8 q y hq' i hi
