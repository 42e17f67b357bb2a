/-! ROWS: Math's three, System.arraycopy -/
set_option maxRecDepth 100000
section
variable {G : GL} {d pc : Nat} {y : MI} {L st : List Value} {h : AH} {Q : Out → AH → Prop}
theorem r_mmax {index : Nat} {x y9 : Int32} (hdg : decode y.2.1 pc = .ok (.invokestatic index, 3)) (hw : Cond.methodLink y.1.cls index Lib.Math.max.name ∈ lw_tbl) (hs : Cond.static Lib.Math.max.name ∈ lw_tbl) (hi : Cond.initialized "java/lang/Math" ∈ lw_tbl) (hc : Cond.code Lib.Math.max.name Lib.Math.max.code 2 (some .int) ∈ lw_tbl)
    (hLn : L.length = y.2.2.1) (hst : st.length ≤ 20) (kk : MF G (d + 1) y (pc + 3) L (.int (if x < y9 then y9 else x) :: st) h Q) : MF G (d + 1) y pc L (.int y9 :: .int x :: st) h Q := by
  intro p l e R s m as below meth c H locs cells slots ls hx hl hr hL
  refine W.tight fun hz hu => ?_
  have hK := hx.2.2.2.2.2.2.2.2.1
  obtain ⟨-, -, -, -, -, -, -, -, -, -, f1, f2, c1, c2, -⟩ := id hx
  obtain ⟨r1, r2, r3, r4, r5, r6⟩ := id hr
  have hsum := sum_cat st
  exact va_mmax hx.1 hx.2.1 (by rw [hL.1, hLn, hx.2.2.1]) hx.2.2.2.2.2.2.2.1 (hK.1 _ hw rfl as) (hK.1 _ hs rfl as) (hK.1 _ hi rfl as) (hK.1 _ hc rfl as) (by omega) (by omega) (by omega) (by omega) hdg (kk p l e R s m as below meth c H locs _ _ ls hx hl hr hL)
theorem r_mmin {index : Nat} {x y9 : Int32} (hdg : decode y.2.1 pc = .ok (.invokestatic index, 3)) (hw : Cond.methodLink y.1.cls index Lib.Math.min.name ∈ lw_tbl) (hs : Cond.static Lib.Math.min.name ∈ lw_tbl) (hi : Cond.initialized "java/lang/Math" ∈ lw_tbl) (hc : Cond.code Lib.Math.min.name Lib.Math.min.code 2 (some .int) ∈ lw_tbl)
    (hLn : L.length = y.2.2.1) (hst : st.length ≤ 20) (kk : MF G (d + 1) y (pc + 3) L (.int (if y9 < x then y9 else x) :: st) h Q) : MF G (d + 1) y pc L (.int y9 :: .int x :: st) h Q := by
  intro p l e R s m as below meth c H locs cells slots ls hx hl hr hL
  refine W.tight fun hz hu => ?_
  have hK := hx.2.2.2.2.2.2.2.2.1
  obtain ⟨-, -, -, -, -, -, -, -, -, -, f1, f2, c1, c2, -⟩ := id hx
  obtain ⟨r1, r2, r3, r4, r5, r6⟩ := id hr
  have hsum := sum_cat st
  exact va_mmin hx.1 hx.2.1 (by rw [hL.1, hLn, hx.2.2.1]) hx.2.2.2.2.2.2.2.1 (hK.1 _ hw rfl as) (hK.1 _ hs rfl as) (hK.1 _ hi rfl as) (hK.1 _ hc rfl as) (by omega) (by omega) (by omega) (by omega) hdg (kk p l e R s m as below meth c H locs _ _ ls hx hl hr hL)
theorem r_mabs {index : Nat} {x : Int32} (hdg : decode y.2.1 pc = .ok (.invokestatic index, 3)) (hw : Cond.methodLink y.1.cls index Lib.Math.abs.name ∈ lw_tbl) (hs : Cond.static Lib.Math.abs.name ∈ lw_tbl) (hi : Cond.initialized "java/lang/Math" ∈ lw_tbl) (hc : Cond.code Lib.Math.abs.name Lib.Math.abs.code 1 (some .int) ∈ lw_tbl)
    (hLn : L.length = y.2.2.1) (hst : st.length ≤ 20) (kk : MF G (d + 1) y (pc + 3) L (.int (if 0 ≤ x then x else 0 - x) :: st) h Q) : MF G (d + 1) y pc L (.int x :: st) h Q := by
  intro p l e R s m as below meth c H locs cells slots ls hx hl hr hL
  refine W.tight fun hz hu => ?_
  have hK := hx.2.2.2.2.2.2.2.2.1
  obtain ⟨-, -, -, -, -, -, -, -, -, -, f1, f2, c1, c2, -⟩ := id hx
  obtain ⟨r1, r2, r3, r4, r5, r6⟩ := id hr
  have hsum := sum_cat st
  exact va_mabs hx.1 hx.2.1 (by rw [hL.1, hLn, hx.2.2.1]) hx.2.2.2.2.2.2.2.1 (hK.1 _ hw rfl as) (hK.1 _ hs rfl as) (hK.1 _ hi rfl as) (hK.1 _ hc rfl as) (by omega) (by omega) (by omega) (by omega) hdg (kk p l e R s m as below meth c H locs _ _ ls hx hl hr hL)
end
