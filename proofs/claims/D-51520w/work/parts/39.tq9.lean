/-! the twin: states kept; refusals -/
set_option maxRecDepth 100000
def tLen (k : Nat) : Nat := if k ≤ 2 then 457 else if k = 3 then 3656 else if k = 4 then 914 else if k = 5 then 2 else if k = 9 then 500 else if k ≤ 21 then 30 else if k = 26 then 400 else 8
def TL (S : TS) : Prop := ∀ k, isA k = true → (S.2 k).length = tLen k
theorem TL_setF {S : TS} {k : Nat} {x : Int32} (h : TL S) : TL (setF S k x) := h
theorem TL_setR {S : TS} {k : Nat} {l : List Int32} (h : TL S) (hl : l.length = tLen k) : TL (setR S k l) := fun j hj => by
  by_cases e : j = k
  · subst e; rw [setR_k]; exact hl
  · rw [setR_n e]; exact h j hj
def seg (E : List Int32) (o : Nat) : List Int32 := (List.range 457).map fun j => E.getD (o + j) 0
theorem seg_len {E : List Int32} {o : Nat} : (seg E o).length = 457 := by simp [seg]
theorem seg_at {E : List Int32} {o j : Nat} (hj : j < 457) : (seg E o)[j]? = some (E.getD (o + j) 0) := by
  unfold seg
  rw [List.getElem?_map, List.getElem?_range hj]
  rfl
theorem seg_eq {E N : List Int32} {o : Nat} (hN : N.length = 457) (h : ∀ j, j < 457 → E.getD (o + j) 0 = N.getD j 0) : seg E o = N := by
  apply List.ext_getElem?
  intro j
  by_cases hj : j < 457
  · rw [seg_at hj, h j hj, getD_some (by omega)]
  · rw [List.getElem?_eq_none (by rw [seg_len]; omega), List.getElem?_eq_none (by omega)]
theorem seg_seg {E E' : List Int32} {o o' : Nat} (h : ∀ j, j < 457 → E.getD (o + j) 0 = E'.getD (o' + j) 0) : seg E o = seg E' o' := by
  unfold seg
  apply List.map_congr_left
  intro j hj
  exact h j (List.mem_range.mp hj)
/-- the states kept in a row of rows -/
def TPast (E : List Int32) (ps : List GS) : Prop := ∀ i g, ps[i]? = some g → TR (seg E (457 * i)) g
theorem cpW_getD {dst src : List Int32} {o so k j : Nat} (hj : j < dst.length) : (cpW dst o src so k).getD j 0 = if o ≤ j ∧ j < o + k then src.getD (so + (j - o)) 0 else dst.getD j 0 := by
  rw [List.getD_eq_getElem?_getD, cpW_at hj]
  rfl
def kept (ps : List GS) (g : GS) : List GS := (if ps.length = 8 then ps.tail else ps) ++ [g]
section
variable {G : GL} {d : Nat} {h0 h : AH} {m : Nat} {A : Nat → Nat} {S : TS} {g : GS} {Qx : Nat → AH → Prop}
theorem s_keeps1 {u : Nat} {K : AH → Prop} (H : TWX h0 h m A S) (hu : S.1 6 = i32 u) (hu7 : u ≤ 7) (h1 : (S.2 0).length = 457) (h2 : (S.2 3).length = 3656) (HK : ∀ h', TWX h0 h' m A (setF (setR S 3 (cpW (S.2 3) (457 * u) (S.2 0) 0 457)) 6 (i32 (u + 1))) → K h') : MF G d mi_M_keeps 52 [.ref m, .int 0] [] h (cV K Qx) := by
  have loop : ∀ r k, r + k = 457 → ∀ hh, TWX h0 hh m A (setR S 3 (cpW (S.2 3) (457 * u) (S.2 0) 0 k)) → MF G d mi_M_keeps 52 [.ref m, .int (i32 k)] [] hh (cV K Qx) := by
    intro r
    induction r with
    | zero =>
      intro k hk hh HH
      have : k = 457 := by omega
      subst this
      refine b_M_keeps_52 ⟨fun _ => tw_I HH (by decide) rfl (tw_F HH (by decide) rfl fun h' H' => cV_mk (HK h' ?_)), fun hn => absurd ((i32_le (a := 457) (by omega) (by omega)).mpr (Nat.le_refl _)) hn⟩
      rw [show (setR S 3 (cpW (S.2 3) (457 * u) (S.2 0) 0 457)).1 6 = i32 u from hu, i32_succ] at H'
      exact H'
    | succ r ih =>
      intro k hk hh HH
      have e1 : (457 : Int32) * i32 u + i32 k = i32 (457 * u + k) := by
        show i32 457 * i32 u + i32 k = _
        rw [i32_mul, i32_add]
      refine b_M_keeps_52 ⟨fun hn => absurd ((i32_le (a := 457) (by omega) (by omega)).mp hn) (by omega), fun _ => tw_R HH (by decide) rfl (tw_I HH (by decide) rfl (tw_g (k := 0) HH (by decide) rfl (by decide) rfl (by omega) (x := (S.2 0).getD k 0) (by rw [setR_n (by decide)]; exact getD_some (by omega)) (dR_of ?_)))⟩
      rw [show (setR S 3 (cpW (S.2 3) (457 * u) (S.2 0) 0 k)).1 6 = i32 u from hu, e1]
      refine tw_pA (k := 3) HH rfl (by decide) rfl (by omega) (by rw [setR_k, cpW_len]; omega) fun h' H' => ?_
      rw [i32_succ]
      refine ih (k + 1) (by omega) h' ?_
      rw [setR_R, setR_k] at H'
      have e9 := cpW_step (dst := S.2 3) (src := S.2 0) (o := 457 * u) (so := 0) (k := k) (by omega)
      simp only [Nat.zero_add] at e9
      rw [e9] at H'
      exact H'
  exact loop 457 0 rfl h (by rw [cpW_0, setR_same]; exact H)
theorem s_keeps0 {K : AH → Prop} (H : TWX h0 h m A S) (hu : S.1 6 = i32 8) (h1 : (S.2 0).length = 457) (h2 : (S.2 3).length = 3656) (HK : ∀ h', TWX h0 h' m A (setF (setR S 3 (cpW (S.2 3) 0 (S.2 3) 457 3199)) 6 (i32 7)) → MF G d mi_M_keeps 52 [.ref m, .int 0] [] h' (cV K Qx)) : MF G d mi_M_keeps 11 [.ref m, .int 0] [] h (cV K Qx) := by
  have loop : ∀ r k, r + k = 3199 → ∀ hh, TWX h0 hh m A (setR S 3 (cpW (S.2 3) 0 (S.2 3) 457 k)) → MF G d mi_M_keeps 11 [.ref m, .int (i32 k)] [] hh (cV K Qx) := by
    intro r
    induction r with
    | zero =>
      intro k hk hh HH
      have : k = 3199 := by omega
      subst this
      refine b_M_keeps_11 ⟨fun _ => tw_I HH (by decide) rfl (tw_F HH (by decide) rfl fun h' H' => HK h' ?_), fun hn => absurd ((i32_le (a := 3199) (by omega) (by omega)).mpr (Nat.le_refl _)) hn⟩
      rw [show (setR S 3 (cpW (S.2 3) 0 (S.2 3) 457 3199)).1 6 = i32 8 from hu, i32_pred (a := 7)] at H'
      exact H'
    | succ r ih =>
      intro k hk hh HH
      refine b_M_keeps_11 ⟨fun hn => absurd ((i32_le (a := 3199) (by omega) (by omega)).mp hn) (by omega), fun _ => tw_R HH (by decide) rfl (tw_RR (k := 3) HH (by decide) rfl (tw_aI (k := 3) HH rfl (by decide) (n := k + 457) (x := (S.2 3).getD (457 + k) 0) (i32_add k 457) (by omega) ?_ (dR_of (tw_pA (k := 3) HH rfl (by decide) rfl (by omega) (by rw [setR_k, cpW_len]; omega) fun h' H' => ?_))))⟩
      · rw [setR_k, cpW_at (by omega), if_neg (by omega), Nat.add_comm]
      · rw [i32_succ]
        refine ih (k + 1) (by omega) h' ?_
        rw [setR_R, setR_k] at H'
        have e9 := cpW_step (dst := S.2 3) (src := S.2 3) (o := 0) (so := 457) (k := k) (by omega)
        simp only [Nat.zero_add] at e9
        rw [e9] at H'
        exact H'
  exact loop 3199 0 rfl h (by rw [cpW_0, setR_same]; exact H)
theorem past_add {E N : List Int32} {ps : List GS} (hE : E.length = 3656) (hN : N.length = 457) (hR : TR N g) (hP : TPast E ps) (hl : ps.length ≤ 7) : TPast (cpW E (457 * ps.length) N 0 457) (ps ++ [g]) := by
  intro i x hx
  by_cases hi : i < ps.length
  · rw [List.getElem?_append_left hi] at hx
    have h9 := hP i x hx
    rw [seg_seg (E := cpW E (457 * ps.length) N 0 457) (E' := E) (o := 457 * i) (o' := 457 * i) fun j hj => by rw [cpW_getD (by omega), if_neg (by omega)]]
    exact h9
  · have hlt := (List.getElem?_eq_some_iff.mp hx).1
    simp only [List.length_append, List.length_singleton] at hlt
    have e : i = ps.length := by omega
    subst e
    have hy : g = x := by simpa using hx
    subst hy
    rw [seg_eq hN fun j hj => by rw [cpW_getD (by omega), if_pos (by omega)]; congr 1; omega]
    exact hR
theorem past_tail {E : List Int32} {ps : List GS} (hE : E.length = 3656) (hP : TPast E ps) (hl : ps.length = 8) : TPast (cpW E 0 E 457 3199) ps.tail := by
  intro i x hx
  rw [List.getElem?_tail] at hx
  have hlt := (List.getElem?_eq_some_iff.mp hx).1
  have h9 := hP (i + 1) x hx
  rw [seg_seg (E := cpW E 0 E 457 3199) (E' := E) (o := 457 * i) (o' := 457 * (i + 1)) fun j hj => by rw [cpW_getD (by omega), if_pos (by omega)]; congr 1; omega]
  exact h9
theorem s_keeps {ps : List GS} {K : AH → Prop} (H : TWX h0 h m A S) (hL : TL S) (hR : TR (S.2 0) g) (hu : S.1 6 = i32 ps.length) (hl : ps.length ≤ 8) (hP : TPast (S.2 3) ps) (HK : ∀ h' E', TPast E' (kept ps g) → E'.length = 3656 → TWX h0 h' m A (setF (setR S 3 E') 6 (i32 (kept ps g).length)) → K h') : MF G d mi_M_keeps 0 [.ref m, .retAddr 0] [] h (cV K Qx) := by
  have h1 : (S.2 0).length = 457 := hL 0 rfl
  have h2 : (S.2 3).length = 3656 := hL 3 rfl
  refine b_M_keeps_0 (tw_I H (by decide) rfl ?_)
  rw [hu]
  refine ⟨fun hne => ?_, fun he => ?_⟩
  · have h8 : ¬ ps.length = 8 := fun e => hne (by rw [e]; rfl)
    have hk : kept ps g = ps ++ [g] := by rw [kept, if_neg h8]
    refine s_keeps1 H hu (by omega) h1 h2 fun h' H' => HK h' (cpW (S.2 3) (457 * ps.length) (S.2 0) 0 457) ?_ (by rw [cpW_len]; exact h2) ?_
    · rw [hk]; exact past_add h2 h1 hR hP (by omega)
    · rw [hk, List.length_append, List.length_singleton]; exact H'
  · have h8 : ps.length = 8 := (i32_eq (b := 8) (by omega) (by omega)).mp he
    have hk : kept ps g = ps.tail ++ [g] := by rw [kept, if_pos h8]
    rw [h8] at hu
    refine s_keeps0 H hu h1 h2 fun h' H' => ?_
    refine s_keeps1 H' setF_1 (by omega) (by rw [setF_2, setR_n (by decide)]; exact h1) (by rw [setF_2, setR_k, cpW_len]; exact h2) fun h2' H2 => ?_
    have ht : ps.tail.length = 7 := by rw [List.length_tail]; omega
    refine HK h2' (cpW (cpW (S.2 3) 0 (S.2 3) 457 3199) (457 * 7) (S.2 0) 0 457) ?_ (by rw [cpW_len, cpW_len]; exact h2) ?_
    · rw [hk]
      have h9 := past_add (g := g) (E := cpW (S.2 3) 0 (S.2 3) 457 3199) (by rw [cpW_len]; exact h2) h1 hR (past_tail h2 hP h8) (by omega)
      rw [ht] at h9
      exact h9
    · rw [hk, List.length_append, ht]
      have e : setF (setR (setF (setR S 3 (cpW (S.2 3) 0 (S.2 3) 457 3199)) 6 (i32 7)) 3 (cpW ((setF (setR S 3 (cpW (S.2 3) 0 (S.2 3) 457 3199)) 6 (i32 7)).2 3) (457 * 7) ((setF (setR S 3 (cpW (S.2 3) 0 (S.2 3) 457 3199)) 6 (i32 7)).2 0) 0 457)) 6 (i32 (7 + 1)) = setF (setR S 3 (cpW (cpW (S.2 3) 0 (S.2 3) 457 3199) (457 * 7) (S.2 0) 0 457)) 6 (i32 (7 + [g].length)) := by
        rw [setF_2, setR_k, setR_n (by decide)]
        unfold setF setR
        dsimp only [List.length_singleton]
        congr 1
        · funext j
          by_cases ej : j = 6 <;> simp [ej]
        · funext j
          by_cases ej : j = 3 <;> simp [ej]
      rw [e] at H2
      exact H2
theorem s_refuses {v : Int32} {K : Int32 → AH → Prop} (H : TWX h0 h m A S) (HK : ∀ h', TWX h0 h' m A (setF (setF S 7 (S.1 7 + 1)) 25 1) → K v h') : MF G d mi_M_refuses 0 [.ref m, .int v] [] h (cI K Qx) :=
  b_M_refuses_0 (tw_I H (by decide) rfl (tw_F H (by decide) rfl fun _ H1 => ⟨by decide, rfl, tw_F H1 (by decide) rfl fun h' H2 => cI_mk (HK h' H2)⟩))
end
