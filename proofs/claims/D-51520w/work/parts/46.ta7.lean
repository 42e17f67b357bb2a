/-! the twin: what was tried is taken back -/
set_option maxRecDepth 100000
section
variable {G : GL} {d : Nat} {h0 h : AH} {m : Nat} {A : Nat → Nat} {S : TS} {g : GS} {Qx : Nat → AH → Prop}
theorem s_back {v : Int32} {K : Int32 → AH → Prop} (H : TWX h0 h m A S) (h1 : (S.2 0).length = 457) (h2 : (S.2 1).length = 457) (HK : ∀ h', TWX h0 h' m A (setR S 0 (cpW (S.2 0) 0 (S.2 1) 0 457)) → K v h') : MF G d mi_M_back 0 [.ref m, .int v, .retAddr 0] [] h (cI K Qx) := by
  refine b_M_back_0 ?_
  have loop : ∀ r k, r + k = 457 → ∀ hh, TWX h0 hh m A (setR S 0 (cpW (S.2 0) 0 (S.2 1) 0 k)) → MF G d mi_M_back 2 [.ref m, .int v, .int (i32 k)] [] hh (cI K Qx) := by
    intro r
    induction r with
    | zero =>
      intro k hk hh HH
      have : k = 457 := by omega
      subst this
      exact b_M_back_2 ⟨fun _ => cI_mk (HK _ HH), fun hn => absurd ((i32_le (a := 457) (by omega) (by omega)).mpr (Nat.le_refl _)) hn⟩
    | succ r ih =>
      intro k hk hh HH
      refine b_M_back_2 ⟨fun hn => absurd ((i32_le (a := 457) (by omega) (by omega)).mp hn) (by omega), fun _ => tw_R HH (by decide) rfl (tw_g (k := 1) HH (by decide) rfl (by decide) rfl (by omega) (x := (S.2 1).getD k 0) (by rw [setR_n (by decide)]; exact getD_some (by omega)) (dR_of (tw_pA (k := 0) HH rfl (by decide) rfl (by omega) (by rw [setR_k, cpW_len]; omega) fun h' H' => ?_)))⟩
      rw [i32_succ]
      refine ih (k + 1) (by omega) h' ?_
      rw [setR_R, setR_k] at H'
      have e9 := cpW_step (dst := S.2 0) (src := S.2 1) (o := 0) (so := 0) (k := k) (by omega)
      simp only [Nat.zero_add] at e9
      rw [e9] at H'
      exact H'
  exact loop 457 0 rfl h (by rw [cpW_0, setR_same]; exact H)
/-- a whole copy -/
theorem cpW_all {dst src : List Int32} (h1 : dst.length = 457) (h2 : src.length = 457) : cpW dst 0 src 0 457 = src := by
  apply List.ext_getElem?
  intro j
  by_cases hj : j < 457
  · rw [cpW_at (by omega), if_pos (by omega), getD_some (by omega), Nat.zero_add, Nat.sub_zero]
  · rw [List.getElem?_eq_none (by rw [cpW_len]; omega), List.getElem?_eq_none (by omega)]
end
