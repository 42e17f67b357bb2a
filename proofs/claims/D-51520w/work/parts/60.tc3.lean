/-! the twin: load -/
set_option maxRecDepth 100000
theorem i32_any (x : Int32) : ∃ k, x = i32 k := ⟨x.toUInt32.toNat, by
  unfold i32
  rw [← Int32.toBitVec_inj]
  simp⟩
section
variable {G : GL} {d : Nat} {h0 h : AH} {m : Nat} {A : Nat → Nat} {S : TS} {g : GS} {n : Nat} {p : PK} {Qx : Nat → AH → Prop}
theorem s_starts' {K : AH → Prop} (H : TWX h0 h m A S) (hL : TL S) (hf : S.1 10 = i32 n) (hn : n ≤ 500) (HK : ∀ h' x y z, TWX h0 h' m A (tP (st0 S) (nxt (S.2 9) n 100000 (0, x, y, z))) → K h') : MF G (d + 2) mi_M_starts 0 [.ref m] [] h (cV K Qx) := s_starts H hL hf hn HK (i32_any _)
/-- behind a load that worked -/
def ldO (S : TS) (N : List Int32) (S' : TS) : Prop := S'.2 0 = N ∧ S'.1 6 = 0 ∧ S'.1 7 = 0 ∧ S'.1 8 = 0 ∧ S'.1 10 = 0 ∧ S'.1 11 = -1 ∧ (S'.2 5)[0]? = some 0 ∧ (S'.2 5)[1]? = some 0 ∧ (∀ k, k ≠ 6 → k ≠ 7 → k ≠ 8 → k ≠ 10 → k ≠ 11 → ¬ (12 ≤ k ∧ k ≤ 16) → S'.1 k = S.1 k) ∧ (∀ k, k ≠ 0 → k ≠ 2 → k ≠ 5 → S'.2 k = S.2 k) ∧ TL S'
/-- behind one that failed -/
def ldE (S : TS) (q : Nat) (S' : TS) : Prop := S'.1 8 = 0 ∧ S'.1 10 = 0 ∧ S'.1 11 = i32 q ∧ (∀ k, k ≠ 8 → k ≠ 10 → k ≠ 11 → k ≠ 22 → ¬ (12 ≤ k ∧ k ≤ 16) → S'.1 k = S.1 k) ∧ (∀ k, k ≠ 2 → ¬ (17 ≤ k ∧ k ≤ 21) → S'.2 k = S.2 k) ∧ TL S'
theorem p_load {K : Int32 → AH → Prop} (h99 : S.1 99 = 0) (H : TWX h0 h m A S) (hL : TL S) (hf : S.1 10 = i32 n) (hn : n ≤ 500) (hK : SK G) (hs : STR G h) (Ho : ∀ x y z g' p', pSet (S.2 9) n 100000 g00 (nxt (S.2 9) n 100000 (0, x, y, z)) = .inr (g', p') → ∀ h' N S', TR N g' → TWX h0 h' m A S' → ldO S N S' → K (i32 g'.pl.length) h') (He : ∀ x y z c q, pSet (S.2 9) n 100000 g00 (nxt (S.2 9) n 100000 (0, x, y, z)) = .inl (c, q) → ∀ h' S', TWX h0 h' m A S' → ldE S q S' → K (-20 - c) h') : MF G (d + 10) mi_M_load 0 [.ref m, .retAddr 0] [] h (cI K Qx) := by
  have l0 : (S.2 0).length = 457 := hL 0 rfl
  have l2 : (S.2 2).length = 457 := hL 2 rfl
  refine b_M_load_0 (tw_F H (by decide) rfl fun h1 H1 => ?_)
  have hL1 : TL (setF S 8 0) := hL
  -- what is behind the copy
  have behind : ∀ hh, TWX h0 hh m A (setR (setR (setF S 8 0) 2 (S.2 0)) 0 (List.replicate 457 0)) → MF G (d + 10) mi_M_load 7 [.ref m, .int (i32 457)] [] hh (cI K Qx) := by
    intro hh HH
    have hLT : TL (setR (setR (setF S 8 0) 2 (S.2 0)) 0 (List.replicate 457 0)) := TL_setR (TL_setR hL1 (by exact l0)) (by simp [tLen])
    have b9 : (setR (setR (setF S 8 0) 2 (S.2 0)) 0 (List.replicate 457 0)).2 9 = S.2 9 := by rw [setR_n (by decide), setR_n (by decide)]; rfl
    have f10 : (setR (setR (setF S 8 0) 2 (S.2 0)) 0 (List.replicate 457 0)).1 10 = i32 n := by rw [setR_1, setR_1, setF_n (by decide)]; exact hf
    refine b_M_load_7 ⟨fun _ => ⟨tw_K HH, s_starts' HH hLT f10 hn fun h2 x y z H2 => ?_⟩, fun hn9 => absurd ((i32_le (a := 457) (by omega) (by omega)).mpr (Nat.le_refl _)) hn9⟩
    rw [b9] at H2
    have hs2 : STR G h2 := hs.tw H H2
    have hLT2 : TL (st0 (setR (setR (setF S 8 0) 2 (S.2 0)) 0 (List.replicate 457 0))) := hLT
    have b92 : (st0 (setR (setR (setF S 8 0) 2 (S.2 0)) 0 (List.replicate 457 0))).2 9 = S.2 9 := b9
    have f102 : (st0 (setR (setR (setF S 8 0) 2 (S.2 0)) 0 (List.replicate 457 0))).1 10 = i32 n := by unfold st0; rw [setF_n (by decide), setF_n (by decide)]; exact f10
    have c16 : (st0 (setR (setR (setF S 8 0) 2 (S.2 0)) 0 (List.replicate 457 0))).1 16 = 0 := by unfold st0; rw [setF_n (by decide), setF_1]
    have r0 : (st0 (setR (setR (setF S 8 0) 2 (S.2 0)) 0 (List.replicate 457 0))).2 0 = List.replicate 457 0 := (setR_k : (setR (setR (setF S 8 0) 2 (S.2 0)) 0 (List.replicate 457 0)).2 0 = List.replicate 457 0)
    refine ⟨tw_K H2, o_readsSetup (g := g00) (by unfold st0; rw [setF_n (by decide), setF_n (by decide), setR_1, setR_1, setF_n (by decide)]; exact h99) H2 hLT2 (by rw [r0]; exact TRZ_0) rfl rfl f102 hn (nxt_ok (Nat.zero_le _)).1 c16 hK hs2 (fun g' p' hg h3 N3 hN3 H3 => ?_) (fun c q hg h3 S3 H3 hE => ?_)⟩
    · rw [b92] at hg
      refine tw_F H3 (by decide) rfl fun h4 H4 => tw_I H4 (by decide) rfl ?_
      have e16 : (setF (tP (setR (st0 (setR (setR (setF S 8 0) 2 (S.2 0)) 0 (List.replicate 457 0))) 0 N3) p') 10 0).1 16 = 0 := by
        rw [setF_n (by decide), tP_r (by decide) (by decide) (by decide) (by decide)]; exact c16
      refine ⟨fun _ => ?_, fun hn9 => absurd e16 hn9⟩
      have l5 : ((setR (setR (setF S 8 0) 2 (S.2 0)) 0 (List.replicate 457 0)).2 5).length = 2 := hLT 5 rfl
      refine tw_F H4 (by decide) rfl fun h5 H5 => tw_F H5 (by decide) rfl fun h6 H6 => tw_R (k := 5) H6 (by decide) rfl (dR_of (tw_pZ (n := 0) H6 rfl (by decide) (by show 0 < ((setR (setR (setF S 8 0) 2 (S.2 0)) 0 (List.replicate 457 0)).2 5).length; omega) rfl fun h7 H7 => ?_))
      refine tw_R (k := 5) H7 (by decide) rfl (dR_of (tw_pZ (n := 1) H7 rfl (by decide) (by rw [setR_k, List.length_set]; show 1 < ((setR (setR (setF S 8 0) 2 (S.2 0)) 0 (List.replicate 457 0)).2 5).length; omega) rfl fun h8 H8 => ?_))
      rw [setR_R, setR_k] at H8
      have hR8 : TR ((setR (setF (setF (setF (tP (setR (st0 (setR (setR (setF S 8 0) 2 (S.2 0)) 0 (List.replicate 457 0))) 0 N3) p') 10 0) 6 0) 7 0) 5 (((((setF (setF (setF (tP (setR (st0 (setR (setR (setF S 8 0) 2 (S.2 0)) 0 (List.replicate 457 0))) 0 N3) p') 10 0) 6 0) 7 0).2 5).set 0 0)).set 1 0)).2 0) g' := by
        rw [setR_n (by decide)]
        show TR ((setR (st0 (setR (setR (setF S 8 0) 2 (S.2 0)) 0 (List.replicate 457 0))) 0 N3).2 0) g'
        rw [setR_k]; exact hN3
      refine tw_n (j := 2) (g := g') H8 hR8 (by decide) (cI_mk (Ho x y z g' p' hg h8 N3 _ hN3 H8 ?_))
      refine ⟨?_, ?_, ?_, ?_, ?_, ?_, ?_, ?_, fun k h6 h7 h8 h10 h11 h1216 => ?_, fun k h0 h2 h5 => ?_, ?_⟩
      · rw [setR_n (by decide)]
        show (setR (st0 (setR (setR (setF S 8 0) 2 (S.2 0)) 0 (List.replicate 457 0))) 0 N3).2 0 = N3
        rw [setR_k]
      · rw [setR_1, setF_n (by decide), setF_1]
      · rw [setR_1, setF_1]
      · rw [setR_1, setF_n (by decide), setF_n (by decide), setF_n (by decide), tP_r (by decide) (by decide) (by decide) (by decide), setR_1]
        unfold st0
        rw [setF_n (by decide), setF_n (by decide), setR_1, setR_1, setF_1]
      · rw [setR_1, setF_n (by decide), setF_n (by decide), setF_1]
      · rw [setR_1, setF_n (by decide), setF_n (by decide), setF_n (by decide), tP_r (by decide) (by decide) (by decide) (by decide), setR_1]
        unfold st0
        rw [setF_1]
      · rw [setR_k, gS_n (by decide), gS_e]
        show 0 < ((setR (setR (setF S 8 0) 2 (S.2 0)) 0 (List.replicate 457 0)).2 5).length
        omega
      · rw [setR_k, gS_e]
        rw [List.length_set]
        show 1 < ((setR (setR (setF S 8 0) 2 (S.2 0)) 0 (List.replicate 457 0)).2 5).length
        omega
      · rw [setR_1, setF_n h7, setF_n h6, setF_n h10, tP_r (by omega) (by omega) (by omega) (by omega), setR_1]
        unfold st0
        rw [setF_n h11, setF_n (by omega), setR_1, setR_1, setF_n h8]
      · rw [setR_n h5]
        show (setR (setR (setR (setF S 8 0) 2 (S.2 0)) 0 (List.replicate 457 0)) 0 N3).2 k = S.2 k
        rw [setR_n h0, setR_n h0, setR_n h2]; rfl
      · refine TL_setR (k := 5) (S := setF (setF (setF (tP (setR (st0 (setR (setR (setF S 8 0) 2 (S.2 0)) 0 (List.replicate 457 0))) 0 N3) p') 10 0) 6 0) 7 0) ?_ (by rw [List.length_set, List.length_set]; exact l5)
        exact TL_setR (k := 0) hLT2 hN3.1
    · rw [b92] at hg
      refine tw_F H3 (by decide) rfl fun h4 H4 => tw_I H4 (by decide) rfl ?_
      have hL3 : TL S3 := hE.2.2.2.2.2
      have e16 : (setF S3 10 0).1 16 = c := by rw [setF_n (by decide)]; exact hE.1
      rw [e16]
      refine ⟨fun h9 => absurd h9 hE.2.1, fun _ => ?_⟩
      have r2 : S3.2 2 = S.2 0 := by
        rw [hE.2.2.2.2.1 2 (fun e => absurd e (by decide)) (by omega)]
        show (setR (setR (setF S 8 0) 2 (S.2 0)) 0 (List.replicate 457 0)).2 2 = S.2 0
        rw [setR_n (by decide), setR_k]
      have loop : ∀ r k, r + k = 457 → ∀ hh, TWX h0 hh m A (setR (setF S3 10 0) 0 (cpW (S3.2 0) 0 (S.2 0) 0 k)) → MF G (d + 10) mi_M_load 61 [.ref m, .int (i32 k)] [] hh (cI K Qx) := by
        intro r
        induction r with
        | zero =>
          intro k hk hh HH
          have : k = 457 := by omega
          subst this
          rw [cpW_all (hL3 0 rfl) l0] at HH
          refine b_M_load_61 ⟨fun _ => tw_I HH (by decide) rfl (cI_mk ?_), fun hn => absurd ((i32_le (a := 457) (by omega) (by omega)).mpr (Nat.le_refl _)) hn⟩
          rw [setR_1, e16]
          refine He x y z c q hg hh _ HH ⟨?_, ?_, ?_, fun k h8 h10 h11 h22 h1216 => ?_, fun k h2 h17 => ?_, TL_setR (k := 0) hL3 l0⟩
          · rw [setR_1, setF_n (by decide), hE.2.2.2.1 8 (by decide) (by decide) (by decide) (by decide) (by decide) (by decide) (by decide)]
            unfold st0
            rw [setF_n (by decide), setF_n (by decide), setR_1, setR_1, setF_1]
          · rw [setR_1, setF_1]
          · rw [setR_1, setF_n (by decide)]; exact hE.2.2.1
          · rw [setR_1, setF_n h10, hE.2.2.2.1 k h11 (by omega) (by omega) (by omega) (by omega) (by omega) h22]
            unfold st0
            rw [setF_n h11, setF_n (by omega), setR_1, setR_1, setF_n h8]
          · by_cases e : k = 0
            · subst e; rw [setR_k]
            · rw [setR_n e, setF_2, hE.2.2.2.2.1 k (fun e9 => absurd e9 e) h17]
              show (setR (setR (setF S 8 0) 2 (S.2 0)) 0 (List.replicate 457 0)).2 k = S.2 k
              rw [setR_n e, setR_n h2]; rfl
        | succ r ih =>
          intro k hk hh HH
          refine b_M_load_61 ⟨fun hn => absurd ((i32_le (a := 457) (by omega) (by omega)).mp hn) (by omega), fun _ => tw_R HH (by decide) rfl (tw_g (k := 2) HH (by decide) rfl (by decide) rfl (by omega) (x := (S.2 0).getD k 0) (by rw [setR_n (by decide), setF_2, r2]; exact getD_some (by omega)) (dR_of (tw_pA (k := 0) HH rfl (by decide) rfl (by omega) (by rw [setR_k, cpW_len]; have := hL3 0 rfl; simp [tLen] at this; omega) fun h' H' => ?_)))⟩
          rw [i32_succ]
          refine ih (k + 1) (by omega) h' ?_
          rw [setR_R, setR_k] at H'
          have e9 := cpW_step (dst := S3.2 0) (src := S.2 0) (o := 0) (so := 0) (k := k) (by have := hL3 0 rfl; simp [tLen] at this; omega)
          simp only [Nat.zero_add] at e9
          rw [e9] at H'
          exact H'
      exact loop 457 0 rfl h4 (by rw [cpW_0, show S3.2 0 = (setF S3 10 0).2 0 from rfl, setR_same]; exact H4)
  have loop : ∀ r k, r + k = 457 → ∀ hh, TWX h0 hh m A (setR (setR (setF S 8 0) 2 (cpW (S.2 2) 0 (S.2 0) 0 k)) 0 (cpW (S.2 0) 0 (List.replicate 457 0) 0 k)) → MF G (d + 10) mi_M_load 7 [.ref m, .int (i32 k)] [] hh (cI K Qx) := by
    intro r
    induction r with
    | zero =>
      intro k hk hh HH
      have : k = 457 := by omega
      subst this
      rw [cpW_all l2 l0, cpW_all l0 (by simp)] at HH
      exact behind hh HH
    | succ r ih =>
      intro k hk hh HH
      have hat : (cpW (S.2 0) 0 (List.replicate 457 0) 0 k)[k]? = some ((S.2 0).getD k 0) := by
        rw [cpW_at (by omega), if_neg (by omega)]
      refine b_M_load_7 ⟨fun hn => absurd ((i32_le (a := 457) (by omega) (by omega)).mp hn) (by omega), fun _ => tw_R (k := 2) HH (by decide) rfl (tw_g (k := 0) HH (by decide) rfl (by decide) rfl (by omega) (x := (S.2 0).getD k 0) (by rw [setR_k]; exact hat) (dR_of (tw_pA (k := 2) HH rfl (by decide) rfl (by omega) (by rw [setR_n (by decide), setR_k, cpW_len]; omega) fun h2 H2 => tw_RR (k := 0) H2 (by decide) rfl (tw_pA (k := 0) H2 rfl (by decide) rfl (by omega) (by rw [setR_n (by decide), setR_k, cpW_len]; omega) fun h3 H3 => ?_))))⟩
      rw [i32_succ]
      refine ih (k + 1) (by omega) h3 ?_
      have e9 := cpW_step (dst := S.2 2) (src := S.2 0) (o := 0) (so := 0) (k := k) (by omega)
      have e8 := cpW_step (dst := S.2 0) (src := List.replicate 457 0) (o := 0) (so := 0) (k := k) (by omega)
      simp only [Nat.zero_add] at e9 e8
      have e7 : (List.replicate 457 (0 : Int32)).getD k 0 = 0 := by
        rw [List.getD_eq_getElem?_getD, List.getElem?_replicate, if_pos (by omega)]; rfl
      rw [e7] at e8
      have e6 : setR (setR (setR (setR (setF S 8 0) 2 (cpW (S.2 2) 0 (S.2 0) 0 k)) 0 (cpW (S.2 0) 0 (List.replicate 457 0) 0 k)) 2 ((((setR (setR (setF S 8 0) 2 (cpW (S.2 2) 0 (S.2 0) 0 k)) 0 (cpW (S.2 0) 0 (List.replicate 457 0) 0 k))).2 2).set k ((S.2 0).getD k 0))) 0 (((setR (setR (setR (setF S 8 0) 2 (cpW (S.2 2) 0 (S.2 0) 0 k)) 0 (cpW (S.2 0) 0 (List.replicate 457 0) 0 k)) 2 ((((setR (setR (setF S 8 0) 2 (cpW (S.2 2) 0 (S.2 0) 0 k)) 0 (cpW (S.2 0) 0 (List.replicate 457 0) 0 k))).2 2).set k ((S.2 0).getD k 0))).2 0).set k 0) = setR (setR (setF S 8 0) 2 (cpW (S.2 2) 0 (S.2 0) 0 (k + 1))) 0 (cpW (S.2 0) 0 (List.replicate 457 0) 0 (k + 1)) := by
        rw [setR_n (S := setR (setF S 8 0) 2 (cpW (S.2 2) 0 (S.2 0) 0 k)) (k := 0) (j := 2) (by decide), setR_k, e9, setR_n (k := 2) (j := 0) (by decide), setR_k, e8]
        refine TS_ext (fun _ => rfl) (funext fun j => ?_)
        by_cases j0 : j = 0
        · subst j0; rw [setR_k, setR_k]
        · by_cases j2 : j = 2
          · subst j2; rw [setR_n j0, setR_k, setR_n j0, setR_k]
          · rw [setR_n j0, setR_n j2, setR_n j0, setR_n j2, setR_n j0, setR_n j2]
      rw [e6] at H3
      exact H3
  refine loop 457 0 rfl h1 ?_
  rw [cpW_0, cpW_0]
  have : setR (setR (setF S 8 0) 2 (S.2 2)) 0 (S.2 0) = setF S 8 0 := by
    rw [show S.2 2 = (setF S 8 0).2 2 from rfl, setR_same, show S.2 0 = (setF S 8 0).2 0 from rfl, setR_same]
  rw [this]
  exact H1
end
