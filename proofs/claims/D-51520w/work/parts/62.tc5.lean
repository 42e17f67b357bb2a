/-! the twin's reader: single orders -/
set_option maxRecDepth 100000
section
variable {G : GL} {d : Nat} {h0 h : AH} {m : Nat} {A : Nat → Nat} {S : TS} {g : GS} {n : Nat} {p : PK} {Qx : Nat → AH → Prop}
theorem o_readsSingle {k : Nat} {kd : Int32} {os : List OD} {K : AH → Prop} (H : TWX h0 h m A (tP S p)) (hL : TL S) (hf : S.1 10 = i32 n) (hn : n ≤ 500) (hp : PKo n p) (hc : S.1 16 = 0) (hkd : kd = 0 ∨ kd = 1 ∨ kd = 2 ∨ kd = 3) (hk : k < 30) (hO : Ods S os) (hk2 : k = os.length) (h17 : (S.2 17)[k]? = some kd) (Ho : ∀ o p', pSng (S.2 9) n 100000 kd p = .inr (o, p') → PKo n p' → ∀ h' S', OrS S S' → S'.1 22 = S.1 22 → Ods S' (os ++ [o]) → TWX h0 h' m A (tP S' p') → K h') (He : ∀ e q, pSng (S.2 9) n 100000 kd p = .inl (e, q) → ∀ h' S', TWX h0 h' m A S' → ErS S S' e q → K h') : MF G (d + 5) mi_M_readsSingle 0 [.ref m, .int (i32 k)] [] h (cV K Qx) := by
  have l17 : (S.2 17).length = 30 := hL 17 rfl
  have l18 : (S.2 18).length = 30 := hL 18 rfl
  have l19 : (S.2 19).length = 30 := hL 19 rfl
  have l20 : (S.2 20).length = 30 := hL 20 rfl
  have l21 : (S.2 21).length = 30 := hL 21 rfl
  unfold pSng at Ho He
  refine b_M_readsSingle_0 (tw_g (k := 17) (n := k) H (by decide) rfl (by decide) rfl (by omega) (x := kd) h17 ⟨fun hne => ?_, fun he => cV_mk ?_⟩)
  · rw [if_neg hne] at Ho He
    refine tw_R (k := 18) H (by decide) rfl ⟨tw_K H, o_takesName H hL hf hn hp hc (fun nm p1 hv h1 H1 => ?_) (fun e q hv h' S' H' hE => ?_)⟩
    · rw [hv, bindP_ok] at Ho He
      have hp1 := pNam_ok hp.2 hv
      refine dR_of (tw_pA (k := 18) (n := k) H1 rfl (by decide) rfl (by omega) (by show k < (S.2 18).length; omega) fun h2 H2 => ?_)
      rw [tP_R, tP_2] at H2
      have hR2 : OrS S (setR S 18 ((S.2 18).set k nm)) := (OrS.refl hL).wr (by decide)
      have hO2 : Ods (setR S 18 ((S.2 18).set k nm)) os := hO.set (by omega)
      have a17 : ((setR S 18 ((S.2 18).set k nm)).2 17)[k]? = some kd := by rw [setR_n (by decide)]; exact h17
      have a18 : ((setR S 18 ((S.2 18).set k nm)).2 18)[k]? = some nm := by rw [setR_k]; exact gS_e (by omega)
      have f2 : (setR S 18 ((S.2 18).set k nm)).1 10 = i32 n := hf
      have b2 : (setR S 18 ((S.2 18).set k nm)).2 9 = S.2 9 := setR_n (by decide)
      refine tw_g (k := 17) (n := k) H2 (by decide) rfl (by decide) rfl (by omega) (x := kd) a17 ⟨fun hn0 => ?_, fun he0 => ?_⟩
      · rw [if_neg hn0] at Ho He
        refine tw_R (k := 20) H2 (by decide) rfl ⟨tw_K H2, o_takesStone (S := setR S 18 ((S.2 18).set k nm)) H2 hR2.2.2 f2 hn hp1 hc (fun st p2 hv2 hp2 h3 H3 => ?_) (fun e q hv2 h' S' v H' hE => ?_)⟩
        · rw [b2] at hv2
          rw [hv2, bindP_ok] at Ho He
          refine dR_of (tw_pA (k := 20) (n := k) H3 rfl (by decide) rfl (by omega) (by rw [tP_2, setR_n (by decide)]; omega) fun h4 H4 => ?_)
          rw [tP_R, tP_2] at H4
          have hR4 := hR2.wr (a := 20) (j := k) (v := st) (by decide)
          have hO4 : Ods (setR (setR S 18 ((S.2 18).set k nm)) 20 (((setR S 18 ((S.2 18).set k nm)).2 20).set k st)) os := hO2.set (by omega)
          have c17 : ((setR (setR S 18 ((S.2 18).set k nm)) 20 (((setR S 18 ((S.2 18).set k nm)).2 20).set k st)).2 17)[k]? = some kd := by rw [setR_n (by decide)]; exact a17
          have c18 : ((setR (setR S 18 ((S.2 18).set k nm)) 20 (((setR S 18 ((S.2 18).set k nm)).2 20).set k st)).2 18)[k]? = some nm := by rw [setR_n (by decide)]; exact a18
          have c20 : ((setR (setR S 18 ((S.2 18).set k nm)) 20 (((setR S 18 ((S.2 18).set k nm)).2 20).set k st)).2 20)[k]? = some st := by rw [setR_k]; exact gS_e (by rw [setR_n (by decide)]; omega)
          refine tw_g (k := 17) (n := k) H4 (by decide) rfl (by decide) rfl (by omega) (x := kd) c17 ⟨fun hn2 => ?_, fun he2 => cV_mk ?_⟩
          · have hkd3 : kd = 3 := by
              rcases hkd with e | e | e | e
              · exact absurd e hn0
              · exact absurd e hne
              · exact absurd e hn2
              · exact e
            rw [if_neg hn2] at Ho He
            have b4 : (setR (setR S 18 ((S.2 18).set k nm)) 20 (((setR S 18 ((S.2 18).set k nm)).2 20).set k st)).2 9 = S.2 9 := by rw [setR_n (by decide)]; exact b2
            refine tw_R (k := 19) H4 (by decide) rfl ⟨tw_K H4, o_takesName (S := setR (setR S 18 ((S.2 18).set k nm)) 20 (((setR S 18 ((S.2 18).set k nm)).2 20).set k st)) H4 hR4.2.2 hf hn hp2 hc (fun nm2 p3 hv3 h5 H5 => ?_) (fun e q hv3 h' S' H' hE => ?_)⟩
            · rw [b4] at hv3
              rw [hv3, bindP_ok] at Ho He
              have hp3 := pNam_ok hp2.2 hv3
              refine dR_of (tw_pA (k := 19) (n := k) H5 rfl (by decide) rfl (by omega) (by rw [tP_2, setR_n (by decide), setR_n (by decide)]; omega) fun h6 H6 => ?_)
              rw [tP_R, tP_2] at H6
              generalize hS4 : setR (setR S 18 ((S.2 18).set k nm)) 20 (((setR S 18 ((S.2 18).set k nm)).2 20).set k st) = S4 at *
              have l19' : (S4.2 19).length = 30 := hR4.2.2 19 rfl
              have l21' : (S4.2 21).length = 30 := hR4.2.2 21 rfl
              have hR6 := hR4.wr (a := 19) (j := k) (v := nm2) (by decide)
              have hO6 : Ods (setR S4 19 ((S4.2 19).set k nm2)) os := hO4.set (by omega)
              have b6 : (setR S4 19 ((S4.2 19).set k nm2)).2 9 = S.2 9 := by rw [setR_n (by decide)]; exact b4
              have f6 : (setR S4 19 ((S4.2 19).set k nm2)).1 10 = i32 n := (hR6.1 10 (by decide)).trans hf
              have k6 : (setR S4 19 ((S4.2 19).set k nm2)).1 16 = 0 := (hR6.1 16 (by decide)).trans hc
              refine tw_R (k := 21) H6 (by decide) rfl ⟨tw_K H6, o_takesStone (S := setR S4 19 ((S4.2 19).set k nm2)) H6 hR6.2.2 f6 hn hp3 k6 (fun st2 p4 hv4 hp4 h7 H7 => ?_) (fun e q hv4 h' S' v H' hE => ?_)⟩
              · rw [b6] at hv4
                rw [hv4, bindP_ok] at Ho
                refine dR_of (tw_pA (k := 21) (n := k) H7 rfl (by decide) rfl (by omega) (by rw [tP_2, setR_n (by decide)]; omega) fun h8 H8 => cV_mk ?_)
                rw [tP_R, tP_2] at H8
                have hR8 := hR6.wr (a := 21) (j := k) (v := st2) (by decide)
                have hO8 : Ods (setR (setR S4 19 ((S4.2 19).set k nm2)) 21 (((setR S4 19 ((S4.2 19).set k nm2)).2 21).set k st2)) os := hO6.set (by omega)
                refine Ho _ _ rfl hp4 h8 _ hR8 ?_ (hO8.add ?_) H8
                · show S4.1 22 = S.1 22
                  rw [← hS4]; rfl
                · rw [← hk2]
                  refine ⟨?_, fun _ _ => ?_, fun _ => ?_, fun _ => ?_, fun _ => ?_⟩
                  · rw [setR_n (by decide), setR_n (by decide), c17, hkd3]
                  · rw [setR_n (by decide), setR_n (by decide)]; exact c18
                  · rw [setR_n (by decide), setR_k]; exact gS_e (by omega)
                  · rw [setR_n (by decide), setR_n (by decide)]; exact c20
                  · rw [setR_k]; exact gS_e (by rw [setR_n (by decide)]; omega)
              · rw [b6] at hv4
                rw [hv4, bindP_er] at He
                have hE' := hE.base hR6
                have l21'' : (S'.2 21).length = 30 := hE'.2.2.2.2.2 21 rfl
                exact dR_of (tw_pA (k := 21) (n := k) H' rfl (by decide) rfl (by omega) (by omega) fun h8 H8 => cV_mk (He _ _ rfl h8 _ H8 (hE'.set (by decide))))
            · rw [b4] at hv3
              rw [hv3, bindP_er] at He
              have hE' := hE.base hR4
              have l19'' : (S'.2 19).length = 30 := hE'.2.2.2.2.2 19 rfl
              refine dR_of (tw_pA (k := 19) (n := k) H' rfl (by decide) rfl (by omega) (by omega) fun h6 H6 => tw_R (k := 21) H6 (by decide) rfl ⟨tw_K H6, e_takesStone H6 (hE'.set (a := 19) (j := k) (v := 0) (by decide)).c fun v => dR_of (tw_pA (k := 21) (n := k) H6 rfl (by decide) rfl (by omega) (by have := (hE'.set (a := 19) (j := k) (v := 0) (by decide)).2.2.2.2.2 21 rfl; simp [tLen] at this; omega) fun h8 H8 => cV_mk (He _ _ rfl h8 _ H8 ((hE'.set (by decide)).set (by decide))))⟩)
          · rw [if_pos he2] at Ho
            refine Ho _ _ rfl hp2 h4 _ hR4 rfl (hO4.add ?_) H4
            rw [← hk2]
            refine ⟨?_, fun _ _ => c18, fun h9 => absurd h9 (by show ¬ (2 : Int32) = 3; decide), fun _ => c20, fun h9 => absurd h9 (by show ¬ ((2 : Int32) = 3 ∨ ((2 : Int32) = 4 ∧ ¬ (0 : Int32) = 0)); decide)⟩
            rw [c17, he2]
        · rw [b2] at hv2
          rw [hv2, bindP_er] at He
          have hE' := hE.base hR2
          have l20'' : (S'.2 20).length = 30 := hE'.2.2.2.2.2 20 rfl
          refine dR_of (tw_pA (k := 20) (n := k) H' rfl (by decide) rfl (by omega) (by omega) fun h4 H4 => ?_)
          have hE4 := hE'.set (a := 20) (j := k) (v := v) (by decide)
          have l17'' : ((setR S' 20 ((S'.2 20).set k v)).2 17).length = 30 := hE4.2.2.2.2.2 17 rfl
          refine tw_g (k := 17) (n := k) H4 (by decide) rfl (by decide) rfl (by omega) (getD_some (by omega)) ⟨fun _ => ?_, fun _ => cV_mk (He _ _ rfl h4 _ H4 hE4)⟩
          have l19'' : ((setR S' 20 ((S'.2 20).set k v)).2 19).length = 30 := hE4.2.2.2.2.2 19 rfl
          refine tw_R (k := 19) H4 (by decide) rfl ⟨tw_K H4, e_takesName H4 hE4.c (dR_of (tw_pA (k := 19) (n := k) H4 rfl (by decide) rfl (by omega) (by omega) fun h6 H6 => ?_))⟩
          have hE6 := hE4.set (a := 19) (j := k) (v := 0) (by decide)
          exact tw_R (k := 21) H6 (by decide) rfl ⟨tw_K H6, e_takesStone H6 hE6.c fun v => dR_of (tw_pA (k := 21) (n := k) H6 rfl (by decide) rfl (by omega) (by have := hE6.2.2.2.2.2 21 rfl; simp [tLen] at this; omega) fun h8 H8 => cV_mk (He _ _ rfl h8 _ H8 (hE6.set (by decide))))⟩
      · rw [if_pos he0] at Ho He
        refine tw_R (k := 20) H2 (by decide) rfl ⟨tw_K H2, o_number (S := setR S 18 ((S.2 18).set k nm)) H2 hR2.2.2 f2 hn hp1 hc (fun v p2 hv2 h3 H3 => ?_) (fun e q hv2 h' S' v H' hE => ?_)⟩
        · rw [b2] at hv2
          rw [hv2, bindP_ok] at Ho
          refine dR_of (tw_pA (k := 20) (n := k) H3 rfl (by decide) rfl (by omega) (by rw [tP_2, setR_n (by decide)]; omega) fun h4 H4 => cV_mk ?_)
          rw [tP_R, tP_2] at H4
          have hR4 := hR2.wr (a := 20) (j := k) (v := v) (by decide)
          have hO4 : Ods (setR (setR S 18 ((S.2 18).set k nm)) 20 (((setR S 18 ((S.2 18).set k nm)).2 20).set k v)) os := hO2.set (by omega)
          refine Ho _ _ rfl (pNum_ok hp1.2 hv2) h4 _ hR4 rfl (hO4.add ?_) H4
          rw [← hk2]
          refine ⟨?_, fun _ _ => ?_, fun h9 => absurd h9 (by show ¬ (0 : Int32) = 3; decide), fun _ => ?_, fun h9 => absurd h9 (by show ¬ ((0 : Int32) = 3 ∨ ((0 : Int32) = 4 ∧ ¬ (0 : Int32) = 0)); decide)⟩
          · rw [setR_n (by decide), a17, he0]
          · rw [setR_n (by decide)]; exact a18
          · rw [setR_k]; exact gS_e (by rw [setR_n (by decide)]; omega)
        · rw [b2] at hv2
          rw [hv2, bindP_er] at He
          have hE' := hE.base hR2
          have l20'' : (S'.2 20).length = 30 := hE'.2.2.2.2.2 20 rfl
          exact dR_of (tw_pA (k := 20) (n := k) H' rfl (by decide) rfl (by omega) (by omega) fun h4 H4 => cV_mk (He _ _ rfl h4 _ H4 (hE'.set (by decide))))
    · rw [hv, bindP_er] at He
      have l18'' : (S'.2 18).length = 30 := hE.2.2.2.2.2 18 rfl
      refine dR_of (tw_pA (k := 18) (n := k) H' rfl (by decide) rfl (by omega) (by omega) fun h2 H2 => ?_)
      have hE2 := hE.set (a := 18) (j := k) (v := 0) (by decide)
      have l17'' : ((setR S' 18 ((S'.2 18).set k 0)).2 17).length = 30 := hE2.2.2.2.2.2 17 rfl
      have l20'' : ((setR S' 18 ((S'.2 18).set k 0)).2 20).length = 30 := hE2.2.2.2.2.2 20 rfl
      refine tw_g (k := 17) (n := k) H2 (by decide) rfl (by decide) rfl (by omega) (getD_some (by omega)) ⟨fun _ => ?_, fun _ => ?_⟩
      · refine tw_R (k := 20) H2 (by decide) rfl ⟨tw_K H2, e_takesStone H2 hE2.c fun v => dR_of (tw_pA (k := 20) (n := k) H2 rfl (by decide) rfl (by omega) (by omega) fun h4 H4 => ?_)⟩
        have hE4 := hE2.set (a := 20) (j := k) (v := v) (by decide)
        have l17''' : ((setR (setR S' 18 ((S'.2 18).set k 0)) 20 (((setR S' 18 ((S'.2 18).set k 0)).2 20).set k v)).2 17).length = 30 := hE4.2.2.2.2.2 17 rfl
        refine tw_g (k := 17) (n := k) H4 (by decide) rfl (by decide) rfl (by omega) (getD_some (by omega)) ⟨fun _ => ?_, fun _ => cV_mk (He _ _ rfl h4 _ H4 hE4)⟩
        have l19'' : ((setR (setR S' 18 ((S'.2 18).set k 0)) 20 (((setR S' 18 ((S'.2 18).set k 0)).2 20).set k v)).2 19).length = 30 := hE4.2.2.2.2.2 19 rfl
        refine tw_R (k := 19) H4 (by decide) rfl ⟨tw_K H4, e_takesName H4 hE4.c (dR_of (tw_pA (k := 19) (n := k) H4 rfl (by decide) rfl (by omega) (by omega) fun h6 H6 => ?_))⟩
        have hE6 := hE4.set (a := 19) (j := k) (v := 0) (by decide)
        exact tw_R (k := 21) H6 (by decide) rfl ⟨tw_K H6, e_takesStone H6 hE6.c fun v => dR_of (tw_pA (k := 21) (n := k) H6 rfl (by decide) rfl (by omega) (by have := hE6.2.2.2.2.2 21 rfl; simp [tLen] at this; omega) fun h8 H8 => cV_mk (He _ _ rfl h8 _ H8 (hE6.set (by decide))))⟩
      · exact tw_R (k := 20) H2 (by decide) rfl ⟨tw_K H2, e_number H2 hE2.c (dR_of (tw_pA (k := 20) (n := k) H2 rfl (by decide) rfl (by omega) (by omega) fun h4 H4 => cV_mk (He _ _ rfl h4 _ H4 (hE2.set (by decide)))))⟩
  · rw [if_pos he] at Ho
    refine Ho _ _ rfl hp h S (OrS.refl hL) rfl (hO.add ?_) H
    rw [← hk2]
    refine ⟨?_, fun h9 => absurd rfl h9, fun h9 => absurd h9 (by show ¬ (1 : Int32) = 3; decide), fun h9 => absurd rfl h9, fun h9 => absurd h9 (by show ¬ ((1 : Int32) = 3 ∨ ((1 : Int32) = 4 ∧ ¬ (0 : Int32) = 0)); decide)⟩
    rw [h17, he]
end
