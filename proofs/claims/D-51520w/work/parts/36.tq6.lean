/-! the twin: stones go out of the row -/
set_option maxRecDepth 100000
theorem TR_drop {N N' : List Int32} {g : GS} {k : Nat} (hR : TR N g) (hk : k < g.hd.length) (hl : N'.length = 457) (h10 : N'[10]? = some (i32 (g.hd.length - 1))) (hlo : ∀ i, i ≠ 10 → i < 213 + 4 * k → N'[i]? = N[i]?) (hmid : ∀ i, 213 + 4 * k ≤ i → i < 213 + 4 * (g.hd.length - 1) → N'[i]? = N[i + 4]?) : TR N' (g.wH (g.hd.eraseIdx k)) := by
  obtain ⟨r1, r2, r3, r4, r5, r6, r7, r8⟩ := hR
  have hlen : (g.hd.eraseIdx k).length = g.hd.length - 1 := List.length_eraseIdx_of_lt hk
  refine ⟨hl, r2, r3, by show (g.hd.eraseIdx k).length ≤ 61; rw [hlen]; omega, fun i hi => ?_, fun q y hq i hi => ?_, fun q y hq i hi => ?_, fun q y hq i hi => ?_⟩
  · by_cases e : i = 10
    · subst e
      rw [h10]
      show _ = some (if 10 = 2 then _ else if 10 = 3 then _ else if 10 = 10 then i32 (g.hd.eraseIdx k).length else _)
      rw [hlen]; rfl
    · rw [hlo i e (by omega), r5 i hi]
      simp only [rowN, GS.ns, GS.wH, GS.pl, GS.ct, GS.hd, if_neg e]
  · have hq2 : q < g.pl.length := (List.getElem?_eq_some_iff.mp hq).1
    rw [hlo _ (by omega) (by omega)]; exact r6 q y hq i hi
  · have hq2 : q < g.ct.length := (List.getElem?_eq_some_iff.mp hq).1
    rw [hlo _ (by omega) (by omega)]; exact r7 q y hq i hi
  · have hq' : (g.hd.eraseIdx k)[q]? = some y := hq
    have hq2 : q < g.hd.length - 1 := by rw [← hlen]; exact (List.getElem?_eq_some_iff.mp hq').1
    rw [List.getElem?_eraseIdx] at hq'
    by_cases e : q < k
    · rw [if_pos e] at hq'
      rw [hlo _ (by omega) (by omega)]; exact r8 q y hq' i hi
    · rw [if_neg e] at hq'
      rw [hmid _ (by omega) (by omega), show 213 + 4 * q + i + 4 = 213 + 4 * (q + 1) + i by omega]
      exact r8 (q + 1) y hq' i hi
theorem TR_first {N N' : List Int32} {g : GS} (hR : TR N g) (hk : 0 < g.ct.length) (hl : N'.length = 457) (h3 : N'[3]? = some (i32 (g.ct.length - 1))) (hlo : ∀ i, i ≠ 3 → i < 33 → N'[i]? = N[i]?) (hhi : ∀ i, 213 ≤ i → N'[i]? = N[i]?) (hmid : ∀ i, 33 ≤ i → i < 33 + 3 * (g.ct.length - 1) → N'[i]? = N[i + 3]?) : TR N' (g.wC g.ct.tail) := by
  obtain ⟨r1, r2, r3, r4, r5, r6, r7, r8⟩ := hR
  have hlen : g.ct.tail.length = g.ct.length - 1 := List.length_tail
  refine ⟨hl, r2, by show g.ct.tail.length ≤ 60; rw [hlen]; omega, r4, fun i hi => ?_, fun q y hq i hi => ?_, fun q y hq i hi => ?_, fun q y hq i hi => ?_⟩
  · by_cases e : i = 3
    · subst e
      rw [h3]
      show _ = some (if 3 = 2 then _ else if 3 = 3 then i32 g.ct.tail.length else _)
      rw [hlen]; rfl
    · rw [hlo i e (by omega), r5 i hi]
      simp only [rowN, GS.ns, GS.wC, GS.pl, GS.ct, GS.hd, if_neg e]
  · have hq2 : q < g.pl.length := (List.getElem?_eq_some_iff.mp hq).1
    rw [hlo _ (by omega) (by omega)]; exact r6 q y hq i hi
  · have hq' : g.ct.tail[q]? = some y := hq
    have hq2 : q < g.ct.length - 1 := by rw [← hlen]; exact (List.getElem?_eq_some_iff.mp hq').1
    rw [List.getElem?_tail] at hq'
    rw [hmid _ (by omega) (by omega), show 33 + 3 * q + i + 3 = 33 + 3 * (q + 1) + i by omega]
    exact r7 (q + 1) y hq' i hi
  · rw [hhi _ (by omega)]; exact r8 q y hq i hi
section
variable {G : GL} {d : Nat} {h0 h : AH} {m : Nat} {A : Nat → Nat} {S : TS} {g : GS} {Qx : Nat → AH → Prop}
theorem s_takesHeld {k : Nat} {K : AH → Prop} (H : TWX h0 h m A S) (hR : TR (S.2 0) g) (hk : k < g.hd.length) (HK : ∀ h' N', TR N' (g.wH (g.hd.eraseIdx k)) → TWX h0 h' m A (setR S 0 N') → K h') : MF G d mi_M_takesHeld 0 [.ref m, .int (i32 k), .retAddr 0] [] h (cV K Qx) := by
  have h457 := hR.1
  have h61 := hR.2.2.2.1
  obtain ⟨n, hn⟩ : ∃ n, g.hd.length = n + 1 := ⟨g.hd.length - 1, by omega⟩
  have e4 : ∀ j : Nat, (213 : Int32) + 4 * i32 j = i32 (213 + 4 * j) := fun j => by
    show i32 213 + i32 4 * i32 j = _
    rw [i32_mul, i32_add]
  have hrow : rowN g 10 = i32 (n + 1) := by
    show i32 g.hd.length = _
    rw [hn]
  generalize hN1 : (S.2 0).set 10 (i32 n) = N1
  have hN1l : N1.length = 457 := by rw [← hN1, List.length_set]; exact h457
  have hN1_10 : N1[10]? = some (i32 n) := by rw [← hN1]; exact gS_e (by omega)
  have hN1_n : ∀ i, i ≠ 10 → N1[i]? = (S.2 0)[i]? := fun i hi => by rw [← hN1]; exact gS_n (Ne.symm hi)
  have loop : ∀ r t, r + t = 4 * (n - k) → ∀ hh, TWX h0 hh m A (setR S 0 (cpW N1 (213 + 4 * k) N1 (213 + 4 * k + 4) t)) → MF G d mi_M_takesHeld 19 [.ref m, .int (i32 k), .int (i32 (213 + 4 * k + t))] [] hh (cV K Qx) := by
    intro r t hrt
    induction r generalizing t with
    | zero =>
      intro hh HH
      have ht : t = 4 * (n - k) := by omega
      subst ht
      refine b_M_takesHeld_19 (tw_RR (k := 0) HH (by decide) rfl (tw_aI (k := 0) HH rfl (by decide) (n := 10) (x := i32 n) rfl (by omega) ?_ ⟨fun _ => cV_mk ?_, fun hn9 => absurd ?_ hn9⟩))
      · rw [setR_k, cpW_at (by omega), if_neg (by omega)]
        rw [getD_some (by omega)] at hN1_10; exact hN1_10
      · refine HK hh _ (TR_drop hR hk (by rw [cpW_len]; exact hN1l) ?_ (fun i hi hlt => ?_) (fun i h1 h2 => ?_)) HH
        · rw [cpW_at (by omega), if_neg (by omega), ← getD_some (by omega), hN1_10, hn]; rfl
        · rw [cpW_at (by omega), if_neg (by omega), ← getD_some (by omega)]; exact hN1_n i hi
        · have hi9 : i < 457 := by omega
          rw [cpW_at (by omega), if_pos (by omega), ← getD_some (by omega), hN1_n _ (by omega), show 213 + 4 * k + 4 + (i - (213 + 4 * k)) = i + 4 by omega]
      · rw [e4]
        exact (i32_le (by omega) (by omega)).mpr (by omega)
    | succ r ih =>
      intro hh HH
      refine b_M_takesHeld_19 (tw_RR (k := 0) HH (by decide) rfl (tw_aI (k := 0) HH rfl (by decide) (n := 10) (x := i32 n) rfl (by omega) ?_ ⟨fun hle => absurd ?_ (by omega : ¬ 213 + 4 * n ≤ 213 + 4 * k + t), fun _ => ?_⟩))
      · rw [setR_k, cpW_at (by omega), if_neg (by omega)]
        rw [getD_some (by omega)] at hN1_10; exact hN1_10
      · rw [e4] at hle
        exact (i32_le (by omega) (by omega)).mp hle
      · refine tw_R (k := 0) HH (by decide) rfl (tw_RR (k := 0) HH (by decide) rfl (tw_aI (k := 0) HH rfl (by decide) (n := 213 + 4 * k + t + 4) (x := N1.getD (213 + 4 * k + 4 + t) 0) (i32_add _ 4) (by omega) ?_ (dR_of (tw_pA (k := 0) HH rfl (by decide) rfl (by omega) (by rw [setR_k, cpW_len]; omega) fun h' H' => ?_))))
        · rw [setR_k, cpW_at (by omega), if_neg (by omega), show 213 + 4 * k + 4 + t = 213 + 4 * k + t + 4 by omega]
        · rw [setR_R, setR_k, cpW_step (by omega)] at H'
          rw [i32_succ]
          exact ih (t + 1) (by omega) h' H'
  refine b_M_takesHeld_0 (tw_RR (k := 0) H (by decide) rfl (tw_aI (k := 0) H rfl (by decide) (n := 10) rfl (by omega) (hR.2.2.2.2.1 10 (by decide)) (tw_pA (k := 0) H rfl (by decide) (n := 10) rfl (by omega) (by omega) fun h' H' => ?_)))
  rw [hrow, i32_pred, hN1] at H'
  have hl0 := loop (4 * (n - k)) 0 (by omega) h' (by rw [cpW_0]; exact H')
  rw [Nat.add_zero, ← e4] at hl0
  exact hl0
theorem s_takesFirst {K : AH → Prop} (H : TWX h0 h m A S) (hR : TR (S.2 0) g) (hk : 0 < g.ct.length) (HK : ∀ h' N', TR N' (g.wC g.ct.tail) → TWX h0 h' m A (setR S 0 N') → K h') : MF G d mi_M_takesFirst 0 [.ref m, .retAddr 0] [] h (cV K Qx) := by
  have h457 := hR.1
  have h60 := hR.2.2.1
  obtain ⟨n, hn⟩ : ∃ n, g.ct.length = n + 1 := ⟨g.ct.length - 1, by omega⟩
  have e4 : ∀ j : Nat, (33 : Int32) + 3 * i32 j = i32 (33 + 3 * j) := fun j => by
    show i32 33 + i32 3 * i32 j = _
    rw [i32_mul, i32_add]
  have hrow : rowN g 3 = i32 (n + 1) := by
    show i32 g.ct.length = _
    rw [hn]
  generalize hN1 : (S.2 0).set 3 (i32 n) = N1
  have hN1l : N1.length = 457 := by rw [← hN1, List.length_set]; exact h457
  have hN1_3 : N1[3]? = some (i32 n) := by rw [← hN1]; exact gS_e (by omega)
  have hN1_n : ∀ i, i ≠ 3 → N1[i]? = (S.2 0)[i]? := fun i hi => by rw [← hN1]; exact gS_n (Ne.symm hi)
  have loop : ∀ r t, r + t = 3 * n → ∀ hh, TWX h0 hh m A (setR S 0 (cpW N1 33 N1 36 t)) → MF G d mi_M_takesFirst 13 [.ref m, .int (i32 (33 + t))] [] hh (cV K Qx) := by
    intro r t hrt
    induction r generalizing t with
    | zero =>
      intro hh HH
      have ht : t = 3 * n := by omega
      subst ht
      refine b_M_takesFirst_13 (tw_RR (k := 0) HH (by decide) rfl (tw_aI (k := 0) HH rfl (by decide) (n := 3) (x := i32 n) rfl (by omega) ?_ ⟨fun _ => cV_mk ?_, fun hn9 => absurd ?_ hn9⟩))
      · rw [setR_k, cpW_at (by omega), if_neg (by omega)]
        rw [getD_some (by omega)] at hN1_3; exact hN1_3
      · refine HK hh _ (TR_first hR hk (by rw [cpW_len]; exact hN1l) ?_ (fun i hi hlt => ?_) (fun i h1 => ?_) (fun i h1 h2 => ?_)) HH
        · rw [cpW_at (by omega), if_neg (by omega), ← getD_some (by omega), hN1_3, hn]; rfl
        · rw [cpW_at (by omega), if_neg (by omega), ← getD_some (by omega)]; exact hN1_n i hi
        · by_cases hi9 : i < 457
          · rw [cpW_at (by omega), if_neg (by omega), ← getD_some (by omega)]; exact hN1_n i (by omega)
          · rw [List.getElem?_eq_none (by rw [cpW_len]; omega), List.getElem?_eq_none (by omega)]
        · have hi9 : i < 457 := by omega
          rw [cpW_at (by omega), if_pos (by omega), ← getD_some (by omega), hN1_n _ (by omega), show 36 + (i - 33) = i + 3 by omega]
      · rw [e4]
        exact (i32_le (by omega) (by omega)).mpr (by omega)
    | succ r ih =>
      intro hh HH
      refine b_M_takesFirst_13 (tw_RR (k := 0) HH (by decide) rfl (tw_aI (k := 0) HH rfl (by decide) (n := 3) (x := i32 n) rfl (by omega) ?_ ⟨fun hle => absurd ?_ (by omega : ¬ 33 + 3 * n ≤ 33 + t), fun _ => ?_⟩))
      · rw [setR_k, cpW_at (by omega), if_neg (by omega)]
        rw [getD_some (by omega)] at hN1_3; exact hN1_3
      · rw [e4] at hle
        exact (i32_le (by omega) (by omega)).mp hle
      · refine tw_R (k := 0) HH (by decide) rfl (tw_RR (k := 0) HH (by decide) rfl (tw_aI (k := 0) HH rfl (by decide) (n := 33 + t + 3) (x := N1.getD (36 + t) 0) (i32_add _ 3) (by omega) ?_ (dR_of (tw_pA (k := 0) HH rfl (by decide) rfl (by omega) (by rw [setR_k, cpW_len]; omega) fun h' H' => ?_))))
        · rw [setR_k, cpW_at (by omega), if_neg (by omega), show 36 + t = 33 + t + 3 by omega]
        · rw [setR_R, setR_k, cpW_step (by omega)] at H'
          rw [i32_succ]
          exact ih (t + 1) (by omega) h' H'
  refine b_M_takesFirst_0 (tw_RR (k := 0) H (by decide) rfl (tw_aI (k := 0) H rfl (by decide) (n := 3) rfl (by omega) (hR.2.2.2.2.1 3 (by decide)) (tw_pA (k := 0) H rfl (by decide) (n := 3) rfl (by omega) (by omega) fun h' H' => ?_)))
  rw [hrow, i32_pred, hN1] at H'
  exact loop (3 * n) 0 (by omega) h' (by rw [cpW_0]; exact H')
end
