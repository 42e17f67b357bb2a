/-! the twin: the report of a player; of all -/
set_option maxRecDepth 100000
theorem dg_i {N i : Nat} (hN : N < 387420489) (hi : i < lcn N) : gLet N (i32 i) = i32 (96 + dvs (lcn N - (i + 1)) N % 27) := by
  have hl : lcn N ≤ 7 := dg_le 7 N
  unfold gLet
  have : inB3 (i32 i) 0 (i32 (lcn N) - 1) = true := by
    obtain ⟨l, e⟩ : ∃ l, lcn N = l + 1 := ⟨lcn N - 1, by omega⟩
    rw [e, i32_pred]
    simp only [inB3, Bool.and_eq_true, Bool.not_eq_true', decide_eq_false_iff_not]
    exact ⟨i32_nn (by omega), fun h9 => absurd ((i32_lt (by omega) (by omega)).mp h9) (by omega)⟩
  rw [if_pos this, i32_nat (by omega)]
theorem dg_no {N i : Nat} (hi : lcn N ≤ i) (hi2 : i < 1000) : gLet N (i32 i) = -1 := by
  unfold gLet
  rw [if_neg]
  intro h
  have hl : lcn N ≤ 7 := dg_le 7 N
  obtain ⟨k, hk, e⟩ := inB3_nat (by omega) h
  have := (i32_eq (by omega) (by omega)).mp e
  omega
section
variable {G : GL} {d : Nat} {h0 h : AH} {m : Nat} {A : Nat → Nat} {S : TS} {g : GS} {R0 out : List Int32} {K : AH → Prop} {Qx : Nat → AH → Prop}
theorem s_writesPlayer {k : Nat} (H : TWX h0 h m A S) (hL : TL S) (hR : TR (S.2 0) g) (hv : GV g) (hN : NmB g) (hk : k < g.pl.length) (h400 : R0.length = 400) (hW : WR R0 S out) (ho : out.length + 16 + 3 * stn g (i32 k) ≤ 400) (HK : ∀ h' S', TWX h0 h' m A S' → RsW S S' → WR R0 S' (out ++ plS g k) → K h') : MF G (d + 5) mi_M_writesPlayer 0 [.ref m, .int (i32 k), .retAddr 0, .retAddr 0, .retAddr 0] [] h (cV K Qx) := by
  have h5 := hR.2.1
  have h61 := hR.2.2.2.1
  obtain ⟨N, hN9, eN⟩ := hN k hk
  obtain ⟨V, hV, eV⟩ := gsc_nat hv hk
  have hl7 : lcn N ≤ 7 := dg_le 7 N
  have hst := stn_le g (i32 k)
  unfold plS at HK
  rw [eN, i32_nat (by omega), eV, i32_nat (by omega)] at HK
  refine b_M_writesPlayer_0 ?_
  -- the stones
  have third : ∀ r i, r + i = stn g (i32 k) → ∀ hh S1 u4, TWX h0 hh m A S1 → RsW S S1 → WR R0 S1 (out ++ namS N ++ [58] ++ numS V ++ stsS g (i32 k) i) → MF G (d + 5) mi_M_writesPlayer 59 [.ref m, .int (i32 k), .int (i32 (stn g (i32 k))), .int (i32 i), u4] [] hh (cV K Qx) := by
    have base : (out ++ namS N ++ [58] ++ numS V).length ≤ out.length + 12 := by
      have h1 := namS_len N
      have h2 := dl_len4 (v := V) (by omega)
      unfold numS
      rw [List.length_append, List.length_append, List.length_append, List.length_map, List.length_reverse]
      simp only [List.length_singleton]
      omega
    intro r
    induction r with
    | zero =>
      intro i hi hh S1 u4 HH hs hW1
      have : i = stn g (i32 k) := by omega
      subst this
      refine b_M_writesPlayer_59 ⟨fun _ => cV_mk (HK hh S1 HH hs ?_), fun hn => absurd ((i32_le (by omega) (by omega)).mpr (Nat.le_refl _)) hn⟩
      simpa only [List.append_assoc] using hW1
    | succ r ih =>
      intro i hi hh S1 u4 HH hs hW1
      have hol : (ordP g (i32 k)).length = stn g (i32 k) := (ordP_perm.length_eq).trans plc_stn
      obtain ⟨j, hj⟩ : ∃ j, (ordP g (i32 k))[i]? = some j := ⟨_, List.getElem?_eq_getElem (by omega)⟩
      have hjm := plc_mem.mp (ordP_perm.mem_iff.mp (List.mem_of_getElem? hj))
      have hjd : (ordP g (i32 k)).getD i 0 = j := by rw [List.getD_eq_getElem?_getD, hj]; rfl
      have hlen : (out ++ namS N ++ [58] ++ numS V ++ stsS g (i32 k) i).length ≤ out.length + 12 + 3 * i := by
        rw [List.length_append, stsS_len]; omega
      refine b_M_writesPlayer_59 ⟨fun hn => absurd ((i32_le (by omega) (by omega)).mp hn) (by omega), fun _ => ⟨tw_K HH, s_ranked (g := g) HH (hs.row hR) ?_⟩⟩
      rw [rkL_at h61 hj]
      refine ⟨tw_K HH, s_writes HH hs.2.2 h400 hW1 (by omega) fun h2 S2 H2 hs2 hW2 _ => ?_⟩
      have hs02 := hs.trans hs2
      refine ⟨tw_K H2, s_held (j := 0) (g := g) H2 (hs02.row hR) (hdA_at hjm.1) (by decide) ⟨tw_K H2, s_writes H2 hs2.2.2 h400 hW2 (by rw [List.length_append]; simp only [List.length_singleton]; omega) fun h3 S3 H3 hs3 hW3 _ => ?_⟩⟩
      have hs03 := hs02.trans hs3
      refine ⟨tw_K H3, s_held (j := 1) (g := g) H3 (hs03.row hR) (hdA_at hjm.1) (by decide) ⟨tw_K H3, s_writes H3 hs3.2.2 h400 hW3 (by rw [List.length_append, List.length_append]; simp only [List.length_singleton]; omega) fun h4 S4 H4 hs4 hW4 _ => ?_⟩⟩
      rw [i32_succ]
      refine ih (i + 1) (by omega) h4 S4 _ H4 (hs03.trans hs4) ?_
      have e9 : stsS g (i32 k) (i + 1) = stsS g (i32 k) i ++ ([32] ++ [65 + p4 (hdA g j) 0] ++ [48 + p4 (hdA g j) 1]) := by
        show stsS g (i32 k) i ++ stoS g (i32 k) i = _
        unfold stoS
        rw [hjd]; rfl
      rw [e9]
      simpa only [List.append_assoc] using hW4
  -- the letters
  have first : ∀ r i, r + i = lcn N → ∀ hh S1 u3 u4, TWX h0 hh m A S1 → RsW S S1 → WR R0 S1 (out ++ (List.range i).map fun i => gLet N (i32 i)) → MF G (d + 5) mi_M_writesPlayer 2 [.ref m, .int (i32 k), .int (i32 i), u3, u4] [] hh (cV K Qx) := by
    intro r
    induction r with
    | zero =>
      intro i hi hh S1 u3 u4 HH hs hW1
      have : i = lcn N := by omega
      subst this
      refine b_M_writesPlayer_2 ⟨tw_K HH, s_of (j := 0) (g := g) HH (hs.row hR) (plA_at hk) (by decide) ?_⟩
      rw [show p3 (plA g k) 0 = (plA g k).1 from rfl, eN]
      refine s_letterOf hN9 ?_
      rw [dg_no (Nat.le_refl _) (by omega)]
      refine ⟨fun _ => ?_, fun hn => absurd rfl hn⟩
      have hW1' : WR R0 S1 (out ++ namS N) := hW1
      have hnl := namS_len N
      refine ⟨tw_K HH, s_writes HH hs.2.2 h400 hW1' (by rw [List.length_append]; omega) fun h2 S2 H2 hs2 hW2 _ => ?_⟩
      have hs02 := hs.trans hs2
      refine ⟨tw_K H2, s_scoreAt (g := g) H2 (hs02.row hR) hv hk ?_⟩
      rw [eV]
      refine ⟨tw_K H2, s_writesNumber H2 hs2.2.2 h400 hW2 (by omega) (by rw [List.length_append, List.length_append]; simp only [List.length_singleton]; omega) fun h3 S3 H3 hs3 hW3 => ?_⟩
      have hs03 := hs02.trans hs3
      refine ⟨tw_K H3, s_stonesOf (g := g) H3 (hs03.row hR) ?_⟩
      exact third (stn g (i32 k)) 0 rfl h3 S3 _ H3 hs03 (by show WR R0 S3 (_ ++ []); rw [List.append_nil]; exact hW3)
    | succ r ih =>
      intro i hi hh S1 u3 u4 HH hs hW1
      refine b_M_writesPlayer_2 ⟨tw_K HH, s_of (j := 0) (g := g) HH (hs.row hR) (plA_at hk) (by decide) ?_⟩
      rw [show p3 (plA g k) 0 = (plA g k).1 from rfl, eN]
      refine s_letterOf hN9 ?_
      have hne : ¬ gLet N (i32 i) = -1 := by
        rw [dg_i hN9 (by omega)]
        intro h9
        have := i32_nn (n := 96 + dvs (lcn N - (i + 1)) N % 27) (by omega)
        rw [h9] at this
        exact absurd this (by decide)
      refine ⟨fun h9 => absurd h9 hne, fun _ => ⟨tw_K HH, s_of (j := 0) (g := g) HH (hs.row hR) (plA_at hk) (by decide) ?_⟩⟩
      rw [show p3 (plA g k) 0 = (plA g k).1 from rfl, eN]
      refine s_letterOf hN9 ⟨tw_K HH, s_writes HH hs.2.2 h400 hW1 (by rw [List.length_append, List.length_map, List.length_range]; omega) fun h2 S2 H2 hs2 hW2 _ => ?_⟩
      rw [i32_succ]
      refine ih (i + 1) (by omega) h2 S2 _ _ H2 (hs.trans hs2) ?_
      rw [List.range_succ, List.map_append, ← List.append_assoc]
      exact hW2
  exact first (lcn N) 0 rfl h S _ _ H (RsW.refl hL) (by show WR R0 S (out ++ []); rw [List.append_nil]; exact hW)
end
def fRep (x : LSt) : RS := (0, i32 (repS x.g x.g.pl.length).length, (x.1, x.2.1, x.2.2.1, x.2.2.2.1, x.2.2.2.2.1, x.2.2.2.2.2.1, (repS x.g x.g.pl.length ++ x.rp.drop (repS x.g x.g.pl.length).length, (repS x.g x.g.pl.length).length)))
section
variable {G : GL} {d : Nat} {h0 h : AH} {m : Nat} {A : Nat → Nat} {S : TS} {x : LSt} {K : Int32 → AH → Prop} {Qx : Nat → AH → Prop}
theorem t_report (H : TWX h0 h m A S) (hI : TI S x) (hv : GV x.g) (hN : NmB x.g) (HK : TPost h0 m A (fRep x) K) : MF G (d + 6) mi_M_report 0 [.ref m, .retAddr 0] [] h (cI K Qx) := by
  obtain ⟨t1, t2, t3, t4, t5, t6, t7, t8, t9, t10⟩ := hI
  have h5 := t2.2.1
  have h60 := hv.2.2.2.2.1
  have l26 : x.rp.length = 400 := by rw [← t10.1]; exact t1 26 rfl
  refine b_M_report_0 (tw_F H (by decide) rfl fun h1 H1 => tw_F H1 (by decide) rfl fun h2 H2 => ?_)
  have hL0 : TL (setF (setF S 8 0) 28 0) := t1
  have hlens := repS_len hv x.g.pl.length (Nat.le_refl _)
  have hsS := stS_le x.g x.g.pl.length (by omega)
  have fin : ∀ hh S1, TWX h0 hh m A S1 → RsW (setF (setF S 8 0) 28 0) S1 → WR x.rp S1 (repS x.g x.g.pl.length) → K (i32 (repS x.g x.g.pl.length).length) hh ∧ S1.1 28 = i32 (repS x.g x.g.pl.length).length := by
    intro hh S1 HH hs hW
    have f : ∀ k, k ≠ 8 → k ≠ 28 → S1.1 k = S.1 k := fun k a b => by rw [hs.1 k b, setF_n b, setF_n a]
    have a : ∀ k, k ≠ 26 → k ≠ 27 → S1.2 k = S.2 k := fun k b c => hs.2.1 k b c
    refine ⟨HK hh S1 HH ⟨hs.2.2, by rw [a 0 (by decide) (by decide)]; exact t2, ⟨(f 6 (by decide) (by decide)).trans t3.1, t3.2.1, by rw [a 3 (by decide) (by decide)]; exact t3.2.2⟩, (f 24 (by decide) (by decide)).trans t4, (f 99 (by decide) (by decide)).trans t5, fun i hi => (t6 i hi).of (a 5 (by decide) (by decide)) (a 4 (by decide) (by decide)), (f 7 (by decide) (by decide)).trans t7, ⟨(a 9 (by decide) (by decide)).trans t8.1, (f 10 (by decide) (by decide)).trans t8.2.1, t8.2.2⟩, (f 11 (by decide) (by decide)).trans t9, ⟨hW.2.1, hW.1, hW.2.2⟩⟩ ?_, hW.1⟩
    rw [hs.1 8 (by decide), setF_n (by decide), setF_1]
    rfl
  have loop : ∀ r p, r + p = x.g.pl.length → ∀ hh S1, TWX h0 hh m A S1 → RsW (setF (setF S 8 0) 28 0) S1 → WR x.rp S1 (repS x.g p) → MF G (d + 6) mi_M_report 12 [.ref m, .int (i32 p)] [] hh (cI K Qx) := by
    have sm : ∀ p, p ≤ x.g.pl.length → stS x.g p ≤ stS x.g x.g.pl.length := by
      intro p hp
      have : ∀ r, stS x.g p ≤ stS x.g (p + r) := by
        intro r
        induction r with
        | zero => exact Nat.le_refl _
        | succ r ih => exact Nat.le_trans ih (Nat.le_add_right _ _)
      have h9 := this (x.g.pl.length - p)
      rwa [show p + (x.g.pl.length - p) = x.g.pl.length by omega] at h9
    intro r
    induction r with
    | zero =>
      intro p hp hh S1 HH hs hW
      have : p = x.g.pl.length := by omega
      subst this
      obtain ⟨f1, f2⟩ := fin hh S1 HH hs hW
      refine b_M_report_12 (tw_n (j := 2) (g := x.g) HH (hs.row t2) (by decide) ⟨fun _ => tw_I HH (by decide) rfl ?_, fun hn => absurd ((i32_le (by omega) (by omega)).mpr (Nat.le_refl _)) hn⟩)
      rw [f2]
      exact cI_mk f1
    | succ r ih =>
      intro p hp hh S1 HH hs hW
      have hl1 := repS_len hv p (by omega)
      have hs1 := sm (p + 1) (by omega)
      have e9 : stS x.g (p + 1) = stS x.g p + stn x.g (i32 p) := rfl
      have t32 : ∀ hh S1 o, TWX h0 hh m A S1 → RsW (setF (setF S 8 0) 28 0) S1 → o.length ≤ (repS x.g p).length + 1 → WR x.rp S1 o → repS x.g (p + 1) = o ++ plS x.g p → MF G (d + 6) mi_M_report 32 [.ref m, .int (i32 p)] [] hh (cI K Qx) := by
        intro hh S1 o HH hs hol hW eo
        refine b_M_report_32 ⟨tw_K HH, s_writesPlayer (g := x.g) HH hs.2.2 (hs.row t2) hv hN (by omega) l26 hW (by omega) fun h3 S3 H3 hs3 hW3 => ?_⟩
        rw [i32_succ]
        exact ih (p + 1) (by omega) h3 S3 H3 (hs.trans hs3) (by rw [eo]; exact hW3)
      refine b_M_report_12 (tw_n (j := 2) (g := x.g) HH (hs.row t2) (by decide) ⟨fun hn => absurd ((i32_le (by omega) (by omega)).mp hn) (by omega), fun _ => ⟨fun hz => ?_, fun hn => ⟨tw_K HH, s_writes HH hs.2.2 l26 hW (by omega) fun h3 S3 H3 hs3 hW3 _ => ?_⟩⟩⟩)
      · have hp0 : ¬ 0 < p := fun e => absurd ((i32_le (b := 0) (by omega) (by omega)).mp hz) (by omega)
        refine t32 hh S1 (repS x.g p) HH hs (by omega) hW ?_
        show repS x.g p ++ (if 0 < p then [47] else []) ++ plS x.g p = _
        rw [if_neg hp0, List.append_nil]
      · have hp0 : 0 < p := by
          rcases Nat.eq_zero_or_pos p with e | e
          · rw [e] at hn; exact absurd (by decide) hn
          · exact e
        refine t32 h3 S3 (repS x.g p ++ [47]) H3 (hs.trans hs3) (by simp) hW3 ?_
        show repS x.g p ++ (if 0 < p then [47] else []) ++ plS x.g p = _
        rw [if_pos hp0]
  refine loop x.g.pl.length 0 rfl h2 _ H2 (RsW.refl hL0) ⟨setF_1, ?_, Nat.zero_le _⟩
  show S.2 26 = [] ++ x.rp.drop 0
  rw [t10.1]; rfl
end
