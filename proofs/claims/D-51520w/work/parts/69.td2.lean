/-! the twin: undo, saved states -/
set_option maxRecDepth 100000
theorem cpW_seg {dst E : List Int32} {o : Nat} (h : dst.length = 457) : cpW dst 0 E o 457 = seg E o := by
  apply List.ext_getElem?
  intro j
  by_cases hj : j < 457
  · rw [cpW_at (by omega), seg_at hj, if_pos ⟨by omega, by omega⟩, Nat.sub_zero]
  · rw [List.getElem?_eq_none (by rw [cpW_len]; omega), List.getElem?_eq_none (by rw [seg_len]; omega)]
theorem ix457 (u k : Nat) : (457 : Int32) * i32 u + i32 k = i32 (457 * u + k) := by rw [show (457 : Int32) = i32 457 from rfl, i32_mul, i32_add]
def fUndo (x : LSt) : RS := if x.ps.length = 0 then (0, -1, x) else (0, i32 (x.ps.length - 1), (x.ps.getD (x.ps.length - 1) g00, x.ps.take (x.ps.length - 1), x.2.2))
def svF (x : LSt) (s : Nat) (o : Option GS) : Nat → Option GS := fun i => if i = s then o else x.sv i
def fSave (x : LSt) (s : Int32) : RS := if inB3 s 0 1 then (0, x.g.ns 5, (x.1, x.2.1, svF x s.toNatClampNeg (some x.g), x.2.2.2)) else (1, 0, x)
def fRest (x : LSt) (s : Int32) : RS := if inB3 s 0 1 then (match x.sv s.toNatClampNeg with
  | none => (2, 0, x)
  | some g' => (0, g'.ns 5, (g', [], x.2.2))) else (1, 0, x)
section
variable {G : GL} {d : Nat} {h0 h : AH} {m : Nat} {A : Nat → Nat} {S : TS} {x : LSt} {Qx : Nat → AH → Prop}
theorem t_undo {K : Int32 → AH → Prop} (H : TWX h0 h m A S) (hI : TI S x) (HK : TPost h0 m A (fUndo x) K) : MF G d mi_M_undo 0 [.ref m, .retAddr 0] [] h (cI K Qx) := by
  have l0 : (S.2 0).length = 457 := hI.1 0 rfl
  have l3 : (S.2 3).length = 3656 := hI.1 3 rfl
  have hI0 := hI
  obtain ⟨h1, h2, h3, h4, h5, h6, h7, h8, h9, h10⟩ := hI
  have e6 : (setF S 8 0).1 6 = i32 x.ps.length := by rw [setF_n (by decide)]; exact h3.1
  have hl8 := h3.2.1
  unfold fUndo at HK
  refine b_M_undo_0 (tw_F H (by decide) rfl fun h1' H1 => tw_I H1 (by decide) rfl ?_)
  rw [e6]
  refine ⟨fun hn => tw_I H1 (by decide) rfl ?_, fun hz => cI_mk ?_⟩
  · rw [e6]
    have hne : ¬ x.ps.length = 0 := fun e => hn (by rw [e]; rfl)
    rw [if_neg hne] at HK
    obtain ⟨u, hu⟩ : ∃ u, x.ps.length = u + 1 := ⟨x.ps.length - 1, by omega⟩
    rw [hu, i32_pred]
    rw [show x.ps.length - 1 = u by omega] at HK
    refine tw_F H1 (by decide) rfl fun h2' H2 => ?_
    have fin : ∀ hh, TWX h0 hh m A (setR (setF (setF S 8 0) 6 (i32 u)) 0 (seg (S.2 3) (457 * u))) → K (i32 u) hh := by
      intro hh HH
      refine HK hh _ HH ⟨TL_setR (k := 0) h1 seg_len, ?_, ⟨?_, ?_, ?_⟩, ?_, ?_, fun i hi => (h6 i hi).of ?_ ?_, ?_, ⟨?_, ?_, h8.2.2⟩, ?_, ⟨?_, ?_, h10.2.2⟩⟩ ?_
      · rw [setR_k]
        have hg : x.ps[u]? = some (x.ps.getD u g00) := by rw [List.getD_eq_getElem?_getD, List.getElem?_eq_getElem (by omega)]; rfl
        exact h3.2.2 u _ hg
      · rw [setR_1, setF_1]
        show i32 u = i32 (x.ps.take u).length
        rw [List.length_take, Nat.min_eq_left (by omega)]
      · show (x.ps.take u).length ≤ 8
        rw [List.length_take]; omega
      · intro i g' hg
        have hg2 : (x.ps.take u)[i]? = some g' := hg
        rw [setR_n (by decide)]
        refine h3.2.2 i g' ?_
        have hi := (List.getElem?_eq_some_iff.mp hg2).1
        rw [List.length_take] at hi
        rw [List.getElem?_take_of_lt (by omega)] at hg2
        exact hg2
      · rw [setR_1, setF_n (by decide), setF_n (by decide)]; exact h4
      · rw [setR_1, setF_n (by decide), setF_n (by decide)]; exact h5
      · rw [setR_n (by decide)]; rfl
      · rw [setR_n (by decide)]; rfl
      · rw [setR_1, setF_n (by decide), setF_n (by decide)]; exact h7
      · rw [setR_n (by decide)]; exact h8.1
      · rw [setR_1, setF_n (by decide), setF_n (by decide)]; exact h8.2.1
      · rw [setR_1, setF_n (by decide), setF_n (by decide)]; exact h9
      · rw [setR_n (by decide)]; exact h10.1
      · rw [setR_1, setF_n (by decide), setF_n (by decide)]; exact h10.2.1
      · rw [setR_1, setF_n (by decide), setF_1]
    have loop : ∀ r k, r + k = 457 → ∀ hh, TWX h0 hh m A (setR (setF (setF S 8 0) 6 (i32 u)) 0 (cpW (S.2 0) 0 (S.2 3) (457 * u) k)) → MF G d mi_M_undo 26 [.ref m, .int (i32 k)] [] hh (cI K Qx) := by
      intro r
      induction r with
      | zero =>
        intro k hk hh HH
        have : k = 457 := by omega
        subst this
        rw [cpW_seg l0] at HH
        refine b_M_undo_26 ⟨fun _ => tw_I HH (by decide) rfl (cI_mk ?_), fun hn => absurd ((i32_le (a := 457) (by omega) (by omega)).mpr (Nat.le_refl _)) hn⟩
        rw [setR_1, setF_1]
        exact fin hh HH
      | succ r ih =>
        intro k hk hh HH
        refine b_M_undo_26 ⟨fun hn => absurd ((i32_le (a := 457) (by omega) (by omega)).mp hn) (by omega), fun _ => tw_R HH (by decide) rfl (tw_R (k := 3) HH (by decide) rfl (tw_I HH (by decide) rfl ?_))⟩
        rw [setR_1, setF_1]
        refine dR_of (tw_aI (k := 3) (n := 457 * u + k) HH rfl (by decide) (ix457 u k) (by omega) (x := (S.2 3).getD (457 * u + k) 0) (by rw [setR_n (by decide)]; exact getD_some (l := S.2 3) (by omega)) (dR_of (tw_pA (k := 0) (n := k) HH rfl (by decide) rfl (by omega) (by rw [setR_k, cpW_len]; omega) fun h' H' => ?_)))
        rw [i32_succ]
        refine ih (k + 1) (by omega) h' ?_
        rw [setR_R, setR_k] at H'
        have e9 := cpW_step (dst := S.2 0) (src := S.2 3) (o := 0) (so := 457 * u) (k := k) (by omega)
        simp only [Nat.zero_add] at e9
        rw [e9] at H'
        exact H'
    refine loop 457 0 rfl h2' ?_
    rw [cpW_0, show S.2 0 = (setF (setF S 8 0) 6 (i32 u)).2 0 from rfl, setR_same]
    exact H2
  · have hc : x.ps.length = 0 := (i32_eq (b := 0) (by omega) (by omega)).mp hz
    rw [if_pos hc] at HK
    have hq := hI0.qd (Qd.self (c := 0) h1 h2)
    exact HK h1' _ H1 hq.1 hq.2
theorem t_save {s : Int32} {K : Int32 → AH → Prop} (H : TWX h0 h m A S) (hI : TI S x) (HK : TPost h0 m A (fSave x s) K) : MF G (d + 1) mi_M_save 0 [.ref m, .int s, .retAddr 0] [] h (cI K Qx) := by
  have l0 : (S.2 0).length = 457 := hI.1 0 rfl
  have l4 : (S.2 4).length = 914 := hI.1 4 rfl
  have l5 : (S.2 5).length = 2 := hI.1 5 rfl
  have hI0 := hI
  obtain ⟨h1, h2, h3, h4, h5, h6, h7, h8, h9, h10⟩ := hI
  unfold fSave at HK
  refine b_M_save_0 (tw_F H (by decide) rfl fun h1' H1 => s_in ⟨tw_K H1, s_guard (c := inB3 s 0 1) H1 (fun hb => ⟨fun _ => ?_, fun h9 => absurd h9 (by decide)⟩) (fun hb h2 H2 => ⟨fun h9 => absurd rfl h9, fun _ => cI_mk ?_⟩)⟩)
  · rw [if_pos hb] at HK
    obtain ⟨t, ht, rfl⟩ := inB3_le (n := 1) (by omega) hb
    rw [i32_nat (by omega)] at HK
    have fin : ∀ hh, TWX h0 hh m A (setR (setR (setF S 8 0) 4 (cpW (S.2 4) (457 * t) (S.2 0) 0 457)) 5 ((S.2 5).set t 1)) → K (x.g.ns 5) hh := by
      intro hh HH
      refine HK hh _ HH ⟨TL_setR (k := 5) (TL_setR (k := 4) h1 (by rw [cpW_len]; exact l4)) (by rw [List.length_set]; exact l5), ?_, ⟨?_, h3.2.1, ?_⟩, ?_, ?_, fun i hi => ?_, ?_, ⟨?_, ?_, h8.2.2⟩, ?_, ⟨?_, ?_, h10.2.2⟩⟩ ?_
      · rw [setR_n (by decide), setR_n (by decide)]; exact h2
      · rw [setR_1, setR_1, setF_n (by decide)]; exact h3.1
      · rw [setR_n (by decide), setR_n (by decide)]; exact h3.2.2
      · rw [setR_1, setR_1, setF_n (by decide)]; exact h4
      · rw [setR_1, setR_1, setF_n (by decide)]; exact h5
      · show Slt _ i (svF x t (some x.g) i)
        unfold svF
        by_cases e : i = t
        · subst e
          rw [if_pos rfl]
          unfold Slt
          rw [setR_k, setR_n (by decide), setR_k]
          refine ⟨gS_e (by omega), ?_⟩
          have : seg (cpW (S.2 4) (457 * i) (S.2 0) 0 457) (457 * i) = S.2 0 := seg_eq l0 fun j hj => by
            rw [cpW_getD (by omega), if_pos ⟨by omega, by omega⟩]
            congr 1; omega
          rw [this]; exact h2
        · rw [if_neg e]
          have := h6 i hi
          cases hs : x.sv i with
          | none =>
            rw [hs] at this
            unfold Slt at this ⊢
            rw [setR_k, gS_n (Ne.symm e)]; exact this
          | some g' =>
            rw [hs] at this
            unfold Slt at this ⊢
            rw [setR_k, gS_n (Ne.symm e), setR_n (by decide), setR_k]
            refine ⟨this.1, ?_⟩
            have e9 : seg (cpW (S.2 4) (457 * t) (S.2 0) 0 457) (457 * i) = seg (S.2 4) (457 * i) := seg_seg fun j hj => by
              rw [cpW_getD (by omega), if_neg (by omega)]
            rw [e9]; exact this.2
      · rw [setR_1, setR_1, setF_n (by decide)]; exact h7
      · rw [setR_n (by decide), setR_n (by decide)]; exact h8.1
      · rw [setR_1, setR_1, setF_n (by decide)]; exact h8.2.1
      · rw [setR_1, setR_1, setF_n (by decide)]; exact h9
      · rw [setR_n (by decide), setR_n (by decide)]; exact h10.1
      · rw [setR_1, setR_1, setF_n (by decide)]; exact h10.2.1
      · rw [setR_1, setR_1, setF_1]
    have loop : ∀ r k, r + k = 457 → ∀ hh, TWX h0 hh m A (setR (setF S 8 0) 4 (cpW (S.2 4) (457 * t) (S.2 0) 0 k)) → MF G (d + 1) mi_M_save 22 [.ref m, .int (i32 t), .int (i32 k)] [] hh (cI K Qx) := by
      intro r
      induction r with
      | zero =>
        intro k hk hh HH
        have : k = 457 := by omega
        subst this
        refine b_M_save_22 ⟨fun _ => tw_R (k := 5) HH (by decide) rfl (dR_of (tw_pZ (n := t) HH rfl (by omega) (by rw [setR_n (by decide)]; show t < (S.2 5).length; omega) rfl fun h2 H2 => ?_)), fun hn => absurd ((i32_le (a := 457) (by omega) (by omega)).mpr (Nat.le_refl _)) hn⟩
        rw [setR_n (S := setF S 8 0) (by decide)] at H2
        refine tw_n (j := 5) (g := x.g) H2 (by rw [setR_n (by decide), setR_n (by decide)]; exact hI0.2.1) (by decide) (cI_mk (fin h2 H2))
      | succ r ih =>
        intro k hk hh HH
        refine b_M_save_22 ⟨fun hn => absurd ((i32_le (a := 457) (by omega) (by omega)).mp hn) (by omega), fun _ => tw_R (k := 4) HH (by decide) rfl (tw_g (k := 0) (n := k) HH (by decide) rfl (by decide) rfl (by omega) (x := (S.2 0).getD k 0) (by rw [setR_n (by decide)]; exact getD_some (l := S.2 0) (by omega)) (dR_of (tw_pA (k := 4) (n := 457 * t + k) HH rfl (by decide) (ix457 t k) (by omega) (by rw [setR_k, cpW_len]; omega) fun h' H' => ?_)))⟩
        rw [i32_succ]
        refine ih (k + 1) (by omega) h' ?_
        rw [setR_R, setR_k] at H'
        have e9 := cpW_step (dst := S.2 4) (src := S.2 0) (o := 457 * t) (so := 0) (k := k) (by omega)
        simp only [Nat.zero_add] at e9
        rw [e9] at H'
        exact H'
    refine loop 457 0 rfl h1' ?_
    rw [cpW_0, show S.2 4 = (setF S 8 0).2 4 from rfl, setR_same]
    exact H1
  · rw [if_neg (by rw [hb]; decide)] at HK
    have hq := hI0.qd (Qd.self (c := 1) h1 hI0.2.1)
    exact HK h2 _ H2 hq.1 hq.2
theorem t_restore {s : Int32} {K : Int32 → AH → Prop} (H : TWX h0 h m A S) (hI : TI S x) (HK : TPost h0 m A (fRest x s) K) : MF G (d + 1) mi_M_restore 0 [.ref m, .int s, .retAddr 0] [] h (cI K Qx) := by
  have l0 : (S.2 0).length = 457 := hI.1 0 rfl
  have l4 : (S.2 4).length = 914 := hI.1 4 rfl
  have l5 : (S.2 5).length = 2 := hI.1 5 rfl
  have hI0 := hI
  obtain ⟨h1, h2, h3, h4, h5, h6, h7, h8, h9, h10⟩ := hI
  unfold fRest at HK
  refine b_M_restore_0 (tw_F H (by decide) rfl fun h1' H1 => s_in ⟨tw_K H1, s_guard (c := inB3 s 0 1) H1 (fun hb => ⟨fun _ => ?_, fun h9 => absurd h9 (by decide)⟩) (fun hb h2 H2 => ⟨fun h9 => absurd rfl h9, fun _ => cI_mk ?_⟩)⟩)
  · rw [if_pos hb] at HK
    obtain ⟨t, ht, rfl⟩ := inB3_le (n := 1) (by omega) hb
    rw [i32_nat (by omega)] at HK
    have hst := h6 t (by omega)
    cases hs : x.sv t with
    | none =>
      rw [hs] at hst HK
      unfold Slt at hst
      refine tw_R (k := 5) H1 (by decide) rfl (dR_of (tw_aZ (n := t) H1 rfl (by omega) (x := 0) hst ⟨fun hn => absurd rfl hn, fun _ => tw_F H1 (by decide) rfl fun h2 H2 => cI_mk ?_⟩))
      rw [setF_F] at H2
      have hq := hI0.qd (Qd.self (c := 2) h1 (by assumption))
      exact HK h2 _ H2 hq.1 hq.2
    | some g' =>
      rw [hs] at hst HK
      unfold Slt at hst
      refine tw_R (k := 5) H1 (by decide) rfl (dR_of (tw_aZ (n := t) H1 rfl (by omega) (x := 1) hst.1 ⟨fun _ => ?_, fun hz => absurd hz (by decide)⟩))
      have fin : ∀ hh, TWX h0 hh m A (setF (setR (setF S 8 0) 0 (seg (S.2 4) (457 * t))) 6 0) → K (g'.ns 5) hh := by
        intro hh HH
        refine HK hh _ HH ⟨TL_setR (k := 0) h1 seg_len, ?_, ⟨?_, Nat.zero_le _, ?_⟩, ?_, ?_, fun i hi => (h6 i hi).of ?_ ?_, ?_, ⟨?_, ?_, h8.2.2⟩, ?_, ⟨?_, ?_, h10.2.2⟩⟩ ?_
        · rw [setF_2, setR_k]; exact hst.2
        · rw [setF_1]; rfl
        · intro i g9 hg9; cases hg9
        · rw [setF_n (by decide), setR_1, setF_n (by decide)]; exact h4
        · rw [setF_n (by decide), setR_1, setF_n (by decide)]; exact h5
        · rw [setF_2, setR_n (by decide)]; rfl
        · rw [setF_2, setR_n (by decide)]; rfl
        · rw [setF_n (by decide), setR_1, setF_n (by decide)]; exact h7
        · rw [setF_2, setR_n (by decide)]; exact h8.1
        · rw [setF_n (by decide), setR_1, setF_n (by decide)]; exact h8.2.1
        · rw [setF_n (by decide), setR_1, setF_n (by decide)]; exact h9
        · rw [setF_2, setR_n (by decide)]; exact h10.1
        · rw [setF_n (by decide), setR_1, setF_n (by decide)]; exact h10.2.1
        · rw [setF_n (by decide), setR_1, setF_1]
      have loop : ∀ r k, r + k = 457 → ∀ hh, TWX h0 hh m A (setR (setF S 8 0) 0 (cpW (S.2 0) 0 (S.2 4) (457 * t) k)) → MF G (d + 1) mi_M_restore 38 [.ref m, .int (i32 t), .int (i32 k)] [] hh (cI K Qx) := by
        intro r
        induction r with
        | zero =>
          intro k hk hh HH
          have : k = 457 := by omega
          subst this
          rw [cpW_seg l0] at HH
          refine b_M_restore_38 ⟨fun _ => tw_F HH (by decide) rfl fun h2 H2 => tw_n (j := 5) (g := g') H2 (by rw [setF_2, setR_k]; exact hst.2) (by decide) (cI_mk (fin h2 H2)), fun hn => absurd ((i32_le (a := 457) (by omega) (by omega)).mpr (Nat.le_refl _)) hn⟩
        | succ r ih =>
          intro k hk hh HH
          refine b_M_restore_38 ⟨fun hn => absurd ((i32_le (a := 457) (by omega) (by omega)).mp hn) (by omega), fun _ => tw_R (k := 0) HH (by decide) rfl (tw_g (k := 4) (n := 457 * t + k) HH (by decide) rfl (by decide) (ix457 t k) (by omega) (x := (S.2 4).getD (457 * t + k) 0) (by rw [setR_n (by decide)]; exact getD_some (l := S.2 4) (by omega)) (dR_of (tw_pA (k := 0) (n := k) HH rfl (by decide) rfl (by omega) (by rw [setR_k, cpW_len]; omega) fun h' H' => ?_)))⟩
          rw [i32_succ]
          refine ih (k + 1) (by omega) h' ?_
          rw [setR_R, setR_k] at H'
          have e9 := cpW_step (dst := S.2 0) (src := S.2 4) (o := 0) (so := 457 * t) (k := k) (by omega)
          simp only [Nat.zero_add] at e9
          rw [e9] at H'
          exact H'
      refine loop 457 0 rfl h1' ?_
      rw [cpW_0, show S.2 0 = (setF S 8 0).2 0 from rfl, setR_same]
      exact H1
  · rw [if_neg (by rw [hb]; decide)] at HK
    have hq := hI0.qd (Qd.self (c := 1) h1 hI0.2.1)
    exact HK h2 _ H2 hq.1 hq.2
end
