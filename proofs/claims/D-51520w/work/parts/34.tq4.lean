/-! the twin: checks, changes of the row -/
set_option maxRecDepth 100000
def b01 (b : Bool) : Int32 := if b then 1 else 0
theorem b01_n (b : Bool) : narrow .boolean (.int (b01 b)) = .int (b01 b) := by cases b <;> decide
theorem b01_0 {b : Bool} (h : b01 b = 0) : b = false := by cases b; rfl; exact absurd h (by decide)
theorem b01_1 {b : Bool} (h : ¬ b01 b = 0) : b = true := by cases b; exact absurd rfl h; rfl
def inB3 (v lo hi : Int32) : Bool := !(decide (v < lo)) && !(decide (hi < v))
section
variable {G : GL} {d : Nat} {h0 h : AH} {m : Nat} {A : Nat → Nat} {S : TS} {g : GS} {Qx : Nat → AH → Prop} {K : Int32 → AH → Prop}
theorem s_in {v lo hi : Int32} (HK : K (b01 (inB3 v lo hi)) h) : MF G d mi_M_in 0 [.int v, .int lo, .int hi] [] h (cI K Qx) := by
  refine b_M_in_0 ⟨fun h1 => cI_mk ?_, fun h1 => ⟨fun h2 => cI_mk ?_, fun h2 => cI_mk ?_⟩⟩
  · rw [inB3, decide_eq_true h1] at HK; exact HK
  · rw [inB3, decide_eq_false h1, decide_eq_true h2] at HK; exact HK
  · rw [inB3, decide_eq_false h1, decide_eq_false h2] at HK; exact HK
theorem s_isPlayer {p : Int32} (H : TWX h0 h m A S) (hR : TR (S.2 0) g) (HK : K (b01 (inB3 p 0 (i32 g.pl.length - 1))) h) : MF G (d + 1) mi_M_isPlayer 0 [.ref m, .int p] [] h (cI K Qx) :=
  b_M_isPlayer_0 (tw_n (j := 2) H hR (by decide) (s_in ⟨b01_n _, cI_mk HK⟩))
theorem s_isFace {f : Int32} (H : TWX h0 h m A S) (hR : TR (S.2 0) g) (HK : K (b01 (inB3 f 0 (g.ns 0 - 1))) h) : MF G (d + 1) mi_M_isFace 0 [.ref m, .int f] [] h (cI K Qx) :=
  b_M_isFace_0 (tw_n (j := 0) H hR (by decide) (s_in ⟨b01_n _, cI_mk HK⟩))
theorem s_isNumber {n : Int32} (HK : K (b01 (inB3 n 1 9)) h) : MF G (d + 1) mi_M_isNumber 0 [.int n] [] h (cI K Qx) :=
  b_M_isNumber_0 (s_in ⟨b01_n _, cI_mk HK⟩)
def isSt (g : GS) (st : Int32) : Bool := !(decide (st < 0)) && inB3 (st / 10) 0 (g.ns 0 - 1) && inB3 (st - st / 10 * 10) 1 9
theorem s_isStone {st : Int32} (H : TWX h0 h m A S) (hR : TR (S.2 0) g) (HK : K (b01 (isSt g st)) h) : MF G (d + 2) mi_M_isStone 0 [.ref m, .int st] [] h (cI K Qx) := by
  refine b_M_isStone_0 ⟨fun h1 => cI_mk ?_, fun h1 => ⟨tw_K H, s_isFace H hR ⟨fun h2 => cI_mk ?_, fun h2 => s_isNumber ⟨fun h3 => cI_mk ?_, fun h3 => cI_mk ?_⟩⟩⟩⟩
  · rw [isSt, decide_eq_true h1] at HK; exact HK
  · rw [isSt, decide_eq_false h1, b01_0 h2] at HK; exact HK
  · rw [isSt, decide_eq_false h1, b01_1 h2, b01_0 h3] at HK; exact HK
  · rw [isSt, decide_eq_false h1, b01_1 h2, b01_1 h3] at HK; exact HK
def isAs (g : GS) (p f n : Int32) : Bool := inB3 p 0 (i32 g.pl.length - 1) && inB3 f 0 (g.ns 0 - 1) && inB3 n 1 9
theorem s_isAsked {p f n : Int32} (H : TWX h0 h m A S) (hR : TR (S.2 0) g) (HK : K (b01 (isAs g p f n)) h) : MF G (d + 2) mi_M_isAsked 0 [.ref m, .int p, .int f, .int n] [] h (cI K Qx) := by
  refine b_M_isAsked_0 ⟨tw_K H, s_isPlayer H hR ⟨fun h1 => cI_mk ?_, fun h1 => ⟨tw_K H, s_isFace H hR ⟨fun h2 => cI_mk ?_, fun h2 => s_isNumber ⟨fun h3 => cI_mk ?_, fun h3 => cI_mk ?_⟩⟩⟩⟩⟩
  · rw [isAs, b01_0 h1] at HK; exact HK
  · rw [isAs, b01_1 h1, b01_0 h2] at HK; exact HK
  · rw [isAs, b01_1 h1, b01_1 h2, b01_0 h3] at HK; exact HK
  · rw [isAs, b01_1 h1, b01_1 h2, b01_1 h3] at HK; exact HK
theorem s_right {b : Bool} (H : TWX h0 h m A S) (Hy : b = true → K 1 h) (Hn : b = false → ∀ h', TWX h0 h' m A (setF S 8 1) → K 0 h') : MF G d mi_M_right 0 [.ref m, .int (b01 b)] [] h (cI K Qx) := by
  refine b_M_right_0 ⟨fun h1 => ?_, fun h1 => ?_⟩
  · have := b01_1 h1
    subst this
    exact ⟨by decide, cI_mk (Hy rfl)⟩
  · have := b01_0 h1
    subst this
    exact tw_F H (by decide) rfl fun h' H' => ⟨by decide, cI_mk (Hn rfl h' H')⟩
def grb (g : GS) : Int32 := itn (fun a k => mx a (p3 (g.pl.getD k (0, 0, 0)) 2)) 0 g.pl.length
theorem s_greatestBid (H : TWX h0 h m A S) (hR : TR (S.2 0) g) (HK : K (grb g) h) : MF G (d + 1) mi_M_greatestBid 0 [.ref m, .retAddr 0, .retAddr 0] [] h (cI K Qx) := by
  refine b_M_greatestBid_0 ?_
  have h5 := hR.2.1
  have loop : ∀ r k, r + k = g.pl.length → MF G (d + 1) mi_M_greatestBid 4 [.ref m, .int (itn (fun a k => mx a (p3 (g.pl.getD k (0, 0, 0)) 2)) 0 k), .int (i32 k)] [] h (cI K Qx) := by
    intro r
    induction r with
    | zero =>
      intro k hk
      have : k = g.pl.length := by omega
      subst this
      exact b_M_greatestBid_4 (tw_n (j := 2) H hR (by decide) ⟨fun _ => cI_mk HK, fun hn => absurd ((i32_le (by omega) (by omega)).mpr (Nat.le_refl _)) hn⟩)
    | succ r ih =>
      intro k hk
      obtain ⟨x, hx⟩ : ∃ x, g.pl[k]? = some x := ⟨_, List.getElem?_eq_getElem (by omega)⟩
      have hst := ih (k + 1) (by omega)
      rw [← i32_succ k] at hst
      have hgd : g.pl.getD k (0, 0, 0) = x := by rw [List.getD_eq_getElem?_getD, hx]; rfl
      simp only [itn, hgd] at hst
      exact b_M_greatestBid_4 (tw_n (j := 2) H hR (by decide) ⟨fun hn => absurd ((i32_le (by omega) (by omega)).mp hn) (by omega), fun _ => ⟨tw_K H, s_of (j := 2) H hR hx (by decide) hst⟩⟩)
  exact loop g.pl.length 0 rfl
end
/-- a list with k places from o on overwritten by src from so on -/
def cpW (dst : List Int32) (o : Nat) (src : List Int32) (so k : Nat) : List Int32 := (List.range dst.length).map fun j => if o ≤ j ∧ j < o + k then src.getD (so + (j - o)) 0 else dst.getD j 0
theorem cpW_len {dst src : List Int32} {o so k : Nat} : (cpW dst o src so k).length = dst.length := by simp [cpW]
theorem cpW_at {dst src : List Int32} {o so k j : Nat} (hj : j < dst.length) : (cpW dst o src so k)[j]? = some (if o ≤ j ∧ j < o + k then src.getD (so + (j - o)) 0 else dst.getD j 0) := by
  unfold cpW
  rw [List.getElem?_map, List.getElem?_range hj]
  rfl
theorem getD_some {l : List Int32} {j : Nat} (hj : j < l.length) : l[j]? = some (l.getD j 0) := by
  rw [List.getD_eq_getElem?_getD, List.getElem?_eq_getElem hj]; rfl
theorem cpW_0 {dst src : List Int32} {o so : Nat} : cpW dst o src so 0 = dst := by
  apply List.ext_getElem?
  intro j
  by_cases hj : j < dst.length
  · rw [cpW_at hj, if_neg (by omega), getD_some hj]
  · rw [List.getElem?_eq_none (by rw [cpW_len]; omega), List.getElem?_eq_none (by omega)]
theorem cpW_step {dst src : List Int32} {o so k : Nat} (hk : o + k < dst.length) : (cpW dst o src so k).set (o + k) (src.getD (so + k) 0) = cpW dst o src so (k + 1) := by
  apply List.ext_getElem?
  intro j
  by_cases hj : j < dst.length
  · rw [List.getElem?_set, cpW_at hj, cpW_at hj, cpW_len]
    by_cases e : o + k = j
    · subst e
      rw [if_pos rfl, if_pos hk, if_pos (by omega), show o + k - o = k by omega]
    · rw [if_neg e]
      by_cases h1 : o ≤ j ∧ j < o + k
      · rw [if_pos h1, if_pos (by omega)]
      · rw [if_neg h1, if_neg (by omega)]
  · rw [List.getElem?_eq_none (by simp [cpW_len]; omega), List.getElem?_eq_none (by rw [cpW_len]; omega)]
section
variable {G : GL} {d : Nat} {h0 h : AH} {m : Nat} {A : Nat → Nat} {S : TS} {g : GS} {Qx : Nat → AH → Prop}
theorem s_tries {K : AH → Prop} (H : TWX h0 h m A S) (h1 : (S.2 0).length = 457) (h2 : (S.2 1).length = 457) (HK : ∀ h', TWX h0 h' m A (setR S 1 (cpW (S.2 1) 0 (S.2 0) 0 457)) → K h') : MF G d mi_M_tries 0 [.ref m, .retAddr 0] [] h (cV K Qx) := by
  refine b_M_tries_0 ?_
  have loop : ∀ r k, r + k = 457 → ∀ hh, TWX h0 hh m A (setR S 1 (cpW (S.2 1) 0 (S.2 0) 0 k)) → MF G d mi_M_tries 2 [.ref m, .int (i32 k)] [] hh (cV K Qx) := by
    intro r
    induction r with
    | zero =>
      intro k hk hh HH
      have : k = 457 := by omega
      subst this
      exact b_M_tries_2 ⟨fun _ => cV_mk (HK _ HH), fun hn => absurd ((i32_le (a := 457) (by omega) (by omega)).mpr (Nat.le_refl _)) hn⟩
    | succ r ih =>
      intro k hk hh HH
      refine b_M_tries_2 ⟨fun hn => absurd ((i32_le (a := 457) (by omega) (by omega)).mp hn) (by omega), fun _ => tw_R HH (by decide) rfl (tw_g HH (by decide) rfl (by decide) rfl (by omega) (x := (S.2 0).getD k 0) (by rw [setR_n (by decide)]; exact getD_some (by omega)) (dR_of (tw_pA HH rfl (by decide) rfl (by omega) (by rw [setR_k, cpW_len]; omega) fun h' H' => ?_)))⟩
      rw [i32_succ]
      refine ih (k + 1) (by omega) h' ?_
      rw [setR_k] at H'
      have e9 := cpW_step (dst := S.2 1) (src := S.2 0) (o := 0) (so := 0) (k := k) (by omega)
      simp only [Nat.zero_add] at e9
      rw [e9] at H'
      have e8 : setR (setR S 1 (cpW (S.2 1) 0 (S.2 0) 0 k)) 1 (cpW (S.2 1) 0 (S.2 0) 0 (k + 1)) = setR S 1 (cpW (S.2 1) 0 (S.2 0) 0 (k + 1)) := by
        unfold setR
        congr 1
        funext j
        by_cases ej : j = 1 <;> simp [ej]
      rw [e8] at H'
      exact H'
  exact loop 457 0 rfl h (by
    rw [cpW_0]
    have e8 : setR S 1 (S.2 1) = S := by
      unfold setR
      have : (fun j => if j = 1 then S.2 1 else S.2 j) = S.2 := by
        funext j
        by_cases ej : j = 1 <;> simp [ej]
      rw [this]
    rw [e8]; exact H)
end
