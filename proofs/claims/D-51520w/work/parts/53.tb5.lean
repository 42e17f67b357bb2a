/-! the twin: stones in order, names, why, accounts -/
set_option maxRecDepth 100000
def isAh (g : GS) (k o : Nat) : Bool := if p4 (hdA g k) 0 = p4 (hdA g o) 0 then (if p4 (hdA g k) 1 = p4 (hdA g o) 1 then (if p4 (hdA g k) 3 = p4 (hdA g o) 3 then decide (k < o) else decide (p4 (hdA g k) 3 < p4 (hdA g o) 3)) else decide (p4 (hdA g k) 1 < p4 (hdA g o) 1)) else decide (p4 (hdA g k) 0 < p4 (hdA g o) 0)
def rkN (g : GS) (p : Int32) (k : Nat) : Int32 := itn (fun a o => if (hdA g o).2.2.1 = p then (if isAh g o k then a + 1 else a) else a) 0 g.hd.length
def rkL (g : GS) (p i : Int32) : Nat → Nat → Int32
  | 0, _ => -1
  | r + 1, k => if (hdA g k).2.2.1 = p then (if rkN g p k = i then i32 k else rkL g p i r (k + 1)) else rkL g p i r (k + 1)
def gOwn (g : GS) (p i x : Int32) : Int32 := if rkL g p i g.hd.length 0 = -1 then -1 else p4 (hdA g (rkL g p i g.hd.length 0).toNatClampNeg) (if x = 2 then 3 else x.toNatClampNeg)
theorem rkL_ok (g : GS) (p i : Int32) : ∀ r k, r + k = g.hd.length → rkL g p i r k = -1 ∨ ∃ j, j < g.hd.length ∧ rkL g p i r k = i32 j := by
  intro r
  induction r with
  | zero => intro k _; exact Or.inl rfl
  | succ r ih =>
    intro k hk
    have := ih (k + 1) (by omega)
    unfold rkL
    by_cases h1 : (hdA g k).2.2.1 = p
    · rw [if_pos h1]
      by_cases h2 : rkN g p k = i
      · rw [if_pos h2]; exact Or.inr ⟨k, by omega, rfl⟩
      · rw [if_neg h2]; exact this
    · rw [if_neg h1]; exact this
/-- how many letters a name has, a letter of it -/
def dg : Nat → Nat → Nat
  | 0, _ => 0
  | r + 1, N => if N = 0 then 0 else dg r (N / 27) + 1
def dvs : Nat → Nat → Nat
  | 0, N => N
  | j + 1, N => dvs j (N / 27)
def lcn (N : Nat) : Nat := dg 7 N
def gLet (N : Nat) (i : Int32) : Int32 := if inB3 i 0 (i32 (lcn N) - 1) then i32 (96 + dvs (lcn N - (i.toNatClampNeg + 1)) N % 27) else -1
def nmL (g : GS) (c : Int32) : Nat → Nat → Int32
  | 0, _ => -1
  | r + 1, p => if (plA g p).1 = c then i32 p else nmL g c r (p + 1)
def nmd (g : GS) (c : Int32) : Int32 := nmL g c g.pl.length 0
theorem nmL_ok (g : GS) (c : Int32) : ∀ r k, r + k = g.pl.length → nmL g c r k = -1 ∨ ∃ j, j < g.pl.length ∧ nmL g c r k = i32 j := by
  intro r
  induction r with
  | zero => intro k _; exact Or.inl rfl
  | succ r ih =>
    intro k hk
    have := ih (k + 1) (by omega)
    unfold nmL
    by_cases h1 : (plA g k).1 = c
    · rw [if_pos h1]; exact Or.inr ⟨k, by omega, rfl⟩
    · rw [if_neg h1]; exact this
def pkd (b : List Int32) (s k : Nat) : Int32 := itn (fun a j => 27 * a + b.getD (s + j) 0 - 96) 0 k
section
variable {G : GL} {d : Nat} {h0 h : AH} {m : Nat} {A : Nat → Nat} {S : TS} {g : GS} {ps : List GS} {sc : Bool} {Qx : Nat → AH → Prop}
theorem s_isAhead {k o : Nat} {K : Int32 → AH → Prop} (H : TWX h0 h m A S) (hR : TR (S.2 0) g) (hk : k < g.hd.length) (ho : o < g.hd.length) (HK : K (b01 (isAh g k o)) h) : MF G (d + 1) mi_M_isAhead 0 [.ref m, .int (i32 k), .int (i32 o)] [] h (cI K Qx) := by
  have h61 := hR.2.2.2.1
  have hx := hdA_at hk
  have hz := hdA_at ho
  unfold isAh at HK
  refine b_M_isAhead_0 ⟨tw_K H, s_held (j := 0) H hR hx (by decide) ⟨tw_K H, s_held (j := 0) H hR hz (by decide) ⟨fun he => ?_, fun hne => ?_⟩⟩⟩
  · rw [if_pos (show p4 (hdA g k) 0 = p4 (hdA g o) 0 from he)] at HK
    refine ⟨tw_K H, s_held (j := 1) H hR hx (by decide) ⟨tw_K H, s_held (j := 1) H hR hz (by decide) ⟨fun he => ?_, fun hne => ?_⟩⟩⟩
    · rw [if_pos (show p4 (hdA g k) 1 = p4 (hdA g o) 1 from he)] at HK
      refine ⟨tw_K H, s_held (j := 3) H hR hx (by decide) ⟨tw_K H, s_held (j := 3) H hR hz (by decide) ⟨fun hne => ?_, fun he => ?_⟩⟩⟩
      · rw [if_neg (show ¬ p4 (hdA g k) 3 = p4 (hdA g o) 3 from hne)] at HK
        refine ⟨tw_K H, s_held (j := 3) H hR hx (by decide) ⟨tw_K H, s_held (j := 3) H hR hz (by decide) ⟨fun hle => cI_mk ?_, fun hgt => cI_mk ?_⟩⟩⟩
        · rw [decide_eq_false (Int32.not_lt.mpr hle)] at HK; exact HK
        · rw [decide_eq_true (Int32.not_le.mp hgt)] at HK; exact HK
      · rw [if_pos (show p4 (hdA g k) 3 = p4 (hdA g o) 3 from he)] at HK
        refine ⟨fun hle => cI_mk ?_, fun hgt => cI_mk ?_⟩
        · have := (i32_le (by omega) (by omega)).mp hle
          rw [decide_eq_false (by omega)] at HK; exact HK
        · have : ¬ o ≤ k := fun e => hgt ((i32_le (by omega) (by omega)).mpr e)
          rw [decide_eq_true (by omega)] at HK; exact HK
    · rw [if_neg (show ¬ p4 (hdA g k) 1 = p4 (hdA g o) 1 from hne)] at HK
      refine ⟨tw_K H, s_held (j := 1) H hR hx (by decide) ⟨tw_K H, s_held (j := 1) H hR hz (by decide) ⟨fun hle => cI_mk ?_, fun hgt => cI_mk ?_⟩⟩⟩
      · rw [decide_eq_false (Int32.not_lt.mpr hle)] at HK; exact HK
      · rw [decide_eq_true (Int32.not_le.mp hgt)] at HK; exact HK
  · rw [if_neg (show ¬ p4 (hdA g k) 0 = p4 (hdA g o) 0 from hne)] at HK
    refine ⟨tw_K H, s_held (j := 0) H hR hx (by decide) ⟨tw_K H, s_held (j := 0) H hR hz (by decide) ⟨fun hle => cI_mk ?_, fun hgt => cI_mk ?_⟩⟩⟩
    · rw [decide_eq_false (Int32.not_lt.mpr hle)] at HK; exact HK
    · rw [decide_eq_true (Int32.not_le.mp hgt)] at HK; exact HK
theorem s_ranked {p i : Int32} {K : Int32 → AH → Prop} (H : TWX h0 h m A S) (hR : TR (S.2 0) g) (HK : K (rkL g p i g.hd.length 0) h) : MF G (d + 2) mi_M_ranked 0 [.ref m, .int p, .int i, .retAddr 0, .retAddr 0, .retAddr 0] [] h (cI K Qx) := by
  have h61 := hR.2.2.2.1
  refine b_M_ranked_0 ?_
  have inner : ∀ k, k < g.hd.length → (¬ rkN g p k = i → ∀ u4 u5, MF G (d + 2) mi_M_ranked 2 [.ref m, .int p, .int i, .int (i32 (k + 1)), u4, u5] [] h (cI K Qx)) → (rkN g p k = i → K (i32 k) h) → ∀ r o, r + o = g.hd.length → MF G (d + 2) mi_M_ranked 32 [.ref m, .int p, .int i, .int (i32 k), .int (itn (fun a o => if (hdA g o).2.2.1 = p then (if isAh g o k then a + 1 else a) else a) 0 o), .int (i32 o)] [] h (cI K Qx) := by
    intro k hk hno hyes r
    induction r with
    | zero =>
      intro o ho
      have : o = g.hd.length := by omega
      subst this
      refine b_M_ranked_32 (tw_n (j := 10) H hR (by decide) ⟨fun _ => ⟨fun hn => ?_, fun he => cI_mk (hyes he)⟩, fun hn => absurd ((i32_le (by omega) (by omega)).mpr (Nat.le_refl _)) hn⟩)
      rw [i32_succ]
      exact hno hn _ _
    | succ r ih =>
      intro o ho
      have hst := ih (o + 1) (by omega)
      rw [← i32_succ o] at hst
      refine b_M_ranked_32 (tw_n (j := 10) H hR (by decide) ⟨fun hn => absurd ((i32_le (by omega) (by omega)).mp hn) (by omega), fun _ => ⟨tw_K H, s_held (j := 2) H hR (hdA_at (by omega)) (by decide) ⟨fun hne => ?_, fun he => ⟨tw_K H, s_isAhead H hR (by omega) hk ⟨fun hz => ?_, fun hnz => ?_⟩⟩⟩⟩⟩)
      · rw [show itn (fun a o => if (hdA g o).2.2.1 = p then (if isAh g o k then a + 1 else a) else a) 0 (o + 1) = itn (fun a o => if (hdA g o).2.2.1 = p then (if isAh g o k then a + 1 else a) else a) 0 o from if_neg hne] at hst
        exact hst
      · rw [show itn (fun a o => if (hdA g o).2.2.1 = p then (if isAh g o k then a + 1 else a) else a) 0 (o + 1) = itn (fun a o => if (hdA g o).2.2.1 = p then (if isAh g o k then a + 1 else a) else a) 0 o from (if_pos he).trans (if_neg (by rw [b01_0 hz]; decide))] at hst
        exact hst
      · rw [show itn (fun a o => if (hdA g o).2.2.1 = p then (if isAh g o k then a + 1 else a) else a) 0 (o + 1) = itn (fun a o => if (hdA g o).2.2.1 = p then (if isAh g o k then a + 1 else a) else a) 0 o + 1 from (if_pos he).trans (if_pos (b01_1 hnz))] at hst
        exact hst
  have loop : ∀ r k, r + k = g.hd.length → rkL g p i r k = rkL g p i g.hd.length 0 → ∀ u4 u5, MF G (d + 2) mi_M_ranked 2 [.ref m, .int p, .int i, .int (i32 k), u4, u5] [] h (cI K Qx) := by
    intro r
    induction r with
    | zero =>
      intro k hk e u4 u5
      have : k = g.hd.length := by omega
      subst this
      rw [← e] at HK
      exact b_M_ranked_2 (tw_n (j := 10) H hR (by decide) ⟨fun _ => cI_mk HK, fun hn => absurd ((i32_le (by omega) (by omega)).mpr (Nat.le_refl _)) hn⟩)
    | succ r ih =>
      intro k hk e u4 u5
      refine b_M_ranked_2 (tw_n (j := 10) H hR (by decide) ⟨fun hn => absurd ((i32_le (by omega) (by omega)).mp hn) (by omega), fun _ => ⟨tw_K H, s_held (j := 2) H hR (hdA_at (by omega)) (by decide) ⟨fun he => inner k (by omega) (fun hn => ih (k + 1) (by omega) ?_) (fun he2 => ?_) g.hd.length 0 rfl, fun hne => ?_⟩⟩⟩)
      · rw [← e]
        exact ((if_pos he).trans (if_neg hn)).symm
      · rw [← e, show rkL g p i (r + 1) k = i32 k from (if_pos he).trans (if_pos he2)] at HK
        exact HK
      · rw [i32_succ]
        refine ih (k + 1) (by omega) ?_ _ _
        rw [← e]
        exact (if_neg hne).symm
  exact loop g.hd.length 0 rfl rfl _ _
def isOw (g : GS) (p x : Int32) : Bool := isPl g p && inB3 x 0 2
theorem p_owned {p i x : Int32} {K : Int32 → AH → Prop} (H : TWX h0 h m A S) (hL : TL S) (hR : TR (S.2 0) g) (HK : ∀ h' S', TWX h0 h' m A S' → Qd S S' g (b01 (!isOw g p x)) → K (if isOw g p x then gOwn g p i x else 0) h') : MF G (d + 3) mi_M_owned 0 [.ref m, .int p, .int i, .int x, .retAddr 0] [] h (cI K Qx) := by
  have h61 := hR.2.2.2.1
  refine b_M_owned_0 (tw_F H (by decide) rfl fun h1 H1 => ?_)
  have tail : ∀ c, isOw g p x = c → MF G (d + 3) mi_M_owned 28 [.ref m, .int p, .int i, .int x, .retAddr 0] [.int (b01 c), .ref m] h1 (cI K Qx) := by
    intro c hc
    rw [hc] at HK
    refine b_M_owned_28 rfl (dR_of ⟨tw_K H1, s_guard H1 (fun hb => ⟨fun _ => ?_, fun h9 => absurd h9 (by decide)⟩) (fun hb h2 H2 => ⟨fun h9 => absurd rfl h9, fun _ => cI_mk ?_⟩)⟩)
    · subst hb
      rw [if_pos rfl] at HK
      have HK1 := HK h1 _ H1 (Qd.self hL hR)
      unfold gOwn at HK1
      refine ⟨tw_K H1, s_ranked (g := g) H1 hR ⟨fun hn => ?_, fun hz => ?_⟩⟩
      · rw [if_neg hn] at HK1
        rcases rkL_ok g p i g.hd.length 0 rfl with e | ⟨k, hk, e⟩
        · exact absurd e hn
        · rw [e, i32_nat (by omega)] at HK1
          rw [e]
          unfold isOw at hc
          rw [Bool.and_eq_true] at hc
          obtain ⟨j, hj, rfl⟩ := inB3_nat (n := 3) (by omega) hc.2
          refine ⟨fun hx => b_M_owned_67 rfl (dR_of ⟨tw_K H1, s_held (j := j) (g := g) H1 hR (hdA_at hk) (by omega) (cI_mk ?_)⟩), fun hx => b_M_owned_67 rfl (dR_of ⟨tw_K H1, s_held (j := 3) (g := g) H1 hR (hdA_at hk) (by omega) (cI_mk ?_)⟩)⟩
          · rw [if_neg hx, i32_nat (by omega)] at HK1; exact HK1
          · rw [if_pos hx] at HK1; exact HK1
      · rw [if_pos hz] at HK1
        exact cI_mk HK1
    · subst hb
      exact HK h2 _ H2 (Qd.self hL hR)
  exact ⟨tw_K H1, s_isPlayer (g := g) H1 hR ⟨fun hz => tail false (by unfold isOw; rw [show isPl g p = false from b01_0 hz]; rfl), fun hn => s_in ⟨fun hz => tail false (by unfold isOw; rw [b01_0 hz, Bool.and_false]), fun hn2 => tail true (by unfold isOw; rw [b01_1 hn2, show isPl g p = true from b01_1 hn]; rfl)⟩⟩⟩
theorem dg_le : ∀ r N, dg r N ≤ r := by
  intro r
  induction r with
  | zero => intro N; exact Nat.le_refl 0
  | succ r ih =>
    intro N
    unfold dg
    split
    · omega
    · have := ih (N / 27); omega
theorem s_letterOf {N : Nat} (hN : N < 387420489) {i : Int32} {K : Int32 → AH → Prop} (HK : K (gLet N i) h) : MF G (d + 1) mi_M_letterOf 0 [.int (i32 N), .int i, .retAddr 0, .retAddr 0, .retAddr 0] [] h (cI K Qx) := by
  refine b_M_letterOf_0 ?_
  have hl : lcn N ≤ 7 := dg_le 7 N
  unfold gLet at HK
  have e27 : ∀ M, M < 2147483648 → i32 M / 27 = i32 (M / 27) := fun M hM => i32_div (b := 27) hM (by omega) (by omega)
  have second : ∀ r k M, r + k = lcn N → 1 ≤ r + 0 ∨ True → M < 2147483648 → K (i32 (96 + dvs r M % 27)) h → MF G (d + 1) mi_M_letterOf 39 [.int (i32 N), .int i, .int (i32 (lcn N)), .int (i32 M), .int (i32 k)] [] h (cI K Qx) := by
    intro r
    induction r with
    | zero =>
      intro k M hk _ hM HK2
      refine b_M_letterOf_39 ⟨fun _ => cI_mk ?_, fun hn => absurd ((i32_le (by omega) (by omega)).mpr (by omega)) hn⟩
      rw [show (27 : Int32) = i32 27 from rfl, i32_mod hM (by omega) (by omega)]
      rw [show (96 : Int32) = i32 96 from rfl, i32_add]
      exact HK2
    | succ r ih =>
      intro k M hk _ hM HK2
      refine b_M_letterOf_39 ⟨fun hn => absurd ((i32_le (by omega) (by omega)).mp hn) (by omega), fun _ => ?_⟩
      rw [e27 M hM, i32_succ]
      exact ih (k + 1) (M / 27) (by omega) (Or.inr trivial) (by omega) HK2
  have first : ∀ r k M, M < 27 ^ r → r ≤ 7 → k + dg r M = lcn N → M < 2147483648 → k ≤ 7 → ∀ u4, MF G (d + 1) mi_M_letterOf 4 [.int (i32 N), .int i, .int (i32 k), .int (i32 M), u4] [] h (cI K Qx) := by
    intro r
    induction r with
    | zero =>
      intro k M hM hr hk hM2 hk7 u4
      have hM0 : M = 0 := by simpa using hM
      subst hM0
      have hkl : k = lcn N := by simpa [dg] using hk
      refine b_M_letterOf_4 ⟨fun _ => s_in ⟨fun hn => ?_, fun hz => cI_mk ?_⟩, fun hn => absurd (by decide) hn⟩
      · rw [hkl] at hn ⊢
        have e9 := b01_1 hn
        rw [e9, if_pos rfl] at HK
        obtain ⟨j, hj, rfl⟩ := inB3_nat (by omega) e9
        rw [i32_nat (by omega)] at HK
        rw [i32_succ]
        exact second (lcn N - (j + 1)) (j + 1) N (by omega) (Or.inr trivial) (by omega) HK
      · rw [hkl] at hz
        rw [b01_0 hz] at HK
        exact HK
    | succ r ih =>
      intro k M hM hr hk hM2 hk7 u4
      by_cases hM0 : M = 0
      · subst hM0
        have hkl : k = lcn N := by simpa [dg] using hk
        refine b_M_letterOf_4 ⟨fun _ => s_in ⟨fun hn => ?_, fun hz => cI_mk ?_⟩, fun hn => absurd (by decide) hn⟩
        · rw [hkl] at hn ⊢
          have e9 := b01_1 hn
          rw [e9, if_pos rfl] at HK
          obtain ⟨j, hj, rfl⟩ := inB3_nat (by omega) e9
          rw [i32_nat (by omega)] at HK
          rw [i32_succ]
          exact second (lcn N - (j + 1)) (j + 1) N (by omega) (Or.inr trivial) (by omega) HK
        · rw [hkl] at hz
          rw [b01_0 hz] at HK
          exact HK
      · refine b_M_letterOf_4 ⟨fun hn => absurd ((i32_le (b := 0) (by omega) (by omega)).mp hn) (by omega), fun _ => ?_⟩
        have hdg : dg (r + 1) M = dg r (M / 27) + 1 := by
          show (if M = 0 then 0 else dg r (M / 27) + 1) = _
          rw [if_neg hM0]
        rw [hdg] at hk
        rw [e27 M hM2, i32_succ]
        refine ih (k + 1) (M / 27) ?_ (by omega) (by omega) (by omega) (by omega) _
        rw [Nat.pow_succ] at hM
        exact Nat.div_lt_of_lt_mul (by rw [Nat.mul_comm]; exact hM)
  exact first 7 0 N (by omega) (by omega) (by show 0 + lcn N = lcn N; omega) (by omega) (by omega) _
theorem p_letter {p i : Int32} {K : Int32 → AH → Prop} (H : TWX h0 h m A S) (hL : TL S) (hR : TR (S.2 0) g) (hN : ∀ k, k < g.pl.length → ∃ N, N < 387420489 ∧ (plA g k).1 = i32 N) (HK : ∀ h' S', TWX h0 h' m A S' → Qd S S' g (b01 (!isPl g p)) → K (if isPl g p then gLet (plA g p.toNatClampNeg).1.toNatClampNeg i else 0) h') : MF G (d + 2) mi_M_letter 0 [.ref m, .int p, .int i] [] h (cI K Qx) := by
  have h5 := hR.2.1
  refine b_M_letter_0 (tw_F H (by decide) rfl fun h1 H1 => ⟨tw_K H1, s_isPlayer (g := g) H1 hR ⟨tw_K H1, s_guard (c := isPl g p) H1 (fun hb => ⟨fun h9 => absurd h9 (by decide), fun _ => ?_⟩) (fun hb h2 H2 => ⟨fun _ => cI_mk ?_, fun h9 => absurd rfl h9⟩)⟩⟩)
  · rw [hb, if_pos rfl] at HK
    have HK1 := HK h1 _ H1 (Qd.self hL hR)
    obtain ⟨k, hk, rfl⟩ := inB3_nat (by omega) hb
    rw [i32_nat (by omega)] at HK1
    obtain ⟨N, hN9, eN⟩ := hN k hk
    rw [eN, i32_nat (by omega)] at HK1
    refine ⟨tw_K H1, s_of (j := 0) (g := g) H1 hR (plA_at hk) (by decide) ?_⟩
    rw [show p3 (plA g k) 0 = (plA g k).1 from rfl, eN]
    exact s_letterOf hN9 (cI_mk HK1)
  · rw [hb] at HK
    exact HK h2 _ H2 (Qd.self hL hR)
theorem s_named {c : Int32} {K : Int32 → AH → Prop} (H : TWX h0 h m A S) (hR : TR (S.2 0) g) (HK : K (nmd g c) h) : MF G (d + 1) mi_M_named 0 [.ref m, .int c, .retAddr 0] [] h (cI K Qx) := by
  have h5 := hR.2.1
  refine b_M_named_0 ?_
  have loop : ∀ r p, r + p = g.pl.length → nmL g c r p = nmd g c → MF G (d + 1) mi_M_named 2 [.ref m, .int c, .int (i32 p)] [] h (cI K Qx) := by
    intro r
    induction r with
    | zero =>
      intro p hp e
      have : p = g.pl.length := by omega
      subst this
      rw [← e] at HK
      exact b_M_named_2 (tw_n (j := 2) H hR (by decide) ⟨fun _ => cI_mk HK, fun hn => absurd ((i32_le (by omega) (by omega)).mpr (Nat.le_refl _)) hn⟩)
    | succ r ih =>
      intro p hp e
      refine b_M_named_2 (tw_n (j := 2) H hR (by decide) ⟨fun hn => absurd ((i32_le (by omega) (by omega)).mp hn) (by omega), fun _ => ⟨tw_K H, s_of (j := 0) H hR (plA_at (by omega)) (by decide) ⟨fun hne => ?_, fun he => cI_mk ?_⟩⟩⟩)
      · rw [i32_succ]
        exact ih (p + 1) (by omega) (by rw [← e]; exact (if_neg hne).symm)
      · rw [← e, show nmL g c (r + 1) p = i32 p from if_pos he] at HK
        exact HK
  exact loop g.pl.length 0 rfl rfl
theorem s_packed {s k : Nat} {K : Int32 → AH → Prop} (H : TWX h0 h m A S) (hL : TL S) (hs : s + k ≤ 500) (HK : K (pkd (S.2 9) s k) h) : MF G d mi_M_packed 0 [.ref m, .int (i32 s), .int (i32 k), .retAddr 0, .retAddr 0] [] h (cI K Qx) := by
  have h9 : (S.2 9).length = 500 := hL 9 rfl
  refine b_M_packed_0 ?_
  have loop : ∀ r j, r + j = k → MF G d mi_M_packed 5 [.ref m, .int (i32 s), .int (i32 k), .int (pkd (S.2 9) s j), .int (i32 j)] [] h (cI K Qx) := by
    intro r
    induction r with
    | zero =>
      intro j hj
      have : j = k := by omega
      subst this
      exact b_M_packed_5 ⟨fun _ => cI_mk HK, fun hn => absurd ((i32_le (by omega) (by omega)).mpr (Nat.le_refl _)) hn⟩
    | succ r ih =>
      intro j hj
      have hst := ih (j + 1) (by omega)
      rw [← i32_succ j] at hst
      exact b_M_packed_5 ⟨fun hn => absurd ((i32_le (by omega) (by omega)).mp hn) (by omega), fun _ => tw_g (k := 9) H (by decide) rfl (by decide) (i32_add s j) (by omega) (getD_some (by omega)) hst⟩
  exact loop k 0 rfl
end
