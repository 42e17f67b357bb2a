/-! the twin: questions about what would be -/
set_option maxRecDepth 100000
theorem i32_of {v : Int32} (h : ¬ v < 0) : v = i32 v.toNatClampNeg ∧ v.toNatClampNeg < 2147483648 := by
  have h0 : (0 : Int32).toInt = 0 := rfl
  have h1 : 0 ≤ v.toInt := by
    rw [Int32.lt_iff_toInt_lt, h0] at h
    omega
  have h2 : v.toInt < 2147483648 := Int32.toInt_lt v
  have h3 : v.toNatClampNeg < 2147483648 := by
    show v.toInt.toNat < 2147483648
    omega
  refine ⟨?_, h3⟩
  rw [← Int32.toInt_inj, i32_toInt h3]
  show v.toInt = (v.toInt.toNat : Int)
  omega
theorem inB3_nat {v : Int32} {n : Nat} (hn : n < 1000000) (h : inB3 v 0 (i32 n - 1) = true) : ∃ k, k < n ∧ v = i32 k := by
  simp only [inB3, Bool.and_eq_true, Bool.not_eq_true', decide_eq_false_iff_not] at h
  obtain ⟨h1, h2⟩ := h
  obtain ⟨e, hl⟩ := i32_of h1
  cases n with
  | zero =>
    refine absurd ?_ h2
    rw [e, Int32.lt_iff_toInt_lt, i32_toInt hl]
    have : (i32 0 - 1).toInt = -1 := rfl
    omega
  | succ n =>
    rw [i32_pred, e, i32_lt (by omega) hl] at h2
    exact ⟨_, by omega, e⟩
theorem inB3_19 {v : Int32} (h : inB3 v 1 9 = true) : ∃ k, 1 ≤ k ∧ k ≤ 9 ∧ v = i32 k := by
  simp only [inB3, Bool.and_eq_true, Bool.not_eq_true', decide_eq_false_iff_not] at h
  obtain ⟨h1, h2⟩ := h
  have h0 : ¬ v < 0 := by
    rw [Int32.lt_iff_toInt_lt] at *
    have e1 : (1 : Int32).toInt = 1 := rfl
    have e0 : (0 : Int32).toInt = 0 := rfl
    omega
  obtain ⟨e, hl⟩ := i32_of h0
  rw [e] at h1 h2
  rw [show (1 : Int32) = i32 1 from rfl, i32_lt hl (by omega)] at h1
  rw [show (9 : Int32) = i32 9 from rfl, i32_lt (by omega) hl] at h2
  exact ⟨_, by omega, by omega, e⟩
theorem isAs_ok {g : GS} {p f n : Int32} (hl : g.pl.length ≤ 5) (h : isAs g p f n = true) : ∃ k, k < g.pl.length ∧ p = i32 k := by
  simp only [isAs, Bool.and_eq_true] at h
  exact inB3_nat (by omega) h.1.1
theorem setF_F {S : TS} {k : Nat} {x y : Int32} : setF (setF S k x) k y = setF S k y := by
  unfold setF
  simp only [Prod.mk.injEq, and_true]
  funext j
  by_cases h : j = k <;> simp [h]
/-- behind a question that changes nothing: what was thrown is told, the row may have been written to and stands for the same game -/
def Qd (S S' : TS) (g : GS) (c : Int32) : Prop := S'.1 = (setF S 8 c).1 ∧ (∀ k, k ≠ 0 → k ≠ 1 → S'.2 k = S.2 k) ∧ (S'.2 1).length = 457 ∧ TR (S'.2 0) g
theorem Sd.qd {S S' : TS} {g : GS} {c : Int32} (h : Sd (setF S 8 c) S') (hR : TR (S.2 0) g) : Qd S S' g c := ⟨h.1, fun k _ h1 => h.2.1 k h1, h.2.2, h.row hR⟩
theorem Qd.self {S : TS} {g : GS} {c : Int32} (hL : TL S) (hR : TR (S.2 0) g) : Qd S (setF S 8 c) g c := ⟨rfl, fun _ _ _ => rfl, hL 1 rfl, hR⟩
section
variable {G : GL} {d : Nat} {h0 h : AH} {m : Nat} {A : Nat → Nat} {S : TS} {g : GS} {ps : List GS} {sc : Bool} {Qx : Nat → AH → Prop}
theorem s_guard {c : Bool} {K : Int32 → AH → Prop} (H : TWX h0 h m A (setF S 8 0)) (Hy : c = true → K 1 h) (Hn : c = false → ∀ h', TWX h0 h' m A (setF S 8 1) → K 0 h') : MF G d mi_M_right 0 [.ref m, .int (b01 c)] [] h (cI K Qx) :=
  s_right H Hy fun hb h' H' => Hn hb h' (by rw [setF_F] at H'; exact H')
theorem p_worth {p f n : Int32} {K : Int32 → AH → Prop} (H : TWX h0 h m A S) (hL : TL S) (hR : TR (S.2 0) g) (hv : GV g) (HK : ∀ h' S', TWX h0 h' m A S' → Qd S S' g (b01 (!isAs g p f n)) → K (if isAs g p f n then grw g p.toNatClampNeg f n else 0) h') : MF G (d + 6) mi_M_worth 0 [.ref m, .int p, .int f, .int n] [] h (cI K Qx) := by
  have h5 := hR.2.1
  refine b_M_worth_0 (tw_F H (by decide) rfl fun h1 H1 => ⟨tw_K H1, s_isAsked (g := g) H1 hR ⟨tw_K H1, s_guard H1 (fun hb => ⟨fun h9 => absurd h9 (by decide), fun _ => ?_⟩) (fun hb h2 H2 => ⟨fun _ => cI_mk ?_, fun h9 => absurd rfl h9⟩)⟩⟩)
  · rw [hb] at HK
    obtain ⟨k, hk, rfl⟩ := isAs_ok h5 hb
    rw [i32_nat (by omega), if_pos rfl] at HK
    exact ⟨tw_K H1, s_grownBy (S := setF S 8 0) H1 hL hR hv hk fun h2 S2 H2 hs => cI_mk (HK h2 S2 H2 (hs.qd hR))⟩
  · rw [hb] at HK
    exact HK h2 _ H2 (Qd.self hL hR)
/-- the fair bid, looked for downwards -/
def fbL (its purse : Int32) : Nat → Int32
  | 0 => 0
  | b + 1 => if its + (purse - i32 (b + 1)) / 5 < purse / 5 then fbL its purse b else i32 (b + 1)
def gFair (g : GS) (k : Nat) : Int32 := if g.ct.length = 0 then -1 else fbL (grw g k (ctA g 0).1 (ctA g 0).2.1) (plA g k).2.1 (plA g k).2.1.toNatClampNeg
def isPl (g : GS) (p : Int32) : Bool := inB3 p 0 (i32 g.pl.length - 1)
theorem p_fairBid {p : Int32} {K : Int32 → AH → Prop} (H : TWX h0 h m A S) (hL : TL S) (hR : TR (S.2 0) g) (hv : GV g) (HK : ∀ h' S', TWX h0 h' m A S' → Qd S S' g (b01 (!isPl g p)) → K (if isPl g p then gFair g p.toNatClampNeg else 0) h') : MF G (d + 6) mi_M_fairBid 0 [.ref m, .int p, .retAddr 0, .retAddr 0, .retAddr 0] [] h (cI K Qx) := by
  have h5 := hR.2.1
  have h60 := hv.2.2.2.2.1
  refine b_M_fairBid_0 (tw_F H (by decide) rfl fun h1 H1 => ⟨tw_K H1, s_isPlayer (g := g) H1 hR ⟨tw_K H1, s_guard (c := isPl g p) H1 (fun hb => ⟨fun _ => ?_, fun h9 => absurd h9 (by decide)⟩) (fun hb h2 H2 => ⟨fun h9 => absurd rfl h9, fun _ => cI_mk ?_⟩)⟩⟩)
  · rw [hb] at HK
    obtain ⟨k, hk, rfl⟩ := inB3_nat (by omega) hb
    rw [i32_nat (by omega), if_pos rfl] at HK
    unfold gFair at HK
    refine tw_n (j := 3) (g := g) H1 hR (by decide) ⟨fun hn => ?_, fun hz => cI_mk ?_⟩
    · have hc : ¬ g.ct.length = 0 := fun e => hn (by show i32 g.ct.length = 0; rw [e]; rfl)
      rw [if_neg hc] at HK
      have hx := ctA_at (g := g) (k := 0) (by omega)
      refine ⟨tw_K H1, s_inCart (j := 0) (k := 0) (g := g) H1 hR hx (by decide) ⟨tw_K H1, s_inCart (j := 1) (k := 0) (g := g) H1 hR hx (by decide) ⟨tw_K H1, s_grownBy (S := setF S 8 0) H1 hL hR hv hk fun h2 S2 H2 hs => ⟨tw_K H2, s_of (j := 1) (g := g) H2 (hs.row hR) (plA_at hk) (by decide) ?_⟩⟩⟩⟩
      have HK2 := HK h2 S2 H2 (hs.qd hR)
      have loop : ∀ b, b < 2147483648 → fbL (grw g k (ctA g 0).1 (ctA g 0).2.1) (plA g k).2.1 b = fbL (grw g k (ctA g 0).1 (ctA g 0).2.1) (plA g k).2.1 (plA g k).2.1.toNatClampNeg → MF G (d + 6) mi_M_fairBid 58 [.ref m, .int (i32 k), .int (grw g k (ctA g 0).1 (ctA g 0).2.1), .int (plA g k).2.1, .int (i32 b)] [] h2 (cI K Qx) := by
        intro b
        induction b with
        | zero =>
          intro _ e
          rw [← e] at HK2
          exact b_M_fairBid_58 ⟨fun _ => cI_mk HK2, fun hn => absurd (by decide) hn⟩
        | succ b ih =>
          intro hb e
          refine b_M_fairBid_58 ⟨fun hn => absurd ((i32_le (b := 0) (by omega) (by omega)).mp hn) (by omega), fun _ => ⟨fun hlt => ?_, fun hge => cI_mk ?_⟩⟩
          · have e1 : i32 (b + 1) + (-1) = i32 b := by rw [← Int32.sub_eq_add_neg, i32_pred]
            rw [e1]
            refine ih (by omega) ?_
            rw [← e]
            exact (if_pos hlt).symm
          · rw [← e] at HK2
            unfold fbL at HK2
            rw [if_neg hge] at HK2
            exact HK2
      by_cases hneg : (plA g k).2.1 < 0
      · have hz : (plA g k).2.1.toNatClampNeg = 0 := by
          show (plA g k).2.1.toInt.toNat = 0
          rw [Int32.lt_iff_toInt_lt] at hneg
          have e0 : (0 : Int32).toInt = 0 := rfl
          omega
        refine b_M_fairBid_58 ⟨fun _ => cI_mk ?_, fun hn => absurd (Int32.le_of_lt hneg) hn⟩
        rw [hz] at HK2
        exact HK2
      · obtain ⟨e, hlt⟩ := i32_of hneg
        have := loop _ hlt rfl
        rw [← e] at this
        exact this
    · have hc : g.ct.length = 0 := (i32_eq (b := 0) (by omega) (by omega)).mp hz
      rw [if_pos hc] at HK
      exact HK h1 _ H1 (Qd.self hL hR)
  · rw [hb] at HK
    exact HK h2 _ H2 (Qd.self hL hR)
/-- the best stone -/
def bsS (g : GS) (k : Nat) (best : Int32) (f n : Int32) : Int32 := if grw g k f n ≤ grw g k (best / 10) (best - best / 10 * 10) then best else 10 * f + n
def bsF (g : GS) (k : Nat) (a : Int32) (f : Nat) : Int32 := itn (fun a j => bsS g k a (i32 f) (i32 (j + 1))) a 9
def gBest (g : GS) (k : Nat) : Int32 := itn (bsF g k) 1 (fcs g)
theorem itn_zero {s : Int32 → Nat → Int32} {a : Int32} : itn s a 0 = a := rfl
theorem itn_succ {s : Int32 → Nat → Int32} {a : Int32} {n : Nat} : itn s a (n + 1) = s (itn s a n) n := rfl
theorem p_bestStone {p : Int32} {K : Int32 → AH → Prop} (H : TWX h0 h m A S) (hL : TL S) (hR : TR (S.2 0) g) (hv : GV g) (HK : ∀ h' S', TWX h0 h' m A S' → Qd S S' g (b01 (!isPl g p)) → K (if isPl g p then gBest g p.toNatClampNeg else 0) h') : MF G (d + 6) mi_M_bestStone 0 [.ref m, .int p, .retAddr 0, .retAddr 0, .retAddr 0] [] h (cI K Qx) := by
  have h5 := hR.2.1
  have h6 := hv.2.1
  refine b_M_bestStone_0 (tw_F H (by decide) rfl fun h1 H1 => ⟨tw_K H1, s_isPlayer (g := g) H1 hR ⟨tw_K H1, s_guard (c := isPl g p) H1 (fun hb => ⟨fun _ => ?_, fun h9 => absurd h9 (by decide)⟩) (fun hb h2 H2 => ⟨fun h9 => absurd rfl h9, fun _ => cI_mk ?_⟩)⟩⟩)
  · rw [hb] at HK
    obtain ⟨k, hk, rfl⟩ := inB3_nat (by omega) hb
    rw [i32_nat (by omega), if_pos rfl] at HK
    have inner : ∀ f a, f < fcs g → (∀ hh SS, TWX h0 hh m A SS → Sd (setF S 8 0) SS → ∀ u9, MF G (d + 6) mi_M_bestStone 23 [.ref m, .int (i32 k), .int (bsF g k a f), .int (i32 (f + 1)), u9] [] hh (cI K Qx)) → ∀ r j, r + j = 9 → ∀ hh SS, TWX h0 hh m A SS → Sd (setF S 8 0) SS → MF G (d + 6) mi_M_bestStone 36 [.ref m, .int (i32 k), .int (itn (fun a j => bsS g k a (i32 f) (i32 (j + 1))) a j), .int (i32 f), .int (i32 (j + 1))] [] hh (cI K Qx) := by
      intro f a hf hnext r
      induction r with
      | zero =>
        intro j hj hh SS HH hs
        have : j = 9 := by omega
        subst this
        refine b_M_bestStone_36 ⟨fun _ => ?_, fun hn => absurd (by decide) hn⟩
        rw [i32_succ]; exact hnext hh SS HH hs _
      | succ r ih =>
        intro j hj hh SS HH hs
        have hst := ih (j + 1) (by omega)
        rw [← i32_succ (j + 1)] at hst
        refine b_M_bestStone_36 ⟨fun hn => absurd ((i32_lt (a := 9) (by omega) (by omega)).mp hn) (by omega), fun _ => ⟨tw_K HH, s_grownBy HH (hs.TL hL) (hs.row hR) hv hk fun h2 S2 H2 hs2 => ⟨tw_K H2, s_grownBy H2 (hs2.TL (hs.TL hL)) (hs2.row (hs.row hR)) hv hk fun h3 S3 H3 hs3 => ⟨fun hle => ?_, fun hgt => ?_⟩⟩⟩⟩
        · have := hst h3 S3 H3 ((hs.trans hs2).trans hs3)
          rw [show itn (fun a j => bsS g k a (i32 f) (i32 (j + 1))) a (j + 1) = itn (fun a j => bsS g k a (i32 f) (i32 (j + 1))) a j from if_pos hle] at this
          exact this
        · have := hst h3 S3 H3 ((hs.trans hs2).trans hs3)
          rw [show itn (fun a j => bsS g k a (i32 f) (i32 (j + 1))) a (j + 1) = 10 * i32 f + i32 (j + 1) from if_neg hgt] at this
          exact this
    have loop : ∀ r f, r + f = fcs g → ∀ hh SS, TWX h0 hh m A SS → Sd (setF S 8 0) SS → ∀ u9, MF G (d + 6) mi_M_bestStone 23 [.ref m, .int (i32 k), .int (itn (bsF g k) 1 f), .int (i32 f), u9] [] hh (cI K Qx) := by
      intro r
      induction r with
      | zero =>
        intro f hf hh SS HH hs u9
        have : f = fcs g := by omega
        subst this
        refine b_M_bestStone_23 (tw_n (j := 0) HH (hs.row hR) (by decide) ⟨fun _ => cI_mk (HK hh SS HH (hs.qd hR)), fun hn => absurd ?_ hn⟩)
        show rowN g 0 ≤ i32 (fcs g)
        rw [show rowN g 0 = i32 (fcs g) from hv.1]
        exact (i32_le (by omega) (by omega)).mpr (Nat.le_refl _)
      | succ r ih =>
        intro f hf hh SS HH hs u9
        have h8 := inner f (itn (bsF g k) 1 f) (by omega) (fun h2 S2 H2 hs2 u => by have h7 := ih (f + 1) (by omega) h2 S2 H2 hs2 u; rw [itn_succ] at h7; exact h7) 9 0 rfl hh SS HH hs
        rw [itn_zero] at h8
        refine b_M_bestStone_23 (tw_n (j := 0) HH (hs.row hR) (by decide) ⟨fun hn => absurd hn ?_, fun _ => h8⟩)
        show ¬ rowN g 0 ≤ i32 f
        rw [show rowN g 0 = i32 (fcs g) from hv.1]
        exact fun e => absurd ((i32_le (by omega) (by omega)).mp e) (by omega)
    exact loop (fcs g) 0 rfl h1 _ H1 (Sd.refl hL) _
  · rw [hb] at HK
    exact HK h2 _ H2 (Qd.self hL hR)
end
