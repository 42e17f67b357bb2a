/-! scores are small numbers -/
set_option maxRecDepth 100000
theorem cn_or {α : Type} {P Q : α → Bool} (h : ∀ x, ¬ (P x = true ∧ Q x = true)) (l : List α) : cn (fun x => P x || Q x) l = cn P l + cn Q l := by
  unfold cn
  induction l with
  | nil => rfl
  | cons a l ih =>
    have := h a
    rw [List.filter_cons, List.filter_cons, List.filter_cons]
    cases hp : P a <;> cases hq : Q a <;> simp_all <;> omega
theorem cn_mono {α : Type} {P Q : α → Bool} (h : ∀ x, P x = true → Q x = true) (l : List α) : cn P l ≤ cn Q l := by
  unfold cn
  induction l with
  | nil => exact Nat.le_refl _
  | cons a l ih =>
    have := h a
    rw [List.filter_cons, List.filter_cons]
    cases hp : P a <;> cases hq : Q a <;> simp_all <;> omega
/-- how many numbers up to m a player has of a face -/
def nbN (g : GS) (p f : Int32) : Nat → Nat
  | 0 => 0
  | m + 1 => if cnt g p f (i32 (m + 1)) = 0 then nbN g p f m else nbN g p f m + 1
theorem nbN_le (g : GS) (p f : Int32) : ∀ m, m ≤ 9 → nbN g p f m ≤ cn (fun x : HS => (x.2.2.1 == p && x.1 == f) && (List.range m).any fun k => x.2.1 == i32 (k + 1)) g.hd := by
  intro m
  induction m with
  | zero => intro _; exact Nat.zero_le _
  | succ m ih =>
    intro hm
    have h1 := ih (by omega)
    have e : cn (fun x : HS => (x.2.2.1 == p && x.1 == f) && (List.range (m + 1)).any fun k => x.2.1 == i32 (k + 1)) g.hd = cn (fun x : HS => (x.2.2.1 == p && x.1 == f) && (List.range m).any fun k => x.2.1 == i32 (k + 1)) g.hd + cnt g p f (i32 (m + 1)) := by
      unfold cnt
      rw [← cn_or]
      · congr 1
        funext x
        rw [List.range_succ, List.any_append]
        cases x.2.2.1 == p <;> cases x.1 == f <;> simp
      · rintro x ⟨h2, h3⟩
        simp only [Bool.and_eq_true, List.any_eq_true, List.mem_range, beq_iff_eq] at h2 h3
        obtain ⟨-, k, hk, hk2⟩ := h2
        have := (i32_eq (by omega) (by omega)).mp (hk2.symm.trans h3.2)
        omega
    rw [e]
    unfold nbN
    split <;> omega
theorem nbs_eq (g : GS) (p f : Int32) : nbs g p f = i32 (nbN g p f 9) := by
  have h : ∀ m, itn (fun a k => if cnt g p f (i32 (k + 1)) = 0 then a else a + 1) 0 m = i32 (nbN g p f m) := by
    intro m
    induction m with
    | zero => rfl
    | succ m ih =>
      rw [itn_succ, ih]
      show _ = i32 (if cnt g p f (i32 (m + 1)) = 0 then nbN g p f m else nbN g p f m + 1)
      split
      · rfl
      · rw [i32_succ]
  exact h 9
theorem nb_fc (g : GS) (p f : Int32) : nbN g p f 9 ≤ fcn g p f := Nat.le_trans (nbN_le g p f 9 (Nat.le_refl _)) (cn_mono (fun x hx => by rw [Bool.and_eq_true] at hx; exact hx.1) _)
def sqN (g : GS) (p f : Int32) : Nat → Nat
  | 0 => 0
  | m + 1 => sqN g p f m + rnf g p f (m + 1) * rnf g p f (m + 1)
theorem sqs_eq (g : GS) (p f : Int32) : sqs g p f = i32 (sqN g p f 9) := by
  have h : ∀ m, itn (fun a k => a + i32 (rnf g p f (k + 1)) * i32 (rnf g p f (k + 1))) 0 m = i32 (sqN g p f m) := by
    intro m
    induction m with
    | zero => rfl
    | succ m ih =>
      rw [itn_succ, ih]
      show _ = i32 (sqN g p f m + rnf g p f (m + 1) * rnf g p f (m + 1))
      rw [i32_mul, i32_add]
  exact h 9
theorem sqN_le (g : GS) (p f : Int32) : ∀ m, sqN g p f m ≤ 100 * m := by
  intro m
  induction m with
  | zero => exact Nat.le_refl _
  | succ m ih =>
    have h1 := rnf_le g p f (m + 1)
    have h2 : rnf g p f (m + 1) * rnf g p f (m + 1) ≤ 10 * 10 := Nat.mul_le_mul h1 h1
    show sqN g p f m + rnf g p f (m + 1) * rnf g p f (m + 1) ≤ 100 * (m + 1)
    omega
def crN (g : GS) (p : Int32) (b : Nat) : Nat → Nat
  | 0 => b
  | f + 1 => if fcn g p (i32 f) < crN g p b f then fcn g p (i32 f) else crN g p b f
theorem crN_le (g : GS) (p : Int32) (b : Nat) : ∀ F, crN g p b F ≤ b := by
  intro F
  induction F with
  | zero => exact Nat.le_refl _
  | succ F ih =>
    unfold crN
    split <;> omega
theorem crs_eq (g : GS) (p : Int32) (b : Nat) (hb : b < 2147483648) (h61 : g.hd.length ≤ 61) (F : Nat) : crs g p F (i32 b) = i32 (crN g p b F) := by
  unfold crs
  induction F with
  | zero => rfl
  | succ F ih =>
    have h1 := fcn_le g p (i32 F)
    have h2 := crN_le g p b F
    rw [itn_succ, ih]
    unfold mn
    show _ = i32 (if fcn g p (i32 F) < crN g p b F then fcn g p (i32 F) else crN g p b F)
    by_cases e : fcn g p (i32 F) < crN g p b F
    · rw [if_pos e, if_pos ((i32_lt (by omega) (by omega)).mpr e)]
    · rw [if_neg e, if_neg (fun h9 => e ((i32_lt (by omega) (by omega)).mp h9))]
/-- the score as a number: what the faces give -/
def fsN (g : GS) (p : Int32) : Nat → Nat
  | 0 => 0
  | f + 1 => fsN g p f + (sqN g p (i32 f) 9 + fcn g p (i32 f) - nbN g p (i32 f) 9)
def scN (g : GS) (p : Int32) (P F b : Nat) : Nat := 10 * crN g p b F + P / 5 + fsN g p F
theorem fsN_le (g : GS) (p : Int32) (h61 : g.hd.length ≤ 61) : ∀ F, fsN g p F ≤ 961 * F := by
  intro F
  induction F with
  | zero => exact Nat.le_refl _
  | succ F ih =>
    have h1 := sqN_le g p (i32 F) 9
    have h2 := fcn_le g p (i32 F)
    show fsN g p F + (sqN g p (i32 F) 9 + fcn g p (i32 F) - nbN g p (i32 F) 9) ≤ 961 * (F + 1)
    omega
theorem scr_eq (g : GS) (p : Int32) (P F b : Nat) (hP : P < 1000000) (hb : b < 2147483648) (h61 : g.hd.length ≤ 61) : scr g p (i32 P) F (i32 b) = i32 (scN g p P F b) := by
  unfold scr scN
  have h : ∀ m, itn (fun a f => a + ((sqs g p (i32 f) + i32 (fcn g p (i32 f))) - nbs g p (i32 f))) (10 * crs g p F (i32 b) + i32 P / 5) m = i32 (10 * crN g p b F + P / 5 + fsN g p m) := by
    intro m
    induction m with
    | zero =>
      rw [itn_zero, crs_eq g p b hb h61, show (10 : Int32) = i32 10 from rfl, show (5 : Int32) = i32 5 from rfl, i32_div (by omega) (by omega) (by omega), i32_mul, i32_add]
      rfl
    | succ m ih =>
      have h1 := nb_fc g p (i32 m)
      rw [itn_succ, ih, sqs_eq, nbs_eq, i32_add, i32_sub (by omega), i32_add]
      show _ = i32 (10 * crN g p b F + P / 5 + (fsN g p m + (sqN g p (i32 m) 9 + fcn g p (i32 m) - nbN g p (i32 m) 9)))
      rw [Nat.add_assoc (10 * crN g p b F + P / 5)]
  exact h F
theorem scN_le (g : GS) (p : Int32) (P F b : Nat) (h61 : g.hd.length ≤ 61) : scN g p P F b ≤ 10 * b + P / 5 + 961 * F := by
  have h1 := crN_le g p b F
  have h2 := fsN_le g p h61 F
  unfold scN
  omega
/-- the score of a player: a number below 8400 -/
theorem gsc_nat {g : GS} {k : Nat} (hv : GV g) (hk : k < g.pl.length) : ∃ V, V ≤ 8400 ∧ gsc g k = i32 V := by
  obtain ⟨P, hP, eP⟩ := hv.2.2.2.2.2.2 k hk
  have h60 := hv.2.2.2.2.1
  have h6 := hv.2.1
  have hb := scN_le g (i32 k) P (fcs g) 60 (by omega)
  refine ⟨scN g (i32 k) P (fcs g) 60, by omega, ?_⟩
  unfold gsc
  rw [eP]
  exact scr_eq g (i32 k) P (fcs g) 60 (by omega) (by omega) (by omega)
/-- the stones of all players are no more than those held -/
def stS (g : GS) : Nat → Nat
  | 0 => 0
  | p + 1 => stS g p + stn g (i32 p)
theorem stS_le (g : GS) : ∀ P, P ≤ 1000 → stS g P ≤ g.hd.length := by
  intro P hP
  have h : ∀ m, m ≤ P → stS g m = cn (fun x : HS => (List.range m).any fun k => x.2.2.1 == i32 k) g.hd := by
    intro m
    induction m with
    | zero =>
      intro _
      exact (filter_none (P := fun _ : HS => false) (l := g.hd) fun _ _ => rfl).symm
    | succ m ih =>
      intro hm
      show stS g m + stn g (i32 m) = _
      rw [ih (by omega)]
      unfold stn
      rw [← cn_or]
      · congr 1
        funext x
        rw [List.range_succ, List.any_append]
        show _ = ((List.range m).any (fun k => x.2.2.1 == i32 k) || (x.2.2.1 == i32 m || false))
        rw [Bool.or_false]
      · rintro x ⟨h2, h3⟩
        simp only [List.any_eq_true, List.mem_range, beq_iff_eq] at h2 h3
        obtain ⟨k, hk, hk2⟩ := h2
        have := (i32_eq (by omega) (by omega)).mp (hk2.symm.trans h3)
        omega
  rw [h P (Nat.le_refl _)]
  exact cn_le
