/-! players: faces, numbers, runs, scores -/
set_option maxRecDepth 100000
def ofN (ms : Nat → List Nat) (f : Nat) : Nat → Nat
  | 0 => 0
  | k + 1 => ofN ms f k + (ms (10 * f + (k + 1))).length
/-- the stones by key are those that player p holds in g -/
def StO (ms : Nat → List Nat) (g : GS) (p : Int32) : Prop := (∀ f n, f ≤ 5 → 1 ≤ n → n ≤ 9 → (ms (10 * f + n)).length = cnt g p (i32 f) (i32 n)) ∧ (∀ f, f ≤ 5 → ofN ms f 9 = fcn g p (i32 f)) ∧ g.hd.length ≤ 1000
theorem rnf_c {g : GS} {p f : Int32} {n : Nat} (hn : n ≤ 9) : (if 1 < n ∧ ¬ cnt g p f (i32 (n - 1)) = 0 then 0 else rl (rnP g p f) n (10 - n)) = rnf g p f n := by
  unfold rnf
  by_cases h0 : cnt g p f (i32 n) = 0
  · rw [if_pos h0]
    split
    · rfl
    · obtain ⟨r, hr⟩ : ∃ r, 10 - n = r + 1 := ⟨9 - n, by omega⟩
      rw [hr]
      unfold rl
      rw [if_neg]
      unfold rnP
      rw [h0]; decide
  · rw [if_neg h0]
section
variable {G : GL} {d : Nat} {e : Nat → Prop} {h : AH} {p : Nat} {bs : List Int32} {num purse bid : Int32} {ms : Nat → List Nat} {F : Nat → Prop} {Qx : Nat → AH → Prop} {g : GS} {q : Int32} {K : Int32 → AH → Prop}
theorem key_i (f n : Nat) : (10 : Int32) * i32 f + i32 n = i32 (10 * f + n) := by
  rw [show (10 : Int32) = i32 10 from rfl, i32_mul, i32_add]
theorem s_plHasG {f n : Nat} (hI : ICache G h) (hp : PlX e h p bs num purse bid ms F) (hS : StO ms g q) (hf : f ≤ 5) (hn1 : 1 ≤ n) (hn : n ≤ 9) (HK : K (i32 (cnt g q (i32 f) (i32 n))) h) : MF G (d + 6) mi_Player_has 0 [.ref p, .int ((10 * i32 f) + i32 n), .retAddr 0] [] h (cI K Qx) := by
  rw [key_i]
  refine s_plHas hI hp (by omega) ?_
  rw [hS.1 f n hf hn1 hn]
  exact HK
theorem s_plOfFace {f : Nat} (hI : ICache G h) (hp : PlX e h p bs num purse bid ms F) (hS : StO ms g q) (hf : f ≤ 5) (HK : K (i32 (fcn g q (i32 f))) h) : MF G (d + 7) mi_Player_ofFace 0 [.ref p, .int (i32 f), .retAddr 0, .retAddr 0] [] h (cI K Qx) := by
  have loop : ∀ r k, r + k = 9 → MF G (d + 7) mi_Player_ofFace 4 [.ref p, .int (i32 f), .int (i32 (ofN ms f k)), .int (i32 (k + 1))] [] h (cI K Qx) := by
    intro r
    induction r with
    | zero =>
      intro k hk
      have : k = 9 := by omega
      subst this
      refine b_Player_ofFace_4 ⟨fun _ => cI_mk ?_, fun hn => absurd ((i32_lt (a := 9) (b := 10) (by omega) (by omega)).mpr (by omega)) hn⟩
      rw [hS.2.1 f hf]; exact HK
    | succ r ih =>
      intro k hk
      refine b_Player_ofFace_4 ⟨fun hn => absurd ((i32_lt (a := 9) (b := k + 1) (by omega) (by omega)).mp hn) (by omega), fun _ => b_Q_key_0 (cI_mk ⟨hp.has, ?_⟩)⟩
      rw [key_i]
      refine s_plHas hI hp (by omega) ?_
      rw [i32_add, i32_succ]
      exact ih (k + 1) (by omega)
  exact b_Player_ofFace_0 (loop 9 0 rfl)
theorem cnt_b (hS : StO ms g q) (f n : Int32) : cnt g q f n < 2147483648 := by
  have := cnt_le g q f n
  have := hS.2.2
  omega
theorem s_plRunAt {f n : Nat} (hI : ICache G h) (hp : PlX e h p bs num purse bid ms F) (hS : StO ms g q) (hf : f ≤ 5) (hn1 : 1 ≤ n) (hn : n ≤ 9) (HK : K (i32 (rnf g q (i32 f) n)) h) : MF G (d + 7) mi_Player_runAt 0 [.ref p, .int (i32 f), .int (i32 n), .retAddr 0] [] h (cI K Qx) := by
  rw [← rnf_c hn] at HK
  have run : K (i32 (rl (rnP g q (i32 f)) n (10 - n))) h → MF G (d + 7) mi_Player_runAt 23 [.ref p, .int (i32 f), .int (i32 n), .int 0] [] h (cI K Qx) := by
    intro HK
    have loop : ∀ r j, r + n + j = 10 → K (i32 (rl (rnP g q (i32 f)) (n + j) r + j)) h → MF G (d + 7) mi_Player_runAt 23 [.ref p, .int (i32 f), .int (i32 n), .int (i32 j)] [] h (cI K Qx) := by
      intro r
      induction r with
      | zero =>
        intro j hj HK
        refine b_Player_runAt_23 ?_
        rw [i32_add]
        refine ⟨fun _ => cI_mk ?_, fun hn => absurd ((i32_lt (a := 9) (b := n + j) (by omega) (by omega)).mpr (by omega)) hn⟩
        have : rl (rnP g q (i32 f)) (n + j) 0 + j = j := Nat.zero_add j
        rw [this] at HK
        exact HK
      | succ r ih =>
        intro j hj HK
        refine b_Player_runAt_23 ?_
        rw [i32_add]
        refine ⟨fun hn => absurd ((i32_lt (a := 9) (b := n + j) (by omega) (by omega)).mp hn) (by omega), fun _ => b_Q_key_0 (cI_mk ⟨hp.has, s_plHasG hI hp hS hf (by omega) (by omega) ⟨fun hle => cI_mk ?_, fun hgt => ?_⟩⟩)⟩
        · have hz : cnt g q (i32 f) (i32 (n + j)) = 0 := by
            have := (i32_le (a := cnt g q (i32 f) (i32 (n + j))) (b := 0) (cnt_b hS _ _) (by omega)).mp hle
            omega
          have : rl (rnP g q (i32 f)) (n + j) (r + 1) = 0 := by
            show (if rnP g q (i32 f) (n + j) then _ else 0) = 0
            rw [if_neg]
            unfold rnP
            rw [hz]; decide
          rw [this, Nat.zero_add] at HK
          exact HK
        · have hz : ¬ cnt g q (i32 f) (i32 (n + j)) = 0 := fun e9 => hgt (by rw [e9]; decide)
          have : rl (rnP g q (i32 f)) (n + j) (r + 1) = rl (rnP g q (i32 f)) (n + j + 1) r + 1 := by
            show (if rnP g q (i32 f) (n + j) then _ else 0) = _
            rw [if_pos]
            unfold rnP
            simp [hz]
          rw [this] at HK
          rw [i32_succ]
          refine ih (j + 1) (by omega) ?_
          rw [show n + (j + 1) = n + j + 1 from by omega, show rl (rnP g q (i32 f)) (n + j + 1) r + (j + 1) = rl (rnP g q (i32 f)) (n + j + 1) r + 1 + j from by omega]
          exact HK
    exact loop (10 - n) 0 (by omega) HK
  refine b_Player_runAt_0 ⟨fun hle => run ?_, fun hgt => ?_⟩
  · have hn1' : n ≤ 1 := (i32_le (b := 1) (by omega) (by omega)).mp hle
    rw [if_neg (fun h9 => by omega)] at HK
    exact HK
  · have hn2 : 1 < n := by
      have : ¬ n ≤ 1 := fun h9 => hgt ((i32_le (b := 1) (by omega) (by omega)).mpr h9)
      omega
    obtain ⟨n', rfl⟩ : ∃ n', n = n' + 1 := ⟨n - 1, by omega⟩
    rw [i32_pred]
    refine b_Q_key_0 (cI_mk ⟨hp.has, s_plHasG hI hp hS hf (by omega) (by omega) ⟨fun hle => run ?_, fun hgt2 => cI_mk ?_⟩⟩)
    · have hz : cnt g q (i32 f) (i32 n') = 0 := by
        have := (i32_le (a := cnt g q (i32 f) (i32 n')) (b := 0) (cnt_b hS _ _) (by omega)).mp hle
        omega
      rw [if_neg (fun h9 => h9.2 hz)] at HK
      exact HK
    · have hz : ¬ cnt g q (i32 f) (i32 n') = 0 := fun e9 => hgt2 (by rw [e9]; decide)
      rw [if_pos ⟨hn2, hz⟩] at HK
      exact HK
theorem s_plNumbers {f : Nat} (hI : ICache G h) (hp : PlX e h p bs num purse bid ms F) (hS : StO ms g q) (hf : f ≤ 5) (HK : K (nbs g q (i32 f)) h) : MF G (d + 7) mi_Player_numbers 0 [.ref p, .int (i32 f), .retAddr 0, .retAddr 0] [] h (cI K Qx) := by
  have loop : ∀ r k, r + k = 9 → MF G (d + 7) mi_Player_numbers 4 [.ref p, .int (i32 f), .int (itn (fun a k => if cnt g q (i32 f) (i32 (k + 1)) = 0 then a else a + 1) 0 k), .int (i32 (k + 1))] [] h (cI K Qx) := by
    intro r
    induction r with
    | zero =>
      intro k hk
      have : k = 9 := by omega
      subst this
      exact b_Player_numbers_4 ⟨fun _ => cI_mk HK, fun hn => absurd ((i32_lt (a := 9) (b := 10) (by omega) (by omega)).mpr (by omega)) hn⟩
    | succ r ih =>
      intro k hk
      have hi := ih (k + 1) (by omega)
      rw [itn_succ] at hi
      refine b_Player_numbers_4 ⟨fun hn => absurd ((i32_lt (a := 9) (b := k + 1) (by omega) (by omega)).mp hn) (by omega), fun _ => b_Q_key_0 (cI_mk ⟨hp.has, s_plHasG hI hp hS hf (by omega) (by omega) ⟨fun hle => b_Player_numbers_28 (b_Q_one_0 ⟨fun _ => cI_mk ?_, fun hn => absurd rfl hn⟩), fun hgt => b_Player_numbers_28 (b_Q_one_0 ⟨fun hn => absurd hn (by decide), fun _ => cI_mk ?_⟩)⟩⟩)⟩
      · have hz : cnt g q (i32 f) (i32 (k + 1)) = 0 := by
          have := (i32_le (a := cnt g q (i32 f) (i32 (k + 1))) (b := 0) (cnt_b hS _ _) (by omega)).mp hle
          omega
        rw [if_pos hz] at hi
        rw [i32_succ, Int32.add_zero]
        exact hi
      · have hz : ¬ cnt g q (i32 f) (i32 (k + 1)) = 0 := fun e9 => hgt (by rw [e9]; decide)
        rw [if_neg hz] at hi
        rw [i32_succ]
        exact hi
  exact b_Player_numbers_0 (loop 9 0 rfl)
theorem rnf_b (f : Int32) (n : Nat) : rnf g q f n < 2147483648 := by have := rnf_le g q f n; omega
theorem s_plRuns {f : Nat} (hI : ICache G h) (hp : PlX e h p bs num purse bid ms F) (hS : StO ms g q) (hf : f ≤ 5) (HK : K (rns g q (i32 f)) h) : MF G (d + 8) mi_Player_runs 0 [.ref p, .int (i32 f), .retAddr 0, .retAddr 0] [] h (cI K Qx) := by
  have loop : ∀ r k, r + k = 9 → MF G (d + 8) mi_Player_runs 4 [.ref p, .int (i32 f), .int (itn (fun a k => if rnf g q (i32 f) (k + 1) = 0 then a else a + 1) 0 k), .int (i32 (k + 1))] [] h (cI K Qx) := by
    intro r
    induction r with
    | zero =>
      intro k hk
      have : k = 9 := by omega
      subst this
      exact b_Player_runs_4 ⟨fun _ => cI_mk HK, fun hn => absurd ((i32_lt (a := 9) (b := 10) (by omega) (by omega)).mpr (by omega)) hn⟩
    | succ r ih =>
      intro k hk
      have hi := ih (k + 1) (by omega)
      rw [itn_succ] at hi
      refine b_Player_runs_4 ⟨fun hn => absurd ((i32_lt (a := 9) (b := k + 1) (by omega) (by omega)).mp hn) (by omega), fun _ => ⟨hp.has, s_plRunAt hI hp hS hf (by omega) (by omega) ⟨fun hle => b_Player_runs_25 (b_Q_one_0 ⟨fun _ => cI_mk ?_, fun hn => absurd rfl hn⟩), fun hgt => b_Player_runs_25 (b_Q_one_0 ⟨fun hn => absurd hn (by decide), fun _ => cI_mk ?_⟩)⟩⟩⟩
      · have hz : rnf g q (i32 f) (k + 1) = 0 := by
          have := (i32_le (a := rnf g q (i32 f) (k + 1)) (b := 0) (rnf_b _ _) (by omega)).mp hle
          omega
        rw [if_pos hz] at hi
        rw [i32_succ, Int32.add_zero]
        exact hi
      · have hz : ¬ rnf g q (i32 f) (k + 1) = 0 := fun e9 => hgt (by rw [e9]; decide)
        rw [if_neg hz] at hi
        rw [i32_succ]
        exact hi
  exact b_Player_runs_0 (loop 9 0 rfl)
theorem s_plSquares {f : Nat} (hI : ICache G h) (hp : PlX e h p bs num purse bid ms F) (hS : StO ms g q) (hf : f ≤ 5) (HK : K (sqs g q (i32 f)) h) : MF G (d + 8) mi_Player_squares 0 [.ref p, .int (i32 f), .retAddr 0, .retAddr 0] [] h (cI K Qx) := by
  have loop : ∀ r k, r + k = 9 → MF G (d + 8) mi_Player_squares 4 [.ref p, .int (i32 f), .int (itn (fun a k => a + i32 (rnf g q (i32 f) (k + 1)) * i32 (rnf g q (i32 f) (k + 1))) 0 k), .int (i32 (k + 1))] [] h (cI K Qx) := by
    intro r
    induction r with
    | zero =>
      intro k hk
      have : k = 9 := by omega
      subst this
      exact b_Player_squares_4 ⟨fun _ => cI_mk HK, fun hn => absurd ((i32_lt (a := 9) (b := 10) (by omega) (by omega)).mpr (by omega)) hn⟩
    | succ r ih =>
      intro k hk
      have hi := ih (k + 1) (by omega)
      rw [itn_succ] at hi
      refine b_Player_squares_4 ⟨fun hn => absurd ((i32_lt (a := 9) (b := k + 1) (by omega) (by omega)).mp hn) (by omega), fun _ => ⟨hp.has, s_plRunAt hI hp hS hf (by omega) (by omega) ⟨hp.has, s_plRunAt hI hp hS hf (by omega) (by omega) ?_⟩⟩⟩
      rw [i32_succ]
      exact hi
  exact b_Player_squares_0 (loop 9 0 rfl)
theorem s_plLongest {Fc : Nat} (hF : Fc ≤ 6) (hI : ICache G h) (hp : PlX e h p bs num purse bid ms F) (hS : StO ms g q) (HK : K (lgs g q Fc) h) : MF G (d + 8) mi_Player_longest 0 [.ref p, .int (i32 Fc), .retAddr 0, .retAddr 0, .retAddr 0] [] h (cI K Qx) := by
  have loop : ∀ r f u4, r + f = Fc → MF G (d + 8) mi_Player_longest 4 [.ref p, .int (i32 Fc), .int (itn (fun a f => itn (fun a k => mx a (i32 (rnf g q (i32 f) (k + 1)))) a 9) 0 f), .int (i32 f), u4] [] h (cI K Qx) := by
    intro r
    induction r with
    | zero =>
      intro f u4 hf
      have : f = Fc := by omega
      subst this
      exact b_Player_longest_4 ⟨fun _ => cI_mk HK, fun hn => absurd ((i32_le (by omega) (by omega)).mpr (Nat.le_refl _)) hn⟩
    | succ r ih =>
      intro f u4 hf
      have inner : ∀ r2 k a, r2 + k = 9 → (∀ u4, MF G (d + 8) mi_Player_longest 4 [.ref p, .int (i32 Fc), .int (itn (fun a k => mx a (i32 (rnf g q (i32 f) (k + 1)))) a 9), .int (i32 (f + 1)), u4] [] h (cI K Qx)) → MF G (d + 8) mi_Player_longest 12 [.ref p, .int (i32 Fc), .int (itn (fun a k => mx a (i32 (rnf g q (i32 f) (k + 1)))) a k), .int (i32 f), .int (i32 (k + 1))] [] h (cI K Qx) := by
        intro r2
        induction r2 with
        | zero =>
          intro k a hk H
          have : k = 9 := by omega
          subst this
          refine b_Player_longest_12 ⟨fun _ => ?_, fun hn => absurd ((i32_lt (a := 9) (b := 10) (by omega) (by omega)).mpr (by omega)) hn⟩
          rw [i32_succ]
          exact H _
        | succ r2 ih2 =>
          intro k a hk H
          have hi := ih2 (k + 1) a (by omega) H
          rw [itn_succ] at hi
          refine b_Player_longest_12 ⟨fun hn => absurd ((i32_lt (a := 9) (b := k + 1) (by omega) (by omega)).mp hn) (by omega), fun _ => ⟨hp.has, s_plRunAt hI hp hS (by omega) (by omega) (by omega) ?_⟩⟩
          rw [i32_succ]
          exact hi
      refine b_Player_longest_4 ⟨fun hn => absurd ((i32_le (by omega) (by omega)).mp hn) (by omega), fun _ => inner 9 0 _ rfl fun u5 => ?_⟩
      have hi := ih (f + 1) u5 (by omega)
      rw [itn_succ] at hi
      exact hi
  exact b_Player_longest_0 (loop Fc 0 _ rfl)
theorem s_plCrowns {Fc : Nat} (hF : Fc ≤ 6) (hI : ICache G h) (hp : PlX e h p bs num purse bid ms F) (hS : StO ms g q) (HK : K (crs g q Fc 1000000) h) : MF G (d + 8) mi_Player_crowns 0 [.ref p, .int (i32 Fc), .retAddr 0, .retAddr 0] [] h (cI K Qx) := by
  have loop : ∀ r f, r + f = Fc → MF G (d + 8) mi_Player_crowns 5 [.ref p, .int (i32 Fc), .int (itn (fun a f => mn a (i32 (fcn g q (i32 f)))) 1000000 f), .int (i32 f)] [] h (cI K Qx) := by
    intro r
    induction r with
    | zero =>
      intro f hf
      have : f = Fc := by omega
      subst this
      exact b_Player_crowns_5 ⟨fun _ => cI_mk HK, fun hn => absurd ((i32_le (by omega) (by omega)).mpr (Nat.le_refl _)) hn⟩
    | succ r ih =>
      intro f hf
      have hi := ih (f + 1) (by omega)
      rw [itn_succ] at hi
      refine b_Player_crowns_5 ⟨fun hn => absurd ((i32_le (by omega) (by omega)).mp hn) (by omega), fun _ => ⟨hp.has, s_plOfFace hI hp hS (by omega) ?_⟩⟩
      rw [i32_succ]
      exact hi
  exact b_Player_crowns_0 (loop Fc 0 rfl)
theorem s_plScore {Fc : Nat} (hF : Fc ≤ 6) (hI : ICache G h) (hp : PlX e h p bs num purse bid ms F) (hS : StO ms g q) (HK : K (scr g q purse Fc 1000000) h) : MF G (d + 9) mi_Player_score 0 [.ref p, .int (i32 Fc), .retAddr 0, .retAddr 0] [] h (cI K Qx) := by
  have loop : ∀ r f, r + f = Fc → MF G (d + 9) mi_Player_score 18 [.ref p, .int (i32 Fc), .int (itn (fun a f => a + ((sqs g q (i32 f) + i32 (fcn g q (i32 f))) - nbs g q (i32 f))) (10 * crs g q Fc 1000000 + purse / 5) f), .int (i32 f)] [] h (cI K Qx) := by
    intro r
    induction r with
    | zero =>
      intro f hf
      have : f = Fc := by omega
      subst this
      exact b_Player_score_18 ⟨fun _ => cI_mk HK, fun hn => absurd ((i32_le (by omega) (by omega)).mpr (Nat.le_refl _)) hn⟩
    | succ r ih =>
      intro f hf
      have hi := ih (f + 1) (by omega)
      rw [itn_succ] at hi
      refine b_Player_score_18 ⟨fun hn => absurd ((i32_le (by omega) (by omega)).mp hn) (by omega), fun _ => ⟨hp.has, s_plSquares hI hp hS (by omega) ⟨hp.has, s_plOfFace (d := d + 1) hI hp hS (by omega) ⟨hp.has, s_plNumbers (d := d + 1) hI hp hS (by omega) ?_⟩⟩⟩⟩
      rw [i32_succ]
      exact hi
  obtain ⟨sn, tm, h1, -⟩ := hp.cell
  exact b_Player_score_0 ⟨hp.has, s_plCrowns hF hI hp hS (gI_of h1 (by simp) rfl (loop Fc 0 (by omega)))⟩
end
