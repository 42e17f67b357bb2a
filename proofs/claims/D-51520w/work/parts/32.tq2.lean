/-! what is counted of a player's stones: the pure figures, and the twin's methods that tell them -/
set_option maxRecDepth 100000
/-- a loop's value behind its first k rounds -/
def itn (step : Int32 → Nat → Int32) (a : Int32) : Nat → Int32
  | 0 => a
  | k + 1 => step (itn step a k) k
def fcn (g : GS) (p f : Int32) : Nat := cn (fun x : HS => x.2.2.1 == p && x.1 == f) g.hd
def stn (g : GS) (p : Int32) : Nat := cn (fun x : HS => x.2.2.1 == p) g.hd
def sm (P : HS → Bool) (l : List HS) : Int32 := l.foldl (fun a x => if P x then a + x.2.2.2 else a) 0
def pdP (p f : Int32) (x : HS) : Bool := x.2.2.1 == p && (f == -1 || x.1 == f)
def pds (g : GS) (p f : Int32) : Int32 := sm (pdP p f) g.hd
theorem sm_take {P : HS → Bool} {l : List HS} {k : Nat} {x : HS} (hx : l[k]? = some x) : sm P (l.take (k + 1)) = if P x then sm P (l.take k) + x.2.2.2 else sm P (l.take k) := by
  obtain ⟨hk, rfl⟩ := List.getElem?_eq_some_iff.mp hx
  unfold sm
  rw [List.take_succ_eq_append_getElem hk, List.foldl_append]
  rfl
def nbs (g : GS) (p f : Int32) : Int32 := itn (fun a k => if cnt g p f (i32 (k + 1)) = 0 then a else a + 1) 0 9
/-- how many in a row from n on, at most r -/
def rl (P : Nat → Bool) (n : Nat) : Nat → Nat
  | 0 => 0
  | r + 1 => if P n then rl P (n + 1) r + 1 else 0
def rnP (g : GS) (p f : Int32) (j : Nat) : Bool := !(cnt g p f (i32 j) == 0)
def rnf (g : GS) (p f : Int32) (n : Nat) : Nat := if cnt g p f (i32 n) = 0 then 0 else if 1 < n ∧ ¬ cnt g p f (i32 (n - 1)) = 0 then 0 else rl (rnP g p f) n (10 - n)
def rns (g : GS) (p f : Int32) : Int32 := itn (fun a k => if rnf g p f (k + 1) = 0 then a else a + 1) 0 9
def sqs (g : GS) (p f : Int32) : Int32 := itn (fun a k => a + i32 (rnf g p f (k + 1)) * i32 (rnf g p f (k + 1))) 0 9
def mx (a b : Int32) : Int32 := if a < b then b else a
def mn (a b : Int32) : Int32 := if b < a then b else a
def lgs (g : GS) (p : Int32) (F : Nat) : Int32 := itn (fun a f => itn (fun a k => mx a (i32 (rnf g p (i32 f) (k + 1)))) a 9) 0 F
def crs (g : GS) (p : Int32) (F : Nat) (b : Int32) : Int32 := itn (fun a f => mn a (i32 (fcn g p (i32 f)))) b F
def scr (g : GS) (p : Int32) (purse : Int32) (F : Nat) (b : Int32) : Int32 := itn (fun a f => a + ((sqs g p (i32 f) + i32 (fcn g p (i32 f))) - nbs g p (i32 f))) (10 * crs g p F b + purse / 5) F
theorem cnt_le (g : GS) (p f n : Int32) : cnt g p f n ≤ g.hd.length := cn_le
theorem fcn_le (g : GS) (p f : Int32) : fcn g p f ≤ g.hd.length := cn_le
theorem stn_le (g : GS) (p : Int32) : stn g p ≤ g.hd.length := cn_le
theorem rl_le (P : Nat → Bool) : ∀ r n, rl P n r ≤ r
  | 0, n => Nat.le_refl _
  | r + 1, n => by
    unfold rl
    split
    · exact Nat.succ_le_succ (rl_le P r (n + 1))
    · omega
theorem rnf_le (g : GS) (p f : Int32) (n : Nat) : rnf g p f n ≤ 10 := by
  unfold rnf
  split
  · omega
  · split
    · omega
    · have := rl_le (rnP g p f) (10 - n) n
      omega
section
variable {G : GL} {d : Nat} {h0 h : AH} {m : Nat} {A : Nat → Nat} {S : TS} {g : GS} {Qx : Nat → AH → Prop} {K : Int32 → AH → Prop}
theorem s_countFace {p f : Int32} (H : TWX h0 h m A S) (hR : TR (S.2 0) g) (HK : K (i32 (fcn g p f)) h) : MF G (d + 1) mi_M_countFace 0 [.ref m, .int p, .int f, .retAddr 0, .retAddr 0] [] h (cI K Qx) := by
  refine b_M_countFace_0 ?_
  have h61 := hR.2.2.2.1
  have loop : ∀ r k, r + k = g.hd.length → MF G (d + 1) mi_M_countFace 5 [.ref m, .int p, .int f, .int (i32 (cn (fun x : HS => x.2.2.1 == p && x.1 == f) (g.hd.take k))), .int (i32 k)] [] h (cI K Qx) := by
    intro r
    induction r with
    | zero =>
      intro k hk
      refine b_M_countFace_5 (tw_n (j := 10) H hR (by decide) ⟨fun _ => cI_mk ?_, fun hn => absurd ((i32_le (by omega) (by omega)).mpr (by omega : g.hd.length ≤ k)) hn⟩)
      rw [List.take_of_length_le (by omega)]
      exact HK
    | succ r ih =>
      intro k hk
      obtain ⟨x, hx⟩ : ∃ x, g.hd[k]? = some x := ⟨_, List.getElem?_eq_getElem (by omega)⟩
      have hst := ih (k + 1) (by omega)
      rw [cn_take hx, ← i32_succ k] at hst
      refine b_M_countFace_5 (tw_n (j := 10) H hR (by decide) ⟨fun hn => absurd ((i32_le (by omega) (by omega)).mp hn) (by omega), fun _ => ⟨tw_K H, s_held (j := 2) H hR hx (by decide) ⟨fun hne => ?_, fun he => ⟨tw_K H, s_held (j := 0) H hR hx (by decide) ⟨fun hne => ?_, fun he2 => ?_⟩⟩⟩⟩⟩)
      · have hf : (x.2.2.1 == p && x.1 == f) = false := by simp [show ¬ x.2.2.1 = p from hne]
        rw [hf] at hst; exact hst
      · have hf : (x.2.2.1 == p && x.1 == f) = false := by simp [show ¬ x.1 = f from hne]
        rw [hf] at hst; exact hst
      · have hf : (x.2.2.1 == p && x.1 == f) = true := by simp [show x.2.2.1 = p from he, show x.1 = f from he2]
        rw [hf, if_pos rfl, ← i32_succ] at hst; exact hst
  exact loop g.hd.length 0 rfl
theorem s_stonesOf {p : Int32} (H : TWX h0 h m A S) (hR : TR (S.2 0) g) (HK : K (i32 (stn g p)) h) : MF G (d + 1) mi_M_stonesOf 0 [.ref m, .int p, .retAddr 0, .retAddr 0] [] h (cI K Qx) := by
  refine b_M_stonesOf_0 ?_
  have h61 := hR.2.2.2.1
  have loop : ∀ r k, r + k = g.hd.length → MF G (d + 1) mi_M_stonesOf 4 [.ref m, .int p, .int (i32 (cn (fun x : HS => x.2.2.1 == p) (g.hd.take k))), .int (i32 k)] [] h (cI K Qx) := by
    intro r
    induction r with
    | zero =>
      intro k hk
      refine b_M_stonesOf_4 (tw_n (j := 10) H hR (by decide) ⟨fun _ => cI_mk ?_, fun hn => absurd ((i32_le (by omega) (by omega)).mpr (by omega : g.hd.length ≤ k)) hn⟩)
      rw [List.take_of_length_le (by omega)]
      exact HK
    | succ r ih =>
      intro k hk
      obtain ⟨x, hx⟩ : ∃ x, g.hd[k]? = some x := ⟨_, List.getElem?_eq_getElem (by omega)⟩
      have hst := ih (k + 1) (by omega)
      rw [cn_take hx, ← i32_succ k] at hst
      refine b_M_stonesOf_4 (tw_n (j := 10) H hR (by decide) ⟨fun hn => absurd ((i32_le (by omega) (by omega)).mp hn) (by omega), fun _ => ⟨tw_K H, s_held (j := 2) H hR hx (by decide) ⟨fun hne => ?_, fun he => ?_⟩⟩⟩)
      · have hf : (x.2.2.1 == p) = false := by simp [show ¬ x.2.2.1 = p from hne]
        rw [hf] at hst; exact hst
      · have hf : (x.2.2.1 == p) = true := by simp [show x.2.2.1 = p from he]
        rw [hf, if_pos rfl, ← i32_succ] at hst; exact hst
  exact loop g.hd.length 0 rfl
theorem s_paidBy {p f : Int32} (H : TWX h0 h m A S) (hR : TR (S.2 0) g) (HK : K (pds g p f) h) : MF G (d + 1) mi_M_paidBy 0 [.ref m, .int p, .int f, .retAddr 0, .retAddr 0] [] h (cI K Qx) := by
  refine b_M_paidBy_0 ?_
  have h61 := hR.2.2.2.1
  have loop : ∀ r k, r + k = g.hd.length → MF G (d + 1) mi_M_paidBy 5 [.ref m, .int p, .int f, .int (sm (pdP p f) (g.hd.take k)), .int (i32 k)] [] h (cI K Qx) := by
    intro r
    induction r with
    | zero =>
      intro k hk
      refine b_M_paidBy_5 (tw_n (j := 10) H hR (by decide) ⟨fun _ => cI_mk ?_, fun hn => absurd ((i32_le (by omega) (by omega)).mpr (by omega : g.hd.length ≤ k)) hn⟩)
      rw [List.take_of_length_le (by omega)]
      exact HK
    | succ r ih =>
      intro k hk
      obtain ⟨x, hx⟩ : ∃ x, g.hd[k]? = some x := ⟨_, List.getElem?_eq_getElem (by omega)⟩
      have hst := ih (k + 1) (by omega)
      rw [sm_take hx, ← i32_succ k] at hst
      have hadd : pdP p f x = true → MF G (d + 1) mi_M_paidBy 44 [.ref m, .int p, .int f, .int (sm (pdP p f) (g.hd.take k)), .int (i32 k)] [] h (cI K Qx) := by
        intro hf
        rw [if_pos hf] at hst
        exact b_M_paidBy_44 ⟨tw_K H, s_held (j := 3) H hR hx (by decide) hst⟩
      refine b_M_paidBy_5 (tw_n (j := 10) H hR (by decide) ⟨fun hn => absurd ((i32_le (by omega) (by omega)).mp hn) (by omega), fun _ => ⟨tw_K H, s_held (j := 2) H hR hx (by decide) ⟨fun hne => ?_, fun he => ⟨fun hm1 => ?_, fun hm1 => ⟨tw_K H, s_held (j := 0) H hR hx (by decide) ⟨fun hne => ?_, fun he2 => ?_⟩⟩⟩⟩⟩⟩)
      · have hf : pdP p f x = false := by simp [pdP, show ¬ x.2.2.1 = p from hne]
        rw [hf] at hst; exact hst
      · exact hadd (by simp [pdP, show x.2.2.1 = p from he, hm1])
      · have hf : pdP p f x = false := by simp [pdP, show ¬ x.1 = f from hne, hm1]
        rw [hf] at hst; exact hst
      · exact hadd (by simp [pdP, show x.2.2.1 = p from he, show x.1 = f from he2])
  exact loop g.hd.length 0 rfl
theorem s_numbersOf {p f : Int32} (H : TWX h0 h m A S) (hR : TR (S.2 0) g) (HK : K (nbs g p f) h) : MF G (d + 2) mi_M_numbersOf 0 [.ref m, .int p, .int f, .retAddr 0, .retAddr 0] [] h (cI K Qx) := by
  refine b_M_numbersOf_0 ?_
  have h61 := hR.2.2.2.1
  have loop : ∀ r k, r + k = 9 → MF G (d + 2) mi_M_numbersOf 5 [.ref m, .int p, .int f, .int (itn (fun a k => if cnt g p f (i32 (k + 1)) = 0 then a else a + 1) 0 k), .int (i32 (k + 1))] [] h (cI K Qx) := by
    intro r
    induction r with
    | zero =>
      intro k hk
      have : k = 9 := by omega
      subst this
      exact b_M_numbersOf_5 ⟨fun _ => cI_mk HK, fun hn => absurd (by decide) hn⟩
    | succ r ih =>
      intro k hk
      have hst := ih (k + 1) (by omega)
      rw [← i32_succ (k + 1)] at hst
      have hc := cnt_le g p f (i32 (k + 1))
      refine b_M_numbersOf_5 ⟨fun hn => absurd ((i32_lt (a := 9) (by omega) (by omega)).mp hn) (by omega), fun _ => ⟨tw_K H, s_countOf H hR ⟨fun hle => ?_, fun hgt => ?_⟩⟩⟩
      · have h9 : cnt g p f (i32 (k + 1)) = 0 := Nat.le_zero.mp ((i32_le (b := 0) (by omega) (by omega)).mp hle)
        simp only [itn, if_pos h9] at hst; exact hst
      · have h9 : ¬ cnt g p f (i32 (k + 1)) = 0 := fun e => hgt (by rw [e]; decide)
        simp only [itn, if_neg h9] at hst; exact hst
  exact loop 9 0 rfl
theorem s_runFrom {p f : Int32} {n : Nat} (hn1 : 1 ≤ n) (hn9 : n ≤ 9) (H : TWX h0 h m A S) (hR : TR (S.2 0) g) (HK : K (i32 (rnf g p f n)) h) : MF G (d + 2) mi_M_runFrom 0 [.ref m, .int p, .int f, .int (i32 n), .retAddr 0] [] h (cI K Qx) := by
  have h61 := hR.2.2.2.1
  have loop : ∀ r j, n + j + r = 10 → K (i32 (j + rl (rnP g p f) (n + j) r)) h → MF G (d + 2) mi_M_runFrom 32 [.ref m, .int p, .int f, .int (i32 n), .int (i32 j)] [] h (cI K Qx) := by
    intro r
    induction r with
    | zero =>
      intro j hj hK9
      refine b_M_runFrom_32 ⟨fun _ => cI_mk hK9, fun hn => absurd ?_ hn⟩
      rw [i32_add]
      exact (i32_lt (a := 9) (by omega) (by omega)).mpr (by omega)
    | succ r ih =>
      intro j hj hK9
      have hc := cnt_le g p f (i32 (n + j))
      refine b_M_runFrom_32 ⟨fun hn => absurd ?_ ((by omega : ¬ 9 < n + j)), fun _ => ⟨tw_K H, ?_⟩⟩
      · rw [i32_add] at hn
        exact (i32_lt (a := 9) (by omega) (by omega)).mp hn
      · rw [i32_add]
        refine s_countOf H hR ⟨fun hle => cI_mk ?_, fun hgt => ?_⟩
        · have h9 : cnt g p f (i32 (n + j)) = 0 := Nat.le_zero.mp ((i32_le (b := 0) (by omega) (by omega)).mp hle)
          rw [rl, if_neg (by simp [rnP, h9])] at hK9
          exact hK9
        · have h9 : ¬ cnt g p f (i32 (n + j)) = 0 := fun e => hgt (by rw [e]; decide)
          rw [i32_succ]
          refine ih (j + 1) (by omega) ?_
          rw [rl, if_pos (by simp [rnP, h9])] at hK9
          rw [show j + 1 + rl (rnP g p f) (n + (j + 1)) r = j + (rl (rnP g p f) (n + j + 1) r + 1) by rw [← Nat.add_assoc n j 1]; omega]
          exact hK9
  have hc := cnt_le g p f (i32 n)
  have hc1 := cnt_le g p f (i32 (n - 1))
  refine b_M_runFrom_0 ⟨tw_K H, s_countOf H hR ⟨fun h0 => cI_mk ?_, fun h0 => ?_⟩⟩
  · have h9 : cnt g p f (i32 n) = 0 := (i32_eq (b := 0) (by omega) (by omega)).mp h0
    rw [rnf, if_pos h9] at HK; exact HK
  · have h9 : ¬ cnt g p f (i32 n) = 0 := fun e => h0 (by rw [e]; rfl)
    rw [rnf, if_neg h9] at HK
    refine ⟨fun hle => ?_, fun hgt => ?_⟩
    · have h1 : ¬ 1 < n := by have := (i32_le (b := 1) (by omega) (by omega)).mp hle; omega
      rw [if_neg (fun e => h1 e.1)] at HK
      exact loop (10 - n) 0 (by omega) (by rw [Nat.zero_add]; exact HK)
    · have h1 : 1 < n := Nat.lt_of_not_le fun e => hgt ((i32_le (b := 1) (by omega) (by omega)).mpr e)
      obtain ⟨n', rfl⟩ : ∃ n', n = n' + 1 := ⟨n - 1, by omega⟩
      refine ⟨tw_K H, ?_⟩
      rw [i32_pred]
      refine s_countOf H hR ⟨fun hle => ?_, fun hgt => cI_mk ?_⟩
      · have h2 : cnt g p f (i32 n') = 0 := Nat.le_zero.mp ((i32_le (b := 0) (by have := cnt_le g p f (i32 n'); omega) (by omega)).mp hle)
        rw [if_neg (fun e => e.2 h2)] at HK
        exact loop (10 - (n' + 1)) 0 (by omega) (by rw [Nat.zero_add]; exact HK)
      · have h2 : ¬ cnt g p f (i32 n') = 0 := fun e => hgt (by rw [e]; decide)
        rw [if_pos ⟨h1, h2⟩] at HK
        exact HK
end
