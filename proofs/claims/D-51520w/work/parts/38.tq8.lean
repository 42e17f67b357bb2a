/-! the twin: a player's stone that was paid most, or least, for -/
set_option maxRecDepth 100000
def oe : Option Nat → Int32
  | none => -1
  | some k => i32 k
theorem oe_some {k : Nat} (hk : k < 2147483648) : ¬ oe (some k) = -1 := by
  intro e
  have h9 := congrArg Int32.toInt (show i32 k = -1 from e)
  rw [i32_toInt hk] at h9
  have : (-1 : Int32).toInt = -1 := rfl
  omega
def pdA (g : GS) (b : Nat) : Int32 := p4 (g.hd.getD b (0, 0, 0, 0)) 3
def stP (p f n : Int32) (x : HS) : Bool := x.2.2.1 == p && x.1 == f && x.2.1 == n
/-- is the best so far kept? -/
def kp (most : Bool) (x y : Int32) : Bool := match most with
  | true => decide (x ≤ y)
  | false => decide (y ≤ x)
def saS (g : GS) (p f n : Int32) (most : Bool) (best : Option Nat) (k : Nat) : Option Nat :=
  if stP p f n (g.hd.getD k (0, 0, 0, 0)) then (match best with
    | none => some k
    | some b => if kp most (pdA g k) (pdA g b) = true then some b else some k) else best
def sab (g : GS) (p f n : Int32) (most : Bool) : Nat → Option Nat
  | 0 => none
  | k + 1 => saS g p f n most (sab g p f n most k) k
theorem sab_lt (g : GS) (p f n : Int32) (most : Bool) : ∀ k b, sab g p f n most k = some b → b < k ∧ stP p f n (g.hd.getD b (0, 0, 0, 0)) = true
  | 0, b, h => by cases h
  | k + 1, b, h => by
    have ih := sab_lt g p f n most k
    rw [sab] at h
    unfold saS at h
    split at h
    · rename_i hP
      cases hb : sab g p f n most k with
      | none =>
        rw [hb] at h
        cases h
        exact ⟨Nat.lt_succ_self k, hP⟩
      | some b' =>
        rw [hb] at h
        dsimp only at h
        by_cases hk9 : kp most (pdA g k) (pdA g b') = true
        · rw [if_pos hk9] at h
          cases h
          obtain ⟨i1, i2⟩ := ih _ hb
          exact ⟨by omega, i2⟩
        · rw [if_neg hk9] at h
          cases h
          exact ⟨Nat.lt_succ_self k, hP⟩
    · obtain ⟨i1, i2⟩ := ih b h
      exact ⟨by omega, i2⟩
def stAt (g : GS) (p f n : Int32) (most : Bool) : Option Nat := sab g p f n most g.hd.length
section
variable {G : GL} {d : Nat} {h0 h : AH} {m : Nat} {A : Nat → Nat} {S : TS} {g : GS} {Qx : Nat → AH → Prop} {K : Int32 → AH → Prop}
theorem s_stoneAt {p f n : Int32} {most : Bool} (H : TWX h0 h m A S) (hR : TR (S.2 0) g) (HK : K (oe (stAt g p f n most)) h) : MF G (d + 1) mi_M_stoneAt 0 [.ref m, .int p, .int f, .int n, .int (b01 most), .retAddr 0, .retAddr 0] [] h (cI K Qx) := by
  refine b_M_stoneAt_0 ?_
  have h61 := hR.2.2.2.1
  have loop : ∀ r k, r + k = g.hd.length → MF G (d + 1) mi_M_stoneAt 6 [.ref m, .int p, .int f, .int n, .int (b01 most), .int (oe (sab g p f n most k)), .int (i32 k)] [] h (cI K Qx) := by
    intro r
    induction r with
    | zero =>
      intro k hk
      have : k = g.hd.length := by omega
      subst this
      exact b_M_stoneAt_6 (tw_n (j := 10) H hR (by decide) ⟨fun _ => cI_mk HK, fun hn => absurd ((i32_le (by omega) (by omega)).mpr (Nat.le_refl _)) hn⟩)
    | succ r ih =>
      intro k hk
      obtain ⟨x, hx⟩ : ∃ x, g.hd[k]? = some x := ⟨_, List.getElem?_eq_getElem (by omega)⟩
      have hgd : g.hd.getD k (0, 0, 0, 0) = x := by rw [List.getD_eq_getElem?_getD, hx]; rfl
      have hst := ih (k + 1) (by omega)
      rw [← i32_succ k, sab] at hst
      unfold saS at hst
      rw [hgd] at hst
      have hskip : stP p f n x = false → MF G (d + 1) mi_M_stoneAt 6 [.ref m, .int p, .int f, .int n, .int (b01 most), .int (oe (sab g p f n most k)), .int (i32 k + 1)] [] h (cI K Qx) := by
        intro hf
        rw [hf] at hst
        exact hst
      refine b_M_stoneAt_6 (tw_n (j := 10) H hR (by decide) ⟨fun hn => absurd ((i32_le (by omega) (by omega)).mp hn) (by omega), fun _ => ⟨tw_K H, s_held (j := 2) H hR hx (by decide) ⟨fun hne => hskip ?_, fun he => ⟨tw_K H, s_held (j := 0) H hR hx (by decide) ⟨fun hne => hskip ?_, fun he2 => ⟨tw_K H, s_held (j := 1) H hR hx (by decide) ⟨fun he3 => ?_, fun hne => hskip ?_⟩⟩⟩⟩⟩⟩⟩)
      · simp [stP, show ¬ x.2.2.1 = p from hne]
      · simp [stP, show ¬ x.1 = f from hne]
      · have hP : stP p f n x = true := by simp [stP, show x.2.2.1 = p from he, show x.1 = f from he2, show x.2.1 = n from he3]
        rw [if_pos hP] at hst
        cases hb : sab g p f n most k with
        | none =>
          rw [hb] at hst
          exact ⟨fun _ => hst, fun hn => absurd rfl hn⟩
        | some b =>
          rw [hb] at hst
          dsimp only at hst
          obtain ⟨hbk, -⟩ := sab_lt g p f n most k b hb
          obtain ⟨xb, hxb⟩ : ∃ xb, g.hd[b]? = some xb := ⟨_, List.getElem?_eq_getElem (by omega)⟩
          have hpk : pdA g k = p4 x 3 := by rw [pdA, hgd]
          have hpb : pdA g b = p4 xb 3 := by rw [pdA, List.getD_eq_getElem?_getD, hxb]; rfl
          rw [hpk, hpb] at hst
          refine ⟨fun hm1 => absurd hm1 (oe_some (by omega)), fun _ => ⟨fun hm0 => ?_, fun hm0 => ?_⟩⟩
          · have hmf := b01_0 hm0
            subst hmf
            refine ⟨tw_K H, s_held (j := 3) H hR hx (by decide) ⟨tw_K H, s_held (j := 3) H hR hxb (by decide) ⟨fun hle => ?_, fun hgt => ?_⟩⟩⟩
            · rw [if_pos (show kp false (p4 x 3) (p4 xb 3) = true from decide_eq_true hle)] at hst; exact hst
            · rw [if_neg (show ¬ kp false (p4 x 3) (p4 xb 3) = true from fun e => hgt (of_decide_eq_true e))] at hst; exact hst
          · have hmf := b01_1 hm0
            subst hmf
            refine ⟨tw_K H, s_held (j := 3) H hR hx (by decide) ⟨tw_K H, s_held (j := 3) H hR hxb (by decide) ⟨fun hle => ?_, fun hgt => ?_⟩⟩⟩
            · rw [if_pos (show kp true (p4 x 3) (p4 xb 3) = true from decide_eq_true hle)] at hst; exact hst
            · rw [if_neg (show ¬ kp true (p4 x 3) (p4 xb 3) = true from fun e => hgt (of_decide_eq_true e))] at hst; exact hst
      · simp [stP, show ¬ x.2.1 = n from hne]
  exact loop g.hd.length 0 rfl
end
