/-! the twin: who wins; which stone -/
set_option maxRecDepth 100000
theorem i32_div {a b : Nat} (ha : a < 2147483648) (hb : b < 2147483648) (h0 : 0 < b) : i32 a / i32 b = i32 (a / b) := by
  have hq : a / b < 2147483648 := Nat.lt_of_le_of_lt (Nat.div_le_self a b) ha
  rw [← Int32.toInt_inj, Int32.toInt_div_of_ne_right _ _ (fun e => by
    have h9 := congrArg Int32.toInt e
    rw [i32_toInt hb] at h9
    have : (-1 : Int32).toInt = -1 := rfl
    omega), i32_toInt ha, i32_toInt hb, i32_toInt hq]
  rw [Int.tdiv_eq_ediv_of_nonneg (by omega)]
  rfl
theorem i32_sub {a b : Nat} (h : b ≤ a) : i32 a - i32 b = i32 (a - b) := by
  obtain ⟨c, rfl⟩ : ∃ c, a = c + b := ⟨a - b, by omega⟩
  rw [← i32_add, Nat.add_sub_cancel, Int32.add_sub_cancel]
theorem i32_mod {a b : Nat} (ha : a < 2147483648) (hb : b < 2147483648) (h0 : 0 < b) : i32 a - i32 a / i32 b * i32 b = i32 (a % b) := by
  rw [i32_div ha hb h0, i32_mul, i32_sub (Nat.div_mul_le_self a b)]
  congr 1
  have := Nat.div_add_mod a b
  rw [Nat.mul_comm] at this
  omega
def bidOf (g : GS) (p : Nat) : Int32 := p3 (g.pl.getD p (0, 0, 0)) 2
/-- the best so far behind k rounds (none: -1) -/
def wnS (g : GS) (most : Int32) (st : Nat) (best : Int32) (k : Nat) : Int32 :=
  if bidOf g ((st + k) % g.pl.length) = most then (if best = -1 then i32 ((st + k) % g.pl.length) else if stn g best ≤ stn g (i32 ((st + k) % g.pl.length)) then best else i32 ((st + k) % g.pl.length)) else best
def wnr (g : GS) (st : Nat) : Int32 := if grb g = 0 then -1 else if g.ct.length = 0 then -1 else itn (wnS g (grb g) st) (-1) g.pl.length
section
variable {G : GL} {d : Nat} {h0 h : AH} {m : Nat} {A : Nat → Nat} {S : TS} {g : GS} {Qx : Nat → AH → Prop} {K : Int32 → AH → Prop}
theorem s_winner {st : Nat} (hst : g.ns 6 = i32 st) (hsl : st < 10) (hP : 0 < g.pl.length) (H : TWX h0 h m A S) (hR : TR (S.2 0) g) (HK : K (wnr g st) h) : MF G (d + 2) mi_M_winner 0 [.ref m, .retAddr 0, .retAddr 0, .retAddr 0, .retAddr 0] [] h (cI K Qx) := by
  have h5 := hR.2.1
  have h60 := hR.2.2.1
  have h61 := hR.2.2.2.1
  have loop : ∀ r k, r + k = g.pl.length → K (itn (wnS g (grb g) st) (-1) g.pl.length) h → ∀ u9, MF G (d + 2) mi_M_winner 24 [.ref m, .int (grb g), .int (itn (wnS g (grb g) st) (-1) k), .int (i32 k), u9] [] h (cI K Qx) := by
    intro r
    induction r with
    | zero =>
      intro k hk HK9 u9
      have : k = g.pl.length := by omega
      subst this
      exact b_M_winner_24 (tw_n (j := 2) H hR (by decide) ⟨fun _ => cI_mk HK9, fun hn => absurd ((i32_le (by omega) (by omega)).mpr (Nat.le_refl _)) hn⟩)
    | succ r ih =>
      intro k hk HK9 u9
      have hst9 := ih (k + 1) (by omega) HK9
      have hpm : (st + k) % g.pl.length < g.pl.length := Nat.mod_lt _ hP
      obtain ⟨x, hx⟩ : ∃ x, g.pl[(st + k) % g.pl.length]? = some x := ⟨_, List.getElem?_eq_getElem hpm⟩
      have hb : bidOf g ((st + k) % g.pl.length) = p3 x 2 := by rw [bidOf, List.getD_eq_getElem?_getD, hx]; rfl
      have e6 : rowN g 6 = i32 st := hst
      refine b_M_winner_24 (tw_n (j := 2) H hR (by decide) ⟨fun hn => absurd ((i32_le (by omega) (by omega)).mp hn) (by omega), fun _ => tw_n (j := 6) H hR (by decide) (tw_n (j := 2) H hR (by decide) ⟨fun hz => absurd ((i32_eq (b := 0) (by omega) (by omega)).mp hz) (by omega), tw_K H, ?_⟩)⟩)
      have e2 : rowN g 2 = i32 g.pl.length := rfl
      rw [e6, e2, i32_add st k, i32_mod (by omega) (by omega) hP, i32_succ]
      refine s_of (j := 2) H hR hx (by decide) ⟨fun hne => ?_, fun he => ⟨fun hm1 => ?_, fun hm1 => ⟨tw_K H, s_stonesOf H hR ⟨tw_K H, s_stonesOf H hR ⟨fun hle => ?_, fun hgt => ?_⟩⟩⟩⟩⟩
      · have h9 := hst9 (.int (i32 ((st + k) % g.pl.length)))
        rw [itn, wnS, if_neg (by rw [hb]; exact hne)] at h9
        exact h9
      · have h9 := hst9 (.int (i32 ((st + k) % g.pl.length)))
        rw [itn, wnS, if_pos (by rw [hb]; exact he), if_pos hm1] at h9
        exact h9
      · have h9 := hst9 (.int (i32 ((st + k) % g.pl.length)))
        have := stn_le g (itn (wnS g (grb g) st) (-1) k)
        have := stn_le g (i32 ((st + k) % g.pl.length))
        rw [itn, wnS, if_pos (by rw [hb]; exact he), if_neg hm1, if_pos ((i32_le (by omega) (by omega)).mp hle)] at h9
        exact h9
      · have h9 := hst9 (.int (i32 ((st + k) % g.pl.length)))
        have := stn_le g (itn (wnS g (grb g) st) (-1) k)
        have := stn_le g (i32 ((st + k) % g.pl.length))
        rw [itn, wnS, if_pos (by rw [hb]; exact he), if_neg hm1, if_neg (fun e => hgt ((i32_le (by omega) (by omega)).mpr e))] at h9
        exact h9
  refine b_M_winner_0 ⟨tw_K H, s_greatestBid H hR ⟨fun hz => cI_mk ?_, fun hz => tw_n (j := 3) H hR (by decide) ⟨fun hc => ?_, fun hc => cI_mk ?_⟩⟩⟩
  · rw [wnr, if_pos hz] at HK; exact HK
  · rw [wnr, if_neg hz, if_neg (fun e => hc (by show i32 g.ct.length = 0; rw [e]; rfl))] at HK
    exact loop g.pl.length 0 rfl HK _
  · rw [wnr, if_neg hz, if_pos ((i32_eq (b := 0) (by omega) (by omega)).mp hc)] at HK
    exact HK
end
