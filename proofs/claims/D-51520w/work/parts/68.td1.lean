/-! the twin's public methods over the law's state: acts, undo, saved states -/
set_option maxRecDepth 100000
/-- what is thrown, what is answered, the state behind -/
abbrev RS : Type := Int32 × Int32 × LSt
def TPost (h0 : AH) (m : Nat) (A : Nat → Nat) (f : RS) (K : Int32 → AH → Prop) : Prop := ∀ h' S', TWX h0 h' m A S' → TI S' f.2.2 → S'.1 8 = f.1 → K f.2.1 h'
def qry (x : LSt) (c : Bool) (r : Int32) : RS := (b01 (!c), if c then r else 0, x)
def tAct (x : LSt) : Option GS → LSt
  | none => (x.1, x.2.1, x.2.2.1, x.2.2.2.1 + 1, x.2.2.2.2)
  | some g' => (g', kept x.2.1 x.1, x.2.2)
theorem Slt.of {S S' : TS} {i : Nat} {o : Option GS} (h : Slt S i o) (h5 : S'.2 5 = S.2 5) (h4 : S'.2 4 = S.2 4) : Slt S' i o := by
  cases o with
  | none => unfold Slt at *; rw [h5]; exact h
  | some g' => unfold Slt at *; rw [h5, h4]; exact h
theorem TI.ta {S : TS} {x : LSt} (h : TI S x) : TA (setF S 8 0) x.g x.ps false := ⟨h.1, h.2.1, h.2.2.1, h.2.2.2.1⟩
theorem TI.act {S S' : TS} {x : LSt} {r : Option GS} (h : TI S x) (hD : TDone (setF S 8 0) S' x.g x.ps false r) : TI S' (tAct x r) ∧ S'.1 8 = 0 := by
  obtain ⟨h1, h2, h3, h4, h5, h6, h7, h8, h9, h10⟩ := h
  have hs : Sm (setF S 8 0) S' := by cases r <;> exact hD.2.1
  have f : ∀ k, k ≠ 6 → k ≠ 7 → k ≠ 25 → k ≠ 8 → S'.1 k = S.1 k := fun k a b c e => (hs.1 k a b c).trans (setF_n e)
  have a : ∀ k, k ≠ 0 → k ≠ 1 → k ≠ 3 → S'.2 k = S.2 k := fun k b c e => hs.2 k b c e
  have e8 : S'.1 8 = 0 := (hs.1 8 (by decide) (by decide) (by decide)).trans setF_1
  refine ⟨?_, e8⟩
  cases r with
  | none =>
    exact ⟨hD.1.1, hD.1.2.1, hD.1.2.2.1, hD.1.2.2.2, (f 99 (by decide) (by decide) (by decide) (by decide)).trans h5, fun i hi => (h6 i hi).of (a 5 (by decide) (by decide) (by decide)) (a 4 (by decide) (by decide) (by decide)), by rw [hD.2.2.1, setF_n (by decide), h7]; rfl, ⟨(a 9 (by decide) (by decide) (by decide)).trans h8.1, (f 10 (by decide) (by decide) (by decide) (by decide)).trans h8.2.1, h8.2.2⟩, (f 11 (by decide) (by decide) (by decide) (by decide)).trans h9, ⟨(a 26 (by decide) (by decide) (by decide)).trans h10.1, (f 28 (by decide) (by decide) (by decide) (by decide)).trans h10.2.1, h10.2.2⟩⟩
  | some g' =>
    exact ⟨hD.1.1, hD.1.2.1, hD.1.2.2.1, hD.1.2.2.2, (f 99 (by decide) (by decide) (by decide) (by decide)).trans h5, fun i hi => (h6 i hi).of (a 5 (by decide) (by decide) (by decide)) (a 4 (by decide) (by decide) (by decide)), by rw [hD.2.2.1, setF_n (by decide), h7]; rfl, ⟨(a 9 (by decide) (by decide) (by decide)).trans h8.1, (f 10 (by decide) (by decide) (by decide) (by decide)).trans h8.2.1, h8.2.2⟩, (f 11 (by decide) (by decide) (by decide) (by decide)).trans h9, ⟨(a 26 (by decide) (by decide) (by decide)).trans h10.1, (f 28 (by decide) (by decide) (by decide) (by decide)).trans h10.2.1, h10.2.2⟩⟩
/-- an act asked for -/
def ask (x : LSt) (c : Bool) (r : Int32 × Option GS) : RS := if c then (0, r.1, tAct x r.2) else (1, 0, x)
section
variable {G : GL} {d : Nat} {h0 h : AH} {m : Nat} {A : Nat → Nat} {S : TS} {x : LSt} {Qx : Nat → AH → Prop}
theorem TI.no (hI : TI S x) {h' : AH} {K : Int32 → AH → Prop} {r : Int32 × Option GS} (HK : TPost h0 m A (ask x false r) K) (H' : TWX h0 h' m A (setF S 8 1)) : K 0 h' := by
  have := hI.qd (Qd.self (c := 1) hI.1 hI.2.1)
  exact HK h' _ H' this.1 this.2
def fBid (x : LSt) (p b : Int32) : RS := ask x (isPl x.g p && inB3 b 0 9999) (aBid x.g p.toNatClampNeg b)
theorem t_bid {p b : Int32} {K : Int32 → AH → Prop} (H : TWX h0 h m A S) (hI : TI S x) (HK : TPost h0 m A (fBid x p b) K) : MF G (d + 3) mi_M_bid 0 [.ref m, .int p, .int b] [] h (cI K Qx) := by
  have h5 := hI.2.1.2.1
  unfold fBid at HK
  refine b_M_bid_0 (tw_F H (by decide) rfl fun h1 H1 => ?_)
  have tail : ∀ c, (isPl x.g p && inB3 b 0 9999) = c → MF G (d + 3) mi_M_bid 30 [.ref m, .int p, .int b] [.int (b01 c), .ref m] h1 (cI K Qx) := by
    intro c hc
    rw [hc] at HK
    refine b_M_bid_30 rfl (dR_of ⟨tw_K H1, s_guard H1 (fun hb => ⟨fun h9 => absurd h9 (by decide), fun _ => ?_⟩) (fun hb h2 H2 => ⟨fun _ => cI_mk ?_, fun h9 => absurd rfl h9⟩)⟩)
    · subst hb
      rw [Bool.and_eq_true] at hc
      obtain ⟨k, hk, rfl⟩ := inB3_nat (by omega) hc.1
      rw [i32_nat (by omega)] at HK
      exact ⟨tw_K H1, a_bidding H1 hI.ta hk fun h2 S2 H2 hD => cI_mk (HK h2 S2 H2 (hI.act hD).1 (hI.act hD).2)⟩
    · subst hb
      exact hI.no HK H2
  exact ⟨tw_K H1, s_isPlayer (g := x.g) H1 hI.2.1 ⟨fun hz => tail false (by rw [show isPl x.g p = false from b01_0 hz]; rfl), fun hn => s_in ⟨fun hz => tail false (by rw [b01_0 hz, Bool.and_false]), fun hn2 => tail true (by rw [b01_1 hn2, show isPl x.g p = true from b01_1 hn]; rfl)⟩⟩⟩
def fHam (x : LSt) : RS := ask x true (aHam x.g (sta x.g))
theorem t_hammer {K : Int32 → AH → Prop} (H : TWX h0 h m A S) (hI : TI S x) (hv : GV x.g) (HK : TPost h0 m A (fHam x) K) : MF G (d + 4) mi_M_hammer 0 [.ref m] [] h (cI K Qx) := by
  have h5 := hI.2.1.2.1
  have hs := hv.2.2.2.1
  have h60 := hv.2.2.2.2.1
  exact b_M_hammer_0 (tw_F H (by decide) rfl fun h1 H1 => ⟨tw_K H1, a_hammering (st := sta x.g) H1 hI.ta hv.2.2.1 (by omega) (by omega) (by omega) fun h2 S2 H2 hD => cI_mk (HK h2 S2 H2 (hI.act hD).1 (hI.act hD).2)⟩)
def fSell (x : LSt) (p f n : Int32) : RS := ask x (isAs x.g p f n) (aSell x.g p f n)
theorem t_sell {p f n : Int32} {K : Int32 → AH → Prop} (H : TWX h0 h m A S) (hI : TI S x) (hv : GV x.g) (HK : TPost h0 m A (fSell x p f n) K) : MF G (d + 3) mi_M_sell 0 [.ref m, .int p, .int f, .int n] [] h (cI K Qx) := by
  have h5 := hI.2.1.2.1
  have h60 := hv.2.2.2.2.1
  unfold fSell at HK
  refine b_M_sell_0 (tw_F H (by decide) rfl fun h1 H1 => ⟨tw_K H1, s_isAsked (g := x.g) H1 hI.2.1 ⟨tw_K H1, s_guard H1 (fun hb => ⟨fun h9 => absurd h9 (by decide), fun _ => ?_⟩) (fun hb h2 H2 => ⟨fun _ => cI_mk ?_, fun h9 => absurd rfl h9⟩)⟩⟩)
  · rw [hb] at HK
    obtain ⟨k, hk, rfl⟩ := isAs_ok h5 hb
    exact ⟨tw_K H1, a_selling H1 hI.ta hk (by omega) fun h2 S2 H2 hD => cI_mk (HK h2 S2 H2 (hI.act hD).1 (hI.act hD).2)⟩
  · rw [hb] at HK
    exact hI.no HK H2
def isSwp (g : GS) (p s q t : Int32) : Bool := isPl g p && isSt g s && isPl g q && isSt g t && !(decide (p = q))
def fSwp (x : LSt) (p s q t : Int32) : RS := ask x (isSwp x.g p s q t) (aSwap x.g p.toNatClampNeg s q.toNatClampNeg t)
theorem t_swap {p s q t : Int32} {K : Int32 → AH → Prop} (H : TWX h0 h m A S) (hI : TI S x) (hv : GV x.g) (HK : TPost h0 m A (fSwp x p s q t) K) : MF G (d + 6) mi_M_swap 0 [.ref m, .int p, .int s, .int q, .int t] [] h (cI K Qx) := by
  have h5 := hI.2.1.2.1
  unfold fSwp at HK
  refine b_M_swap_0 (tw_F H (by decide) rfl fun h1 H1 => ?_)
  have tail : ∀ c, isSwp x.g p s q t = c → MF G (d + 6) mi_M_swap 49 [.ref m, .int p, .int s, .int q, .int t] [.int (b01 c), .ref m] h1 (cI K Qx) := by
    intro c hc
    rw [hc] at HK
    refine b_M_swap_49 rfl (dR_of ⟨tw_K H1, s_guard H1 (fun hb => ⟨fun h9 => absurd h9 (by decide), fun _ => ?_⟩) (fun hb h2 H2 => ⟨fun _ => cI_mk ?_, fun h9 => absurd rfl h9⟩)⟩)
    · subst hb
      unfold isSwp at hc
      simp only [Bool.and_eq_true, Bool.not_eq_true', decide_eq_false_iff_not] at hc
      obtain ⟨⟨⟨⟨c1, -⟩, c3⟩, -⟩, c5⟩ := hc
      obtain ⟨k, hk, rfl⟩ := inB3_nat (by omega) c1
      obtain ⟨j, hj, rfl⟩ := inB3_nat (by omega) c3
      rw [i32_nat (by omega), i32_nat (by omega)] at HK
      exact ⟨tw_K H1, a_swapping H1 hI.ta hv hk hj (fun e => c5 (by rw [e])) fun h2 S2 H2 hD => cI_mk (HK h2 S2 H2 (hI.act hD).1 (hI.act hD).2)⟩
    · subst hb
      exact hI.no HK H2
  refine ⟨tw_K H1, s_isPlayer (g := x.g) H1 hI.2.1 ⟨fun hz => tail false (by unfold isSwp; rw [show isPl x.g p = false from b01_0 hz]; rfl), fun hn => ⟨tw_K H1, s_isStone (g := x.g) H1 hI.2.1 ⟨fun hz => tail false (by unfold isSwp; rw [b01_0 hz, Bool.and_false]; rfl), fun hn2 => ⟨tw_K H1, s_isPlayer (g := x.g) H1 hI.2.1 ⟨fun hz => tail false (by unfold isSwp; rw [show isPl x.g q = false from b01_0 hz, Bool.and_false]; rfl), fun hn3 => ⟨tw_K H1, s_isStone (g := x.g) H1 hI.2.1 ⟨fun hz => tail false (by unfold isSwp; rw [b01_0 hz, Bool.and_false]; rfl), fun hn4 => ⟨fun he => tail false (by unfold isSwp; rw [decide_eq_true he]; simp), fun hne => tail true (by unfold isSwp; rw [decide_eq_false hne, b01_1 hn4, show isPl x.g q = true from b01_1 hn3, b01_1 hn2, show isPl x.g p = true from b01_1 hn]; rfl)⟩⟩⟩⟩⟩⟩⟩⟩⟩
def fRpb (x : LSt) (i : Int32) : RS := (0, if inB3 i 0 (i32 x.w - 1) then x.rp.getD i.toNatClampNeg 0 else -1, x)
theorem t_reportByte {i : Int32} {K : Int32 → AH → Prop} (H : TWX h0 h m A S) (hI : TI S x) (HK : TPost h0 m A (fRpb x i) K) : MF G (d + 1) mi_M_reportByte 0 [.ref m, .int i] [] h (cI K Qx) := by
  have h26 : (S.2 26).length = 400 := hI.1 26 rfl
  obtain ⟨r1, r2, r3⟩ := hI.2.2.2.2.2.2.2.2.2
  have e28 : (setF S 8 0).1 28 = i32 x.w := by rw [setF_n (by decide)]; exact r2
  refine b_M_reportByte_0 (tw_F H (by decide) rfl fun h1 H1 => tw_I H1 (by decide) rfl ?_)
  rw [e28]
  have hq := hI.qd (Qd.self (c := 0) hI.1 hI.2.1)
  have HK1 := HK h1 _ H1 hq.1 hq.2
  unfold fRpb at HK1
  dsimp only at HK1
  refine s_in ⟨fun hz => cI_mk ?_, fun hn => ?_⟩
  · rw [if_neg (by rw [b01_0 hz]; decide)] at HK1; exact HK1
  · have hin := b01_1 hn
    rw [if_pos hin] at HK1
    obtain ⟨k, hk, rfl⟩ := inB3_nat (by omega) hin
    rw [i32_nat (by omega), ← r1] at HK1
    exact tw_g (k := 26) (n := k) H1 (by decide) rfl (by decide) rfl (by omega) (x := (S.2 26).getD k 0) (getD_some (l := S.2 26) (by omega)) (cI_mk HK1)
end
