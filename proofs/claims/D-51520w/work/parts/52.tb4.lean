/-! the twin: as it is now -/
set_option maxRecDepth 100000
def gSiz (g : GS) (u x : Int32) : Int32 := if x = 0 then i32 g.pl.length else if x = 1 then g.ns 0 else if x = 2 then g.ns 1 else if x = 3 then i32 g.ct.length else if x = 4 then i32 g.hd.length else if x = 5 then g.ns 4 else if x = 6 then g.ns 5 else if x = 7 then g.ns 6 else if x = 8 then g.ns 7 else if x = 9 then wnr g (sta g) else if x = 10 then grb g else u
def gPlr (g : GS) (k : Nat) (x : Int32) : Int32 := if x = 0 then (plA g k).2.1 else if x = 1 then (plA g k).2.2 else if x = 2 then i32 (stn g (i32 k)) else if x = 3 then gsc g k else if x = 4 then crs g (i32 k) (fcs g) 60 else if x = 5 then lgs g (i32 k) (fcs g) else if x = 6 then pds g (i32 k) (-1) else abv g k
def gRow (g : GS) (p f x : Int32) : Int32 := if x = 0 then i32 (fcn g p f) else if x = 1 then nbs g p f else if x = 2 then rns g p f else if x = 3 then sqs g p f else pds g p f
def gStn (g : GS) (i x : Int32) : Int32 := if inB3 i 0 (i32 g.ct.length - 1) then p3 (ctA g i.toNatClampNeg) x.toNatClampNeg else -1
section
variable {G : GL} {d : Nat} {h0 h : AH} {m : Nat} {A : Nat → Nat} {S : TS} {g : GS} {ps : List GS} {sc : Bool} {Qx : Nat → AH → Prop}
theorem p_size {x : Int32} {K : Int32 → AH → Prop} (H : TWX h0 h m A S) (hL : TL S) (hR : TR (S.2 0) g) (hv : GV g) (HK : ∀ h' S', TWX h0 h' m A S' → Qd S S' g (b01 (!inB3 x 0 11)) → K (if inB3 x 0 11 then gSiz g (S.1 6) x else 0) h') : MF G (d + 3) mi_M_size 0 [.ref m, .int x] [] h (cI K Qx) := by
  have h5 := hR.2.1
  have hs := hv.2.2.2.1
  refine b_M_size_0 (tw_F H (by decide) rfl fun h1 H1 => s_in ⟨tw_K H1, s_guard (c := inB3 x 0 11) H1 (fun hb => ⟨fun _ => ?_, fun h9 => absurd h9 (by decide)⟩) (fun hb h2 H2 => ⟨fun h9 => absurd rfl h9, fun _ => cI_mk ?_⟩)⟩)
  · rw [hb, if_pos rfl] at HK
    have HK1 := HK h1 _ H1 (Qd.self hL hR)
    refine ⟨fun e => ?_, fun e => ?_, fun e => ?_, fun e => ?_, fun e => ?_, fun e => ?_, fun e => ?_, fun e => ?_, fun e => ?_, fun e => ?_, fun e => ?_, fun e => ?_⟩
    · subst e; exact tw_n (j := 2) (g := g) H1 hR (by decide) (cI_mk (by simpa [gSiz, rowN] using HK1))
    · subst e; exact tw_n (j := 0) (g := g) H1 hR (by decide) (cI_mk (by simpa [gSiz, rowN] using HK1))
    · subst e; exact tw_n (j := 1) (g := g) H1 hR (by decide) (cI_mk (by simpa [gSiz, rowN] using HK1))
    · subst e; exact tw_n (j := 3) (g := g) H1 hR (by decide) (cI_mk (by simpa [gSiz, rowN] using HK1))
    · subst e; exact tw_n (j := 10) (g := g) H1 hR (by decide) (cI_mk (by simpa [gSiz, rowN] using HK1))
    · subst e; exact tw_n (j := 4) (g := g) H1 hR (by decide) (cI_mk (by simpa [gSiz, rowN] using HK1))
    · subst e; exact tw_n (j := 5) (g := g) H1 hR (by decide) (cI_mk (by simpa [gSiz, rowN] using HK1))
    · subst e; exact tw_n (j := 6) (g := g) H1 hR (by decide) (cI_mk (by simpa [gSiz, rowN] using HK1))
    · subst e; exact tw_n (j := 7) (g := g) H1 hR (by decide) (cI_mk (by simpa [gSiz, rowN] using HK1))
    · subst e; exact ⟨tw_K H1, s_winner (g := g) hv.2.2.1 (by omega) (by omega) H1 hR (cI_mk (by simpa [gSiz] using HK1))⟩
    · subst e; exact ⟨tw_K H1, s_greatestBid (g := g) H1 hR (cI_mk (by simpa [gSiz] using HK1))⟩
    · have e9 : gSiz g (S.1 6) x = S.1 6 := by
        unfold gSiz
        rw [if_neg (by rintro rfl; revert e; decide), if_neg (by rintro rfl; revert e; decide), if_neg (by rintro rfl; revert e; decide), if_neg (by rintro rfl; revert e; decide), if_neg (by rintro rfl; revert e; decide), if_neg (by rintro rfl; revert e; decide), if_neg (by rintro rfl; revert e; decide), if_neg (by rintro rfl; revert e; decide), if_neg (by rintro rfl; revert e; decide), if_neg (by rintro rfl; revert e; decide), if_neg (by rintro rfl; revert e; decide)]
      rw [e9] at HK1
      exact tw_I H1 (by decide) rfl (cI_mk HK1)
  · rw [hb] at HK
    exact HK h2 _ H2 (Qd.self hL hR)
theorem p_player {p x : Int32} {K : Int32 → AH → Prop} (H : TWX h0 h m A S) (hL : TL S) (hR : TR (S.2 0) g) (hv : GV g) (HK : ∀ h' S', TWX h0 h' m A S' → Qd S S' g (b01 (!(isPl g p && inB3 x 0 7))) → K (if isPl g p && inB3 x 0 7 then gPlr g p.toNatClampNeg x else 0) h') : MF G (d + 6) mi_M_player 0 [.ref m, .int p, .int x] [] h (cI K Qx) := by
  have h5 := hR.2.1
  refine b_M_player_0 (tw_F H (by decide) rfl fun h1 H1 => ?_)
  have tail : ∀ c, (isPl g p && inB3 x 0 7) = c → MF G (d + 6) mi_M_player 29 [.ref m, .int p, .int x] [.int (b01 c), .ref m] h1 (cI K Qx) := by
    intro c hc
    rw [hc] at HK
    refine b_M_player_29 rfl (dR_of ⟨tw_K H1, s_guard H1 (fun hb => ⟨fun _ => ?_, fun h9 => absurd h9 (by decide)⟩) (fun hb h2 H2 => ⟨fun h9 => absurd rfl h9, fun _ => cI_mk ?_⟩)⟩)
    · subst hb
      rw [if_pos rfl] at HK
      rw [Bool.and_eq_true] at hc
      obtain ⟨k, hk, rfl⟩ := inB3_nat (by omega) hc.1
      rw [i32_nat (by omega)] at HK
      have HK1 := HK h1 _ H1 (Qd.self hL hR)
      refine ⟨fun e => ?_, fun e => ?_, fun e => ?_, fun e => ?_, fun e => ?_, fun e => ?_, fun e => ?_, fun e => ?_⟩
      · subst e; exact ⟨tw_K H1, s_of (j := 1) (g := g) H1 hR (plA_at hk) (by decide) (cI_mk (by simpa [gPlr, p3] using HK1))⟩
      · subst e; exact ⟨tw_K H1, s_of (j := 2) (g := g) H1 hR (plA_at hk) (by decide) (cI_mk (by simpa [gPlr, p3] using HK1))⟩
      · subst e; exact ⟨tw_K H1, s_stonesOf (g := g) H1 hR (cI_mk (by simpa [gPlr] using HK1))⟩
      · subst e; exact ⟨tw_K H1, s_scoreAt (g := g) H1 hR hv hk (cI_mk (by simpa [gPlr] using HK1))⟩
      · subst e; exact ⟨tw_K H1, s_crownsOf (g := g) hv.1 hv.2.1 H1 hR (cI_mk (by simpa [gPlr] using HK1))⟩
      · subst e; exact ⟨tw_K H1, s_longestOf (g := g) hv.1 hv.2.1 H1 hR (cI_mk (by simpa [gPlr] using HK1))⟩
      · subst e; exact ⟨tw_K H1, s_paidBy (g := g) H1 hR (cI_mk (by simpa [gPlr] using HK1))⟩
      · have e9 : gPlr g k x = abv g k := by
          unfold gPlr
          rw [if_neg (by rintro rfl; revert e; decide), if_neg (by rintro rfl; revert e; decide), if_neg (by rintro rfl; revert e; decide), if_neg (by rintro rfl; revert e; decide), if_neg (by rintro rfl; revert e; decide), if_neg (by rintro rfl; revert e; decide), if_neg (by rintro rfl; revert e; decide)]
        rw [e9] at HK1
        exact ⟨tw_K H1, s_above (g := g) H1 hR hv hk (cI_mk HK1)⟩
    · subst hb
      exact HK h2 _ H2 (Qd.self hL hR)
  exact ⟨tw_K H1, s_isPlayer (g := g) H1 hR ⟨fun hz => tail false (by rw [show isPl g p = false from b01_0 hz]; rfl), fun hn => s_in ⟨fun hz => tail false (by rw [b01_0 hz, Bool.and_false]), fun hn2 => tail true (by rw [b01_1 hn2, show isPl g p = true from b01_1 hn]; rfl)⟩⟩⟩
theorem p_has {p f n : Int32} {K : Int32 → AH → Prop} (H : TWX h0 h m A S) (hL : TL S) (hR : TR (S.2 0) g) (HK : ∀ h' S', TWX h0 h' m A S' → Qd S S' g (b01 (!isAs g p f n)) → K (if isAs g p f n then i32 (cnt g p f n) else 0) h') : MF G (d + 3) mi_M_has 0 [.ref m, .int p, .int f, .int n] [] h (cI K Qx) := by
  refine b_M_has_0 (tw_F H (by decide) rfl fun h1 H1 => ⟨tw_K H1, s_isAsked (g := g) H1 hR ⟨tw_K H1, s_guard H1 (fun hb => ⟨fun h9 => absurd h9 (by decide), fun _ => ?_⟩) (fun hb h2 H2 => ⟨fun _ => cI_mk ?_, fun h9 => absurd rfl h9⟩)⟩⟩)
  · rw [hb, if_pos rfl] at HK
    exact ⟨tw_K H1, s_countOf (g := g) H1 hR (cI_mk (HK h1 _ H1 (Qd.self hL hR)))⟩
  · rw [hb] at HK
    exact HK h2 _ H2 (Qd.self hL hR)
def isRw (g : GS) (p f x : Int32) : Bool := isPl g p && inB3 f 0 (g.ns 0 - 1) && inB3 x 0 4
theorem p_row {p f x : Int32} {K : Int32 → AH → Prop} (H : TWX h0 h m A S) (hL : TL S) (hR : TR (S.2 0) g) (HK : ∀ h' S', TWX h0 h' m A S' → Qd S S' g (b01 (!isRw g p f x)) → K (if isRw g p f x then gRow g p f x else 0) h') : MF G (d + 4) mi_M_row 0 [.ref m, .int p, .int f, .int x] [] h (cI K Qx) := by
  refine b_M_row_0 (tw_F H (by decide) rfl fun h1 H1 => ?_)
  have tail : ∀ c, isRw g p f x = c → MF G (d + 4) mi_M_row 36 [.ref m, .int p, .int f, .int x] [.int (b01 c), .ref m] h1 (cI K Qx) := by
    intro c hc
    rw [hc] at HK
    refine b_M_row_36 rfl (dR_of ⟨tw_K H1, s_guard H1 (fun hb => ⟨fun _ => ?_, fun h9 => absurd h9 (by decide)⟩) (fun hb h2 H2 => ⟨fun h9 => absurd rfl h9, fun _ => cI_mk ?_⟩)⟩)
    · subst hb
      rw [if_pos rfl] at HK
      have HK1 := HK h1 _ H1 (Qd.self hL hR)
      refine ⟨fun e => ?_, fun e => ?_, fun e => ?_, fun e => ?_, fun e => ?_⟩
      · subst e; exact ⟨tw_K H1, s_countFace (g := g) H1 hR (cI_mk (by simpa [gRow] using HK1))⟩
      · subst e; exact ⟨tw_K H1, s_numbersOf (g := g) H1 hR (cI_mk (by simpa [gRow] using HK1))⟩
      · subst e; exact ⟨tw_K H1, s_runsOf (g := g) H1 hR (cI_mk (by simpa [gRow] using HK1))⟩
      · subst e; exact ⟨tw_K H1, s_squaresOf (g := g) H1 hR (cI_mk (by simpa [gRow] using HK1))⟩
      · have e9 : gRow g p f x = pds g p f := by
          unfold gRow
          rw [if_neg (by rintro rfl; revert e; decide), if_neg (by rintro rfl; revert e; decide), if_neg (by rintro rfl; revert e; decide), if_neg (by rintro rfl; revert e; decide)]
        rw [e9] at HK1
        exact ⟨tw_K H1, s_paidBy (g := g) H1 hR (cI_mk HK1)⟩
    · subst hb
      exact HK h2 _ H2 (Qd.self hL hR)
  exact ⟨tw_K H1, s_isPlayer (g := g) H1 hR ⟨fun hz => tail false (by unfold isRw; rw [show isPl g p = false from b01_0 hz]; rfl), fun hn => ⟨tw_K H1, s_isFace (g := g) H1 hR ⟨fun hz => tail false (by unfold isRw; rw [b01_0 hz, Bool.and_false]; rfl), fun hn2 => s_in ⟨fun hz => tail false (by unfold isRw; rw [b01_0 hz, Bool.and_false]), fun hn3 => tail true (by unfold isRw; rw [b01_1 hn3, b01_1 hn2, show isPl g p = true from b01_1 hn]; rfl)⟩⟩⟩⟩⟩
theorem p_stone {i x : Int32} {K : Int32 → AH → Prop} (H : TWX h0 h m A S) (hL : TL S) (hR : TR (S.2 0) g) (HK : ∀ h' S', TWX h0 h' m A S' → Qd S S' g (b01 (!inB3 x 0 2)) → K (if inB3 x 0 2 then gStn g i x else 0) h') : MF G (d + 1) mi_M_stone 0 [.ref m, .int i, .int x] [] h (cI K Qx) := by
  have h60 := hR.2.2.1
  refine b_M_stone_0 (tw_F H (by decide) rfl fun h1 H1 => s_in ⟨tw_K H1, s_guard (c := inB3 x 0 2) H1 (fun hb => ⟨fun _ => ?_, fun h9 => absurd h9 (by decide)⟩) (fun hb h2 H2 => ⟨fun h9 => absurd rfl h9, fun _ => cI_mk ?_⟩)⟩)
  · rw [hb, if_pos rfl] at HK
    have HK1 := HK h1 _ H1 (Qd.self hL hR)
    unfold gStn at HK1
    refine tw_n (j := 3) (g := g) H1 hR (by decide) (s_in ⟨fun hz => cI_mk ?_, fun hn => ?_⟩)
    · have e9 : inB3 i 0 (i32 g.ct.length - 1) = false := b01_0 hz
      rw [e9] at HK1
      exact HK1
    · have e9 : inB3 i 0 (i32 g.ct.length - 1) = true := b01_1 hn
      rw [e9, if_pos rfl] at HK1
      obtain ⟨k, hk, rfl⟩ := inB3_nat (by omega) e9
      obtain ⟨j, hj, rfl⟩ := inB3_nat (n := 3) (by omega) hb
      rw [i32_nat (by omega), i32_nat (by omega)] at HK1
      exact ⟨tw_K H1, s_inCart (j := j) (g := g) H1 hR (ctA_at hk) hj (cI_mk HK1)⟩
  · rw [hb] at HK
    exact HK h2 _ H2 (Qd.self hL hR)
end
