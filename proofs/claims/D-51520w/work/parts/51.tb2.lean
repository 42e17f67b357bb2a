/-! the twin: if a stone were sold; who is ahead -/
set_option maxRecDepth 100000
theorem gSell_0 {g : GS} {k q : Nat} {s : HS} {y : PL} : (gSell g k s q y).ns 0 = g.ns 0 := by
  unfold gSell
  rw [wN_n (by decide), wN_n (by decide), wP_ns, wN_n (by decide)]
  rfl
theorem gSell_pl {g : GS} {k q : Nat} {s : HS} {y : PL} : (gSell g k s q y).pl = g.pl.set q (y.1, y.2.1 + sGot g s y, y.2.2) := rfl
/-- what is got for a stone, in scores -/
def gIfs (g : GS) (k : Nat) (f n : Int32) : Int32 := match stAt g (i32 k) f n true with
  | none => -9999
  | some j => scr (gSell g j (hdA g j) k (plA g k)) (i32 k) ((plA g k).2.1 + sGot g (hdA g j) (plA g k)) (fcs g) 60 - gsc g k
/-- whether p is ahead of q -/
def isBf (g : GS) (p q : Nat) : Bool := if gsc g p = gsc g q then (if stn g (i32 p) = stn g (i32 q) then decide (p < q) else decide (stn g (i32 q) < stn g (i32 p))) else decide (gsc g q < gsc g p)
def ahd (g : GS) (p : Nat) : Int32 := itn (fun a q => if q = p then a else if isBf g q p then a + 1 else a) 0 g.pl.length
/-- the player at rank i, from p on -/
def bySL (g : GS) (i : Int32) : Nat → Nat → Int32
  | 0, _ => -1
  | r + 1, p => if ahd g p = i then i32 p else bySL g i r (p + 1)
def abv (g : GS) (p : Nat) : Int32 := itn (fun a q => if gsc g q ≤ gsc g p then a else a + 1) 0 g.pl.length
def hml (g : GS) : Int32 := itn (fun a i => a + (2 - p3 (ctA g i) 2)) 0 g.ct.length
def gBid (g : GS) (k : Nat) (b : Int32) : GS := g.wP (g.pl.set k ((plA g k).1, (plA g k).2.1, b))
/-- the least bid that wins, looked for upwards -/
def wbL (g : GS) (k : Nat) : Nat → Nat → Int32
  | 0, _ => -1
  | r + 1, b => if wnr (gBid g k (i32 b)) (sta g) = i32 k then i32 b else wbL g k r (b + 1)
section
variable {G : GL} {d : Nat} {h0 h : AH} {m : Nat} {A : Nat → Nat} {S : TS} {g : GS} {ps : List GS} {sc : Bool} {Qx : Nat → AH → Prop}
theorem p_ifSold {p f n : Int32} {K : Int32 → AH → Prop} (H : TWX h0 h m A S) (hL : TL S) (hR : TR (S.2 0) g) (hv : GV g) (hct : g.hd.length = 0 ∨ g.ct.length ≤ 59) (HK : ∀ h' S', TWX h0 h' m A S' → Qd S S' g (b01 (!isAs g p f n)) → K (if isAs g p f n then gIfs g p.toNatClampNeg f n else 0) h') : MF G (d + 6) mi_M_ifSold 0 [.ref m, .int p, .int f, .int n, .retAddr 0, .retAddr 0, .retAddr 0] [] h (cI K Qx) := by
  have h5 := hR.2.1
  have h61 := hR.2.2.2.1
  refine b_M_ifSold_0 (tw_F H (by decide) rfl fun h1 H1 => ⟨tw_K H1, s_isAsked (g := g) H1 hR ⟨tw_K H1, s_guard H1 (fun hb => ⟨fun _ => ?_, fun h9 => absurd h9 (by decide)⟩) (fun hb h2 H2 => ⟨fun h9 => absurd rfl h9, fun _ => cI_mk ?_⟩)⟩⟩)
  · rw [hb] at HK
    obtain ⟨k, hk, rfl⟩ := isAs_ok h5 hb
    rw [i32_nat (by omega), if_pos rfl] at HK
    unfold gIfs at HK
    refine ⟨tw_K H1, s_stoneAt (most := true) (g := g) H1 hR ?_⟩
    cases hc : stAt g (i32 k) f n true with
    | none =>
      rw [hc] at HK
      exact ⟨fun hn => absurd rfl hn, fun _ => cI_mk (HK h1 _ H1 (Qd.self hL hR))⟩
    | some j =>
      rw [hc] at HK
      dsimp only at HK
      obtain ⟨hj, how⟩ := stAt_own hc
      refine ⟨fun _ => ?_, fun hz => absurd hz (oe_some (by omega))⟩
      refine ⟨tw_K H1, s_try (S := setF S 8 0) (g := g) H1 hL hR fun h2 H2 hR2 => ⟨tw_K H2, s_scoreAt H2 hR2 hv hk ⟨tw_K H2, s_sellsAt H2 hR2 (hdA_at hj) how (plA_at hk) (by omega) fun h3 N3 hN3 H3 => ?_⟩⟩⟩
      have hx : (gSell g j (hdA g j) k (plA g k)).pl[k]? = some ((plA g k).1, (plA g k).2.1 + sGot g (hdA g j) (plA g k), (plA g k).2.2) := by
        rw [gSell_pl, List.getElem?_set_self hk]
      refine ⟨tw_K H3, s_scoreOf (g := gSell g j (hdA g j) k (plA g k)) (F := fcs g) hx (gSell_0.trans hv.1) hv.2.1 H3 (by rw [setR_k]; exact hN3) ⟨tw_K H3, s_tryBack (S := setF S 8 0) (g := g) H3 hR hN3.1 fun h4 S4 H4 hs => cI_mk (HK h4 S4 H4 (hs.qd hR))⟩⟩
  · rw [hb] at HK
    exact HK h2 _ H2 (Qd.self hL hR)
theorem s_isBefore {p q : Nat} {K : Int32 → AH → Prop} (H : TWX h0 h m A S) (hR : TR (S.2 0) g) (hv : GV g) (hp : p < g.pl.length) (hq : q < g.pl.length) (HK : K (b01 (isBf g p q)) h) : MF G (d + 5) mi_M_isBefore 0 [.ref m, .int (i32 p), .int (i32 q)] [] h (cI K Qx) := by
  have h5 := hR.2.1
  have h61 := hR.2.2.2.1
  have hs1 := stn_le g (i32 p)
  have hs2 := stn_le g (i32 q)
  unfold isBf at HK
  refine b_M_isBefore_0 ⟨tw_K H, s_scoreAt H hR hv hp ⟨tw_K H, s_scoreAt H hR hv hq ⟨fun he => ?_, fun hne => ?_⟩⟩⟩
  · rw [if_pos he] at HK
    refine ⟨tw_K H, s_stonesOf H hR ⟨tw_K H, s_stonesOf H hR ⟨fun hn => ?_, fun he2 => ?_⟩⟩⟩
    · have hn2 : ¬ stn g (i32 p) = stn g (i32 q) := fun e => hn (by rw [e])
      rw [if_neg hn2] at HK
      refine ⟨tw_K H, s_stonesOf H hR ⟨tw_K H, s_stonesOf H hR ⟨fun hle => cI_mk ?_, fun hgt => cI_mk ?_⟩⟩⟩
      · have := (i32_le (by omega) (by omega)).mp hle
        rw [decide_eq_false (by omega)] at HK
        exact HK
      · have : ¬ stn g (i32 p) ≤ stn g (i32 q) := fun e => hgt ((i32_le (by omega) (by omega)).mpr e)
        rw [decide_eq_true (by omega)] at HK
        exact HK
    · have he3 : stn g (i32 p) = stn g (i32 q) := (i32_eq (by omega) (by omega)).mp he2
      rw [if_pos he3] at HK
      refine ⟨fun hle => cI_mk ?_, fun hgt => cI_mk ?_⟩
      · have := (i32_le (by omega) (by omega)).mp hle
        rw [decide_eq_false (by omega)] at HK
        exact HK
      · have : ¬ q ≤ p := fun e => hgt ((i32_le (by omega) (by omega)).mpr e)
        rw [decide_eq_true (by omega)] at HK
        exact HK
  · rw [if_neg hne] at HK
    refine ⟨tw_K H, s_scoreAt H hR hv hp ⟨tw_K H, s_scoreAt H hR hv hq ⟨fun hle => cI_mk ?_, fun hgt => cI_mk ?_⟩⟩⟩
    · rw [decide_eq_false (Int32.not_lt.mpr hle)] at HK
      exact HK
    · rw [decide_eq_true (Int32.not_le.mp hgt)] at HK
      exact HK
theorem p_byScore {i : Int32} {K : Int32 → AH → Prop} (H : TWX h0 h m A S) (hL : TL S) (hR : TR (S.2 0) g) (hv : GV g) (HK : ∀ h', TWX h0 h' m A (setF S 8 0) → K (bySL g i g.pl.length 0) h') : MF G (d + 6) mi_M_byScore 0 [.ref m, .int i, .retAddr 0, .retAddr 0, .retAddr 0] [] h (cI K Qx) := by
  have h5 := hR.2.1
  refine b_M_byScore_0 (tw_F H (by decide) rfl fun h1 H1 => ?_)
  have HK1 := HK h1 H1
  have inner : ∀ p, p < g.pl.length → (¬ ahd g p = i → ∀ u3 u4, MF G (d + 6) mi_M_byScore 7 [.ref m, .int i, .int (i32 (p + 1)), u3, u4] [] h1 (cI K Qx)) → (ahd g p = i → K (i32 p) h1) → ∀ r q, r + q = g.pl.length → MF G (d + 6) mi_M_byScore 22 [.ref m, .int i, .int (i32 p), .int (itn (fun a q => if q = p then a else if isBf g q p then a + 1 else a) 0 q), .int (i32 q)] [] h1 (cI K Qx) := by
    intro p hp hno hyes r
    induction r with
    | zero =>
      intro q hq
      have : q = g.pl.length := by omega
      subst this
      refine b_M_byScore_22 (tw_n (j := 2) (g := g) H1 hR (by decide) ⟨fun _ => ⟨fun hn => ?_, fun he => cI_mk (hyes he)⟩, fun hn => absurd ((i32_le (by omega) (by omega)).mpr (Nat.le_refl _)) hn⟩)
      rw [i32_succ]
      exact hno hn _ _
    | succ r ih =>
      intro q hq
      have hst := ih (q + 1) (by omega)
      rw [← i32_succ q] at hst
      refine b_M_byScore_22 (tw_n (j := 2) (g := g) H1 hR (by decide) ⟨fun hn => absurd ((i32_le (by omega) (by omega)).mp hn) (by omega), fun _ => ⟨fun he => ?_, fun hne => ⟨tw_K H1, s_isBefore (g := g) H1 hR hv (by omega) hp ⟨fun hz => ?_, fun hnz => ?_⟩⟩⟩⟩)
      · have e9 : q = p := (i32_eq (by omega) (by omega)).mp he
        rw [show itn (fun a q => if q = p then a else if isBf g q p then a + 1 else a) 0 (q + 1) = itn (fun a q => if q = p then a else if isBf g q p then a + 1 else a) 0 q from if_pos e9] at hst
        exact hst
      · have e9 : ¬ q = p := fun e => hne (by rw [e])
        rw [show itn (fun a q => if q = p then a else if isBf g q p then a + 1 else a) 0 (q + 1) = itn (fun a q => if q = p then a else if isBf g q p then a + 1 else a) 0 q from (if_neg e9).trans (if_neg (by rw [b01_0 hz]; decide))] at hst
        exact hst
      · have e9 : ¬ q = p := fun e => hne (by rw [e])
        rw [show itn (fun a q => if q = p then a else if isBf g q p then a + 1 else a) 0 (q + 1) = itn (fun a q => if q = p then a else if isBf g q p then a + 1 else a) 0 q + 1 from (if_neg e9).trans (if_pos (b01_1 hnz))] at hst
        exact hst
  have loop : ∀ r p, r + p = g.pl.length → bySL g i r p = bySL g i g.pl.length 0 → ∀ u3 u4, MF G (d + 6) mi_M_byScore 7 [.ref m, .int i, .int (i32 p), u3, u4] [] h1 (cI K Qx) := by
    intro r
    induction r with
    | zero =>
      intro p hp e u3 u4
      have : p = g.pl.length := by omega
      subst this
      rw [← e] at HK1
      exact b_M_byScore_7 (tw_n (j := 2) (g := g) H1 hR (by decide) ⟨fun _ => cI_mk HK1, fun hn => absurd ((i32_le (by omega) (by omega)).mpr (Nat.le_refl _)) hn⟩)
    | succ r ih =>
      intro p hp e u3 u4
      refine b_M_byScore_7 (tw_n (j := 2) (g := g) H1 hR (by decide) ⟨fun hn => absurd ((i32_le (by omega) (by omega)).mp hn) (by omega), fun _ => inner p (by omega) (fun hn => ih (p + 1) (by omega) ?_) (fun he => ?_) g.pl.length 0 rfl⟩)
      · rw [← e]
        exact (if_neg hn).symm
      · rw [← e, show bySL g i (r + 1) p = i32 p from if_pos he] at HK1
        exact HK1
  exact loop g.pl.length 0 rfl rfl _ _
theorem s_above {p : Nat} {K : Int32 → AH → Prop} (H : TWX h0 h m A S) (hR : TR (S.2 0) g) (hv : GV g) (hp : p < g.pl.length) (HK : K (abv g p) h) : MF G (d + 5) mi_M_above 0 [.ref m, .int (i32 p), .retAddr 0, .retAddr 0] [] h (cI K Qx) := by
  have h5 := hR.2.1
  refine b_M_above_0 ?_
  have loop : ∀ r q, r + q = g.pl.length → MF G (d + 5) mi_M_above 4 [.ref m, .int (i32 p), .int (itn (fun a q => if gsc g q ≤ gsc g p then a else a + 1) 0 q), .int (i32 q)] [] h (cI K Qx) := by
    intro r
    induction r with
    | zero =>
      intro q hq
      have : q = g.pl.length := by omega
      subst this
      exact b_M_above_4 (tw_n (j := 2) H hR (by decide) ⟨fun _ => cI_mk HK, fun hn => absurd ((i32_le (by omega) (by omega)).mpr (Nat.le_refl _)) hn⟩)
    | succ r ih =>
      intro q hq
      have hst := ih (q + 1) (by omega)
      rw [← i32_succ q] at hst
      refine b_M_above_4 (tw_n (j := 2) H hR (by decide) ⟨fun hn => absurd ((i32_le (by omega) (by omega)).mp hn) (by omega), fun _ => ⟨tw_K H, s_scoreAt H hR hv (by omega) ⟨tw_K H, s_scoreAt H hR hv hp ⟨fun hle => ?_, fun hgt => ?_⟩⟩⟩⟩)
      · rw [show itn (fun a q => if gsc g q ≤ gsc g p then a else a + 1) 0 (q + 1) = itn (fun a q => if gsc g q ≤ gsc g p then a else a + 1) 0 q from if_pos hle] at hst
        exact hst
      · rw [show itn (fun a q => if gsc g q ≤ gsc g p then a else a + 1) 0 (q + 1) = itn (fun a q => if gsc g q ≤ gsc g p then a else a + 1) 0 q + 1 from if_neg hgt] at hst
        exact hst
  exact loop g.pl.length 0 rfl
theorem p_hammersLeft {K : Int32 → AH → Prop} (H : TWX h0 h m A S) (hR : TR (S.2 0) g) (HK : ∀ h', TWX h0 h' m A (setF S 8 0) → K (hml g) h') : MF G (d + 1) mi_M_hammersLeft 0 [.ref m, .retAddr 0, .retAddr 0] [] h (cI K Qx) := by
  have h5 := hR.2.2.1
  refine b_M_hammersLeft_0 (tw_F H (by decide) rfl fun h1 H1 => ?_)
  have HK1 := HK h1 H1
  have loop : ∀ r q, r + q = g.ct.length → MF G (d + 1) mi_M_hammersLeft 9 [.ref m, .int (itn (fun a i => a + (2 - p3 (ctA g i) 2)) 0 q), .int (i32 q)] [] h1 (cI K Qx) := by
    intro r
    induction r with
    | zero =>
      intro q hq
      have : q = g.ct.length := by omega
      subst this
      exact b_M_hammersLeft_9 (tw_n (j := 3) (g := g) H1 hR (by decide) ⟨fun _ => cI_mk HK1, fun hn => absurd ((i32_le (by omega) (by omega)).mpr (Nat.le_refl _)) hn⟩)
    | succ r ih =>
      intro q hq
      have hst := ih (q + 1) (by omega)
      rw [← i32_succ q] at hst
      exact b_M_hammersLeft_9 (tw_n (j := 3) (g := g) H1 hR (by decide) ⟨fun hn => absurd ((i32_le (by omega) (by omega)).mp hn) (by omega), fun _ => ⟨tw_K H1, s_inCart (j := 2) (g := g) H1 hR (ctA_at (by omega)) (by decide) hst⟩⟩)
  exact loop g.ct.length 0 rfl
theorem gBid_at {g : GS} {k : Nat} {c : Int32} (hk : k < g.pl.length) : (gBid g k c).pl[k]? = some ((plA g k).1, (plA g k).2.1, c) := by
  show (g.pl.set k _)[k]? = _
  rw [List.getElem?_set_self hk]
theorem gBid_was {g : GS} {k : Nat} (hk : k < g.pl.length) : gBid g k (plA g k).2.2 = g := by
  refine GS_ext (fun _ => rfl) ?_ rfl rfl
  show g.pl.set k (plA g k) = g.pl
  have := plA_at hk
  apply List.ext_getElem?
  intro j
  by_cases e : k = j
  · subst e; rw [List.getElem?_set_self hk, this]
  · rw [List.getElem?_set_ne e]
theorem gBid_bid {g : GS} {k : Nat} {c b : Int32} : (gBid g k c).wP ((gBid g k c).pl.set k ((plA g k).1, (plA g k).2.1, b)) = gBid g k b := by
  refine GS_ext (fun _ => rfl) ?_ rfl rfl
  show (g.pl.set k _).set k _ = g.pl.set k _
  rw [List.set_set]
theorem p_winningBid {p : Int32} {K : Int32 → AH → Prop} (H : TWX h0 h m A S) (hL : TL S) (hR : TR (S.2 0) g) (hv : GV g) (HK : ∀ h' S', TWX h0 h' m A S' → Qd S S' g (b01 (!isPl g p)) → K (if isPl g p then wbL g p.toNatClampNeg (plA g p.toNatClampNeg).2.1.toNatClampNeg 1 else 0) h') : MF G (d + 6) mi_M_winningBid 0 [.ref m, .int p, .retAddr 0, .retAddr 0, .retAddr 0] [] h (cI K Qx) := by
  have h5 := hR.2.1
  have hs := hv.2.2.2.1
  refine b_M_winningBid_0 (tw_F H (by decide) rfl fun h1 H1 => ⟨tw_K H1, s_isPlayer (g := g) H1 hR ⟨tw_K H1, s_guard (c := isPl g p) H1 (fun hb => ⟨fun _ => ?_, fun h9 => absurd h9 (by decide)⟩) (fun hb h2 H2 => ⟨fun h9 => absurd rfl h9, fun _ => cI_mk ?_⟩)⟩⟩)
  · rw [hb] at HK
    obtain ⟨k, hk, rfl⟩ := inB3_nat (by omega) hb
    rw [i32_nat (by omega), if_pos rfl] at HK
    obtain ⟨P, hP, eP⟩ := hv.2.2.2.2.2.2 k hk
    have eN : (plA g k).2.1.toNatClampNeg = P := by rw [eP, i32_nat (by omega)]
    rw [eN] at HK
    refine ⟨tw_K H1, s_of (j := 2) (g := g) H1 hR (plA_at hk) (by decide) ?_⟩
    have fin : ∀ hh N c best b9, TWX h0 hh m A (setR (setF S 8 0) 0 N) → TR N (gBid g k c) → best = wbL g k P 1 → MF G (d + 6) mi_M_winningBid 72 [.ref m, .int (i32 k), .int (plA g k).2.2, .int best, .int b9] [] hh (cI K Qx) := by
      intro hh N c best b9 HH hN e
      subst e
      refine b_M_winningBid_72 ⟨tw_K HH, s_puts (j := 2) (g := gBid g k c) HH (by rw [setR_k]; exact hN) (gBid_at hk) (by decide) fun h2 N2 hN2 H2 => cI_mk (HK h2 _ H2 ?_)⟩
      have hN3 : TR N2 (gBid g k (plA g k).2.2) := by
        rw [← gBid_bid (c := c)]
        exact hN2
      rw [gBid_was hk] at hN3
      refine ⟨rfl, fun j h0 h1 => ?_, ?_, ?_⟩
      · rw [setR_n h0, setR_n h0]; rfl
      · rw [setR_n (by decide), setR_n (by decide)]; exact hL 1 rfl
      · rw [setR_k]; exact hN3
    have loop : ∀ r b, 1 ≤ b → r + b = P + 1 → wbL g k r b = wbL g k P 1 → ∀ hh N c, TWX h0 hh m A (setR (setF S 8 0) 0 N) → TR N (gBid g k c) → MF G (d + 6) mi_M_winningBid 31 [.ref m, .int (i32 k), .int (plA g k).2.2, .int (-1), .int (i32 b)] [] hh (cI K Qx) := by
      intro r
      induction r with
      | zero =>
        intro b hb1 hrb e hh N c HH hN
        refine b_M_winningBid_31 ⟨tw_K HH, s_of (j := 1) (g := gBid g k c) HH (by rw [setR_k]; exact hN) (gBid_at hk) (by decide) ⟨fun _ => fin hh N c _ _ HH hN e, fun hn => absurd ?_ hn⟩⟩
        show (plA g k).2.1 < i32 b
        rw [eP]
        exact (i32_lt (by omega) (by omega)).mpr (by omega)
      | succ r ih =>
        intro b hb1 hrb e hh N c HH hN
        refine b_M_winningBid_31 ⟨tw_K HH, s_of (j := 1) (g := gBid g k c) HH (by rw [setR_k]; exact hN) (gBid_at hk) (by decide) ⟨fun hlt => absurd hlt ?_, fun _ => ⟨fun hn => absurd rfl hn, fun _ => ⟨tw_K HH, s_puts (j := 2) (g := gBid g k c) HH (by rw [setR_k]; exact hN) (gBid_at hk) (by decide) fun h2 N2 hN2 H2 => ?_⟩⟩⟩⟩
        · show ¬ (plA g k).2.1 < i32 b
          rw [eP]
          exact fun e => absurd ((i32_lt (by omega) (by omega)).mp e) (by omega)
        · rw [setR_R] at H2
          have hN3 : TR N2 (gBid g k (i32 b)) := by
            rw [← gBid_bid (c := c)]
            exact hN2
          refine ⟨tw_K H2, s_winner (g := gBid g k (i32 b)) (st := sta g) hv.2.2.1 (by omega) (by show 0 < (g.pl.set k _).length; rw [List.length_set]; omega) H2 (by rw [setR_k]; exact hN3) ⟨fun hne => ?_, fun he => ?_⟩⟩
          · rw [i32_succ]
            exact ih (b + 1) (by omega) (by omega) ((show wbL g k (r + 1) b = wbL g k r (b + 1) from if_neg hne).symm.trans e) h2 N2 (i32 b) H2 hN3
          · have e9 : i32 b = wbL g k P 1 := (show wbL g k (r + 1) b = i32 b from if_pos he).symm.trans e
            refine b_M_winningBid_31 ⟨tw_K H2, s_of (j := 1) (g := gBid g k (i32 b)) H2 (by rw [setR_k]; exact hN3) (gBid_at hk) (by decide) ⟨fun _ => fin h2 N2 _ _ _ H2 hN3 e9, fun _ => ⟨fun _ => fin h2 N2 _ _ _ H2 hN3 e9, fun hm => absurd hm ?_⟩⟩⟩
            intro e1
            have := i32_nn (n := b) (by omega)
            rw [e1] at this
            exact absurd this (by decide)
    have H1' : TWX h0 h1 m A (setR (setF S 8 0) 0 (S.2 0)) := by
      rw [show S.2 0 = (setF S 8 0).2 0 from rfl, setR_same]
      exact H1
    exact loop P 1 (by omega) (by omega) rfl h1 (S.2 0) (plA g k).2.2 H1' (by rw [gBid_was hk]; exact hR)
  · rw [hb] at HK
    exact HK h2 _ H2 (Qd.self hL hR)
end
