/-! the twin: a game that is well formed; trials; what would be -/
set_option maxRecDepth 100000
def fcs (g : GS) : Nat := (g.ns 0).toNatClampNeg
def sta (g : GS) : Nat := (g.ns 6).toNatClampNeg
def plA (g : GS) (k : Nat) : PL := g.pl.getD k (0, 0, 0)
/-- well formed -/
def GV (g : GS) : Prop := g.ns 0 = i32 (fcs g) ∧ fcs g ≤ 6 ∧ g.ns 6 = i32 (sta g) ∧ sta g < g.pl.length ∧ g.ct.length + g.hd.length ≤ 60 ∧ OwnOK g ∧ ∀ k, k < g.pl.length → ∃ P, P ≤ 9999 ∧ (plA g k).2.1 = i32 P
def hdA (g : GS) (k : Nat) : HS := g.hd.getD k (0, 0, 0, 0)
def ctA (g : GS) (k : Nat) : CS := g.ct.getD k (0, 0, 0)
theorem plA_at {g : GS} {k : Nat} (h : k < g.pl.length) : g.pl[k]? = some (plA g k) := by
  unfold plA; rw [List.getD_eq_getElem?_getD, List.getElem?_eq_getElem h]; rfl
theorem hdA_at {g : GS} {k : Nat} (h : k < g.hd.length) : g.hd[k]? = some (hdA g k) := by
  unfold hdA; rw [List.getD_eq_getElem?_getD, List.getElem?_eq_getElem h]; rfl
theorem ctA_at {g : GS} {k : Nat} (h : k < g.ct.length) : g.ct[k]? = some (ctA g k) := by
  unfold ctA; rw [List.getD_eq_getElem?_getD, List.getElem?_eq_getElem h]; rfl
/-- the score of player k -/
def gsc (g : GS) (k : Nat) : Int32 := scr g (i32 k) (plA g k).2.1 (fcs g) 60
/-- only the row aside may have changed -/
def Sd (S S' : TS) : Prop := S'.1 = S.1 ∧ (∀ k, k ≠ 1 → S'.2 k = S.2 k) ∧ (S'.2 1).length = 457
theorem Sd.refl {S : TS} (h : TL S) : Sd S S := ⟨rfl, fun _ _ => rfl, h 1 rfl⟩
theorem Sd.trans {S S1 S2 : TS} (h : Sd S S1) (h1 : Sd S1 S2) : Sd S S2 := ⟨h1.1.trans h.1, fun k hk => (h1.2.1 k hk).trans (h.2.1 k hk), h1.2.2⟩
theorem Sd.TL {S S' : TS} (h : Sd S S') (hL : TL S) : TL S' := fun k hk => by
  by_cases e : k = 1
  · subst e; exact h.2.2
  · rw [h.2.1 k e]; exact hL k hk
theorem Sd.row {S S' : TS} {g : GS} (h : Sd S S') (hR : TR (S.2 0) g) : TR (S'.2 0) g := by rw [h.2.1 0 (by decide)]; exact hR
theorem Sd.sm {S S' : TS} (h : Sd S S') : Sm S S' := ⟨fun k _ _ _ => by rw [h.1], fun k _ h1 _ => h.2.1 k h1⟩
theorem TA.sd {S S' : TS} {g : GS} {ps : List GS} {sc : Bool} (hT : TA S g ps sc) (h : Sd S S') : TA S' g ps sc :=
  ⟨h.TL hT.1, h.row hT.2.1, ⟨by rw [h.1]; exact hT.2.2.1.1, hT.2.2.1.2.1, by rw [h.2.1 3 (by decide)]; exact hT.2.2.1.2.2⟩, by rw [h.1]; exact hT.2.2.2⟩
theorem TDone.base {S S1 S' : TS} {g : GS} {ps : List GS} {sc : Bool} {o : Option GS} (h : TDone S1 S' g ps sc o) (hs : Sd S S1) : TDone S S' g ps sc o := by
  cases o with
  | none => exact ⟨h.1, hs.sm.trans h.2.1, by rw [h.2.2.1, hs.1], h.2.2.2⟩
  | some g' => exact ⟨h.1, hs.sm.trans h.2.1, by rw [h.2.2.1, hs.1], by rw [h.2.2.2, hs.1]⟩
/-- a trial taken back -/
theorem Sd.back {S : TS} {N : List Int32} (h0 : (S.2 0).length = 457) (hN : N.length = 457) : Sd S (setR (setR (setR S 1 (S.2 0)) 0 N) 0 (cpW ((setR (setR S 1 (S.2 0)) 0 N).2 0) 0 ((setR (setR S 1 (S.2 0)) 0 N).2 1) 0 457)) := by
  rw [setR_k, setR_n (S := setR S 1 (S.2 0)) (k := 0) (j := 1) (by decide), setR_k, cpW_all hN h0, setR_R]
  refine ⟨rfl, fun k hk => ?_, ?_⟩
  · by_cases e : k = 0
    · subst e; rw [setR_k]
    · rw [setR_n e, setR_n hk]
  · rw [setR_n (by decide), setR_k]; exact h0
section
variable {G : GL} {d : Nat} {h0 h : AH} {m : Nat} {A : Nat → Nat} {S : TS} {g : GS} {ps : List GS} {sc : Bool} {Qx : Nat → AH → Prop}
theorem s_scoreAt {k : Nat} {K : Int32 → AH → Prop} (H : TWX h0 h m A S) (hR : TR (S.2 0) g) (hv : GV g) (hk : k < g.pl.length) (HK : K (gsc g k) h) : MF G (d + 4) mi_M_scoreOf 0 [.ref m, .int (i32 k), .retAddr 0, .retAddr 0] [] h (cI K Qx) :=
  s_scoreOf (plA_at hk) hv.1 hv.2.1 H hR HK
/-- the score of player k when the row holds other stones -/
def gscH (g : GS) (l : List HS) (k : Nat) : Int32 := scr (g.wH l) (i32 k) (plA g k).2.1 (fcs g) 60
theorem s_scoreH {k : Nat} {l : List HS} {K : Int32 → AH → Prop} (H : TWX h0 h m A S) (hR : TR (S.2 0) (g.wH l)) (hv : GV g) (hk : k < g.pl.length) (HK : K (gscH g l k) h) : MF G (d + 4) mi_M_scoreOf 0 [.ref m, .int (i32 k), .retAddr 0, .retAddr 0] [] h (cI K Qx) :=
  s_scoreOf (g := g.wH l) (x := plA g k) (F := fcs g) (plA_at hk) hv.1 hv.2.1 H hR HK
theorem s_try {K : AH → Prop} (H : TWX h0 h m A S) (hL : TL S) (hR : TR (S.2 0) g) (HK : ∀ h', TWX h0 h' m A (setR S 1 (S.2 0)) → TR ((setR S 1 (S.2 0)).2 0) g → K h') : MF G d mi_M_tries 0 [.ref m, .retAddr 0] [] h (cV K Qx) :=
  s_tries H hR.1 (hL 1 rfl) fun h' H' => by
    rw [cpW_all (hL 1 rfl) hR.1] at H'
    exact HK h' H' (by rw [setR_n (by decide)]; exact hR)
theorem s_tryBack {N : List Int32} {v : Int32} {K : Int32 → AH → Prop} (H : TWX h0 h m A (setR (setR S 1 (S.2 0)) 0 N)) (hR : TR (S.2 0) g) (hN : N.length = 457) (HK : ∀ h' S', TWX h0 h' m A S' → Sd S S' → K v h') : MF G d mi_M_back 0 [.ref m, .int v, .retAddr 0] [] h (cI K Qx) :=
  s_back H (by rw [setR_k]; exact hN) (by rw [setR_n (by decide), setR_k]; exact hR.1) fun h' H' => HK h' _ H' (Sd.back hR.1 hN)
/-- by how much a stone raises a score -/
def grw (g : GS) (k : Nat) (f n : Int32) : Int32 := gscH g (g.hd ++ [(f, n, i32 k, 0)]) k - gsc g k
theorem s_grownBy {k : Nat} {f n : Int32} {K : Int32 → AH → Prop} (H : TWX h0 h m A S) (hL : TL S) (hR : TR (S.2 0) g) (hv : GV g) (hk : k < g.pl.length) (HK : ∀ h' S', TWX h0 h' m A S' → Sd S S' → K (grw g k f n) h') : MF G (d + 5) mi_M_grownBy 0 [.ref m, .int (i32 k), .int f, .int n, .retAddr 0] [] h (cI K Qx) := by
  have h60 := hv.2.2.2.2.1
  refine b_M_grownBy_0 ⟨tw_K H, s_try H hL hR fun h1 H1 hR1 => ⟨tw_K H1, s_scoreAt H1 hR1 hv hk ⟨tw_K H1, s_gives H1 hR1 (by omega) fun h2 N2 hN2 H2 => ⟨tw_K H2, s_scoreH H2 (by rw [setR_k]; exact hN2) hv hk ⟨tw_K H2, s_tryBack H2 hR hN2.1 fun h3 S3 H3 hs => cI_mk (HK h3 S3 H3 hs)⟩⟩⟩⟩⟩
/-- a swap -/
def hSw (g : GS) (k o : Nat) : List HS := hCh g.hd k o (hdA g k) (hdA g o)
def aSwap (g : GS) (p : Nat) (s : Int32) (q : Nat) (t : Int32) : Int32 × Option GS := match stAt g (i32 p) (s / 10) (s - s / 10 * 10) false with
  | none => (-4, none)
  | some k => match stAt g (i32 q) (t / 10) (t - t / 10 * 10) false with
    | none => (-4, none)
    | some o => if gscH g (hSw g k o) p - gsc g p < 0 ∨ gscH g (hSw g k o) q - gsc g q < 0 then (-5, none) else (gscH g (hSw g k o) p - gsc g p + (gscH g (hSw g k o) q - gsc g q), some ((g.wH (hSw g k o)).wN 17 (g.ns 17 + 1)))
theorem stAt_own {g : GS} {p f n : Int32} {most : Bool} {k : Nat} (h : stAt g p f n most = some k) : k < g.hd.length ∧ (hdA g k).2.2.1 = p := by
  obtain ⟨hk, hP⟩ := sab_lt g p f n most g.hd.length k h
  refine ⟨hk, ?_⟩
  simp only [stP, Bool.and_eq_true, beq_iff_eq] at hP
  exact hP.1.1
theorem a_swapping {p q : Nat} {s t : Int32} {K : Int32 → AH → Prop} (H : TWX h0 h m A S) (hT : TA S g ps sc) (hv : GV g) (hp : p < g.pl.length) (hq : q < g.pl.length) (hpq : p ≠ q) (HK : ∀ h' S', TWX h0 h' m A S' → TDone S S' g ps sc (aSwap g p s q t).2 → K (aSwap g p s q t).1 h') : MF G (d + 5) mi_M_swapping 0 [.ref m, .int (i32 p), .int s, .int (i32 q), .int t, .retAddr 0, .retAddr 0, .retAddr 0, .retAddr 0, .retAddr 0, .retAddr 0] [] h (cI K Qx) := by
  have h5 := hT.2.1.2.1
  have h61 := hT.2.1.2.2.2.1
  have hR := hT.2.1
  unfold aSwap at HK
  refine b_M_swapping_0 ⟨tw_K H, s_stoneAt (most := false) H hR ⟨tw_K H, s_stoneAt (most := false) H hR ?_⟩⟩
  cases hb : stAt g (i32 p) (s / 10) (s - s / 10 * 10) false with
  | none =>
    rw [hb] at HK
    exact ⟨fun _ => b_M_swapping_46 ⟨tw_K H, a_refuses H hT fun h' S' H' hD => cI_mk (HK h' S' H' hD)⟩, fun hn => absurd rfl hn⟩
  | some k =>
    rw [hb] at HK
    dsimp only at HK
    obtain ⟨hk, hok⟩ := stAt_own hb
    refine ⟨fun hn => absurd hn (oe_some (by omega)), fun _ => ?_⟩
    cases hc : stAt g (i32 q) (t / 10) (t - t / 10 * 10) false with
    | none =>
      rw [hc] at HK
      exact ⟨fun hn => absurd rfl hn, fun _ => b_M_swapping_46 ⟨tw_K H, a_refuses H hT fun h' S' H' hD => cI_mk (HK h' S' H' hD)⟩⟩
    | some o =>
      rw [hc] at HK
      dsimp only at HK
      obtain ⟨ho, hoo⟩ := stAt_own hc
      have hko : k ≠ o := by
        intro e
        subst e
        exact hpq ((i32_eq (by omega) (by omega)).mp (hok.symm.trans hoo))
      refine ⟨fun _ => ?_, fun hn => absurd hn (oe_some (by omega))⟩
      refine ⟨tw_K H, s_scoreAt H hR hv hp ⟨tw_K H, s_scoreAt H hR hv hq ⟨tw_K H, s_try H hT.1 hR fun h1 H1 hR1 => ⟨tw_K H1, s_changesHands H1 hR1 (hdA_at hk) (hdA_at ho) hko fun h2 N2 hN2 H2 => ?_⟩⟩⟩⟩
      have hR2 : TR ((setR (setR S 1 (S.2 0)) 0 N2).2 0) (g.wH (hSw g k o)) := by rw [setR_k]; exact hN2
      refine ⟨tw_K H2, s_scoreH H2 hR2 hv hp ⟨tw_K H2, s_scoreH H2 hR2 hv hq ⟨tw_K H2, s_tryBack H2 hR hN2.1 fun h3 S3 H3 hs => ?_⟩⟩⟩
      have hT3 : TA S3 g ps sc := hT.sd hs
      refine ⟨fun hlt => ?_, fun hge => ⟨fun hle => ?_, fun hgt => ?_⟩⟩
      · rw [if_pos (Or.inl hlt)] at HK
        exact b_M_swapping_113 ⟨tw_K H3, a_refuses H3 hT3 fun h' S' H' hD => cI_mk (HK h' S' H' (hD.base hs))⟩
      · have hno : ¬ (gscH g (hSw g k o) p - gsc g p < 0 ∨ gscH g (hSw g k o) q - gsc g q < 0) := by
          rintro (h9 | h9)
          · exact hge h9
          · exact absurd h9 (Int32.not_lt.mpr hle)
        rw [if_neg hno] at HK
        refine ⟨tw_K H3, a_changes H3 hT3 fun h4 S4 H4 hD => ⟨tw_K H4, s_changesHands H4 hD.1.2.1 (hdA_at hk) (hdA_at ho) hko fun h5 N5 hN5 H5 => ⟨tw_K H5, s_counts (j := 6) H5 (by rw [setR_k]; exact hN5) (by decide) fun h6 N6 hN6 H6 => cI_mk ?_⟩⟩⟩
        rw [setR_R] at H6
        exact HK h6 _ H6 ((hD.row hN6).base hs)
      · rw [if_pos (Or.inr (Int32.not_le.mp hgt))] at HK
        exact b_M_swapping_113 ⟨tw_K H3, a_refuses H3 hT3 fun h' S' H' hD => cI_mk (HK h' S' H' (hD.base hs))⟩
end
