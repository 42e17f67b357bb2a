/-! the twin: the buffer, why, accounts -/
set_option maxRecDepth 100000
theorem setF_same {S : TS} {k : Nat} {x : Int32} (h : S.1 k = x) : setF S k x = S := by
  unfold setF
  refine Prod.ext ?_ rfl
  funext j
  by_cases e : j = k
  · subst e; simp [h]
  · simp [e]
/-- one byte is fed -/
def fd1 (bn : List Int32 × Nat) (c : Int32) : List Int32 × Nat := if c = 0 then bn else (if bn.2 < 500 then bn.1.set bn.2 c else bn.1, bn.2 + 1)
def wby (w k : Int32) : Int32 := (w >>> (k &&& 31)) &&& 255
def fdW (bn : List Int32 × Nat) (w : Int32) : List Int32 × Nat := fd1 (fd1 (fd1 (fd1 bn (wby w 24)) (wby w 16)) (wby w 8)) (wby w 0)
def tB (S : TS) (bn : List Int32 × Nat) : TS := setF (setR S 9 bn.1) 10 (i32 bn.2)
theorem fd1_len {bn : List Int32 × Nat} {c : Int32} (h : bn.1.length = 500) : (fd1 bn c).1.length = 500 := by
  unfold fd1
  split
  · exact h
  · show (if bn.2 < 500 then bn.1.set bn.2 c else bn.1).length = 500
    split
    · rw [List.length_set]; exact h
    · exact h
theorem fd1_n {bn : List Int32 × Nat} {c : Int32} : bn.2 ≤ (fd1 bn c).2 ∧ (fd1 bn c).2 ≤ bn.2 + 1 := by
  unfold fd1
  split
  · exact ⟨Nat.le_refl _, Nat.le_succ _⟩
  · exact ⟨Nat.le_succ _, Nat.le_refl _⟩
theorem fdW_len {bn : List Int32 × Nat} {w : Int32} (h : bn.1.length = 500) : (fdW bn w).1.length = 500 := fd1_len (fd1_len (fd1_len (fd1_len h)))
theorem fdW_n {bn : List Int32 × Nat} {w : Int32} : bn.2 ≤ (fdW bn w).2 ∧ (fdW bn w).2 ≤ bn.2 + 4 := by
  have h1 := fd1_n (bn := bn) (c := wby w 24)
  have h2 := fd1_n (bn := fd1 bn (wby w 24)) (c := wby w 16)
  have h3 := fd1_n (bn := fd1 (fd1 bn (wby w 24)) (wby w 16)) (c := wby w 8)
  have h4 := fd1_n (bn := fd1 (fd1 (fd1 bn (wby w 24)) (wby w 16)) (wby w 8)) (c := wby w 0)
  unfold fdW
  omega
def fd5 (bn : List Int32 × Nat) (a b c e f : Int32) : List Int32 × Nat := fdW (fdW (fdW (fdW (fdW bn a) b) c) e) f
theorem fd5_n {bn : List Int32 × Nat} {a b c e f : Int32} : bn.2 ≤ (fd5 bn a b c e f).2 ∧ (fd5 bn a b c e f).2 ≤ bn.2 + 20 := by
  have h1 := fdW_n (bn := bn) (w := a)
  have h2 := fdW_n (bn := fdW bn a) (w := b)
  have h3 := fdW_n (bn := fdW (fdW bn a) b) (w := c)
  have h4 := fdW_n (bn := fdW (fdW (fdW bn a) b) c) (w := e)
  have h5 := fdW_n (bn := fdW (fdW (fdW (fdW bn a) b) c) e) (w := f)
  unfold fd5
  omega
/-- whether all bytes from j on are letters -/
def alL (b : List Int32) : Nat → Nat → Bool
  | 0, _ => true
  | r + 1, j => inB3 (b.getD j 0) 97 122 && alL b r (j + 1)
def gFind (g : GS) (b : List Int32) (n : Nat) : Int32 := if 1 ≤ n ∧ n ≤ 6 then (if alL b n 0 then nmd g (pkd b 0 n) else -1) else -1
def gRsn (g : GS) (k : Nat) : Int32 := if g.ct.length = 0 then 1 else if (plA g k).2.2 = 0 then 2 else if grb g ≤ (plA g k).2.2 then (if wnr g (sta g) = i32 k then 0 else if stn g (i32 k) ≤ stn g (wnr g (sta g)) then 5 else 4) else 3
def gWhy (g : GS) (k : Nat) (x : Int32) : Int32 := if x = 0 then gRsn g k else if x = 1 then (if gRsn g k = 2 then 100 + (plA g k).2.1 else if gRsn g k ≤ 2 then 0 else 100 + wnr g (sta g)) else if gRsn g k = 3 then grb g else if gRsn g k = 4 then i32 (stn g (wnr g (sta g))) else 0
def gAcc (g : GS) (u x : Int32) : Int32 := if x = 7 then u else g.ns (11 + x.toNatClampNeg)
def ab32 (x : Int32) : Int32 := if 0 ≤ x then x else 0 - x
def pur (g : GS) : Int32 := itn (fun a k => a + (plA g k).2.1) 0 g.pl.length
def gGap (g : GS) : Int32 := (ab32 (((g.ns 8 - i32 g.ct.length) - i32 g.hd.length) - g.ns 4) + ab32 (((pur g - g.ns 9) - g.ns 14) + (g.ns 12 - g.ns 16))) + ab32 (g.ns 7 - (g.ns 12 - g.ns 16))
def gMean (g : GS) : UInt64 := if g.ns 11 = 0 then FP.dconst0 else FP.ddiv (FP.i2d (g.ns 12)) (FP.i2d (g.ns 11))
def fbits (f : UInt32) : Int32 := if (Op.cmpValue (FP.fcmp f f) .l) = 0 then UInt32.toInt32 f else 2143289344
def alS (g : GS) : Int32 := itn (fun a k => a + gsc g k) 0 g.pl.length
def gShr (g : GS) (k : Nat) : Int32 := if alS g = 0 then 0 else fbits (FP.fdiv (FP.i2f (gsc g k)) (FP.i2f (alS g)))
section
variable {G : GL} {d : Nat} {h0 h : AH} {m : Nat} {A : Nat → Nat} {S : TS} {g : GS} {ps : List GS} {sc : Bool} {Qx : Nat → AH → Prop}
theorem tB_self {n : Nat} (H : TWX h0 h m A S) (hn : S.1 10 = i32 n) : TWX h0 h m A (tB S (S.2 9, n)) := by
  have : tB S (S.2 9, n) = S := by
    show setF (setR S 9 (S.2 9)) 10 (i32 n) = S
    rw [setR_same, setF_same hn]
  rw [this]; exact H
theorem s_feeds1 {bn : List Int32 × Nat} {w k k' : Int32} {u3 : Value} {Q : Out → AH → Prop} (H : TWX h0 h m A (tB S bn)) (hl : bn.1.length = 500) (hn : bn.2 ≤ 1000) (hk : ¬ k < 0) (hk' : k + (-8) = k') (HK : ∀ h' u, TWX h0 h' m A (tB S (fd1 bn (wby w k))) → MF G d mi_M_feeds 3 [.ref m, .int w, .int k', u] [] h' Q) : MF G d mi_M_feeds 3 [.ref m, .int w, .int k, u3] [] h Q := by
  unfold fd1 wby at HK
  rw [← hk'] at HK
  refine b_M_feeds_3 ⟨fun hn => absurd hn hk, fun _ => ⟨fun hc => ?_, fun hc => ?_⟩⟩
  · rw [if_neg hc] at HK
    refine tw_I H (by decide) rfl ?_
    rw [show (tB S bn).1 10 = i32 bn.2 from setF_1]
    refine ⟨fun h5 => ?_, fun h5 => ?_⟩
    · have h5' : 500 ≤ bn.2 := (i32_le (a := 500) (by omega) (by omega)).mp h5
      rw [if_neg (by omega)] at HK
      refine tw_I H (by decide) rfl (tw_F H (by decide) rfl fun h' H' => HK h' _ ?_)
      rw [show (tB S bn).1 10 = i32 bn.2 from setF_1, i32_succ] at H'
      unfold tB at H' ⊢
      rw [setF_F] at H'
      exact H'
    · have h5' : ¬ 500 ≤ bn.2 := fun e => h5 ((i32_le (a := 500) (by omega) (by omega)).mpr e)
      rw [if_pos (by omega)] at HK
      refine tw_R (k := 9) H (by decide) rfl (tw_I H (by decide) rfl (dR_of (tw_pA (k := 9) (n := bn.2) H rfl (by decide) setF_1 (by omega) (by show bn.2 < ((setR S 9 bn.1).2 9).length; rw [setR_k]; omega) fun h1 H1 => tw_I H1 (by decide) rfl (tw_F H1 (by decide) rfl fun h' H' => HK h' _ ?_))))
      have e1 : (setR (tB S bn) 9 (((tB S bn).2 9).set bn.2 ((w >>> (k &&& 31)) &&& 255))).1 10 = i32 bn.2 := (setF_1 : (setF (setR S 9 bn.1) 10 (i32 bn.2)).1 10 = i32 bn.2)
      rw [e1, i32_succ] at H'
      have e2 : (tB S bn).2 9 = bn.1 := (setR_k : (setR S 9 bn.1).2 9 = bn.1)
      rw [e2] at H'
      have e3 : setF (setR (tB S bn) 9 (bn.1.set bn.2 ((w >>> (k &&& 31)) &&& 255))) 10 (i32 (bn.2 + 1)) = tB S (bn.1.set bn.2 ((w >>> (k &&& 31)) &&& 255), bn.2 + 1) := by
        unfold tB
        rw [show setR (setF (setR S 9 bn.1) 10 (i32 bn.2)) 9 (bn.1.set bn.2 ((w >>> (k &&& 31)) &&& 255)) = setF (setR (setR S 9 bn.1) 9 (bn.1.set bn.2 ((w >>> (k &&& 31)) &&& 255))) 10 (i32 bn.2) from rfl, setR_R, setF_F]
      rw [e3] at H'
      exact H'
  · rw [if_pos hc] at HK
    exact HK h _ H
theorem s_feeds {bn : List Int32 × Nat} {w : Int32} {K : AH → Prop} (H : TWX h0 h m A (tB S bn)) (hl : bn.1.length = 500) (hn : bn.2 ≤ 600) (HK : ∀ h', TWX h0 h' m A (tB S (fdW bn w)) → K h') : MF G d mi_M_feeds 0 [.ref m, .int w, .retAddr 0, .retAddr 0] [] h (cV K Qx) := by
  refine b_M_feeds_0 (s_feeds1 (k := 24) (k' := 16) H hl (by omega) (by decide) (by decide) fun h1 u1 H1 => ?_)
  have n1 := fd1_n (bn := bn) (c := wby w 24)
  refine s_feeds1 (k := 16) (k' := 8) H1 (fd1_len hl) (by omega) (by decide) (by decide) fun h2 u2 H2 => ?_
  have n2 := fd1_n (bn := fd1 bn (wby w 24)) (c := wby w 16)
  refine s_feeds1 (k := 8) (k' := 0) H2 (fd1_len (fd1_len hl)) (by omega) (by decide) (by decide) fun h3 u3 H3 => ?_
  have n3 := fd1_n (bn := fd1 (fd1 bn (wby w 24)) (wby w 16)) (c := wby w 8)
  refine s_feeds1 (k := 0) (k' := -8) H3 (fd1_len (fd1_len (fd1_len hl))) (by omega) (by decide) (by decide) fun h4 u4 H4 => ?_
  exact b_M_feeds_3 ⟨fun _ => cV_mk (HK h4 H4), fun hn => absurd (by decide) hn⟩
theorem p_feed {n : Nat} {a b c e f : Int32} {K : Int32 → AH → Prop} (H : TWX h0 h m A S) (hL : TL S) (hn : S.1 10 = i32 n) (hn5 : n ≤ 500) (HK : ∀ h', TWX h0 h' m A (tB (setF S 8 0) ((fd5 (S.2 9, n) a b c e f).1, if (fd5 (S.2 9, n) a b c e f).2 ≤ 500 then (fd5 (S.2 9, n) a b c e f).2 else n)) → K (if (fd5 (S.2 9, n) a b c e f).2 ≤ 500 then i32 (fd5 (S.2 9, n) a b c e f).2 else -1) h') : MF G (d + 1) mi_M_feed 0 [.ref m, .int a, .int b, .int c, .int e, .int f, .retAddr 0] [] h (cI K Qx) := by
  refine b_M_feed_0 (tw_F H (by decide) rfl fun h1 H1 => ?_)
  have hn1 : (setF S 8 0).1 10 = i32 n := by rw [setF_n (by decide)]; exact hn
  have H2 := tB_self H1 hn1
  have l0 : ((setF S 8 0).2 9, n).1.length = 500 := hL 9 rfl
  have n1 := fdW_n (bn := ((setF S 8 0).2 9, n)) (w := a)
  have n2 := fdW_n (bn := fdW ((setF S 8 0).2 9, n) a) (w := b)
  have n3 := fdW_n (bn := fdW (fdW ((setF S 8 0).2 9, n) a) b) (w := c)
  have n4 := fdW_n (bn := fdW (fdW (fdW ((setF S 8 0).2 9, n) a) b) c) (w := e)
  have n5 := fdW_n (bn := fdW (fdW (fdW (fdW ((setF S 8 0).2 9, n) a) b) c) e) (w := f)
  simp only at n1
  refine tw_I H1 (by decide) rfl ?_
  rw [hn1]
  refine ⟨tw_K H2, s_feeds H2 l0 (by simp only; omega) fun h3 H3 => ⟨tw_K H3, s_feeds H3 (fdW_len l0) (by omega) fun h4 H4 => ⟨tw_K H4, s_feeds H4 (fdW_len (fdW_len l0)) (by omega) fun h5 H5 => ⟨tw_K H5, s_feeds H5 (fdW_len (fdW_len (fdW_len l0))) (by omega) fun h6 H6 => ⟨tw_K H6, s_feeds H6 (fdW_len (fdW_len (fdW_len (fdW_len l0)))) (by omega) fun h7 H7 => ?_⟩⟩⟩⟩⟩
  have H7' : TWX h0 h7 m A (tB (setF S 8 0) (fd5 (S.2 9, n) a b c e f)) := H7
  have n6 : (fd5 (S.2 9, n) a b c e f).2 ≤ 520 := by have := fd5_n (bn := (S.2 9, n)) (a := a) (b := b) (c := c) (e := e) (f := f); simp only at this; omega
  refine tw_I H7' (by decide) rfl ?_
  rw [show (tB (setF S 8 0) (fd5 (S.2 9, n) a b c e f)).1 10 = i32 (fd5 (S.2 9, n) a b c e f).2 from setF_1]
  refine ⟨fun hgt => tw_F H7' (by decide) rfl fun h8 H8 => cI_mk ?_, fun hle => tw_I H7' (by decide) rfl (cI_mk ?_)⟩
  · have h9 : 500 < (fd5 (S.2 9, n) a b c e f).2 := (i32_lt (a := 500) (by omega) (by omega)).mp hgt
    have HK1 := HK h8
    rw [if_neg (by omega), if_neg (by omega)] at HK1
    refine HK1 ?_
    unfold tB at H8 ⊢
    rw [setF_F] at H8
    exact H8
  · have h9 : ¬ 500 < (fd5 (S.2 9, n) a b c e f).2 := fun e => hle ((i32_lt (a := 500) (by omega) (by omega)).mpr e)
    have HK1 := HK h7
    rw [if_pos (by omega), if_pos (by omega)] at HK1
    rw [show (tB (setF S 8 0) (fd5 (S.2 9, n) a b c e f)).1 10 = i32 (fd5 (S.2 9, n) a b c e f).2 from setF_1]
    exact HK1 H7'
theorem p_errorPosition {K : Int32 → AH → Prop} (H : TWX h0 h m A S) (HK : ∀ h', TWX h0 h' m A (setF S 8 0) → K (S.1 11) h') : MF G d mi_M_errorPosition 0 [.ref m] [] h (cI K Qx) :=
  b_M_errorPosition_0 (tw_F H (by decide) rfl fun h1 H1 => tw_I H1 (by decide) rfl (cI_mk (HK h1 H1)))
theorem p_thrown {K : Int32 → AH → Prop} (H : TWX h0 h m A S) (HK : K (S.1 8) h) : MF G d mi_M_thrown 0 [.ref m] [] h (cI K Qx) :=
  b_M_thrown_0 (tw_I H (by decide) rfl (cI_mk HK))
theorem p_find {n : Nat} {K : Int32 → AH → Prop} (H : TWX h0 h m A S) (hL : TL S) (hR : TR (S.2 0) g) (hn : S.1 10 = i32 n) (hn5 : n ≤ 500) (HK : ∀ h', TWX h0 h' m A (setF S 8 0) → K (gFind g (S.2 9) n) h') : MF G (d + 2) mi_M_find 0 [.ref m, .retAddr 0] [] h (cI K Qx) := by
  refine b_M_find_0 (tw_F H (by decide) rfl fun h1 H1 => tw_I H1 (by decide) rfl ?_)
  have HK1 := HK h1 H1
  have e10 : (setF S 8 0).1 10 = i32 n := by rw [setF_n (by decide)]; exact hn
  have h9 : (S.2 9).length = 500 := hL 9 rfl
  rw [e10]
  unfold gFind at HK1
  refine s_in ⟨fun hne => ?_, fun hz => cI_mk ?_⟩
  · have hin := b01_1 hne
    have hn16 : 1 ≤ n ∧ n ≤ 6 := by
      simp only [inB3, Bool.and_eq_true, Bool.not_eq_true', decide_eq_false_iff_not] at hin
      have h1 : ¬ n < 1 := fun e => hin.1 ((i32_lt (b := 1) (by omega) (by omega)).mpr e)
      have h2 : ¬ 6 < n := fun e => hin.2 ((i32_lt (a := 6) (by omega) (by omega)).mpr e)
      omega
    rw [if_pos hn16] at HK1
    have loop : ∀ r j, r + j = n → alL (S.2 9) r j = alL (S.2 9) n 0 → MF G (d + 2) mi_M_find 22 [.ref m, .int (i32 j)] [] h1 (cI K Qx) := by
      intro r
      induction r with
      | zero =>
        intro j hj e
        have : j = n := by omega
        subst this
        rw [← e, if_pos (show alL (S.2 9) 0 j = true from rfl)] at HK1
        refine b_M_find_22 (tw_I H1 (by decide) rfl ?_)
        rw [e10]
        refine ⟨fun _ => tw_I H1 (by decide) rfl ?_, fun hn => absurd ((i32_le (by omega) (by omega)).mpr (Nat.le_refl _)) hn⟩
        rw [e10]
        exact ⟨tw_K H1, s_packed (S := setF S 8 0) (s := 0) H1 hL (by omega) ⟨tw_K H1, s_named (g := g) H1 hR (cI_mk HK1)⟩⟩
      | succ r ih =>
        intro j hj e
        refine b_M_find_22 (tw_I H1 (by decide) rfl ?_)
        rw [e10]
        refine ⟨fun hn => absurd ((i32_le (by omega) (by omega)).mp hn) (by omega), fun _ => tw_g (k := 9) (n := j) H1 (by decide) rfl (by decide) rfl (by omega) (x := (S.2 9).getD j 0) (getD_some (l := S.2 9) (by omega)) (s_in ⟨fun hne => ?_, fun hz => cI_mk ?_⟩)⟩
        · rw [i32_succ]
          refine ih (j + 1) (by omega) ?_
          rw [← e]
          show _ = (inB3 ((S.2 9).getD j 0) 97 122 && alL (S.2 9) r (j + 1))
          rw [b01_1 hne]; rfl
        · rw [← e] at HK1
          have : alL (S.2 9) (r + 1) j = false := by
            show (inB3 ((S.2 9).getD j 0) 97 122 && alL (S.2 9) r (j + 1)) = false
            rw [b01_0 hz]; rfl
          rw [this] at HK1
          exact HK1
    exact loop n 0 rfl rfl
  · have hin := b01_0 hz
    have hn16 : ¬ (1 ≤ n ∧ n ≤ 6) := by
      rintro ⟨h1, h2⟩
      have : inB3 (i32 n) 1 6 = true := by
        simp only [inB3, Bool.and_eq_true, Bool.not_eq_true', decide_eq_false_iff_not]
        exact ⟨fun e => absurd ((i32_lt (b := 1) (by omega) (by omega)).mp e) (by omega), fun e => absurd ((i32_lt (a := 6) (by omega) (by omega)).mp e) (by omega)⟩
      rw [this] at hin
      exact absurd hin (by decide)
    rw [if_neg hn16] at HK1
    exact HK1
theorem s_reasonOf {k : Nat} {K : Int32 → AH → Prop} (H : TWX h0 h m A S) (hR : TR (S.2 0) g) (hv : GV g) (hk : k < g.pl.length) (HK : K (gRsn g k) h) : MF G (d + 3) mi_M_reasonOf 0 [.ref m, .int (i32 k), .retAddr 0] [] h (cI K Qx) := by
  have h5 := hR.2.1
  have h60 := hR.2.2.1
  have h61 := hR.2.2.2.1
  have hs := hv.2.2.2.1
  have hs1 := stn_le g (i32 k)
  have hs2 := stn_le g (wnr g (sta g))
  unfold gRsn at HK
  refine b_M_reasonOf_0 (tw_n (j := 3) H hR (by decide) ⟨fun hn => ?_, fun hz => cI_mk ?_⟩)
  · have hc : ¬ g.ct.length = 0 := fun e => hn (by show i32 g.ct.length = 0; rw [e]; rfl)
    rw [if_neg hc] at HK
    refine ⟨tw_K H, s_of (j := 2) H hR (plA_at hk) (by decide) ⟨fun hn => ?_, fun hz => cI_mk ?_⟩⟩
    · rw [if_neg (show ¬ (plA g k).2.2 = 0 from hn)] at HK
      refine ⟨tw_K H, s_of (j := 2) H hR (plA_at hk) (by decide) ⟨tw_K H, s_greatestBid H hR ⟨fun hle => ?_, fun hgt => cI_mk ?_⟩⟩⟩
      · rw [if_pos (show grb g ≤ (plA g k).2.2 from hle)] at HK
        refine ⟨tw_K H, s_winner hv.2.2.1 (by omega) (by omega) H hR ⟨fun hn => ?_, fun he => cI_mk ?_⟩⟩
        · rw [if_neg hn] at HK
          refine ⟨tw_K H, s_stonesOf H hR ⟨tw_K H, s_stonesOf H hR ⟨fun hle => cI_mk ?_, fun hgt => cI_mk ?_⟩⟩⟩
          · rw [if_pos ((i32_le (by omega) (by omega)).mp hle)] at HK; exact HK
          · rw [if_neg (fun e => hgt ((i32_le (by omega) (by omega)).mpr e))] at HK; exact HK
        · rw [if_pos he] at HK; exact HK
      · rw [if_neg (show ¬ grb g ≤ (plA g k).2.2 from hgt)] at HK; exact HK
    · rw [if_pos (show (plA g k).2.2 = 0 from hz)] at HK; exact HK
  · have hc : g.ct.length = 0 := (i32_eq (b := 0) (by omega) (by omega)).mp hz
    rw [if_pos hc] at HK; exact HK
theorem p_why {p x : Int32} {K : Int32 → AH → Prop} (H : TWX h0 h m A S) (hL : TL S) (hR : TR (S.2 0) g) (hv : GV g) (HK : ∀ h' S', TWX h0 h' m A S' → Qd S S' g (b01 (!isOw g p x)) → K (if isOw g p x then gWhy g p.toNatClampNeg x else 0) h') : MF G (d + 4) mi_M_why 0 [.ref m, .int p, .int x, .retAddr 0] [] h (cI K Qx) := by
  have h5 := hR.2.1
  have hs := hv.2.2.2.1
  refine b_M_why_0 (tw_F H (by decide) rfl fun h1 H1 => ?_)
  have tail : ∀ c, isOw g p x = c → MF G (d + 4) mi_M_why 28 [.ref m, .int p, .int x, .retAddr 0] [.int (b01 c), .ref m] h1 (cI K Qx) := by
    intro c hc
    rw [hc] at HK
    refine b_M_why_28 rfl (dR_of ⟨tw_K H1, s_guard H1 (fun hb => ⟨fun _ => ?_, fun h9 => absurd h9 (by decide)⟩) (fun hb h2 H2 => ⟨fun h9 => absurd rfl h9, fun _ => cI_mk ?_⟩)⟩)
    · subst hb
      rw [if_pos rfl] at HK
      unfold isOw at hc
      rw [Bool.and_eq_true] at hc
      obtain ⟨k, hk, rfl⟩ := inB3_nat (by omega) hc.1
      rw [i32_nat (by omega)] at HK
      have HK1 := HK h1 _ H1 (Qd.self hL hR)
      unfold gWhy at HK1
      refine ⟨tw_K H1, s_reasonOf (g := g) H1 hR hv hk ⟨fun hx0 => ⟨fun hx1 => ⟨fun h3 => ⟨fun h4 => cI_mk ?_, fun h4 => ⟨tw_K H1, s_winner (g := g) hv.2.2.1 (by omega) (by omega) H1 hR ⟨tw_K H1, s_stonesOf (g := g) H1 hR (cI_mk ?_)⟩⟩⟩, fun h3 => ⟨tw_K H1, s_greatestBid (g := g) H1 hR (cI_mk ?_)⟩⟩, fun hx1 => ⟨fun h2 => ⟨fun hle => cI_mk ?_, fun hgt => ⟨tw_K H1, s_winner (g := g) hv.2.2.1 (by omega) (by omega) H1 hR (cI_mk ?_)⟩⟩, fun h2 => ⟨tw_K H1, s_of (j := 1) (g := g) H1 hR (plA_at hk) (by decide) (cI_mk ?_)⟩⟩⟩, fun hx0 => cI_mk ?_⟩⟩
      · rw [if_neg hx0, if_neg hx1, if_neg h3, if_neg h4] at HK1; exact HK1
      · rw [if_neg hx0, if_neg hx1, if_neg h3, if_pos h4] at HK1; exact HK1
      · rw [if_neg hx0, if_neg hx1, if_pos h3] at HK1; exact HK1
      · rw [if_neg hx0, if_pos hx1, if_neg h2, if_pos hle] at HK1; exact HK1
      · rw [if_neg hx0, if_pos hx1, if_neg h2, if_neg hgt] at HK1; exact HK1
      · rw [if_neg hx0, if_pos hx1, if_pos h2] at HK1; exact HK1
      · rw [if_pos hx0] at HK1; exact HK1
    · subst hb
      exact HK h2 _ H2 (Qd.self hL hR)
  exact ⟨tw_K H1, s_isPlayer (g := g) H1 hR ⟨fun hz => tail false (by unfold isOw; rw [show isPl g p = false from b01_0 hz]; rfl), fun hn => s_in ⟨fun hz => tail false (by unfold isOw; rw [b01_0 hz, Bool.and_false]), fun hn2 => tail true (by unfold isOw; rw [b01_1 hn2, show isPl g p = true from b01_1 hn]; rfl)⟩⟩⟩
theorem p_account {x : Int32} {K : Int32 → AH → Prop} (H : TWX h0 h m A S) (hL : TL S) (hR : TR (S.2 0) g) (HK : ∀ h' S', TWX h0 h' m A S' → Qd S S' g (b01 (!inB3 x 0 7)) → K (if inB3 x 0 7 then gAcc g (S.1 7) x else 0) h') : MF G (d + 1) mi_M_account 0 [.ref m, .int x] [] h (cI K Qx) := by
  refine b_M_account_0 (tw_F H (by decide) rfl fun h1 H1 => s_in ⟨tw_K H1, s_guard (c := inB3 x 0 7) H1 (fun hb => ⟨fun _ => ?_, fun h9 => absurd h9 (by decide)⟩) (fun hb h2 H2 => ⟨fun h9 => absurd rfl h9, fun _ => cI_mk ?_⟩)⟩)
  · rw [hb, if_pos rfl] at HK
    have HK1 := HK h1 _ H1 (Qd.self hL hR)
    unfold gAcc at HK1
    refine ⟨fun hne => ?_, fun he => ?_⟩
    · rw [if_neg hne] at HK1
      obtain ⟨j, hj, rfl⟩ := inB3_nat (n := 8) (by omega) hb
      rw [i32_nat (by omega)] at HK1
      have hj7 : j ≠ 7 := fun e => hne (by rw [e]; rfl)
      refine tw_g (k := 0) (n := 11 + j) H1 (by decide) rfl (by decide) (i32_add 11 j) (by omega) (hR.2.2.2.2.1 (11 + j) (by omega)) (cI_mk ?_)
      unfold rowN
      rw [if_neg (by omega), if_neg (by omega), if_neg (by omega)]
      exact HK1
    · rw [if_pos he] at HK1
      refine tw_I H1 (by decide) rfl (cI_mk ?_)
      rw [setF_n (by decide)]
      exact HK1
  · rw [hb] at HK
    exact HK h2 _ H2 (Qd.self hL hR)
theorem p_gap {K : Int32 → AH → Prop} (H : TWX h0 h m A S) (hR : TR (S.2 0) g) (HK : ∀ h', TWX h0 h' m A (setF S 8 0) → K (gGap g) h') : MF G (d + 1) mi_M_gap 0 [.ref m, .retAddr 0, .retAddr 0] [] h (cI K Qx) := by
  have h5 := hR.2.1
  refine b_M_gap_0 (tw_F H (by decide) rfl fun h1 H1 => ?_)
  have HK1 := HK h1 H1
  have loop : ∀ r q, r + q = g.pl.length → MF G (d + 1) mi_M_gap 9 [.ref m, .int (itn (fun a k => a + (plA g k).2.1) 0 q), .int (i32 q)] [] h1 (cI K Qx) := by
    intro r
    induction r with
    | zero =>
      intro q hq
      have : q = g.pl.length := by omega
      subst this
      exact b_M_gap_9 (tw_n (j := 2) (g := g) H1 hR (by decide) ⟨fun _ => tw_n (j := 12) (g := g) H1 hR (by decide) (tw_n (j := 16) (g := g) H1 hR (by decide) (tw_n (j := 8) (g := g) H1 hR (by decide) (tw_n (j := 3) (g := g) H1 hR (by decide) (tw_n (j := 10) (g := g) H1 hR (by decide) (tw_n (j := 4) (g := g) H1 hR (by decide) (tw_n (j := 9) (g := g) H1 hR (by decide) (tw_n (j := 14) (g := g) H1 hR (by decide) (tw_n (j := 7) (g := g) H1 hR (by decide) (cI_mk HK1))))))))), fun hn => absurd ((i32_le (by omega) (by omega)).mpr (Nat.le_refl _)) hn⟩)
    | succ r ih =>
      intro q hq
      have hst := ih (q + 1) (by omega)
      rw [← i32_succ q] at hst
      exact b_M_gap_9 (tw_n (j := 2) (g := g) H1 hR (by decide) ⟨fun hn => absurd ((i32_le (by omega) (by omega)).mp hn) (by omega), fun _ => ⟨tw_K H1, s_of (j := 1) (g := g) H1 hR (plA_at (by omega)) (by decide) hst⟩⟩)
  exact loop g.pl.length 0 rfl
theorem p_meanPaid {K : UInt64 → AH → Prop} (H : TWX h0 h m A S) (hR : TR (S.2 0) g) (hf : ¬ g.ns 11 = 0 → vf_n64 (FP.ddiv (FP.i2d (g.ns 12)) (FP.i2d (g.ns 11)))) (HK : ∀ h', TWX h0 h' m A (setF S 8 0) → K (gMean g) h') : MF G d mi_M_meanPaid 0 [.ref m] [] h (cD K Qx) := by
  refine b_M_meanPaid_0 (tw_F H (by decide) rfl fun h1 H1 => tw_n (j := 11) (g := g) H1 hR (by decide) ⟨fun hn => ?_, fun hz => cD_mk ?_⟩)
  · have HK1 := HK h1 H1
    unfold gMean at HK1
    rw [if_neg (show ¬ g.ns 11 = 0 from hn)] at HK1
    exact tw_n (j := 12) (g := g) H1 hR (by decide) (tw_n (j := 11) (g := g) H1 hR (by decide) ⟨hf hn, cD_mk HK1⟩)
  · have HK1 := HK h1 H1
    unfold gMean at HK1
    rw [if_pos (show g.ns 11 = 0 from hz)] at HK1
    exact HK1
theorem s_fbits {f : UInt32} {K : Int32 → AH → Prop} (HK : K (fbits f) h) : MF G (d + 1) mi_Float_floatToIntBits 0 [.float f] [] h (cI K Qx) := by
  unfold fbits at HK
  refine b_Float_floatToIntBits_0 (b_Float_isNaN_0 ⟨fun hz => cI_mk ⟨fun hn => absurd rfl hn, fun _ => cI_mk ?_⟩, fun hn => cI_mk ⟨fun _ => cI_mk ?_, fun h9 => absurd h9 (by decide)⟩⟩)
  · rw [if_pos hz] at HK; exact HK
  · rw [if_neg hn] at HK; exact HK
theorem p_shareBits {p : Int32} {K : Int32 → AH → Prop} (H : TWX h0 h m A S) (hL : TL S) (hR : TR (S.2 0) g) (hv : GV g) (hf : ∀ k, ¬ alS g = 0 → vf_n32 (FP.fdiv (FP.i2f (gsc g k)) (FP.i2f (alS g)))) (HK : ∀ h' S', TWX h0 h' m A S' → Qd S S' g (b01 (!isPl g p)) → K (if isPl g p then gShr g p.toNatClampNeg else 0) h') : MF G (d + 5) mi_M_shareBits 0 [.ref m, .int p, .retAddr 0, .retAddr 0] [] h (cI K Qx) := by
  have h5 := hR.2.1
  refine b_M_shareBits_0 (tw_F H (by decide) rfl fun h1 H1 => ⟨tw_K H1, s_isPlayer (g := g) H1 hR ⟨tw_K H1, s_guard (c := isPl g p) H1 (fun hb => ⟨fun _ => ?_, fun h9 => absurd h9 (by decide)⟩) (fun hb h2 H2 => ⟨fun h9 => absurd rfl h9, fun _ => cI_mk ?_⟩)⟩⟩)
  · rw [hb, if_pos rfl] at HK
    obtain ⟨k, hk, rfl⟩ := inB3_nat (by omega) hb
    rw [i32_nat (by omega)] at HK
    have HK1 := HK h1 _ H1 (Qd.self hL hR)
    unfold gShr at HK1
    have loop : ∀ r q, r + q = g.pl.length → MF G (d + 5) mi_M_shareBits 23 [.ref m, .int (i32 k), .int (itn (fun a k => a + gsc g k) 0 q), .int (i32 q)] [] h1 (cI K Qx) := by
      intro r
      induction r with
      | zero =>
        intro q hq
        have : q = g.pl.length := by omega
        subst this
        refine b_M_shareBits_23 (tw_n (j := 2) (g := g) H1 hR (by decide) ⟨fun _ => ⟨fun hn => ?_, fun hz => cI_mk ?_⟩, fun hn => absurd ((i32_le (by omega) (by omega)).mpr (Nat.le_refl _)) hn⟩)
        · rw [if_neg (show ¬ alS g = 0 from hn)] at HK1
          exact ⟨tw_K H1, s_scoreAt (g := g) H1 hR hv hk ⟨hf k hn, s_fbits (cI_mk HK1)⟩⟩
        · rw [if_pos (show alS g = 0 from hz)] at HK1
          exact HK1
      | succ r ih =>
        intro q hq
        have hst := ih (q + 1) (by omega)
        rw [← i32_succ q] at hst
        exact b_M_shareBits_23 (tw_n (j := 2) (g := g) H1 hR (by decide) ⟨fun hn => absurd ((i32_le (by omega) (by omega)).mp hn) (by omega), fun _ => ⟨tw_K H1, s_scoreAt (g := g) H1 hR hv (by omega) hst⟩⟩)
    exact loop g.pl.length 0 rfl
  · rw [hb] at HK
    exact HK h2 _ H2 (Qd.self hL hR)
end
