/-! the twin: questions over the law's state -/
set_option maxRecDepth 100000
section
variable {G : GL} {d : Nat} {h0 h : AH} {m : Nat} {A : Nat → Nat} {S : TS} {x : LSt} {K : Int32 → AH → Prop} {Qx : Nat → AH → Prop}
def fSize (x : LSt) (a : Int32) : RS := qry x (inB3 a 0 11) (gSiz x.g (i32 x.ps.length) a)
theorem t_size {a : Int32} (H : TWX h0 h m A S) (hI : TI S x) (hv : GV x.g) (HK : TPost h0 m A (fSize x a) K) : MF G (d + 3) mi_M_size 0 [.ref m, .int a] [] h (cI K Qx) :=
  p_size H hI.1 hI.2.1 hv fun h' S' H' hq => by
    have e6 : S.1 6 = i32 x.ps.length := hI.2.2.1.1
    rw [e6]
    exact HK h' S' H' (hI.qd hq).1 (hI.qd hq).2
def fPlayer (x : LSt) (p a : Int32) : RS := qry x (isPl x.g p && inB3 a 0 7) (gPlr x.g p.toNatClampNeg a)
theorem t_player {p a : Int32} (H : TWX h0 h m A S) (hI : TI S x) (hv : GV x.g) (HK : TPost h0 m A (fPlayer x p a) K) : MF G (d + 6) mi_M_player 0 [.ref m, .int p, .int a] [] h (cI K Qx) :=
  p_player H hI.1 hI.2.1 hv fun h' S' H' hq => HK h' S' H' (hI.qd hq).1 (hI.qd hq).2
def fHas (x : LSt) (p f n : Int32) : RS := qry x (isAs x.g p f n) (i32 (cnt x.g p f n))
theorem t_has {p f n : Int32} (H : TWX h0 h m A S) (hI : TI S x) (HK : TPost h0 m A (fHas x p f n) K) : MF G (d + 3) mi_M_has 0 [.ref m, .int p, .int f, .int n] [] h (cI K Qx) :=
  p_has H hI.1 hI.2.1 fun h' S' H' hq => HK h' S' H' (hI.qd hq).1 (hI.qd hq).2
def fRow (x : LSt) (p f a : Int32) : RS := qry x (isRw x.g p f a) (gRow x.g p f a)
theorem t_row {p f a : Int32} (H : TWX h0 h m A S) (hI : TI S x) (HK : TPost h0 m A (fRow x p f a) K) : MF G (d + 4) mi_M_row 0 [.ref m, .int p, .int f, .int a] [] h (cI K Qx) :=
  p_row H hI.1 hI.2.1 fun h' S' H' hq => HK h' S' H' (hI.qd hq).1 (hI.qd hq).2
def fStone (x : LSt) (i a : Int32) : RS := qry x (inB3 a 0 2) (gStn x.g i a)
theorem t_stone {i a : Int32} (H : TWX h0 h m A S) (hI : TI S x) (HK : TPost h0 m A (fStone x i a) K) : MF G (d + 1) mi_M_stone 0 [.ref m, .int i, .int a] [] h (cI K Qx) :=
  p_stone H hI.1 hI.2.1 fun h' S' H' hq => HK h' S' H' (hI.qd hq).1 (hI.qd hq).2
def fOwned (x : LSt) (p i a : Int32) : RS := qry x (isOw x.g p a) (gOwn x.g p i a)
theorem t_owned {p i a : Int32} (H : TWX h0 h m A S) (hI : TI S x) (HK : TPost h0 m A (fOwned x p i a) K) : MF G (d + 3) mi_M_owned 0 [.ref m, .int p, .int i, .int a, .retAddr 0] [] h (cI K Qx) :=
  p_owned H hI.1 hI.2.1 fun h' S' H' hq => HK h' S' H' (hI.qd hq).1 (hI.qd hq).2
/-- names are numbers below 27^6 -/
def NmB (g : GS) : Prop := ∀ k, k < g.pl.length → ∃ N, N < 387420489 ∧ (plA g k).1 = i32 N
def fLetter (x : LSt) (p i : Int32) : RS := qry x (isPl x.g p) (gLet (plA x.g p.toNatClampNeg).1.toNatClampNeg i)
theorem t_letter {p i : Int32} (H : TWX h0 h m A S) (hI : TI S x) (hN : NmB x.g) (HK : TPost h0 m A (fLetter x p i) K) : MF G (d + 2) mi_M_letter 0 [.ref m, .int p, .int i] [] h (cI K Qx) :=
  p_letter H hI.1 hI.2.1 hN fun h' S' H' hq => HK h' S' H' (hI.qd hq).1 (hI.qd hq).2
def fFind (x : LSt) : RS := (0, gFind x.g x.b x.n, x)
theorem t_find (H : TWX h0 h m A S) (hI : TI S x) (HK : TPost h0 m A (fFind x) K) : MF G (d + 2) mi_M_find 0 [.ref m, .retAddr 0] [] h (cI K Qx) :=
  p_find (n := x.n) H hI.1 hI.2.1 hI.2.2.2.2.2.2.2.1.2.1 hI.2.2.2.2.2.2.2.1.2.2 fun h' H' => by
    have hq := hI.qd (Qd.self (c := 0) hI.1 hI.2.1)
    have e9 : S.2 9 = x.b := hI.2.2.2.2.2.2.2.1.1
    rw [e9]
    exact HK h' _ H' hq.1 hq.2
def fWhy (x : LSt) (p a : Int32) : RS := qry x (isOw x.g p a) (gWhy x.g p.toNatClampNeg a)
theorem t_why {p a : Int32} (H : TWX h0 h m A S) (hI : TI S x) (hv : GV x.g) (HK : TPost h0 m A (fWhy x p a) K) : MF G (d + 4) mi_M_why 0 [.ref m, .int p, .int a, .retAddr 0] [] h (cI K Qx) :=
  p_why H hI.1 hI.2.1 hv fun h' S' H' hq => HK h' S' H' (hI.qd hq).1 (hI.qd hq).2
def fAcc (x : LSt) (a : Int32) : RS := qry x (inB3 a 0 7) (gAcc x.g x.rf a)
theorem t_account {a : Int32} (H : TWX h0 h m A S) (hI : TI S x) (HK : TPost h0 m A (fAcc x a) K) : MF G (d + 1) mi_M_account 0 [.ref m, .int a] [] h (cI K Qx) :=
  p_account H hI.1 hI.2.1 fun h' S' H' hq => by
    have e7 : S.1 7 = x.rf := hI.2.2.2.2.2.2.1
    rw [e7]
    exact HK h' S' H' (hI.qd hq).1 (hI.qd hq).2
def fGap (x : LSt) : RS := (0, gGap x.g, x)
theorem t_gap (H : TWX h0 h m A S) (hI : TI S x) (HK : TPost h0 m A (fGap x) K) : MF G (d + 1) mi_M_gap 0 [.ref m, .retAddr 0, .retAddr 0] [] h (cI K Qx) :=
  p_gap H hI.2.1 fun h' H' => by
    have hq := hI.qd (Qd.self (c := 0) hI.1 hI.2.1)
    exact HK h' _ H' hq.1 hq.2
theorem t_meanPaid {K : UInt64 → AH → Prop} (H : TWX h0 h m A S) (hI : TI S x) (hf : ¬ x.g.ns 11 = 0 → vf_n64 (FP.ddiv (FP.i2d (x.g.ns 12)) (FP.i2d (x.g.ns 11)))) (HK : ∀ h' S', TWX h0 h' m A S' → TI S' x → K (gMean x.g) h') : MF G d mi_M_meanPaid 0 [.ref m] [] h (cD K Qx) :=
  p_meanPaid H hI.2.1 hf fun h' H' => HK h' _ H' (hI.qd (Qd.self (c := 0) hI.1 hI.2.1)).1
def fShr (x : LSt) (p : Int32) : RS := qry x (isPl x.g p) (gShr x.g p.toNatClampNeg)
theorem t_shareBits {p : Int32} (H : TWX h0 h m A S) (hI : TI S x) (hv : GV x.g) (hf : ∀ k, ¬ alS x.g = 0 → vf_n32 (FP.fdiv (FP.i2f (gsc x.g k)) (FP.i2f (alS x.g)))) (HK : TPost h0 m A (fShr x p) K) : MF G (d + 5) mi_M_shareBits 0 [.ref m, .int p, .retAddr 0, .retAddr 0] [] h (cI K Qx) :=
  p_shareBits H hI.1 hI.2.1 hv hf fun h' S' H' hq => HK h' S' H' (hI.qd hq).1 (hI.qd hq).2
def fWorth (x : LSt) (p f n : Int32) : RS := qry x (isAs x.g p f n) (grw x.g p.toNatClampNeg f n)
theorem t_worth {p f n : Int32} (H : TWX h0 h m A S) (hI : TI S x) (hv : GV x.g) (HK : TPost h0 m A (fWorth x p f n) K) : MF G (d + 6) mi_M_worth 0 [.ref m, .int p, .int f, .int n] [] h (cI K Qx) :=
  p_worth H hI.1 hI.2.1 hv fun h' S' H' hq => HK h' S' H' (hI.qd hq).1 (hI.qd hq).2
def fFair (x : LSt) (p : Int32) : RS := qry x (isPl x.g p) (gFair x.g p.toNatClampNeg)
theorem t_fairBid {p : Int32} (H : TWX h0 h m A S) (hI : TI S x) (hv : GV x.g) (HK : TPost h0 m A (fFair x p) K) : MF G (d + 6) mi_M_fairBid 0 [.ref m, .int p, .retAddr 0, .retAddr 0, .retAddr 0] [] h (cI K Qx) :=
  p_fairBid H hI.1 hI.2.1 hv fun h' S' H' hq => HK h' S' H' (hI.qd hq).1 (hI.qd hq).2
def fWinB (x : LSt) (p : Int32) : RS := qry x (isPl x.g p) (wbL x.g p.toNatClampNeg (plA x.g p.toNatClampNeg).2.1.toNatClampNeg 1)
theorem t_winningBid {p : Int32} (H : TWX h0 h m A S) (hI : TI S x) (hv : GV x.g) (HK : TPost h0 m A (fWinB x p) K) : MF G (d + 6) mi_M_winningBid 0 [.ref m, .int p, .retAddr 0, .retAddr 0, .retAddr 0] [] h (cI K Qx) :=
  p_winningBid H hI.1 hI.2.1 hv fun h' S' H' hq => HK h' S' H' (hI.qd hq).1 (hI.qd hq).2
def fBest (x : LSt) (p : Int32) : RS := qry x (isPl x.g p) (gBest x.g p.toNatClampNeg)
theorem t_bestStone {p : Int32} (H : TWX h0 h m A S) (hI : TI S x) (hv : GV x.g) (HK : TPost h0 m A (fBest x p) K) : MF G (d + 6) mi_M_bestStone 0 [.ref m, .int p, .retAddr 0, .retAddr 0, .retAddr 0] [] h (cI K Qx) :=
  p_bestStone H hI.1 hI.2.1 hv fun h' S' H' hq => HK h' S' H' (hI.qd hq).1 (hI.qd hq).2
def fIfs (x : LSt) (p f n : Int32) : RS := qry x (isAs x.g p f n) (gIfs x.g p.toNatClampNeg f n)
theorem t_ifSold {p f n : Int32} (H : TWX h0 h m A S) (hI : TI S x) (hv : GV x.g) (HK : TPost h0 m A (fIfs x p f n) K) : MF G (d + 6) mi_M_ifSold 0 [.ref m, .int p, .int f, .int n, .retAddr 0, .retAddr 0, .retAddr 0] [] h (cI K Qx) :=
  p_ifSold H hI.1 hI.2.1 hv (by have := hv.2.2.2.2.1; omega) fun h' S' H' hq => HK h' S' H' (hI.qd hq).1 (hI.qd hq).2
def fByS (x : LSt) (i : Int32) : RS := (0, bySL x.g i x.g.pl.length 0, x)
theorem t_byScore {i : Int32} (H : TWX h0 h m A S) (hI : TI S x) (hv : GV x.g) (HK : TPost h0 m A (fByS x i) K) : MF G (d + 6) mi_M_byScore 0 [.ref m, .int i, .retAddr 0, .retAddr 0, .retAddr 0] [] h (cI K Qx) :=
  p_byScore H hI.1 hI.2.1 hv fun h' H' => by
    have hq := hI.qd (Qd.self (c := 0) hI.1 hI.2.1)
    exact HK h' _ H' hq.1 hq.2
def fHml (x : LSt) : RS := (0, hml x.g, x)
theorem t_hammersLeft (H : TWX h0 h m A S) (hI : TI S x) (HK : TPost h0 m A (fHml x) K) : MF G (d + 1) mi_M_hammersLeft 0 [.ref m, .retAddr 0, .retAddr 0] [] h (cI K Qx) :=
  p_hammersLeft H hI.2.1 fun h' H' => by
    have hq := hI.qd (Qd.self (c := 0) hI.1 hI.2.1)
    exact HK h' _ H' hq.1 hq.2
def fErr (x : LSt) : RS := (0, x.er, x)
theorem t_errorPosition (H : TWX h0 h m A S) (hI : TI S x) (HK : TPost h0 m A (fErr x) K) : MF G d mi_M_errorPosition 0 [.ref m] [] h (cI K Qx) :=
  p_errorPosition H fun h' H' => by
    have hq := hI.qd (Qd.self (c := 0) hI.1 hI.2.1)
    have e11 : S.1 11 = x.er := hI.2.2.2.2.2.2.2.2.1
    rw [e11]
    exact HK h' _ H' hq.1 hq.2
def fFeed (x : LSt) (a b c e f : Int32) : RS := if (fd5 (x.b, x.n) a b c e f).2 ≤ 500 then (0, i32 (fd5 (x.b, x.n) a b c e f).2, (x.1, x.2.1, x.2.2.1, x.2.2.2.1, fd5 (x.b, x.n) a b c e f, x.2.2.2.2.2)) else (0, -1, (x.1, x.2.1, x.2.2.1, x.2.2.2.1, ((fd5 (x.b, x.n) a b c e f).1, x.n), x.2.2.2.2.2))
theorem fd5_len {bn : List Int32 × Nat} {a b c e f : Int32} (h : bn.1.length = 500) : (fd5 bn a b c e f).1.length = 500 := fdW_len (fdW_len (fdW_len (fdW_len (fdW_len h))))
theorem t_feed {a b c e f : Int32} (H : TWX h0 h m A S) (hI : TI S x) (HK : TPost h0 m A (fFeed x a b c e f) K) : MF G (d + 1) mi_M_feed 0 [.ref m, .int a, .int b, .int c, .int e, .int f, .retAddr 0] [] h (cI K Qx) := by
  obtain ⟨t1, t2, t3, t4, t5, t6, t7, t8, t9, t10⟩ := hI
  refine p_feed (n := x.n) H t1 t8.2.1 t8.2.2 fun h' H' => ?_
  rw [t8.1] at H' ⊢
  unfold fFeed at HK
  have l9 : x.b.length = 500 := by rw [← t8.1]; exact t1 9 rfl
  have lf := fd5_len (bn := (x.b, x.n)) (a := a) (b := b) (c := c) (e := e) (f := f) l9
  have hF : ∀ n', n' ≤ 500 → ∀ S', S' = tB (setF S 8 0) ((fd5 (x.b, x.n) a b c e f).1, n') → TI S' (x.1, x.2.1, x.2.2.1, x.2.2.2.1, ((fd5 (x.b, x.n) a b c e f).1, n'), x.2.2.2.2.2) ∧ S'.1 8 = 0 := by
    intro n' hn' S' eS
    subst eS
    refine ⟨⟨TL_setR (k := 9) t1 lf, t2, t3, ?_, ?_, fun i hi => (t6 i hi).of rfl rfl, ?_, ⟨(setR_k : (setR (setF S 8 0) 9 (fd5 (x.b, x.n) a b c e f).1).2 9 = (fd5 (x.b, x.n) a b c e f).1), (setF_1 : (setF (setR (setF S 8 0) 9 (fd5 (x.b, x.n) a b c e f).1) 10 (i32 n')).1 10 = i32 n'), hn'⟩, ?_, ⟨t10.1, ?_, t10.2.2⟩⟩, ?_⟩
    · unfold tB; rw [setF_n (by decide), setR_1, setF_n (by decide)]; exact t4
    · unfold tB; rw [setF_n (by decide), setR_1, setF_n (by decide)]; exact t5
    · unfold tB; rw [setF_n (by decide), setR_1, setF_n (by decide)]; exact t7
    · unfold tB; rw [setF_n (by decide), setR_1, setF_n (by decide)]; exact t9
    · unfold tB; rw [setF_n (by decide), setR_1, setF_n (by decide)]; exact t10.2.1
    · unfold tB; rw [setF_n (by decide), setR_1, setF_1]
  by_cases hle : (fd5 (x.b, x.n) a b c e f).2 ≤ 500
  · rw [if_pos hle] at HK H' ⊢
    have := hF _ hle _ rfl
    exact HK h' _ H' this.1 this.2
  · rw [if_neg hle] at HK H' ⊢
    have := hF _ t8.2.2 _ rfl
    exact HK h' _ H' this.1 this.2
end
