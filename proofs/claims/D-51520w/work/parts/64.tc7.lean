/-! the twin: orders done -/
set_option maxRecDepth 100000
/-- an order done to a game: none: one of its players is missing; else what the act gives -/
def oAct (g : GS) (o : OD) : Option (Option GS) :=
  if o.1 = 1 then some (aHam g (sta g)).2
  else if nmd g o.2.1 = -1 then none
  else if o.1 = 0 then some (aBid g (nmd g o.2.1).toNatClampNeg o.2.2.2.1).2
  else if o.1 = 2 then some (aSell g (nmd g o.2.1) (o.2.2.2.1 / 10) (o.2.2.2.1 - o.2.2.2.1 / 10 * 10)).2
  else if nmd g o.2.2.1 = -1 then none
  else if nmd g o.2.1 = nmd g o.2.2.1 then none
  else some (aSwap g (nmd g o.2.1).toNatClampNeg o.2.2.2.1 (nmd g o.2.2.1).toNatClampNeg o.2.2.2.2).2
/-- the game behind it, refusals more, whether it was done -/
def oRes (g : GS) : Option (Option GS) → GS × Int32 × Bool
  | none => (g, 0, false)
  | some none => (g, 1, false)
  | some (some g') => (g', 0, true)
def od0 : OD := (0, 0, 0, 0, 0)
/-- a game, refusals, orders done -/
abbrev XS : Type := GS × Int32 × Nat
def xStep (x : XS) (o : OD) : Bool × XS := ((oRes x.1 (oAct x.1 o)).2.2, ((oRes x.1 (oAct x.1 o)).1, x.2.1 + (oRes x.1 (oAct x.1 o)).2.1, if (oRes x.1 (oAct x.1 o)).2.2 then x.2.2 + 1 else x.2.2))
def bindB (r : Bool × XS) (f : XS → Bool × XS) : Bool × XS := if r.1 then f r.2 else r
def itB (f : XS → Bool × XS) : Nat → XS → Bool × XS
  | 0, x => (true, x)
  | k + 1, x => bindB (f x) (itB f k)
def dAl (os : List OD) : Nat → Nat → Nat → XS → Bool × XS
  | 0, _, _, x => (true, x)
  | r + 1, k, e, x => if e ≤ k then (true, x) else if (os.getD k od0).1 = 4 then bindB (itB (dAl os r (k + 1) (os.getD k od0).2.2.2.2.toNatClampNeg) (os.getD k od0).2.2.2.1.toNatClampNeg x) (dAl os r (os.getD k od0).2.2.2.2.toNatClampNeg e) else if x.2.2 = 40 then (false, x) else bindB (xStep x (os.getD k od0)) (dAl os r (k + 1) e)
/-- orders well formed -/
def StK (x : Int32) : Prop := ∃ f n, f ≤ 5 ∧ 1 ≤ n ∧ n ≤ 9 ∧ x = i32 (10 * f + n)
def Sgl (o : OD) : Prop := (o.1 = 0 ∧ ∃ v, v ≤ 9999 ∧ o.2.2.2.1 = i32 v) ∨ o.1 = 1 ∨ (o.1 = 2 ∧ StK o.2.2.2.1) ∨ (o.1 = 3 ∧ StK o.2.2.2.1 ∧ StK o.2.2.2.2)
/-- orders from s on are well formed -/
def WFr (os : List OD) (s : Nat) : Prop := ∀ j o, s ≤ j → os[j]? = some o → Sgl o ∨ (o.1 = 4 ∧ ∃ t w, o.2.2.2.1 = i32 t ∧ t ≤ 20 ∧ o.2.2.2.2 = i32 w ∧ j < w ∧ w ≤ os.length ∧ ∀ j' o', os[j']? = some o' → o'.1 = 4 → j < j' → j' < w → ∃ w', o'.2.2.2.2 = i32 w' ∧ w' ≤ w)
def Wos (os : List OD) : Prop := WFr os 0
theorem Sgl.kd {o : OD} (h : Sgl o) : o.1 = 0 ∨ o.1 = 1 ∨ o.1 = 2 ∨ o.1 = 3 := by
  rcases h with ⟨e, -⟩ | e | ⟨e, -⟩ | ⟨e, -⟩
  · exact Or.inl e
  · exact Or.inr (Or.inl e)
  · exact Or.inr (Or.inr (Or.inl e))
  · exact Or.inr (Or.inr (Or.inr e))
section
variable {G : GL} {d : Nat} {h0 h : AH} {m : Nat} {A : Nat → Nat} {S : TS} {g : GS} {ps : List GS} {Qx : Nat → AH → Prop}
theorem s_does {k : Nat} {o : OD} {K : Int32 → AH → Prop} (H : TWX h0 h m A S) (hT : TA S g ps true) (hv : GV g) (hk : k < 30) (hO : OdAt S k o) (hkd : o.1 = 0 ∨ o.1 = 1 ∨ o.1 = 2 ∨ o.1 = 3) (HK : ∀ h' S', TWX h0 h' m A S' → Sm S S' → TA S' (oRes g (oAct g o)).1 ps true → S'.1 7 = S.1 7 + (oRes g (oAct g o)).2.1 → K (b01 (oRes g (oAct g o)).2.2) h') : MF G (d + 6) mi_M_does 0 [.ref m, .int (i32 k), .retAddr 0, .retAddr 0, .retAddr 0, .retAddr 0] [] h (cI K Qx) := by
  have hL := hT.1
  have hR := hT.2.1
  have h5 := hR.2.1
  have h60 := hv.2.2.2.2.1
  have hs := hv.2.2.2.1
  obtain ⟨o17, o18, o19, o20, o21⟩ := hO
  have l18 : (S.2 18).length = 30 := hL 18 rfl
  have l19 : (S.2 19).length = 30 := hL 19 rfl
  have l20 : (S.2 20).length = 30 := hL 20 rfl
  have l21 : (S.2 21).length = 30 := hL 21 rfl
  -- behind an act
  have fin : ∀ (r : Option GS) h1 S1, oAct g o = some r → TWX h0 h1 m A S1 → TDone (setF S 25 0) S1 g ps true r → gI h1 m [12] 25 fun y20 => ((¬ y20 = 0 → cI K Qx (.inl (some (.int 0))) h1) ∧ (y20 = 0 → cI K Qx (.inl (some (.int 1))) h1)) := by
    intro r h1 S1 er H1 hD
    rw [er] at HK
    refine tw_I H1 (by decide) rfl ?_
    have s25 : Sm S (setF S 25 0) := Sm.F (Or.inr (Or.inr rfl))
    cases r with
    | none =>
      rw [hD.2.2.2]
      refine ⟨fun _ => cI_mk (HK h1 S1 H1 (s25.trans hD.2.1) hD.1 ?_), fun h9 => absurd h9 (by decide)⟩
      rw [hD.2.2.1, setF_n (by decide)]; rfl
    | some g' =>
      rw [hD.2.2.2, setF_1]
      refine ⟨fun h9 => absurd rfl h9, fun _ => cI_mk (HK h1 S1 H1 (s25.trans hD.2.1) hD.1 ?_)⟩
      rw [hD.2.2.1, setF_n (by decide)]
      show S.1 7 = S.1 7 + 0
      rw [Int32.add_zero]
  have miss : ∀ h1, oAct g o = none → TWX h0 h1 m A (setF S 25 0) → cI K Qx (.inl (some (.int 0))) h1 := by
    intro h1 er H1
    rw [er] at HK
    refine cI_mk (HK h1 _ H1 (Sm.F (Or.inr (Or.inr rfl))) ⟨hL, hR, ⟨hT.2.2.1.1, hT.2.2.1.2⟩, hT.2.2.2⟩ ?_)
    rw [setF_n (by decide)]
    show S.1 7 = S.1 7 + 0
    rw [Int32.add_zero]
  -- the first name
  obtain ⟨nm, hnm, hnm2⟩ : ∃ nm, (S.2 18)[k]? = some nm ∧ (¬ o.1 = 1 → nm = o.2.1) := by
    by_cases e : o.1 = 1
    · exact ⟨_, getD_some (by omega), fun h9 => absurd e h9⟩
    · refine ⟨o.2.1, o18 e ?_, fun _ => rfl⟩
      rcases hkd with e | e | e | e <;> rw [e] <;> decide
  obtain ⟨n2, hn2, hn22⟩ : ∃ n2, (S.2 19)[k]? = some n2 ∧ (o.1 = 3 → n2 = o.2.2.1) := by
    by_cases e : o.1 = 3
    · exact ⟨_, o19 e, fun _ => rfl⟩
    · exact ⟨_, getD_some (by omega), fun h9 => absurd h9 e⟩
  obtain ⟨one, h1o, h1o2⟩ : ∃ one, (S.2 20)[k]? = some one ∧ (¬ o.1 = 1 → one = o.2.2.2.1) := by
    by_cases e : o.1 = 1
    · exact ⟨_, getD_some (by omega), fun h9 => absurd e h9⟩
    · exact ⟨_, o20 e, fun _ => rfl⟩
  refine b_M_does_0 (tw_g (k := 18) (n := k) H (by decide) rfl (by decide) rfl (by omega) hnm ⟨tw_K H, s_named H hR (tw_g (k := 19) (n := k) H (by decide) rfl (by decide) rfl (by omega) hn2 ⟨tw_K H, s_named H hR (tw_g (k := 20) (n := k) H (by decide) rfl (by decide) rfl (by omega) h1o ⟨rfl, rfl, tw_F H (by decide) rfl fun h1 H1 => tw_g (k := 17) (n := k) H1 (by decide) rfl (by decide) rfl (by omega) o17 ?_⟩)⟩)⟩)
  have hT1 : TA (setF S 25 0) g ps true := ⟨hL, hR, ⟨hT.2.2.1.1, hT.2.2.1.2⟩, hT.2.2.2⟩
  have hv1 := nmL_ok g o.2.1 g.pl.length 0 rfl
  have hv2 := nmL_ok g o.2.2.1 g.pl.length 0 rfl
  refine ⟨fun e0 => ?_, fun e1 => ?_, fun e2 => ?_, fun e3 => ?_⟩
  · have hne : ¬ o.1 = 1 := by rw [e0]; decide
    have hnm3 := hnm2 hne
    have h1o3 := h1o2 hne
    subst hnm3 h1o3
    refine ⟨fun hp => ?_, fun hp => miss h1 (by unfold oAct; rw [if_neg hne, if_pos hp]) H1⟩
    rcases hv1 with e | ⟨j, hj, e⟩
    · exact absurd e hp
    · have e9 : nmd g o.2.1 = i32 j := e
      rw [e9]
      refine ⟨tw_K H1, a_bidding H1 hT1 hj fun h2 S2 H2 hD => fin _ h2 S2 ?_ H2 hD⟩
      unfold oAct
      rw [if_neg hne, if_neg hp, if_pos e0, e9, i32_nat (by omega)]
  · refine ⟨tw_K H1, a_hammering (st := sta g) H1 hT1 hv.2.2.1 (by omega) (by omega) (by omega) fun h2 S2 H2 hD => fin _ h2 S2 ?_ H2 hD⟩
    unfold oAct
    rw [if_pos e1]
  · have hne : ¬ o.1 = 1 := by rw [e2]; decide
    have hn0 : ¬ o.1 = 0 := by rw [e2]; decide
    have hnm3 := hnm2 hne
    have h1o3 := h1o2 hne
    subst hnm3 h1o3
    refine ⟨fun hp => ?_, fun hp => miss h1 (by unfold oAct; rw [if_neg hne, if_pos hp]) H1⟩
    rcases hv1 with e | ⟨j, hj, e⟩
    · exact absurd e hp
    · have e9 : nmd g o.2.1 = i32 j := e
      rw [e9]
      refine ⟨tw_K H1, a_selling H1 hT1 hj (by omega) fun h2 S2 H2 hD => fin _ h2 S2 ?_ H2 hD⟩
      unfold oAct
      rw [if_neg hne, if_neg hp, if_neg hn0, if_pos e2, e9]
  · have h3 : o.1 = 3 := by
      rcases hkd with e | e | e | e
      · rw [e] at e3; exact absurd e3 (by decide)
      · rw [e] at e3; exact absurd e3 (by decide)
      · rw [e] at e3; exact absurd e3 (by decide)
      · exact e
    have hne : ¬ o.1 = 1 := by rw [h3]; decide
    have hn0 : ¬ o.1 = 0 := by rw [h3]; decide
    have hn9 : ¬ o.1 = 2 := by rw [h3]; decide
    have hnm3 := hnm2 hne
    have h1o3 := h1o2 hne
    have hn23 := hn22 h3
    subst hnm3 h1o3 hn23
    refine ⟨fun hp => miss h1 (by unfold oAct; rw [if_neg hne, if_pos hp]) H1, fun hp => ⟨fun hq => miss h1 (by unfold oAct; rw [if_neg hne, if_neg hp, if_neg hn0, if_neg hn9, if_pos hq]) H1, fun hq => ⟨fun hpq => ?_, fun hpq => miss h1 (by unfold oAct; rw [if_neg hne, if_neg hp, if_neg hn0, if_neg hn9, if_neg hq, if_pos hpq]) H1⟩⟩⟩
    rcases hv1 with e | ⟨j, hj, e⟩
    · exact absurd e hp
    · rcases hv2 with f | ⟨j2, hj2, f⟩
      · exact absurd f hq
      · have e9 : nmd g o.2.1 = i32 j := e
        have f9 : nmd g o.2.2.1 = i32 j2 := f
        have hjj : j ≠ j2 := fun h9 => hpq (by rw [e9, f9, h9])
        rw [e9, f9]
        refine tw_g (k := 21) (n := k) H1 (by decide) rfl (by decide) rfl (by omega) (o21 (Or.inl h3)) ⟨tw_K H1, a_swapping H1 hT1 hv hj hj2 hjj fun h2 S2 H2 hD => fin _ h2 S2 ?_ H2 hD⟩
        unfold oAct
        rw [if_neg hne, if_neg hp, if_neg hn0, if_neg hn9, if_neg hq, if_neg hpq, e9, f9, i32_nat (by omega), i32_nat (by omega)]
end
