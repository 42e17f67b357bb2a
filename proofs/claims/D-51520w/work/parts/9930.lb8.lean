/-! acts of the game: bids, rounds -/
set_option maxRecDepth 100000
/-- c units of room used, cells of F changed, F grown by fresh cells alone to F' -/
def Sgr (c : Nat) (F : Nat → Prop) (h : AH) (F' : Nat → Prop) (h' : AH) : Prop := Chg c F h h' ∧ Fgr h F F'
theorem Sgr.refl {F : Nat → Prop} {h : AH} : Sgr 0 F h F h := ⟨Chg.refl, fun _ h9 => Or.inl h9⟩
theorem Sgr.trans {c1 c2 : Nat} {F F1 F2 : Nat → Prop} {h h1 h2 : AH} (hw : WFh h) (a : Sgr c1 F h F1 h1) (b : Sgr c2 F1 h1 F2 h2) : Sgr (c1 + c2) F h F2 h2 :=
  ⟨a.1.trans b.1 fun q x e h9 => by
    rcases a.2 q h9 with h8 | h8
    · exact h8
    · have := hw _ _ e; omega, fun x hx => by
    rcases b.2 x hx with h8 | h8
    · exact a.2 x h8
    · exact Or.inr (Nat.le_trans a.1.1 h8)⟩
theorem Sgr.mono {c c' : Nat} {F F' : Nat → Prop} {h h' : AH} (a : Sgr c F h F' h') (hc : c ≤ c') : Sgr c' F h F' h' := ⟨a.1.mono hc fun _ h9 => h9, a.2⟩
theorem Sgr.of {c : Nat} {F : Nat → Prop} {h h' : AH} (a : Chg c F h h') : Sgr c F h F h' := ⟨a, fun _ h9 => Or.inl h9⟩
section
variable {G : GL} {d : Nat} {h : AH} {a : Nat} {pa : Nat → Nat} {ns : Nat → Int32} {n : Nat} {nb : Nat → List Int32} {pu bi : Nat → Int32} {ms : Nat → Nat → List Nat} {ct : List CS} {F : Nat → Prop} {Qx : Nat → AH → Prop} {al hm ll ac : Nat}
theorem aC_set {j : Nat} {v : Int32} (hj : j < 7) : (aCell ns).set j (.int v) = aCell (upW ns (11 + j) v) := by
  match j, hj with
  | 0, _ => rfl
  | 1, _ => rfl
  | 2, _ => rfl
  | 3, _ => rfl
  | 4, _ => rfl
  | 5, _ => rfl
  | 6, _ => rfl
theorem gC_a {j : Nat} {v : Int32} : gCell al hm ll ac ns = gCell al hm ll ac (upW ns (11 + j) v) := by
  unfold gCell
  rw [upW_n (show ¬ 0 = 11 + j by omega), upW_n (show ¬ 1 = 11 + j by omega), upW_n (show ¬ 4 = 11 + j by omega), upW_n (show ¬ 5 = 11 + j by omega), upW_n (show ¬ 6 = 11 + j by omega), upW_n (show ¬ 7 = 11 + j by omega), upW_n (show ¬ 8 = 11 + j by omega), upW_n (show ¬ 9 = 11 + j by omega)]
theorem aC_at {j : Nat} (hj : j < 7) : (aCell ns)[j]? = some (.int (ns (11 + j))) := by
  match j, hj with
  | 0, _ => rfl
  | 1, _ => rfl
  | 2, _ => rfl
  | 3, _ => rfl
  | 4, _ => rfl
  | 5, _ => rfl
  | 6, _ => rfl
theorem GmX.wN {p j : Nat} {v : Int32} {K : AH → Prop} (hX : GmX G h a pa ns n nb pu bi ms ct F) (hc : h.1 a = some (1, true, gCell al hm ll ac ns)) (he : (gCell al hm ll ac ns).set p (.int v) = gCell al hm ll ac (upW ns j v)) (ha : aCell ns = aCell (upW ns j v)) (hp : p < 12) (HK : ∀ h', GmX G h' a pa (upW ns j v) n nb pu bi ms ct F → Chg 0 F h h' → h'.1 a = some (1, true, gCell al hm ll ac (upW ns j v)) → h'.2 = h.2 → K h') : pF h a [1] p (.int v) K := by
  obtain ⟨s1, s2⟩ := hX.setN hc ha
  refine pF_of hc (by simp) hp ?_
  rw [he]
  exact HK _ s1 s2 (AH.put_self hc) rfl
theorem GmX.wA {j : Nat} {v : Int32} {K : AH → Prop} (hX : GmX G h a pa ns n nb pu bi ms ct F) (hc : h.1 a = some (1, true, gCell al hm ll ac ns)) (hj : j < 7) (HK : ∀ h', GmX G h' a pa (upW ns (11 + j) v) n nb pu bi ms ct F → Chg 0 F h h' → h'.1 a = some (1, true, gCell al hm ll ac (upW ns (11 + j) v)) → h'.2 = h.2 → K h') : pA h ac 100 (i32 j) (.int v) K := by
  obtain ⟨s0, s1, s2, s3⟩ := hX.setA hc (gC_a (j := j) (v := v))
  refine pA_of s0 (i32_nn (by omega)) (by rw [i32_nat (by omega)]; exact hj) ?_
  rw [i32_nat (by omega), aC_set hj]
  exact HK _ s1 s2 s3 rfl
theorem GmX.rA {j : Nat} {K : Int32 → Prop} (hX : GmX G h a pa ns n nb pu bi ms ct F) (hc : h.1 a = some (1, true, gCell al hm ll ac ns)) (hj : j < 7) (HK : K (ns (11 + j))) : aI h ac 100 (i32 j) K := by
  obtain ⟨s0, -⟩ := hX.setA (ns' := ns) hc rfl
  exact aI_of s0 (i32_nn (by omega)) (by rw [i32_nat (by omega)]; exact aC_at hj) HK
theorem GmX.alh (hX : GmX G h a pa ns n nb pu bi ms ct F) (hc : h.1 a = some (1, true, gCell al hm ll ac ns)) : ∃ Fl : Nat → Prop, ALh G h al 5 ((List.range n).map fun k => Value.ref (pa k)) Fl ∧ ∀ x, Fl x → F x := by
  obtain ⟨al', hm', ll', ac', Fl, h1, h2, h3⟩ := hX.list
  rw [hc] at h1
  have e1 : al = al' := by
    unfold gCell at h1
    simp only [Option.some.injEq, Prod.mk.injEq, List.cons.injEq, Value.ref.injEq] at h1
    exact h1.2.2.1
  subst e1
  exact ⟨Fl, h2, h3⟩
/-- the cart by the game's cell -/
theorem GmX.cartC (hX : GmX G h a pa ns n nb pu bi ms ct F) (hc : h.1 a = some (1, true, gCell al hm ll ac ns)) : ∃ Fc : Nat → Prop, CTh h ll ct Fc ∧ (∀ x, Fc x → F x) ∧ ¬ Fc a ∧ ¬ Fc ac ∧ ∀ {h' : AH} {c : Nat} {ct' : List CS} {Fc' : Nat → Prop}, CTh h' ll ct' Fc' → Chg c Fc h h' → (∀ x, Fc' x → Fc x ∨ ¬ F x) → ∃ F' : Nat → Prop, GmX G h' a pa ns n nb pu bi ms ct' F' ∧ ∀ x, F' x → (F x ∧ (Fc x → Fc' x)) ∨ Fc' x := by
  obtain ⟨al', hm', ll', ac', Fc, h1, h2, h3, h4, h5, h6⟩ := hX.cart
  rw [hc] at h1
  have e1 : al = al' ∧ hm = hm' ∧ ll = ll' ∧ ac = ac' := by
    unfold gCell at h1
    simp only [Option.some.injEq, Prod.mk.injEq, List.cons.injEq, Value.ref.injEq] at h1
    exact ⟨h1.2.2.1, h1.2.2.2.1, h1.2.2.2.2.1, h1.2.2.2.2.2.1⟩
  obtain ⟨rfl, rfl, rfl, rfl⟩ := e1
  exact ⟨Fc, h2, h3, h4, h5, h6⟩
/-- the first stone is unwanted -/
theorem s_gmUnw {s : CS} {K : Int32 → AH → Prop} (hX : GmX G h a pa ns n nb pu bi ms (s :: ct) F) (hroom : 20 ≤ h.2.2) (HK : ∀ h' F', (s.2.2 = 1 → GmX G h' a pa (upW ns 4 (ns 4 + 1)) n nb pu bi ms ct F') → (¬ s.2.2 = 1 → GmX G h' a pa (upW ns 13 (ns 13 + 1)) n nb pu bi ms (ct ++ [(s.1, s.2.1, 1)]) F') → Sgr 7 F h F' h' → K (if s.2.2 = 1 then 101 else 100) h') : MF G (d + 4) mi_Game_unwanted 0 [.ref a, .retAddr 0] [] h (cI K Qx) := by
  obtain ⟨al, hm, ll, ac, g1, g2⟩ := hX.cell
  obtain ⟨Fc, hC, hCF, nFa, nFc, cl⟩ := hX.cartC g1
  refine MF.wfh fun hw => b_Game_unwanted_0 (gR_of g1 (by simp) rfl rfl (dR_of ⟨hC.has, s_ctRemove (d := d + 2) hC fun hA q Fc' cA qA s01 Fq nFq sub cgA eA => ?_⟩))
  obtain ⟨F1, hX1, sub1⟩ := cl cA cgA (fun x hx => Or.inl (sub x hx))
  have nF1q : ¬ F1 q := fun h9 => by
    rcases sub1 q h9 with h8 | h8
    · exact nFq (h8.2 Fq)
    · exact nFq h8
  have sF1 : ∀ x, F1 x → F x := fun x hx => by
    rcases sub1 x hx with h8 | h8
    · exact h8.1
    · exact hCF x (sub x h8)
  have cF1 : Chg 0 F h hA := cgA.mono (Nat.le_refl _) hCF
  have hqF : F q := hCF q Fq
  have g1A : hA.1 a = some (1, true, gCell al hm ll ac ns) := cgA.2.2.2.2 _ _ g1 (show KX 1 from by decide) nFa
  refine ⟨fun q9 e9 => (by cases e9; exact ⟨3, true, _, qA, ck_3⟩), dR_of (gI_of qA (by simp) rfl ⟨fun hz => ⟨by decide, rfl, pF_of qA (by simp) (by simp [stV]) ?_⟩, fun hnz => gI_of g1A (by simp) rfl ?_⟩)⟩
  · have hz' : ¬ s.2.2 = 1 := fun e => by rw [e] at hz; exact absurd hz (by decide)
    have c2 := Chg.put (F := fun x => x = q) (fs' := (stV s).set 2 (.int 1)) qA (by decide) rfl
    have hX2 := hX1.chg c2 fun x hx h9 => nF1q (by rw [← h9]; exact hx)
    have q2 := AH.put_self (fs' := (stV s).set 2 (.int 1)) qA
    generalize hB : hA.put q ((stV s).set 2 (.int 1)) = B at *
    obtain ⟨Fd, hD, hDF, nDa, nDc, cl2⟩ := hX2.cartC (c2.2.2.2.2 _ _ g1A (show KX 1 from by decide) fun h9 => nF1q (by rw [← h9]; exact hX1.self))
    have g1B : B.1 a = some (1, true, gCell al hm ll ac ns) := c2.2.2.2.2 _ _ g1A (show KX 1 from by decide) fun h9 => nF1q (by rw [← h9]; exact hX1.self)
    have hwB : WFh B → True := fun _ => trivial
    have lenc := hC.len
    refine gR_of g1B (by simp) rfl rfl (dR_of ⟨hD.has, MF.wfh fun hwB => s_ctAdd (s := (s.1, s.2.1, 1)) hD q2 (Or.inr rfl) (fun h9 => nF1q (hDF q h9)) (by simp at lenc; omega) (by rw [← hB, AH.put_2, eA]; omega) fun hE Fe' cE cgE fE => ?_⟩)
    obtain ⟨F3, hX3, sub3⟩ := cl2 cE cgE (fun x hx => by
      rcases fE x hx with h9 | h9 | h9
      · exact Or.inl h9
      · exact Or.inr (by rw [h9]; exact nF1q)
      · exact Or.inr fun h8 => by have := hX2.low hwB x h8; omega)
    have g1E : hE.1 a = some (1, true, gCell al hm ll ac ns) := cgE.2.2.2.2 _ _ g1B (show KX 1 from by decide) nDa
    refine gR_of g1E (by simp) rfl rfl (dR_of (hX3.rA (j := 2) g1E (by omega) (hX3.wA (j := 2) g1E (by omega) fun hZ hXZ cZ gZ eZ => cI_mk ?_)))
    have hk := HK hZ F3 (fun e => absurd e hz') (fun _ => hXZ) ?_
    · rw [if_neg hz'] at hk; exact hk
    · have e3 : ∀ x, F3 x → F x ∨ h.2.1 ≤ x := fun x hx => by
        rcases sub3 x hx with h8 | h8
        · exact Or.inl (sF1 x h8.1)
        · rcases fE x h8 with h9 | h9 | h9
          · exact Or.inl (sF1 x (hDF x h9))
          · exact Or.inl (by rw [h9]; exact hqF)
          · have := cF1.1; have := c2.1; exact Or.inr (by omega)
      refine ⟨?_, e3⟩
      have k1 := cF1.same (c2.mono (F' := F) (Nat.le_refl _) fun x hx => by rw [hx]; exact hqF)
      have k2 := k1.same (cgE.mono (F' := F) (Nat.le_refl _) fun x hx => sF1 x (hDF x hx))
      exact (k2.trans cZ (F := F) fun x y e9 h9 => by
        rcases e3 x h9 with h8 | h8
        · exact h8
        · have := hw _ _ e9; omega).mono (by omega) fun _ h9 => h9
  · have h1 : s.2.2 = 1 := by rcases s01 with e | e; exact absurd e hnz; exact e
    refine hX1.wN (j := 4) g1A rfl rfl (by omega) fun hZ hXZ cZ gZ eZ => cI_mk ?_
    have hk := HK hZ F1 (fun _ => hXZ) (fun e => absurd h1 e) ⟨(cF1.same (cZ.mono (F' := F) (Nat.le_refl _) sF1)).mono (by omega) fun _ h9 => h9, fun x hx => Or.inl (sF1 x hx)⟩
    rw [if_pos h1] at hk; exact hk
end
