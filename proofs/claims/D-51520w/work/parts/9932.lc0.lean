/-! acts of the game: the round goes on, a hammer -/
set_option maxRecDepth 100000
theorem ItA.put {h : AH} {it a cur q kd : Nat} {w : Bool} {fs fs' : List Value} (hi : ItA h it a cur) (hq : h.1 q = some (kd, w, fs)) (h1 : kd ≠ 16) (h2 : kd ≠ 17) : ItA (h.put q fs') it a cur := by
  obtain ⟨lr, mc, w2, v1, v2, e1, e2⟩ := hi
  refine ⟨lr, mc, w2, v1, v2, ?_, ?_⟩
  · rw [AH.put_ne (fun e => by rw [← e, e1] at hq; cases hq; exact h2 rfl)]; exact e1
  · rw [AH.put_ne (fun e => by rw [← e, e2] at hq; cases hq; exact h1 rfl)]; exact e2
def rdP (inc : Int32) (pu : Nat → Int32) (i : Nat) : Nat → Int32 := fun k => if k < i then pu k + mn inc (9999 - pu k) else pu k
def rdB (bi : Nat → Int32) (i : Nat) : Nat → Int32 := fun k => if k < i then 0 else bi k
def rdN (ns pu : Nat → Int32) (i : Nat) : Nat → Int32 := upW ns 14 (itn (fun x k => x + mn (ns 1) (9999 - pu k)) (ns 14) i)
section
variable {G : GL} {d : Nat} {h : AH} {a : Nat} {pa : Nat → Nat} {ns : Nat → Int32} {n : Nat} {nb : Nat → List Int32} {pu bi : Nat → Int32} {ms : Nat → Nat → List Nat} {ct : List CS} {F : Nat → Prop} {Q : Out → AH → Prop} {Qx : Nat → AH → Prop} {al hm ll ac : Nat}
theorem s_rndLoop {x1 x2 : Int32} {st it : Nat} (hst : ns 6 = i32 st) (hn : st < n) : ∀ (r i : Nat) {h : AH} {F : Nat → Prop} {u4 : Value}, i + r = n → GmX G h a pa (rdN ns pu i) n nb (rdP (ns 1) pu i) (rdB bi i) ms ct F → h.1 a = some (1, true, gCell al hm ll ac (rdN ns pu i)) → ItA h it al i → ¬ F it → (∀ h' F', GmX G h' a pa (rndN ns pu n st) n nb (rndP ns pu) (fun _ => 0) ms ct F' → (∀ x, F' x → F x) → Chg 0 (fun x => F x ∨ x = it) h h' → Q (.inl (some (.int x2))) h') → MF G (d + 5) mi_Game_hammers 50 [.ref a, .int x1, .int x2, .ref it, u4] [] h Q := by
  intro r
  induction r with
  | zero =>
    intro i h F u4 hir hX hg hIt nF HK
    have hin : i = n := by omega
    subst hin
    obtain ⟨Fl, hL, sub⟩ := hX.alh hg
    have hn5 := hX.n5
    refine b_Game_hammers_50 rfl (dR_of ⟨17, mi_ArrayListItr_hasNext, hIt.hk, rfl, s_alHas (d := d + 4) hL hIt (by simp) ⟨fun hz => ?_, fun hnz => ?_⟩⟩)
    · refine gI_of hg (by simp) rfl (gR_of hg (by simp) rfl rfl (dR_of ⟨16, mi_ArrayList_size, hL.hk, rfl, s_alSize (d := d + 4) hL ⟨fun e => ?_, ?_⟩⟩))
      · rw [List.length_map, List.length_range] at e
        have := (i32_eq (b := 0) (by omega) (by omega)).mp e
        omega
      · have ev : (rdN ns pu i 6 + 1) - (rdN ns pu i 6 + 1) / i32 ((List.range i).map fun k => Value.ref (pa k)).length * i32 ((List.range i).map fun k => Value.ref (pa k)).length = i32 ((st + 1) % i) := by
          rw [List.length_map, List.length_range, show rdN ns pu i 6 = i32 st from hst, i32_succ]
          exact i32_mod (by omega) (by omega) (by omega)
        have e0 : ∀ y, y = (rdN ns pu i 6 + 1) - (rdN ns pu i 6 + 1) / i32 ((List.range i).map fun k => Value.ref (pa k)).length * i32 ((List.range i).map fun k => Value.ref (pa k)).length → pF h a [1] 8 (.int y) fun h9 => gI h9 a [1] 7 fun y10 => pF h9 a [1] 7 (.int (y10 + 1)) fun h11 => Q (.inl (some (.int x2))) h11 := by
          intro y ey
          rw [ev] at ey
          refine hX.wN (j := 6) hg rfl rfl (by omega) fun hA XA cA gA eA => gI_of gA (by simp) rfl (XA.wN (j := 5) gA rfl rfl (by omega) fun hB XB cB gB eB => ?_)
          subst ey
          refine HK _ F (GmX.congr XB fun k hk => ⟨rfl, ?_, ?_, fun _ => List.Perm.refl _⟩) (fun _ h9 => h9) ((cA.same cB).mono (Nat.le_refl _) fun _ h9 => Or.inl h9)
          · exact if_pos hk
          · exact if_pos hk
        exact e0 _ rfl
    · have h9 := b01_1 hnz
      simp at h9
  | succ r ih =>
    intro i h F u4 hir hX hg hIt nF HK
    have hk : i < n := by omega
    obtain ⟨Fl, hL, sub⟩ := hX.alh hg
    refine MF.wfh fun hw => b_Game_hammers_50 rfl (dR_of ⟨17, mi_ArrayListItr_hasNext, hIt.hk, rfl, s_alHas (d := d + 4) hL hIt (by simp; omega) ⟨fun hz => ?_, fun hnz => ⟨17, mi_ArrayListItr_next, hIt.hk, rfl, s_alNext (d := d + 2) hL hIt (pa_at hk) rfl fun hA iA cA eA => ?_⟩⟩⟩)
    · have h9 := of_decide_eq_false (b01_0 hz)
      simp at h9
      omega
    · have hXA := hX.chg cA fun x hx h9 => nF (by rw [← h9]; exact hx)
      have gA : hA.1 a = some (1, true, gCell al hm ll ac (rdN ns pu i)) := cA.2.2.2.2 _ _ hg (show KX 1 from by decide) fun h9 => nF (by rw [← h9]; exact hX.self)
      obtain ⟨Fk, P, subk, nka, clk⟩ := hXA.pl hk
      obtain ⟨sn, tm, pc, -, pp⟩ := P.cell
      refine ⟨fun q9 e9 => (by cases e9; exact ⟨2, true, _, pc, ck_2⟩), gR_of gA (by simp) rfl rfl (dR_of (hXA.rA (j := 3) gA (by omega) (gI_of gA (by simp) rfl (dR_of ⟨P.has, ?_⟩))))⟩
      obtain ⟨P2, c2⟩ := pp (rdP (ns 1) pu i i + mn (rdN ns pu i 1) (9999 - rdP (ns 1) pu i i)) (rdB bi i i)
      obtain ⟨F1, X2, s2⟩ := clk P2 c2 (fun x hx => Or.inl hx)
      have iB : ItA (hA.put (pa i) [.ref sn, .int (i32 i), .ref tm, .int (rdP (ns 1) pu i i + mn (rdN ns pu i 1) (9999 - rdP (ns 1) pu i i)), .int (rdB bi i i)]) it al (i + 1) := iA.put pc (by decide) (by decide)
      refine b_Player_gets_0 (gI_of pc (by simp) rfl (gI_of pc (by simp) rfl (pF_of pc (by simp) (by simp) (cI_mk ?_))))
      have gB := c2.2.2.2.2 _ _ gA (show KX 1 from by decide) nka
      show pA (hA.put (pa i) [.ref sn, .int (i32 i), .ref tm, .int (rdP (ns 1) pu i i + mn (rdN ns pu i 1) (9999 - rdP (ns 1) pu i i)), .int (rdB bi i i)]) ac 100 3 (.int (rdN ns pu i 14 + mn (rdN ns pu i 1) (9999 - rdP (ns 1) pu i i))) _
      generalize hBe : hA.put (pa i) [.ref sn, .int (i32 i), .ref tm, .int (rdP (ns 1) pu i i + mn (rdN ns pu i 1) (9999 - rdP (ns 1) pu i i)), .int (rdB bi i i)] = hB at X2 c2 iB gB
      obtain ⟨z0, z1, z2, z3⟩ := X2.setA gB (gC_a (j := 3) (v := rdN ns pu i 14 + mn (rdN ns pu i 1) (9999 - rdP (ns 1) pu i i)))
      refine pA_of z0 (by decide) (show (3 : Int32).toNatClampNeg < 7 from by decide) ?_
      have iC : ItA (hB.put ac (aCell (upW (rdN ns pu i) (11 + 3) (rdN ns pu i 14 + mn (rdN ns pu i 1) (9999 - rdP (ns 1) pu i i))))) it al (i + 1) := iB.put z0 (by decide) (by decide)
      have ea := aC_set (ns := rdN ns pu i) (j := 3) (v := rdN ns pu i 14 + mn (rdN ns pu i 1) (9999 - rdP (ns 1) pu i i)) (by decide)
      have ea' : (aCell (rdN ns pu i)).set (3 : Int32).toNatClampNeg (.int (rdN ns pu i 14 + mn (rdN ns pu i 1) (9999 - rdP (ns 1) pu i i))) = aCell (upW (rdN ns pu i) (11 + 3) (rdN ns pu i 14 + mn (rdN ns pu i 1) (9999 - rdP (ns 1) pu i i))) := ea
      refine Eq.mp (congrArg (fun l => pF (hB.put ac l) (pa i) [2] 4 (.int 0) fun h21 => MF G (d + 5) mi_Game_hammers 50 [.ref a, .int x1, .int x2, .ref it, .ref (pa i)] [] h21 Q) ea'.symm) ?_
      generalize hB.put ac (aCell (upW (rdN ns pu i) (11 + 3) (rdN ns pu i 14 + mn (rdN ns pu i 1) (9999 - rdP (ns 1) pu i i)))) = hC at z1 z2 z3 iC ⊢
      obtain ⟨Fj, P3, subj, nja, clj⟩ := z1.pl hk
      obtain ⟨sn3, tm3, pc3, -, pp3⟩ := P3.cell
      obtain ⟨P4, c4⟩ := pp3 (upW (rdP (ns 1) pu i) i (rdP (ns 1) pu i i + mn (rdN ns pu i 1) (9999 - rdP (ns 1) pu i i)) i) 0
      obtain ⟨F2, X4, s4⟩ := clj P4 c4 (fun x hx => Or.inl hx)
      refine pF_of pc3 (by simp) (by simp) ?_
      have iD := iC.put (fs' := [.ref sn3, .int (i32 i), .ref tm3, .int (upW (rdP (ns 1) pu i) i (rdP (ns 1) pu i i + mn (rdN ns pu i 1) (9999 - rdP (ns 1) pu i i)) i), .int 0]) pc3 (by decide) (by decide)
      have gD := c4.2.2.2.2 _ _ z3 (show KX 1 from by decide) nja
      have hset : [Value.ref sn3, .int (i32 i), .ref tm3, .int (upW (rdP (ns 1) pu i) i (rdP (ns 1) pu i i + mn (rdN ns pu i 1) (9999 - rdP (ns 1) pu i i)) i), .int (upW (rdB bi i) i (rdB bi i i) i)].set 4 (.int 0) = [.ref sn3, .int (i32 i), .ref tm3, .int (upW (rdP (ns 1) pu i) i (rdP (ns 1) pu i i + mn (rdN ns pu i 1) (9999 - rdP (ns 1) pu i i)) i), .int 0] := rfl
      rw [hset]
      have sF1 : ∀ x, F1 x → F x := fun x hx => (s2 x hx).elim id (subk x)
      have sF2 : ∀ x, F2 x → F x := fun x hx => (s4 x hx).elim (sF1 x) fun h9 => sF1 x (subj x h9)
      have en : upW (rdN ns pu i) (11 + 3) (rdN ns pu i 14 + mn (rdN ns pu i 1) (9999 - rdP (ns 1) pu i i)) = rdN ns pu (i + 1) := by
        have ep : rdP (ns 1) pu i i = pu i := if_neg (by omega)
        rw [ep]
        unfold rdN
        rw [itn_succ]
        funext j
        by_cases ej : j = 14
        · rw [upW_s ej, upW_s ej, upW_s rfl]; rfl
        · rw [upW_n ej, upW_n ej, upW_n ej]
      rw [en] at gD X4
      have X5 : GmX G _ a pa (rdN ns pu (i + 1)) n nb (rdP (ns 1) pu (i + 1)) (rdB bi (i + 1)) ms ct F2 := X4.congr fun j hj => ⟨rfl, by
        have ep : rdP (ns 1) pu i i = pu i := if_neg (by omega)
        by_cases ej : j = i
        · rw [upW_s ej, upW_s rfl, ep]
          unfold rdP
          rw [if_pos (by omega), ej]; rfl
        · rw [upW_n ej, upW_n ej]
          unfold rdP
          by_cases e1 : j < i
          · rw [if_pos e1, if_pos (by omega)]
          · rw [if_neg e1, if_neg (by omega)], by
        by_cases ej : j = i
        · rw [upW_s ej]
          unfold rdB
          rw [if_pos (by omega)]
        · rw [upW_n ej, upW_n ej]
          unfold rdB
          by_cases e1 : j < i
          · rw [if_pos e1, if_pos (by omega)]
          · rw [if_neg e1, if_neg (by omega)], fun q => by
        by_cases ej : j = i
        · rw [upW_s ej, upW_s rfl, ej]
        · rw [upW_n ej, upW_n ej]⟩
      refine ih (i + 1) (by omega) X5 gD iD (fun h9 => nF (sF2 it h9)) fun h' F' Y1 Y2 Y3 => HK h' F' Y1 (fun x hx => sF2 x (Y2 x hx)) ?_
      have k1 := cA.mono (F' := fun x => F x ∨ x = it) (Nat.le_refl _) fun _ h9 => Or.inr h9
      have k2 := k1.same (c2.mono (F' := fun x => F x ∨ x = it) (Nat.le_refl _) fun x h9 => Or.inl (subk x h9))
      have k3 := k2.same (z2.mono (F' := fun x => F x ∨ x = it) (Nat.le_refl _) fun x h9 => Or.inl (sF1 x h9))
      have k4 := k3.same (c4.mono (F' := fun x => F x ∨ x = it) (Nat.le_refl _) fun x h9 => Or.inl (sF1 x (subj x h9)))
      exact k4.same (Y3.mono (F' := fun x => F x ∨ x = it) (Nat.le_refl _) fun x h9 => h9.elim (fun h8 => Or.inl (sF2 x h8)) Or.inr)
/-- the round goes on -/
theorem s_gmRound {x1 x2 : Int32} {st : Nat} {u2 u3 u4 : Value} (hX : GmX G h a pa ns n nb pu bi ms ct F) (hst : ns 6 = i32 st) (hn : st < n) (hroom : 8 ≤ h.2.2) (HK : ∀ h' F', GmX G h' a pa (rndN ns pu n st) n nb (rndP ns pu) (fun _ => 0) ms ct F' → Sgr 8 F h F' h' → Q (.inl (some (.int x2))) h') : MF G (d + 5) mi_Game_hammers 39 [.ref a, .int x1, u2, u3, u4] [.int x2] h Q := by
  obtain ⟨al, hm, ll, ac, g1, g2⟩ := hX.cell
  obtain ⟨Fl, hL, sub⟩ := hX.alh g1
  refine MF.wfh fun hw => b_Game_hammers_39 (gR_of g1 (by simp) rfl rfl (dR_of ⟨16, mi_ArrayList_iterator, hL.hk, rfl, s_alIter (d := d + 2) hL hroom fun hA iA cA eA => ?_⟩))
  have e0 : rdN ns pu 0 = ns := by
    unfold rdN
    funext j
    by_cases ej : j = 14
    · rw [upW_s ej, ej]; rfl
    · rw [upW_n ej]
  have X1 := hX.chg cA fun _ _ h9 => h9
  have gA : hA.1 a = some (1, true, gCell al hm ll ac ns) := cA.2.2.2.2 _ _ g1 (show KX 1 from by decide) fun h9 => h9
  have X2 : GmX G hA a pa (rdN ns pu 0) n nb (rdP (ns 1) pu 0) (rdB bi 0) ms ct F := by
    rw [e0]
    exact X1.congr fun k hk => ⟨rfl, (if_neg (by omega)).symm, (if_neg (by omega)).symm, fun _ => List.Perm.refl _⟩
  refine s_rndLoop hst hn n 0 (by omega) X2 (by rw [e0]; exact gA) iA (fun h9 => by have := hX.low hw _ h9; omega) fun h' F' Y1 Y2 Y3 => HK h' F' Y1 ?_
  have k := (cA.mono (F' := F) (Nat.le_refl _) fun _ h9 => h9.elim).trans Y3 (F := F) (fun q x e h9 => by
    rcases h9 with h8 | h8
    · exact h8
    · have := hw _ _ e; omega)
  exact ⟨k.mono (by omega) fun _ h9 => h9, fun x hx => Or.inl (Y2 x hx)⟩
end
