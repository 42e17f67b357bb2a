/-! acts of the game: a stone won, a round, a bid -/
set_option maxRecDepth 100000
def rndN (ns : Nat → Int32) (pu : Nat → Int32) (n st : Nat) : Nat → Int32 := upW (upW (upW ns 14 (itn (fun x k => x + mn (ns 1) (9999 - pu k)) (ns 14) n)) 6 (i32 ((st + 1) % n))) 5 (ns 5 + 1)
def rndP (ns : Nat → Int32) (pu : Nat → Int32) : Nat → Int32 := fun k => pu k + mn (ns 1) (9999 - pu k)
section
variable {G : GL} {d : Nat} {h : AH} {a : Nat} {pa : Nat → Nat} {ns : Nat → Int32} {n : Nat} {nb : Nat → List Int32} {pu bi : Nat → Int32} {ms : Nat → Nat → List Nat} {ct : List CS} {F : Nat → Prop} {Qx : Nat → AH → Prop} {al hm ll ac : Nat}
theorem s_gmBids {k : Nat} {x2 : Int32} {K : Int32 → AH → Prop} (hX : GmX G h a pa ns n nb pu bi ms ct F) (hk : k < n) (HK1 : ct.length = 0 → K (-2) h) (HK2 : ¬ ct.length = 0 → ¬ x2 ≤ pu k → K (-3) h) (HK3 : ∀ h' F', ¬ ct.length = 0 → x2 ≤ pu k → GmX G h' a pa ns n nb pu (upW bi k x2) ms ct F' → Sgr 0 F h F' h' → K (bi k) h') : MF G (d + 5) mi_Game_bids 0 [.ref a, .int (i32 k), .int x2, .retAddr 0, .retAddr 0] [] h (cI K Qx) := by
  obtain ⟨al, hm, ll, ac, g1, g2⟩ := hX.cell
  obtain ⟨Fc, hC, -, -⟩ := hX.cartC g1
  obtain ⟨Fk, P, sub, nFa, cl⟩ := hX.pl hk
  obtain ⟨sn, tm, pc, ps, pp⟩ := P.cell
  refine b_Game_bids_0 ⟨hX.has, s_gmPlayer (d := d) hX hk (gR_of g1 (by simp) rfl rfl (dR_of (s_ctEmpty (d := d + 3) hC ⟨fun hz => dR_of (gI_of pc (by simp) rfl ⟨fun hle => gI_of pc (by simp) rfl (pF_of pc (by simp) (by simp) (cI_mk ?_)), fun hgt => cI_mk (HK2 (of_decide_eq_false (b01_0 hz)) hgt)⟩), fun hnz => cI_mk (HK1 (of_decide_eq_true (b01_1 hnz)))⟩)))⟩
  obtain ⟨P2, c2⟩ := pp (pu k) x2
  obtain ⟨F', X2, s2⟩ := cl P2 c2 (fun x hx => Or.inl hx)
  refine HK3 _ F' (of_decide_eq_false (b01_0 hz)) hle (X2.congr fun j _ => ⟨rfl, ?_, rfl, fun i => ?_⟩) ⟨c2.mono (Nat.le_refl _) sub, fun x hx => ?_⟩
  · by_cases e : j = k
    · rw [upW_s e, e]
    · rw [upW_n e]
  · by_cases e : j = k
    · rw [upW_s e, e]
    · rw [upW_n e]
  · rcases s2 x hx with h9 | h9
    · exact Or.inl h9
    · exact Or.inl (sub x h9)
theorem s_gmWins {w f m B : Nat} {s : CS} {K : Int32 → AH → Prop} (hE : EV G h) (hX : GmX G h a pa ns n nb pu bi ms (s :: ct) F) (hwn : w < n) (hf : s.1 = i32 f) (hm9 : s.2.1 = i32 m) (hk100 : 10 * f + m < 100) (hB : bi w = i32 B) (hB6 : B < 1000000) (h61 : (ms w (10 * f + m)).length ≤ 61) (hroom : 300 ≤ h.2.2) (HK : ∀ h' F', GmX G h' a pa (upW (upW (upW ns 7 (ns 7 + bi w)) 11 (ns 11 + 1)) 12 (ns 12 + bi w)) n nb (upW pu w (pu w - bi w)) bi (upW ms w (updf (ms w) (10 * f + m) (B :: ms w (10 * f + m)))) ct F' → Sgr 200 F h F' h' → K (i32 w) h') : MF G (d + 12) mi_Game_wins 0 [.ref a, .ref (pa w), .retAddr 0] [] h (cI K Qx) := by
  obtain ⟨al, hm, ll, ac, g1, g2⟩ := hX.cell
  obtain ⟨Fc, hC, hCF, nFa, nFc, cl⟩ := hX.cartC g1
  refine MF.wfh fun hw => b_Game_wins_0 rfl (gR_of g1 (by simp) rfl rfl (dR_of ⟨hC.has, s_ctRemove (d := d + 10) hC fun hA q Fc' cA qA s01 Fq nFq sub cgA eA => ?_⟩))
  obtain ⟨F1, hX1, sub1⟩ := cl cA cgA (fun x hx => Or.inl (sub x hx))
  have sF1 : ∀ x, F1 x → F x := fun x hx => by
    rcases sub1 x hx with h8 | h8
    · exact h8.1
    · exact hCF x (sub x h8)
  have cF1 : Chg 0 F h hA := cgA.mono (Nat.le_refl _) hCF
  have st1 : Sgr 0 F h F1 hA := ⟨cF1, fun x hx => Or.inl (sF1 x hx)⟩
  have g1A : hA.1 a = some (1, true, gCell al hm ll ac ns) := cgA.2.2.2.2 _ _ g1 (show KX 1 from by decide) nFa
  obtain ⟨Fk, P, subk, nka, clk⟩ := hX1.pl hwn
  obtain ⟨sn, tm, pc, -⟩ := P.cell
  rw [hB] at pc
  refine ⟨fun q9 e9 => (by cases e9; exact ⟨3, true, _, qA, ck_3⟩), dR_of (gI_of qA (by simp) rfl (gI_of qA (by simp) rfl (b_Q_key_0 (cI_mk (dR_of (gI_of pc (by simp) rfl ⟨P.has, ?_⟩))))))⟩
  rw [hf, hm9, key_i]
  refine MF.wfh fun hwA => s_plComes (d := d + 1) (hE.ic.chg cgA) P hk100 hB6 h61 (by rw [eA]; omega) fun hB' Fk' P2 c2 f2 => ?_
  obtain ⟨sn2, tm2, pc2, -, pp2⟩ := P2.cell
  obtain ⟨P3, c3⟩ := pp2 (pu w - bi w) (bi w)
  rw [hB] at pc2
  refine gI_of pc2 (by simp) rfl (gI_of pc2 (by simp) rfl (pF_of pc2 (by simp) (by simp) ?_))
  have hset : [Value.ref sn2, .int (i32 w), .ref tm2, .int (pu w), .int (i32 B)].set 3 (.int (pu w - i32 B)) = [.ref sn2, .int (i32 w), .ref tm2, .int (pu w - bi w), .int (bi w)] := by rw [hB]; rfl
  rw [hset]
  have st2 : Sgr 190 Fk hA Fk' hB' := ⟨c2, f2⟩
  have st23 := st2.trans hwA (Sgr.of c3)
  obtain ⟨F2, X2, s2⟩ := clk P3 st23.1 (fun x hx => by
    rcases f2 x hx with h9 | h9
    · exact Or.inl h9
    · exact Or.inr fun h8 => by have := hX1.low hwA x h8; omega)
  have X2' : GmX G (hB'.put (pa w) [.ref sn2, .int (i32 w), .ref tm2, .int (pu w - bi w), .int (bi w)]) a pa ns n nb (upW pu w (pu w - bi w)) bi (upW ms w (updf (ms w) (10 * f + m) (B :: ms w (10 * f + m)))) ct F2 := X2.congr fun j _ => ⟨rfl, rfl, by
    by_cases e : j = w
    · rw [upW_s e, e]
    · rw [upW_n e], fun i => List.Perm.refl _⟩
  have st3 : Sgr 190 F1 hA F2 (hB'.put (pa w) [.ref sn2, .int (i32 w), .ref tm2, .int (pu w - bi w), .int (bi w)]) := ⟨(st23.1.mono (by omega) fun _ h9 => h9).mono (Nat.le_refl _) subk, fun x hx => by
    rcases s2 x hx with h9 | h9
    · exact Or.inl h9
    · rcases f2 x h9 with h8 | h8
      · exact Or.inl (subk x h8)
      · exact Or.inr h8⟩
  have stAll := st1.trans hw st3
  have g1C : (hB'.put (pa w) [.ref sn2, .int (i32 w), .ref tm2, .int (pu w - bi w), .int (bi w)]).1 a = some (1, true, gCell al hm ll ac ns) := st23.1.2.2.2.2 _ _ g1A (show KX 1 from by decide) nka
  generalize hB'.put (pa w) [.ref sn2, .int (i32 w), .ref tm2, .int (pu w - bi w), .int (bi w)] = C at X2' st3 stAll g1C ⊢
  obtain ⟨Fk4, P4, -⟩ := X2'.pl hwn
  obtain ⟨sn4, tm4, pc4, -⟩ := P4.cell
  refine gI_of g1C (by simp) rfl (gI_of pc4 (by simp) rfl (X2'.wN (j := 7) g1C rfl rfl (by omega) fun hD XD cD gD eD => gR_of gD (by simp) rfl rfl (dR_of (XD.rA (j := 0) gD (by omega) (XD.wA (j := 0) gD (by omega) fun hE2 XE cE gE eE => gR_of gE (by simp) rfl rfl (dR_of (XE.rA (j := 1) gE (by omega) ?_)))))))
  obtain ⟨Fk5, P5, -⟩ := XE.pl hwn
  obtain ⟨sn5, tm5, pc5, -⟩ := P5.cell
  refine gI_of pc5 (by simp) rfl (XE.wA (j := 1) gE (by omega) fun hZ XZ cZ gZ eZ => ?_)
  obtain ⟨Fk6, P6, -⟩ := XZ.pl hwn
  obtain ⟨sn6, tm6, pc6, -⟩ := P6.cell
  refine gI_of pc6 (by simp) rfl (cI_mk (HK hZ F2 XZ ?_))
  have cT := cD.same (cE.same cZ)
  exact ⟨(stAll.1.trans cT (F := F) fun x y e9 h9 => by
    rcases stAll.2 x h9 with h8 | h8
    · exact h8
    · have := hw _ _ e9; omega).mono (by omega) fun _ h9 => h9, stAll.2⟩
end
