/-! who wins: walk -/
set_option maxRecDepth 100000
def rkB (b m z : Nat) : Int := ((-(b : Int)) * 1000 + m) * 10 + z
def bhv (n st k : Nat) : Nat := (k + n - st) % n
/-- players below base -/
def PLs (G : GL) (pa : Nat → Nat) (n : Nat) (nb : Nat → List Int32) (pu bi : Nat → Int32) (ms : Nat → Nat → List Nat) (base : Nat) (h : AH) : Prop := LamC G h 0 ∧ ∀ k, k < n → ∃ Fk : Nat → Prop, PlS h (pa k) (nb k) (i32 k) (pu k) (bi k) (ms k) Fk ∧ ∀ x, Fk x → x < base
theorem PLs.chg {G : GL} {pa : Nat → Nat} {n : Nat} {nb : Nat → List Int32} {pu bi : Nat → Int32} {ms : Nat → Nat → List Nat} {base : Nat} {h h' : AH} {c : Nat} {F : Nat → Prop} (hp : PLs G pa n nb pu bi ms base h) (hc : Chg c F h h') (hF : ∀ x, F x → base ≤ x) : PLs G pa n nb pu bi ms base h' :=
  ⟨hp.1.chg hc, fun k hk => by
    obtain ⟨Fk, h1, h2⟩ := hp.2 k hk
    exact ⟨Fk, h1.chg hc (fun x hx h9 => by have := h2 x hx; have := hF x h9; omega), h2⟩⟩
/-- a bidder -/
def EhB (G : GL) (pa : Nat → Nat) (n : Nat) (nb : Nat → List Int32) (pu bi : Nat → Int32) (ms : Nat → Nat → List Nat) (base : Nat) (bf mny bh : Nat → Nat) (h : AH) (v : Value) (r : Int) : Prop := PLs G pa n nb pu bi ms base h ∧ ∃ q k : Nat, v = .ref q ∧ k < n ∧ h.1 q = some (5, false, [.ref (pa k), .int (i32 (bf k)), .int (i32 (bh k))]) ∧ r = rkB (bf k) (mny k) (bh k)
section
variable {G : GL} {d : Nat} {pa : Nat → Nat} {n : Nat} {nb : Nat → List Int32} {pu bi : Nat → Int32} {ms : Nat → Nat → List Nat} {base : Nat} {bf mny bh : Nat → Nat}
theorem cmpB (hb : ∀ k, k < n → bf k ≤ 10000 ∧ bh k ≤ 9 ∧ mny k ≤ 900) (hm : ∀ k, k < n → mny k = totF (fun j => (ms k j).length) 100) : CmpS G (d + 8) 40 (fun x => base ≤ x) (EhB G pa n nb pu bi ms base bf mny bh) := by
  refine ⟨fun h h' c v r hi hc => ?_, fun h v r hi => ?_, fun h q u n1 n2 K Qx h1 h2 hroom HK => ?_⟩
  · obtain ⟨p1, q, k, e1, e2, e3, e4⟩ := hi
    exact ⟨p1.chg hc fun _ h9 => h9, q, k, e1, e2, hc.2.2.1 _ _ _ e3, e4⟩
  · obtain ⟨p1, q, k, e1, e2, e3, e4⟩ := hi
    exact ⟨q, 5, false, _, e1, e3, Or.inl rfl⟩
  · obtain ⟨p1, q1, k1, e1, e2, e3, e4⟩ := h1
    cases e1
    obtain ⟨-, q2, k2, rfl, f2, f3, f4⟩ := h2
    obtain ⟨b1, b2, b3⟩ := hb k1 e2
    obtain ⟨g1, g2, g3⟩ := hb k2 f2
    refine ⟨5, mi_Bidder_compareTo, ⟨_, _, e3⟩, rfl, ?_⟩
    show MF G (d + 8) mi_Bidder_compareTo 0 [.ref q, .ref q2] [] h (cI K Qx)
    refine b_Bidder_compareTo_0 rfl ⟨fun q9 h9 => (by cases h9; exact ⟨5, false, _, f3, ck_5⟩), hasKs_of e3 (by simp), b_Bidder_compareTo_2_0 rfl (gI_of e3 (by simp) rfl (dR_of (gI_of f3 (by simp) rfl ⟨fun heq => ?_, fun hne => ?_⟩)))⟩
    · have heq' : bf k1 = bf k2 := (i32_eq (by omega) (by omega)).mp heq
      obtain ⟨F1, P1, -⟩ := p1.2 k1 e2
      refine gR_of e3 (by simp) rfl rfl (dR_of ⟨P1.has, s_plMany (d := d) p1.1 P1 (by omega) fun hA cA => ?_⟩)
      have p1A := p1.chg cA fun _ h9 => h9.elim
      have f3A := cA.2.2.1 _ _ _ f3
      have e3A := cA.2.2.1 _ _ _ e3
      obtain ⟨F2, P2, -⟩ := p1A.2 k2 f2
      refine gR_of f3A (by simp) rfl rfl (dR_of ⟨P2.has, s_plMany (d := d) p1A.1 P2 (by have := cA.2.1; omega) fun hB cB => ?_⟩)
      rw [← hm k1 e2, ← hm k2 f2]
      have f3B := cB.2.2.1 _ _ _ f3A
      have e3B := cB.2.2.1 _ _ _ e3A
      have cAB := (cA.same cB).mono (c' := 40) (by omega) fun _ h9 => h9
      refine s_icmp (by omega) (by omega) fun r r1 r2 r3 => ⟨fun hz => gI_of e3B (by simp) rfl (gI_of f3B (by simp) rfl (s_icmp (by omega) (by omega) fun r' s1 s2 s3 => cI_mk (cI_mk (HK hB r' cAB ?_ ?_)))), fun hnz => cI_mk (cI_mk (HK hB r cAB ?_ ?_))⟩
      · have := r3.mp hz
        rw [s1, e4, f4]; unfold rkB; omega
      · have := r3.mp hz
        rw [s2, e4, f4]; unfold rkB; omega
      · have : ¬ mny k1 = mny k2 := fun h9 => hnz (r3.mpr h9)
        rw [r1, e4, f4]; unfold rkB; omega
      · have : ¬ mny k1 = mny k2 := fun h9 => hnz (r3.mpr h9)
        rw [r2, e4, f4]; unfold rkB; omega
    · have hne' : ¬ bf k1 = bf k2 := fun h9 => hne (by rw [h9])
      refine gI_of f3 (by simp) rfl (gI_of e3 (by simp) rfl (s_icmp (by omega) (by omega) fun r r1 r2 r3 => cI_mk (cI_mk (HK h r (Chg.refl.mono (Nat.zero_le _) fun _ h9 => h9) ?_ ?_))))
      · rw [r1, e4, f4]; unfold rkB; omega
      · rw [r2, e4, f4]; unfold rkB; omega
end
/-- who wins: nobody, or the least -/
def WinR (n : Nat) (bf mny : Nat → Nat) (st c : Nat) (r : Int32) : Prop := (c = 0 ∧ r = -1) ∨ (c ≠ 0 ∧ (∀ k, k < n → bf k = 0) ∧ r = -1) ∨ (c ≠ 0 ∧ ∃ w, w < n ∧ bf w ≠ 0 ∧ r = i32 w ∧ ∀ j, j < n → bf j ≠ 0 → rkB (bf w) (mny w) (bhv n st w) ≤ rkB (bf j) (mny j) (bhv n st j))
section
variable {G : GL} {d : Nat} {h : AH} {a : Nat} {pa : Nat → Nat} {ns : Nat → Int32} {n : Nat} {nb : Nat → List Int32} {pu bi : Nat → Int32} {ms : Nat → Nat → List Nat} {ct : List CS} {F : Nat → Prop} {Qx : Nat → AH → Prop}
theorem GmX.list (hX : GmX G h a pa ns n nb pu bi ms ct F) : ∃ (al hm ll ac : Nat) (Fl : Nat → Prop), h.1 a = some (1, true, gCell al hm ll ac ns) ∧ ALh G h al 5 ((List.range n).map fun k => Value.ref (pa k)) Fl ∧ ∀ x, Fl x → F x := by
  obtain ⟨al, hm, ll, ac, es, Fam, h1, h2⟩ := hX
  exact ⟨al, hm, ll, ac, Fam 1, h1.1, h1.2.2.2.1, fun x hx => (h2 x).mpr ⟨1, hx⟩⟩
theorem s_gmSize {al hm ll ac : Nat} {K : Int32 → AH → Prop} (hX : GmX G h a pa ns n nb pu bi ms ct F) (hc : h.1 a = some (1, true, gCell al hm ll ac ns)) (HK : K (i32 n) h) : vL G d h al dsp_List_size [.ref al] (cI K Qx) := by
  obtain ⟨al', hm', ll', ac', Fl, h1, h2, -⟩ := hX.list
  rw [hc] at h1
  have e1 : al = al' := by
    unfold gCell at h1
    simp only [Option.some.injEq, Prod.mk.injEq, List.cons.injEq, Value.ref.injEq] at h1
    exact h1.2.2.1
  subst e1
  exact ⟨16, mi_ArrayList_size, h2.hk, rfl, s_alSize h2 (by simpa using HK)⟩
/-- a bidder made -/
theorem s_gmBidder {k st xb : Nat} {K : Value → AH → Prop} (hX : GmX G h a pa ns n nb pu bi ms ct F) (hst : ns 6 = i32 st) (hstn : st < n) (hk : k < n) (hroom : 7 ≤ h.2.2) (HK : ∀ h', h'.1 h.2.1 = some (5, false, [.ref (pa k), .int (i32 xb), .int (i32 (bhv n st k))]) → Chg 7 F0s h h' → K (.ref h.2.1) h') : MF G (d + 5) mi_Game_bidder 0 [.ref a, .int (i32 k), .int (i32 xb)] [] h (cR K Qx) := by
  have hn5 := hX.n5
  refine MF.wfh fun hw => MF.post (b_Game_bidder_0 ⟨_, _, rfl, rfl, hroom, ?_⟩)
  have c0 := Chg.new (kd := 5) (fs := [.null, .int 0, .int 0]) hw hroom
  have hX0 := hX.chg c0 fun _ _ h9 => h9
  obtain ⟨al, hm, ll, ac, g1, g2⟩ := hX0.cell
  have q0 : (h.new 5 [.null, .int 0, .int 0] 7).1 h.2.1 = some (5, true, [.null, .int 0, .int 0]) := AH.new_self
  have q1 := AH.put_self (fs' := [.ref (pa k), .int 0, .int 0]) q0
  have q2 := AH.put_self (fs' := [.ref (pa k), .int (i32 xb), .int 0]) q1
  have q3 := AH.put_self (fs' := [.ref (pa k), .int (i32 xb), .int (i32 (bhv n st k))]) q2
  have p1 := Chg.put (F := fun x => x = h.2.1) (fs' := [.ref (pa k), .int 0, .int 0]) q0 (by decide) rfl
  have p2 := Chg.put (F := fun x => x = h.2.1) (fs' := [.ref (pa k), .int (i32 xb), .int 0]) q1 (by decide) rfl
  have p3 := Chg.put (F := fun x => x = h.2.1) (fs' := [.ref (pa k), .int (i32 xb), .int (i32 (bhv n st k))]) q2 (by decide) rfl
  have p4 := Chg.frz (F := fun x => x = h.2.1) q3 (by decide) rfl
  have call := c0.trans (((p1.same p2).same p3).same p4) (F := F0s) fun x y e9 h9 => by have := hw _ _ e9; omega
  refine ⟨hX0.has, s_gmPlayer (d := d) hX0 hk (gI_of g1 (by simp) rfl (gR_of g1 (by simp) rfl rfl (dR_of (s_gmSize hX0 g1 (gR_of g1 (by simp) rfl rfl (dR_of (s_gmSize hX0 g1 ⟨fun e => ?_, b_Bidder_init_0 rfl ?_⟩)))))))⟩
  · have := (i32_eq (a := n) (b := 0) (by omega) (by omega)).mp e
    omega
  · have e1 : (i32 k - ns 6) + i32 n = i32 (k + n - st) := by
      rw [hst]
      have : i32 k - i32 st + i32 n = i32 (k + n) - i32 st := by
        rw [← i32_add, Int32.sub_eq_add_neg, Int32.sub_eq_add_neg, Int32.add_assoc, Int32.add_assoc, Int32.add_comm (-i32 st)]
      rw [this, i32_sub (by omega)]
    rw [e1, i32_mod (by omega) (by omega) (by omega)]
    exact pF_of q0 (by simp) (by simp) (pF_of q1 (by simp) (by simp) (pF_of q2 (by simp) (by simp) (cV_mk ⟨_, frz_less (q := h.2.1), cR_mk rfl (HK _ (frz_self q3) (call.mono (by omega) fun _ h9 => h9))⟩)))
theorem s_gmWinW {x1 : Int32} {st xb : Nat} {bf : Nat → Nat} {K : Int32 → AH → Prop} (hE : EV G h) (hX : GmX G h a pa ns n nb pu bi ms ct F) (hst : ns 6 = i32 st) (hstn : st < n) (hbf : ∀ k, k < n → (if i32 k = x1 then i32 xb else bi k) = i32 (bf k) ∧ bf k ≤ 10000) (hm : ∀ k, k < n → totF (fun j => (ms k j).length) 100 ≤ 900) (hroom : 6000 ≤ h.2.2) (HK : ∀ h' r, Chg 5000 F0s h h' → WinR n bf (fun k => totF (fun j => (ms k j).length) 100) st ct.length r → K r h') : MF G (d + 15) mi_Game_winnerWith 0 [.ref a, .int x1, .int (i32 xb), .retAddr 0, .retAddr 0, .retAddr 0, .retAddr 0] [] h (cI K Qx) := by
  have hn5 := hX.n5
  refine MF.wfh fun hw => b_Game_winnerWith_0 ⟨_, _, rfl, rfl, by omega, ?_⟩
  have fr : ∀ {c c' : Nat} {F' : Nat → Prop} {h1 h2 : AH}, Chg c F0s h h1 → Chg c' F' h1 h2 → (∀ x, F' x → h.2.1 ≤ x) → Chg (c + c') F0s h h2 := fun a b hf => a.trans b fun x y e h9 => by have := hw _ _ e; have := hf x h9; omega
  have c0 := Chg.new (kd := 16) (fs := [.int 0, .null, .int 0]) (cost := 7) hw (by omega)
  refine s_alInit (d := d + 11) (n := 5) (by omega) (by omega) AH.new_self (by show 9 ≤ h.2.2 - 7; omega) fun hA FA lA cA fA => ?_
  have cA' := fr c0 cA fun x h9 => by omega
  have hfA : ∀ x, FA x → h.2.1 ≤ x := fun x hx => by
    rcases fA x hx with h9 | h9
    · omega
    · have : h.2.1 + 1 ≤ x := h9
      omega
  -- the bidders so far: where they stand, whose they are
  have loop : ∀ r i hh (bl : List (Nat × Nat)) Fl u5 u6, r + i = n → ALh G hh h.2.1 5 (bl.map fun b => Value.ref b.1) Fl → (∀ x, Fl x → h.2.1 ≤ x) → (bl.map fun b => b.2) = (List.range i).filter (fun k => !(bf k == 0)) → (∀ b, b ∈ bl → hh.1 b.1 = some (5, false, [.ref (pa b.2), .int (i32 (bf b.2)), .int (i32 (bhv n st b.2))])) → Chg (16 + 120 * i) F0s h hh → MF G (d + 15) mi_Game_winnerWith 12 [.ref a, .int x1, .int (i32 xb), .ref h.2.1, .int (i32 i), u5, u6] [] hh (cI K Qx) := by
    intro r
    induction r with
    | zero =>
      intro i hh bl Fl u5 u6 hi hal hfl hbl hbc hc
      have hi2 : i = n := by omega
      subst hi2
      have hX1 := hX.chg hc fun _ _ h9 => h9
      obtain ⟨al, hm', ll, ac, Fc, g1, g2, -, -, -, -⟩ := hX1.cart
      refine b_Game_winnerWith_12 rfl (gR_of g1 (by simp) rfl rfl (dR_of (s_gmSize hX1 g1 ⟨fun _ => gR_of g1 (by simp) rfl rfl (dR_of (s_ctEmpty (d := d + 13) g2 ⟨fun hz => ?_, fun hnz => cI_mk ?_⟩)), fun hn => absurd ((i32_le (by omega) (by omega)).mpr (Nat.le_refl _)) hn⟩)))
      · have hct : ¬ ct.length = 0 := of_decide_eq_false (b01_0 hz)
        have hmem : ∀ b, b ∈ bl → b.2 < i ∧ bf b.2 ≠ 0 := fun b hb => by
          have : b.2 ∈ bl.map fun b => b.2 := List.mem_map.mpr ⟨b, hb, rfl⟩
          rw [hbl, List.mem_filter, List.mem_range] at this
          exact ⟨this.1, by simpa using this.2⟩
        have hPL : PLs G pa i nb pu bi ms h.2.1 hh := by
          refine ⟨(hE.lam (by decide)).chg hc, fun k hk => ?_⟩
          obtain ⟨Fk, P1, P2, -⟩ := hX.pl hk
          exact ⟨Fk, P1.chg hc (fun _ _ h9 => h9), fun x hx => hX.low hw x (P2 x hx)⟩
        have hC := cmpB (G := G) (d := d) (pa := pa) (n := i) (nb := nb) (pu := pu) (bi := bi) (ms := ms) (base := h.2.1) (bf := bf) (mny := fun k => totF (fun j => (ms k j).length) 100) (bh := bhv i st) (fun k hk => ⟨(hbf k hk).2, by have : bhv i st k < i := Nat.mod_lt _ (by omega); omega, hm k hk⟩) (fun k hk => rfl)
        refine s_qFirst (d := d + 8) (xs := bl.map fun b => ((Value.ref b.1, rkB (bf b.2) (totF (fun j => (ms b.2 j).length) 100) (bhv i st b.2)) : VI)) hC (by omega) (fun x hx => hx) hc.1 hal (by rw [List.map_map]; rfl) (fun x hx => ?_) ?_ (by have := hc.2.1; omega) fun h' v hv v1 v2 c1 => ?_
        · obtain ⟨b, hb, rfl⟩ := List.mem_map.mp hx
          exact ⟨hPL, b.1, b.2, rfl, (hmem b hb).1, hbc b hb, rfl⟩
        · have : (bl.map fun b => b.2).length ≤ i := by
            rw [hbl]
            exact Nat.le_trans (List.length_filter_le _ _) (by simp)
          rw [List.length_map] at this
          rw [List.length_map]; omega
        · have cT := (hc.same c1).mono (c' := 5000) (by omega) fun _ h9 => h9
          by_cases hb0 : bl = []
          · have := v1 (by rw [hb0]; rfl)
            subst this
            refine ⟨fun q e9 => (by cases e9), fun _ => cI_mk (HK h' _ cT (Or.inr (Or.inl ⟨hct, fun k hk => ?_, rfl⟩))), fun q e9 => (by cases e9)⟩
            rw [hb0] at hbl
            by_cases hz0 : bf k = 0
            · exact hz0
            · have : k ∈ (List.range i).filter (fun k => !(bf k == 0)) := by
                rw [List.mem_filter, List.mem_range]
                exact ⟨hk, by simp [hz0]⟩
              rw [← hbl] at this
              exact absurd this (by simp)
          · obtain ⟨x, hx, rfl, hmin, hEx⟩ := v2 (fun e9 => hb0 (List.map_eq_nil_iff.mp e9))
            obtain ⟨b, hb, rfl⟩ := List.mem_map.mp hx
            obtain ⟨m1, m2⟩ := hmem b hb
            have cb := c1.2.2.1 _ _ _ (hbc b hb)
            obtain ⟨Fk, P1, -⟩ := (hX1.chg c1 fun _ _ h9 => h9).pl m1
            obtain ⟨sn, tm, pc, -⟩ := P1.cell
            refine ⟨fun q e9 => (by cases e9; exact ⟨5, false, _, cb, ck_5⟩), fun e9 => (by cases e9), fun q e9 => ?_⟩
            cases e9
            refine gR_of cb (by simp) rfl rfl (dR_of (gI_of pc (by simp) rfl (cI_mk (HK h' _ cT (Or.inr (Or.inr ⟨hct, b.2, m1, m2, rfl, fun j hj hj0 => ?_⟩))))))
            have : j ∈ bl.map fun b => b.2 := by
              rw [hbl, List.mem_filter, List.mem_range]
              exact ⟨hj, by simp [hj0]⟩
            obtain ⟨b', hb', e8⟩ := List.mem_map.mp this
            subst e8
            exact hmin _ (List.mem_map.mpr ⟨b', hb', rfl⟩)
      · exact HK hh _ (hc.mono (by omega) fun _ h9 => h9) (Or.inl ⟨of_decide_eq_true (b01_1 hnz), rfl⟩)
    | succ r ih =>
      intro i hh bl Fl u5 u6 hi hal hfl hbl hbc hc
      have hin : i < n := by omega
      have hX1 := hX.chg hc fun _ _ h9 => h9
      obtain ⟨al, hm', ll, ac, g1, g2⟩ := hX1.cell
      have hll : bl.length ≤ i := by
        have : (bl.map fun b => b.2).length ≤ i := by
          rw [hbl]
          exact Nat.le_trans (List.length_filter_le _ _) (by simp)
        rw [List.length_map] at this
        exact this
      have go45 : ∀ xs0, xs0 = i32 (bf i) → MF G (d + 15) mi_Game_winnerWith 45 [.ref a, .int x1, .int (i32 xb), .ref h.2.1, .int (i32 i), u5, u6] [.int xs0] hh (cI K Qx) := by
        intro xs0 e0
        subst e0
        have hbi := (hbf i hin).2
        refine b_Game_winnerWith_45 rfl ⟨fun hle => ?_, fun hgt => ⟨hX1.has, s_gmBidder (d := d + 9) hX1 hst hstn hin (by have := hc.2.1; omega) fun h1' q1 c1 => dR_of ?_⟩⟩
        · have hz : bf i = 0 := by
            have := (i32_le (a := bf i) (b := 0) (by omega) (by omega)).mp hle
            omega
          rw [i32_succ]
          refine ih (i + 1) hh bl Fl _ _ (by omega) hal hfl ?_ hbc (hc.mono (by omega) fun _ h9 => h9)
          rw [List.range_succ, List.filter_append, hbl]
          simp [hz]
        · have hz : ¬ bf i = 0 := fun e9 => hgt (by rw [e9]; decide)
          have hal1 := hal.chg c1 fun _ _ h9 => h9
          have cc1 := hc.same c1
          refine ⟨16, mi_ArrayList_add, hal1.hk, rfl, s_alAdd (d := d + 8) hal1 ⟨5, false, _, q1, by decide, ck_5_Object⟩ (by rw [List.length_map]; omega) (fun e9 => by rw [List.length_map] at e9; omega) (by have := cc1.2.1; omega) fun h2' cap' F2 l2 c2 f2 e2 => ?_⟩
          have ecap := e2 (by rw [List.length_map]; omega)
          subst ecap
          have cc2 := fr cc1 c2 hfl
          refine ⟨fun e9 => absurd e9 (by decide), fun _ => ?_⟩
          rw [i32_succ]
          refine ih (i + 1) h2' (bl ++ [(hh.2.1, i)]) F2 _ _ (by omega) (by rw [List.map_append]; exact l2) (fun x hx => ?_) ?_ (fun b hb => ?_) (cc2.mono (by omega) fun _ h9 => h9)
          · rcases f2 x hx with h9 | h9
            · exact hfl x h9
            · have := cc1.1; omega
          · rw [List.map_append, List.range_succ, List.filter_append, hbl]
            simp [hz]
          · rcases List.mem_append.mp hb with hb | hb
            · exact c2.2.2.1 _ _ _ (c1.2.2.1 _ _ _ (hbc b hb))
            · rw [List.mem_singleton] at hb
              subst hb
              exact c2.2.2.1 _ _ _ q1
      have hb1 := (hbf i hin).1
      refine b_Game_winnerWith_12 rfl (gR_of g1 (by simp) rfl rfl (dR_of (s_gmSize hX1 g1 ⟨fun hn => absurd ((i32_le (by omega) (by omega)).mp hn) (by omega), fun _ => ⟨fun hne => ⟨hX1.has, s_gmPlayer (d := d + 10) hX1 hin ?_⟩, fun heq => go45 _ ?_⟩⟩)))
      · obtain ⟨Fk, P1, -⟩ := hX1.pl hin
        obtain ⟨sn, tm, pc, -⟩ := P1.cell
        refine dR_of (gI_of pc (by simp) rfl (go45 _ ?_))
        rw [if_neg hne] at hb1
        exact hb1
      · rw [if_pos heq] at hb1
        exact hb1
  exact loop n 0 hA [] FA _ _ rfl lA hfA rfl (fun b hb => (List.not_mem_nil hb).elim) (cA'.mono (by omega) fun _ h9 => h9)
end
