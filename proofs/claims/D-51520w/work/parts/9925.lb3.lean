/-! players copied; what was paid for one of several, in order -/
set_option maxRecDepth 100000
section
variable {G : GL} {d : Nat} {h : AH} {p : Nat} {bs : List Int32} {num purse bid : Int32} {ms : Nat → List Nat} {F : Nat → Prop} {Qx : Nat → AH → Prop} {K : Value → AH → Prop}
theorem s_plPut {sn tm k al : Nat} {l : List Nat} {Fl : Nat → Prop} {kv : Value} (hp : PlS h p bs num purse bid ms F) (g1 : h.1 p = some (2, true, [.ref sn, .int num, .ref tm, .int purse, .int bid])) (hk : k < 100) (hms : ms k = []) (hl : l ≠ []) (ha : Alk h al l Fl) (hd : ∀ x, Fl x → ¬ F x) (hkv : EI h kv k) (hroom : 10 ≤ h.2.2) (HK : ∀ h' F', PlS h' p bs num purse bid (updf ms k l) F' → Chg 10 F h h' → (∀ x, F' x → F x ∨ Fl x ∨ h.2.1 ≤ x) → K .null h') : MF G (d + 7) mi_TreeMap_put 0 [.ref tm, kv, .ref al] [] h (cR K Qx) := by
  have hp0 := hp
  obtain ⟨sn', tm', mv, Fm, Fa, h1, h2, h3, h4, h5, h6, h7, h8, h9⟩ := hp
  rw [g1] at h1
  cases h1
  refine MF.wfh fun hw => ?_
  have hlow := hp0.low hw
  have hFp : F p := (h9 p).mpr (Or.inl rfl)
  have hFm : ∀ x, Fm x → F x := fun x hx => (h9 x).mpr (Or.inr (Or.inl hx))
  have hFa : ∀ k x, Fa k x → F x := fun k x hx => (h9 x).mpr (Or.inr (Or.inr ⟨k, hx⟩))
  have hmv : mv k = none := h5 k hms fun h9 => h9
  have hal := ha.low hw
  refine s_pmPut (d := d) h3 hkv hk hmv hroom fun hB Fm' cB mB gB => ?_
  have cF : Chg 10 F h hB := cB.mono (Nat.le_refl _) hFm
  have hpl := hlow p hFp
  have fm : ∀ x, Fm' x → (Fm x ∧ F x) ∨ h.2.1 ≤ x := fun x hx => by
    rcases gB x hx with h9' | h9'
    · exact Or.inl ⟨h9', hFm x h9'⟩
    · exact Or.inr h9'
  refine HK hB (fun x => x = p ∨ Fm' x ∨ ∃ j, updF Fa k Fl j x) ⟨sn, tm, updM mv k (some al), Fm', updF Fa k Fl, cB.2.2.2.2 _ _ g1 (show KX 2 from by decide) h6, h2.chg cB, mB, fun j => ?_, fun j hj he => ?_, fun h9' => ?_, fun j x hx => ?_, fun j i x hx hx2 => ?_, fun x => Iff.rfl⟩ cF fun x hx => ?_
  · by_cases ej : j = k
    · subst ej
      rw [updM_s rfl, updf_s, updF_s rfl]
      exact ha.chg cB fun x hx h9' => hd x hx (hFm x h9')
    · rw [updM_n ej, updf_n ej, updF_n ej]
      exact (h4 j).chg cB fun x hx h9' => (h7 j x hx).2 h9'
  · by_cases ej : j = k
    · subst ej
      rw [updf_s] at hj
      exact absurd hj hl
    · rw [updf_n ej] at hj
      rw [updM_n ej]
      exact h5 j hj he
  · rcases fm p h9' with ⟨e1, -⟩ | e1
    · exact h6 e1
    · omega
  · by_cases ej : j = k
    · rw [updF_s ej] at hx
      refine ⟨fun e9 => hd x hx (by rw [e9]; exact hFp), fun h9' => ?_⟩
      rcases fm x h9' with ⟨-, e1⟩ | e1
      · exact hd x hx e1
      · have := hal x hx; omega
    · rw [updF_n ej] at hx
      obtain ⟨e1, e2⟩ := h7 j x hx
      refine ⟨e1, fun h9' => ?_⟩
      have := hlow x (hFa j x hx)
      rcases fm x h9' with ⟨e3, -⟩ | e3
      · exact e2 e3
      · omega
  · by_cases ej : j = k
    · rw [updF_s ej] at hx
      by_cases ei : i = k
      · rw [ej, ei]
      · rw [updF_n ei] at hx2
        exact absurd (hFa i x hx2) (hd x hx)
    · rw [updF_n ej] at hx
      by_cases ei : i = k
      · rw [updF_s ei] at hx2
        exact absurd (hFa j x hx) (hd x hx2)
      · rw [updF_n ei] at hx2
        exact h8 j i x hx hx2
  · rcases hx with h9' | h9' | ⟨j, h9'⟩
    · exact Or.inl (by rw [h9']; exact hFp)
    · rcases fm x h9' with ⟨-, e1⟩ | e1
      · exact Or.inl e1
      · exact Or.inr (Or.inr e1)
    · by_cases ej : j = k
      · rw [updF_s ej] at h9'
        exact Or.inr (Or.inl h9')
      · rw [updF_n ej] at h9'
        exact Or.inl (hFa j x h9')
theorem le_sum_mem : ∀ {l : List Nat} {a : Nat}, a ∈ l → a ≤ l.sum
  | [], _, h => (List.not_mem_nil h).elim
  | b :: l, a, h => by
    rw [List.sum_cons]
    rcases List.mem_cons.mp h with rfl | h
    · omega
    · have := le_sum_mem h; omega
theorem sum_take_le (l : List Nat) : ∀ i, (l.take i).sum ≤ l.sum := by
  intro i
  have := List.take_append_drop i l
  have h2 : ((l.take i) ++ (l.drop i)).sum = l.sum := by rw [this]
  rw [List.sum_append] at h2
  omega
/-- a copy -/
theorem s_plCopy (hI : ICache G h) (hp : PlS h p bs num purse bid ms F) (htot : totF (fun k => (ms k).length) 100 ≤ 61) (hroom : 22000 ≤ h.2.2) (HK : ∀ h' p' F', PlS h' p' bs num purse bid ms F' → (∀ x, F' x → h.2.1 ≤ x) → Chg (40 + 200 * totF (fun k => (ms k).length) 100) F0s h h' → K (.ref p') h') : MF G (d + 11) mi_Player_copy 0 [.ref p, .retAddr 0, .retAddr 0, .retAddr 0, .retAddr 0] [] h (cR K Qx) := by
  have hp0 := hp
  obtain ⟨sn, tm, mv, Fm, Fa, h1, h2, h3, h4, h5, h6, h7, h8, h9⟩ := hp
  refine MF.wfh fun hw => b_Player_copy_0 ⟨_, _, rfl, rfl, by omega, ?_⟩
  have c0 := Chg.new (kd := 2) (fs := [.null, .int 0, .null, .int 0, .int 0]) (cost := 9) hw (by omega)
  have n1 : (h.new 2 [.null, .int 0, .null, .int 0, .int 0] 9).1 p = some (2, true, [.ref sn, .int num, .ref tm, .int purse, .int bid]) := c0.2.2.2.2 _ _ h1 (show KX 2 from by decide) fun h9 => h9
  have hroom1 : (h.new 2 [.null, .int 0, .null, .int 0, .int 0] 9).2.2 = h.2.2 - 9 := rfl
  refine gR_of n1 (by simp) rfl rfl (gI_of n1 (by simp) rfl (gI_of n1 (by simp) rfl (s_plInit (d := d + 7) AH.new_self (h2.chg c0) (by omega) fun hA FA pA cA fA => ?_)))
  have fr : ∀ {c c' : Nat} {F' : Nat → Prop} {h1 h2 : AH}, Chg c F0s h h1 → Chg c' F' h1 h2 → (∀ x, F' x → h.2.1 ≤ x) → Chg (c + c') F0s h h2 := fun a b hf => a.trans b fun x y e h9 => by have := hw _ _ e; have := hf x h9; omega
  have cA' := fr c0 cA fun x h9 => by omega
  have hfA : ∀ x, FA x → h.2.1 ≤ x := fun x hx => by
    rcases fA x hx with h9' | h9'
    · omega
    · have : h.2.1 + 1 ≤ x := h9'
      omega
  obtain ⟨sn2, tm2, b1, b2, b3⟩ := pA.cell
  obtain ⟨pB, cB⟩ := b3 purse bid
  have aA : hA.1 p = some (2, true, [.ref sn, .int num, .ref tm, .int purse, .int bid]) := cA'.2.2.2.2 _ _ h1 (show KX 2 from by decide) fun h9 => h9
  refine gI_of aA (by simp) rfl (pF_of b1 (by simp) (by simp) ?_)
  have cB' := fr cA' cB hfA
  generalize hX : hA.put h.2.1 [.ref sn2, .int num, .ref tm2, .int purse, .int bid] = X at pB cB cB'
  have hX' : hA.put h.2.1 ([.ref sn2, .int num, .ref tm2, .int purse, .int 0].set 4 (.int bid)) = X := hX
  rw [hX']
  have aB := cB'.2.2.2.2 _ _ h1 (show KX 2 from by decide) fun h9 => h9
  have mB : PM X tm mv Fm := h3.chg cB' fun _ _ h9 => h9
  refine gR_of aB (by simp) rfl rfl (dR_of ⟨mB.has (by simp), MF.wfh fun hwX => s_pmKeys (d := d + 5) mB (by have := cB'.2.1; omega) fun q hC cC mC qC => dR_of (s_kiNew (d := d + 6) qC mC (by have := cB'.2.1; have := cC.2.1; omega) fun it hD kD cD itD => ?_)⟩)
  have cC' := fr (fr cB' cC fun _ h9 => h9.elim) cD fun _ h9 => h9.elim
  have pD := (pB.chg cC fun _ _ h9 => h9).chg cD fun _ _ h9 => h9
  -- the loop
  have hks := ksM_sorted (mv := mv)
  have hsum : ((ksM mv).map fun k => (ms k).length).sum = totF (fun k => (ms k).length) 100 := sum_flt mv _ (fun k hk => by have := h4 k; rw [hk] at this; rw [this.1]; rfl) 100
  have hLs : ∀ k, k ∈ ksM mv → ms k ≠ [] := fun k hk e9 => by
    obtain ⟨-, a, ha⟩ := ksM_mem.mp hk
    rw [h5 k e9 fun h9 => h9] at ha; cases ha
  have hnk : ∀ k, k ∉ ksM mv → ms k = [] := fun k hk => by
    have h4k := h4 k
    cases hmv : mv k with
    | none => rw [hmv] at h4k; exact h4k.1
    | some a =>
      obtain ⟨Nd, f, E, C, root, sz, mo, g, -, -, -, g4, -⟩ := id h3
      obtain ⟨x, x1, x2, x3⟩ := g4.2 k a hmv
      obtain ⟨k', a', y1, y2, -⟩ := g4.1 x x1
      exact absurd (ksM_mem.mpr ⟨by omega, a, hmv⟩) hk
  have loop : ∀ r i hh F' u3 u4, r + i = (ksM mv).length → PlS hh h.2.1 bs num purse bid (fun k => if k ∈ (ksM mv).take i then ms k else []) F' → (∀ x, F' x → h.2.1 ≤ x) → KIt hh tm mv Fm it i → ¬ F' it → Chg (35 + 198 * (((ksM mv).map fun k => (ms k).length).take i).sum) F0s h hh → MF G (d + 11) mi_Player_copy 41 [.ref p, .ref h.2.1, .ref it, u3, u4] [] hh (cR K Qx) := by
    intro r
    induction r with
    | zero =>
      intro i hh F' u3 u4 hi hpl hfr hit hnit hc
      have hi2 : i = (ksM mv).length := by omega
      subst hi2
      refine b_Player_copy_41 rfl rfl (dR_of (s_kiHas hit (Nat.le_refl _) ⟨fun _ => cR_mk rfl (HK hh h.2.1 F' ?_ hfr (hc.mono ?_ fun _ h9 => h9)), fun hn => absurd (by rw [decide_eq_false (Nat.lt_irrefl _)]; rfl) hn⟩))
      · rw [List.take_length] at hpl
        refine hpl.perm fun k => ?_
        by_cases hk : k ∈ ksM mv
        · rw [if_pos hk]
        · rw [if_neg hk, hnk k hk]
      · rw [List.take_of_length_le (by rw [List.length_map]; exact Nat.le_refl _), hsum]; omega
    | succ r ih =>
      intro i hh F' u3 u4 hi hpl hfr hit hnit hc
      have hil : i < (ksM mv).length := by omega
      have hst := sum_take_le ((ksM mv).map fun k => (ms k).length) i
      rw [hsum] at hst
      refine b_Player_copy_41 rfl rfl (dR_of (s_kiHas hit (by omega) ⟨fun hz => absurd hz (by rw [decide_eq_true hil]; decide), fun _ => s_kiNext (d := d + 8) hit hil fun h1' v k k1 k2 k3 k4 k5 => ?_⟩))
      have itge : h.2.1 ≤ it := by
        have := cC'.1
        have e9 : hC.2.1 ≤ it := itD
        have := cC.1
        have := cB'.1
        omega
      have c1 := fr hc k4 fun x h9 => by rw [h9]; exact itge
      obtain ⟨nk, hnk1, hnk2, hnk3⟩ := id k2
      have hkk : nk = k := by omega
      subst hkk
      obtain ⟨rv, rfl, ev⟩ := hnk3
      have a1 := c1.2.2.2.2 _ _ h1 (show KX 2 from by decide) fun h9 => h9
      have m1 : PM h1' tm mv Fm := h3.chg c1 fun _ _ h9 => h9
      have p1 := hpl.chg k4 fun x hx h9 => hnit (by rw [← h9]; exact hx)
      obtain ⟨sn3, tm3, d1, d2, d3⟩ := p1.cell
      have hkm : nk ∈ ksM mv := List.mem_of_getElem? k1
      obtain ⟨hk100, a, hmv⟩ := ksM_mem.mp hkm
      have h4k := h4 nk
      rw [hmv] at h4k
      have ha : Alk h a (ms nk) (Fa nk) := h4k
      have ha1 : Alk h1' a (ms nk) (Fa nk) := ha.chg c1 fun _ _ h9 => h9
      obtain ⟨q5, arr5, es5, e1, -⟩ := id ha1
      have hlen61 : (ms nk).length ≤ 61 := by
        have hm : (ms nk).length ∈ (ksM mv).map fun k => (ms k).length := List.mem_map.mpr ⟨nk, hkm, rfl⟩
        have := le_sum_mem hm
        omega
      refine ⟨fun q e9 => (by cases e9; exact ⟨13, false, _, ev, ck_13⟩), dR_of (gR_of d1 (by simp) rfl rfl (gR_of a1 (by simp) rfl rfl (dR_of ⟨m1.has (by simp), s_pmGet (d := d + 5) m1 k2 ?_⟩)))⟩
      rw [hmv]
      refine ⟨fun q e9 => (by cases e9; exact ⟨4, true, _, e1, ck_4⟩), dR_of ⟨hasKs_of e1 (by simp), MF.wfh fun hw1 => MF.up (d := 10) (d' := d + 10) (by omega) (s_alkCopy (hI.chg c1) ha1 hlen61 (by have := c1.2.1; omega) fun h2' al' F2 g1 g2 g3 => dR_of ?_)⟩⟩
      have c2 := fr c1 g3 fun _ h9 => h9.elim
      have p2 := p1.chg g3 fun _ _ h9 => h9
      have d1' : h2'.1 h.2.1 = some (2, true, [.ref sn3, .int num, .ref tm3, .int purse, .int bid]) := g3.2.2.2.2 _ _ d1 (show KX 2 from by decide) fun h9 => h9
      have hF1 := p1.low hw1
      have hmsn : (fun k => if k ∈ (ksM mv).take i then ms k else []) nk = [] := by
        refine if_neg fun hmem => ?_
        obtain ⟨j, hj⟩ := List.mem_iff_getElem?.mp hmem
        have hjl := (List.getElem?_eq_some_iff.mp hj).1
        rw [List.length_take] at hjl
        rw [List.getElem?_take_of_lt (by omega)] at hj
        obtain ⟨z1, z2⟩ := List.getElem?_eq_some_iff.mp hj
        obtain ⟨z3, z4⟩ := List.getElem?_eq_some_iff.mp k1
        have := List.pairwise_iff_getElem.mp hks j i z1 z3 (by omega)
        omega
      have hm2 : hasKs h2' tm3 [23] := by
        obtain ⟨sn4, tm4, mv4, Fm4, Fa4, y1, y2, y3, -⟩ := id p2
        rw [d1'] at y1
        cases y1
        exact y3.has (by simp)
      refine ⟨hm2, MF.wfh fun hw2 => s_plPut (d := d + 3) p2 d1' hk100 hmsn (hLs nk hkm) g1 (fun x hx h9 => by have := g2 x hx; have := hF1 x h9; omega) (k2.chg g3) (by have := c2.2.1; omega) fun h3' F3 w1 w2 w3 => ⟨fun q e9 => (by cases e9), ?_⟩⟩
      have c3 := fr c2 w2 hfr
      have itlt : it < h1'.2.1 := by
        obtain ⟨Nd, f, E, C, root, sz, mo, g, v, lr, g1', g2', g3', g4', g5', g6', g7', -⟩ := id k3
        exact hw1 _ _ g7'
      refine ih (i + 1) h3' F3 _ _ (by omega) (w1.perm fun k => ?_) (fun x hx => ?_) ((k3.chg g3 (fun _ _ h9 => h9) (fun h9 => h9)).chg w2 (fun x hx h9 => ?_) hnit) (fun h9 => ?_) (c3.mono ?_ fun _ h9 => h9)
      · by_cases ek : k = nk
        · subst ek
          rw [updf_s, if_pos]
          obtain ⟨z3, z4⟩ := List.getElem?_eq_some_iff.mp k1
          rw [List.take_succ_eq_append_getElem z3, z4]
          simp
        · rw [updf_n ek]
          obtain ⟨z3, z4⟩ := List.getElem?_eq_some_iff.mp k1
          have : k ∈ (ksM mv).take (i + 1) ↔ k ∈ (ksM mv).take i := by
            rw [List.take_succ_eq_append_getElem z3, z4]
            simp [ek]
          simp only [this]
          exact List.Perm.refl _
      · rcases w3 x hx with h9' | h9' | h9'
        · exact hfr x h9'
        · have := g2 x h9'; have := c1.1; omega
        · have := c2.1; omega
      · have := hfr x h9
        have := h3.low hw x hx
        omega
      · rcases w3 it h9 with h9' | h9' | h9'
        · exact hnit h9'
        · have := g2 it h9'; omega
        · have := g3.1; omega
      · have z : ((ksM mv).map fun k => (ms k).length)[i]? = some (ms nk).length := by rw [List.getElem?_map, k1]; rfl
        obtain ⟨z1, z2⟩ := List.getElem?_eq_some_iff.mp z
        rw [List.take_succ_eq_append_getElem z1, List.sum_append, z2]
        have hne : 1 ≤ (ms nk).length := by
          cases hq : ms nk with
          | nil => exact absurd hq (hLs nk hkm)
          | cons x t => simp
        simp only [List.sum_cons, List.sum_nil]
        omega
  refine loop (ksM mv).length 0 hD FA _ _ rfl (pD.perm fun k => by simp) hfA kD (fun h9 => ?_) (cC'.mono (by simp) fun _ h9 => h9)
  have e9 : hC.2.1 ≤ it := itD
  have := pB.low hwX it h9
  have := cC.1
  omega
end
