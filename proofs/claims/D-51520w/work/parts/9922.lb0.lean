/-! players: what they hold; a stone comes, one goes -/
set_option maxRecDepth 100000
section
variable {G : GL} {d : Nat} {h : AH} {Qx : Nat → AH → Prop}
theorem s_valueC {n : Nat} (hn : n < 128) {K : Value → AH → Prop} (hI : ICache G h) (HK : ∀ v, IntO h v (i32 n) → K v h) : MF G (d + 1) mi_Integer_valueOf 0 [.int (i32 n)] [] h (cR K Qx) := by
  have n0 : ¬ i32 n < -128 := by
    rw [Int32.lt_iff_toInt_lt, i32_toInt (by omega)]
    have : (-128 : Int32).toInt = -128 := rfl
    omega
  obtain ⟨h1, qc, vs, h2, h3, h4⟩ := hI
  refine b_Integer_valueOf_0 ⟨fun h9 => absurd h9 n0, fun _ => ⟨127, h1, fun hlt => ?_, fun hge => ⟨by rw [h2]; rfl, qc, h2, ?_⟩⟩⟩
  · have hlt' : 127 < n := (i32_lt (a := 127) (by omega) (by omega)).mp hlt
    omega
  · obtain ⟨v, e, hv⟩ := h4 (n + 128) (by omega)
    have e128 : i32 n + 128 = i32 (n + 128) := i32_add n 128
    have e2 : i32 (n + 128) - 128 = i32 n := by rw [show (128 : Int32) = i32 128 from rfl, i32_sub (by omega)]; congr 1
    rw [e2] at hv
    rw [e128]
    exact aR_of h3 (i32_nn (by omega)) (by rw [i32_nat (by omega)]; exact e) hv.isRef (cR_mk hv.isRef (HK v hv))
end
theorem EI_of {h : AH} {v : Value} {n : Nat} (hn : n < 1000000) (hv : IntO h v (i32 n)) : EI h v (n : Int) := ⟨n, hn, rfl, hv⟩
/-- stones of one key, or none -/
def AkO (h : AH) (o : Option Nat) (l : List Nat) (F : Nat → Prop) : Prop := match o with
  | none => l = [] ∧ ∀ x, ¬ F x
  | some a => Alk h a l F
theorem AkO.chg {h h' : AH} {o : Option Nat} {l : List Nat} {F F' : Nat → Prop} {c : Nat} (hp : AkO h o l F) (hc : Chg c F' h h') (hd : ∀ x, F x → ¬ F' x) : AkO h' o l F := by
  cases o with
  | none => exact hp
  | some a => exact Alk.chg hp hc hd
theorem AkO.low {h : AH} {o : Option Nat} {l : List Nat} {F : Nat → Prop} (hp : AkO h o l F) (hw : WFh h) : ∀ x, F x → x < h.2.1 := by
  cases o with
  | none => exact fun x hx => absurd hx (hp.2 x)
  | some a => exact Alk.low hp hw
theorem AkO.perm {h : AH} {o : Option Nat} {l l' : List Nat} {F : Nat → Prop} (hp : AkO h o l F) (hl : l.Perm l') : AkO h o l' F := by
  cases o with
  | none =>
    obtain ⟨e1, e2⟩ := hp
    subst e1
    exact ⟨List.Perm.nil_eq hl |>.symm, e2⟩
  | some a => exact Alk.perm hp hl
def updf (ms : Nat → List Nat) (k : Nat) (l : List Nat) : Nat → List Nat := fun j => if j = k then l else ms j
theorem updf_s {ms : Nat → List Nat} {k : Nat} {l : List Nat} : updf ms k l k = l := if_pos rfl
theorem updf_n {ms : Nat → List Nat} {k j : Nat} {l : List Nat} (h : ¬ j = k) : updf ms k l j = ms j := if_neg h
def updF (Fa : Nat → Nat → Prop) (k : Nat) (F : Nat → Prop) : Nat → Nat → Prop := fun j => if j = k then F else Fa j
theorem updF_s {Fa : Nat → Nat → Prop} {k j : Nat} {F : Nat → Prop} (h : j = k) : updF Fa k F j = F := if_pos h
theorem updF_n {Fa : Nat → Nat → Prop} {k j : Nat} {F : Nat → Prop} (h : ¬ j = k) : updF Fa k F j = Fa j := if_neg h
/-- a player at p: name, number, purse, bid, what was paid for the stones of each key; keys of e may have been left without stones -/
def PlX (e : Nat → Prop) (h : AH) (p : Nat) (bs : List Int32) (num purse bid : Int32) (ms : Nat → List Nat) (F : Nat → Prop) : Prop := ∃ (sn tm : Nat) (mv : Nat → Option Nat) (Fm : Nat → Prop) (Fa : Nat → Nat → Prop),
  h.1 p = some (2, true, [.ref sn, .int num, .ref tm, .int purse, .int bid]) ∧ StrO h sn bs ∧ PM h tm mv Fm ∧ (∀ k, AkO h (mv k) (ms k) (Fa k)) ∧ (∀ k, ms k = [] → ¬ e k → mv k = none) ∧ ¬ Fm p ∧ (∀ k x, Fa k x → x ≠ p ∧ ¬ Fm x) ∧ (∀ k j x, Fa k x → Fa j x → k = j) ∧ ∀ x, F x ↔ (x = p ∨ Fm x ∨ ∃ k, Fa k x)
def PlS : AH → Nat → List Int32 → Int32 → Int32 → Int32 → (Nat → List Nat) → (Nat → Prop) → Prop := PlX fun _ => False
section
variable {e : Nat → Prop} {h : AH} {p : Nat} {bs : List Int32} {num purse bid : Int32} {ms : Nat → List Nat} {F : Nat → Prop}
theorem PlX.chg {h' : AH} {c : Nat} {F' : Nat → Prop} (hp : PlX e h p bs num purse bid ms F) (hc : Chg c F' h h') (hd : ∀ x, F x → ¬ F' x) : PlX e h' p bs num purse bid ms F := by
  obtain ⟨sn, tm, mv, Fm, Fa, h1, h2, h3, h4, h5, h6, h7, h8, h9⟩ := hp
  exact ⟨sn, tm, mv, Fm, Fa, hc.2.2.2.2 _ _ h1 (show KX 2 from by decide) (hd p ((h9 p).mpr (Or.inl rfl))), h2.chg hc, h3.chg hc (fun x hx => hd x ((h9 x).mpr (Or.inr (Or.inl hx)))), fun k => (h4 k).chg hc fun x hx => hd x ((h9 x).mpr (Or.inr (Or.inr ⟨k, hx⟩))), h5, h6, h7, h8, h9⟩
theorem PlX.low (hp : PlX e h p bs num purse bid ms F) (hw : WFh h) : ∀ x, F x → x < h.2.1 := by
  obtain ⟨sn, tm, mv, Fm, Fa, h1, h2, h3, h4, h5, h6, h7, h8, h9⟩ := hp
  intro x hx
  rcases (h9 x).mp hx with rfl | hx | ⟨k, hx⟩
  · exact hw _ _ h1
  · exact h3.low hw x hx
  · exact (h4 k).low hw x hx
theorem PlX.perm {ms' : Nat → List Nat} (hp : PlX e h p bs num purse bid ms F) (hm : ∀ k, (ms k).Perm (ms' k)) : PlX e h p bs num purse bid ms' F := by
  obtain ⟨sn, tm, mv, Fm, Fa, h1, h2, h3, h4, h5, h6, h7, h8, h9⟩ := hp
  refine ⟨sn, tm, mv, Fm, Fa, h1, h2, h3, fun k => (h4 k).perm (hm k), fun k hk he => h5 k ?_ he, h6, h7, h8, h9⟩
  have := hm k
  rw [hk] at this
  exact List.Perm.eq_nil this
theorem PlX.has (hp : PlX e h p bs num purse bid ms F) : hasKs h p [2] := by
  obtain ⟨sn, tm, mv, Fm, Fa, h1, -⟩ := hp
  exact hasKs_of h1 (by simp)
theorem PlX.isC (hp : PlX e h p bs num purse bid ms F) : isC h p "QuarryCrowns$Player" := by
  obtain ⟨sn, tm, mv, Fm, Fa, h1, -⟩ := hp
  exact ⟨2, _, _, h1, ck_2⟩
theorem PlX.self (hp : PlX e h p bs num purse bid ms F) : F p := by
  obtain ⟨sn, tm, mv, Fm, Fa, h1, h2, h3, h4, h5, h6, h7, h8, h9⟩ := hp
  exact (h9 p).mpr (Or.inl rfl)
theorem PlX.bound (hp : PlX e h p bs num purse bid ms F) : ∀ k m, m ∈ ms k → m < 1000000 := by
  obtain ⟨sn, tm, mv, Fm, Fa, h1, h2, h3, h4, h5, h6, h7, h8, h9⟩ := hp
  intro k m hm
  have := h4 k
  cases hmv : mv k with
  | none => rw [hmv] at this; rw [this.1] at hm; exact (List.not_mem_nil hm).elim
  | some a => rw [hmv] at this; exact Alk.ranks this m hm
/-- purse and bid written -/
theorem PlX.cell (hp : PlX e h p bs num purse bid ms F) : ∃ sn tm : Nat, h.1 p = some (2, true, [.ref sn, .int num, .ref tm, .int purse, .int bid]) ∧ StrO h sn bs ∧ ∀ purse' bid', PlX e (h.put p [.ref sn, .int num, .ref tm, .int purse', .int bid']) p bs num purse' bid' ms F ∧ Chg 0 F h (h.put p [.ref sn, .int num, .ref tm, .int purse', .int bid']) := by
  obtain ⟨sn, tm, mv, Fm, Fa, h1, h2, h3, h4, h5, h6, h7, h8, h9⟩ := hp
  refine ⟨sn, tm, h1, h2, fun purse' bid' => ?_⟩
  have c1 := Chg.put (F := fun x => x = p) (fs' := [.ref sn, .int num, .ref tm, .int purse', .int bid']) h1 (by decide) rfl
  exact ⟨⟨sn, tm, mv, Fm, Fa, AH.put_self h1, h2.chg c1, h3.chg c1 (fun x hx h9' => h6 (by rw [← h9']; exact hx)), fun k => (h4 k).chg c1 fun x hx h9' => (h7 k x hx).1 h9', h5, h6, h7, h8, h9⟩, c1.mono (Nat.le_refl _) fun x hx => by rw [hx]; exact (h9 p).mpr (Or.inl rfl)⟩
end
section
variable {G : GL} {d : Nat} {e : Nat → Prop} {h : AH} {p : Nat} {bs : List Int32} {num purse bid : Int32} {ms : Nat → List Nat} {F : Nat → Prop} {Qx : Nat → AH → Prop}
theorem s_plHas {k : Nat} {K : Int32 → AH → Prop} (hI : ICache G h) (hp : PlX e h p bs num purse bid ms F) (hk : k < 100) (HK : K (i32 (ms k).length) h) : MF G (d + 6) mi_Player_has 0 [.ref p, .int (i32 k), .retAddr 0] [] h (cI K Qx) := by
  obtain ⟨sn, tm, mv, Fm, Fa, h1, h2, h3, h4, h5, h6, h7, h8, h9⟩ := hp
  refine b_Player_has_0 (gR_of h1 (by simp) rfl rfl (s_valueC (by omega) hI fun v hv => dR_of ⟨h3.has (by simp), s_pmGet h3 (EI_of (by omega) hv) ?_⟩))
  have h4k := h4 k
  cases hmv : mv k with
  | none =>
    rw [hmv] at h4k
    refine ⟨fun q e9 => (by cases e9), fun _ => cI_mk ?_, fun q e9 => (by cases e9)⟩
    rw [h4k.1] at HK
    exact HK
  | some a =>
    rw [hmv] at h4k
    have ha : Alk h a (ms k) (Fa k) := h4k
    obtain ⟨q, arr, es, a1, -⟩ := id ha
    refine ⟨fun q e9 => (by cases e9; exact ⟨4, true, _, a1, ck_4⟩), (fun e9 => by cases e9), fun q e9 => ?_⟩
    cases e9
    exact ⟨hasKs_of a1 (by simp), s_alkMany ha (cI_mk HK)⟩
/-- a stone comes -/
theorem s_plComes {k m : Nat} {K : AH → Prop} (hI : ICache G h) (hp : PlS h p bs num purse bid ms F) (hk : k < 100) (hm : m < 1000000) (h61 : (ms k).length ≤ 61) (hroom : 200 ≤ h.2.2) (HK : ∀ h' F', PlS h' p bs num purse bid (updf ms k (m :: ms k)) F' → Chg 190 F h h' → Fgr h F F' → K h') : MF G (d + 10) mi_Player_comes 0 [.ref p, .int (i32 k), .int (i32 m), .retAddr 0, .retAddr 0] [] h (cV K Qx) := by
  have hp0 := hp
  obtain ⟨sn, tm, mv, Fm, Fa, h1, h2, h3, h4, h5, h6, h7, h8, h9⟩ := hp
  refine MF.wfh fun hw => b_Player_comes_0 (gR_of h1 (by simp) rfl rfl (s_valueC (by omega) hI fun v hv => dR_of ⟨h3.has (by simp), s_pmGet h3 (EI_of (by omega) hv) ?_⟩))
  have hlow := hp0.low hw
  have hFp : F p := (h9 p).mpr (Or.inl rfl)
  have hFm : ∀ x, Fm x → F x := fun x hx => (h9 x).mpr (Or.inr (Or.inl hx))
  have hFa : ∀ k x, Fa k x → F x := fun k x hx => (h9 x).mpr (Or.inr (Or.inr ⟨k, hx⟩))
  have h4k := h4 k
  cases hmv : mv k with
  | some a =>
    rw [hmv] at h4k
    have ha : Alk h a (ms k) (Fa k) := h4k
    obtain ⟨q, arr, es, a1, -⟩ := id ha
    refine ⟨fun q e9 => (by cases e9; exact ⟨4, true, _, a1, ck_4⟩), (fun e9 => by cases e9), fun q e9 => ?_⟩
    cases e9
    refine b_Player_comes_44 (d := d + 9) rfl (dR_of ⟨hasKs_of a1 (by simp), MF.up (d := 9) (d' := d + 9) (by omega) (s_alkComes hI ha hm h61 (by omega) fun h' FA' b1 b2 b3 => cV_mk ?_)⟩)
    have c2 := b2.mono (c' := 190) (F' := F) (by omega) (hFa k)
    have hne : ∀ x, FA' x → x ≠ p ∧ ¬ Fm x ∧ ∀ j, ¬ j = k → ¬ Fa j x := fun x hx => by
      rcases b3 x hx with h9' | h9'
      · exact ⟨(h7 k x h9').1, (h7 k x h9').2, fun j hj h8' => hj (h8 j k x h8' h9')⟩
      · exact ⟨fun e9 => by have := hlow p hFp; omega, fun e9 => by have := hlow x (hFm x e9); omega, fun j _ e9 => by have := hlow x (hFa j x e9); omega⟩
    refine HK h' (fun x => x = p ∨ Fm x ∨ ∃ j, updF Fa k FA' j x) ⟨sn, tm, mv, Fm, updF Fa k FA', b2.2.2.2.2 _ _ h1 (show KX 2 from by decide) (fun h9' => (h7 k p h9').1 rfl), h2.chg b2, h3.chg b2 (fun x hx h9' => (h7 k x h9').2 hx), fun j => ?_, fun j hj he => ?_, h6, fun j x hx => ?_, fun j i x hx hx2 => ?_, fun x => Iff.rfl⟩ c2 fun x hx => ?_
    · by_cases ej : j = k
      · subst ej
        rw [hmv, updf_s, updF_s rfl]
        exact b1
      · rw [updf_n ej, updF_n ej]
        exact (h4 j).chg b2 fun x hx h9' => ej (h8 j k x hx h9')
    · by_cases ej : j = k
      · subst ej
        rw [updf_s] at hj; cases hj
      · rw [updf_n ej] at hj
        exact h5 j hj he
    · by_cases ej : j = k
      · rw [updF_s ej] at hx
        exact ⟨(hne x hx).1, (hne x hx).2.1⟩
      · rw [updF_n ej] at hx
        exact h7 j x hx
    · by_cases ej : j = k
      · rw [updF_s ej] at hx
        by_cases ei : i = k
        · rw [ej, ei]
        · rw [updF_n ei] at hx2
          exact absurd hx2 ((hne x hx).2.2 i ei)
      · rw [updF_n ej] at hx
        by_cases ei : i = k
        · rw [updF_s ei] at hx2
          exact absurd hx ((hne x hx2).2.2 j ej)
        · rw [updF_n ei] at hx2
          exact h8 j i x hx hx2
    · rcases hx with h9' | h9' | ⟨j, h9'⟩
      · exact Or.inl (by rw [h9']; exact hFp)
      · exact Or.inl (hFm x h9')
      · by_cases ej : j = k
        · rw [updF_s ej] at h9'
          rcases b3 x h9' with h8' | h8'
          · exact Or.inl (hFa k x h8')
          · exact Or.inr h8'
        · rw [updF_n ej] at h9'
          exact Or.inl (hFa j x h9')
  | none =>
    rw [hmv] at h4k
    refine ⟨fun q e9 => (by cases e9), fun _ => ⟨_, _, rfl, rfl, by omega, ?_⟩, fun q e9 => (by cases e9)⟩
    have c1 := Chg.new (kd := 4) (fs := [.null]) (cost := 5) hw (by omega)
    refine (s_alkInit (K := fun h2 => _) AH.new_self (by show 23 ≤ h.2.2 - 5; omega) fun hA FA hpA cA fA => ?_).up (by omega)
    have c2 := c1.trans cA (F := F0s) fun x y e h9 => by have := hw _ _ e; omega
    have hfA : ∀ x, FA x → h.2.1 ≤ x := fun x hx => by
      rcases fA x hx with h9' | h9'
      · omega
      · have : h.2.1 + 1 ≤ x := h9'
        omega
    have nF0 : ∀ x, F x → ¬ F0s x := fun _ _ h9 => h9
    have p1 := hp0.chg c2 fun _ _ h9 => h9
    have a1 : hA.1 p = some (2, true, [.ref sn, .int num, .ref tm, .int purse, .int bid]) := c2.2.2.2.2 _ _ h1 (show KX 2 from by decide) fun h9 => h9
    have m1 : PM hA tm mv Fm := h3.chg c2 fun _ _ h9 => h9
    have hIA := hI.chg c2
    refine gR_of a1 (by simp) rfl rfl (s_valueC (by omega) hIA fun v2 hv2 => dR_of ⟨m1.has (by simp), MF.wfh fun hwA => (s_pmPut (d := d + 2) m1 (EI_of (by omega) hv2) hk hmv (by have := c2.2.1; omega) fun hB Fm' cB mB gB => ⟨fun q e9 => (by cases e9), ?_⟩)⟩)
    have hAlow := hpA.low hwA
    have dis1 : ∀ x, FA x → ¬ Fm x := fun x hx h9' => by have := hfA x hx; have := hlow x (hFm x h9'); omega
    have hpB : Alk hB h.2.1 [] FA := hpA.chg cB dis1
    obtain ⟨q5, arr5, es5, b1, -⟩ := id hpB
    refine b_Player_comes_44 (d := d + 9) rfl (dR_of ⟨hasKs_of b1 (by simp), MF.wfh fun hwB => MF.up (d := 9) (d' := d + 9) (by omega) (s_alkComes (hIA.chg cB) hpB hm (by simp) (by have := c2.2.1; have := cB.2.1; omega) fun hC FA' d1 d2 d3 => cV_mk ?_)⟩)
    have hBlow := mB.low hwB
    have hnA : h.2.1 ≤ hA.2.1 := c2.1
    have hnB : hA.2.1 ≤ hB.2.1 := cB.1
    have fmB : ∀ x, Fm' x → (Fm x ∧ x < h.2.1) ∨ (hA.2.1 ≤ x ∧ x < hB.2.1) := fun x hx => by
      rcases gB x hx with h9' | h9'
      · exact Or.inl ⟨h9', hlow x (hFm x h9')⟩
      · exact Or.inr ⟨h9', hBlow x hx⟩
    have faC : ∀ x, FA' x → (h.2.1 ≤ x ∧ x < hA.2.1) ∨ hB.2.1 ≤ x := fun x hx => by
      rcases d3 x hx with h9' | h9'
      · exact Or.inl ⟨hfA x h9', hAlow x h9'⟩
      · exact Or.inr h9'
    have cAll : Chg 190 F h hC := ((c2.mono (F' := F) (Nat.le_refl _) fun _ h9 => h9.elim).trans (cB.mono (F' := F) (Nat.le_refl _) hFm) (F := F) fun _ _ _ h9 => h9).trans d2 (F := F) (fun x y e9 h9' => by have := hw _ _ e9; have := hfA x h9'; omega) |>.mono (by omega) fun _ h9 => h9
    have hpl := hlow p hFp
    have pB : hB.1 p = some (2, true, [.ref sn, .int num, .ref tm, .int purse, .int bid]) := cB.2.2.2.2 _ _ a1 (show KX 2 from by decide) h6
    have pC : hC.1 p = some (2, true, [.ref sn, .int num, .ref tm, .int purse, .int bid]) := d2.2.2.2.2 _ _ pB (show KX 2 from by decide) fun h9' => by have := hfA p h9'; omega
    refine HK hC (fun x => x = p ∨ Fm' x ∨ ∃ j, updF Fa k FA' j x) ⟨sn, tm, updM mv k (some h.2.1), Fm', updF Fa k FA', pC, h2.chg cAll, mB.chg d2 (fun x hx h9' => by have := fmB x hx; have := hfA x h9'; have := hAlow x h9'; omega), fun j => ?_, fun j hj he => ?_, fun h9' => ?_, fun j x hx => ?_, fun j i x hx hx2 => ?_, fun x => Iff.rfl⟩ cAll fun x hx => ?_
    · by_cases ej : j = k
      · subst ej
        rw [updM_s rfl, updf_s, updF_s rfl, h4k.1]
        exact d1
      · rw [updM_n ej, updf_n ej, updF_n ej]
        exact (((h4 j).chg c2 fun _ _ h9 => h9).chg cB fun x hx h9' => (h7 j x hx).2 h9').chg d2 fun x hx h9' => by have := hfA x h9'; have := hlow x (hFa j x hx); omega
    · by_cases ej : j = k
      · subst ej
        rw [updf_s] at hj; cases hj
      · rw [updf_n ej] at hj
        rw [updM_n ej]
        exact h5 j hj he
    · rcases fmB p h9' with ⟨e1, -⟩ | ⟨e1, -⟩
      · exact h6 e1
      · omega
    · by_cases ej : j = k
      · rw [updF_s ej] at hx
        have := faC x hx
        refine ⟨fun e9 => by omega, fun h9' => ?_⟩
        have := fmB x h9'
        omega
      · rw [updF_n ej] at hx
        obtain ⟨e1, e2⟩ := h7 j x hx
        refine ⟨e1, fun h9' => ?_⟩
        have := hlow x (hFa j x hx)
        rcases fmB x h9' with ⟨e3, -⟩ | ⟨e3, -⟩
        · exact e2 e3
        · omega
    · by_cases ej : j = k
      · rw [updF_s ej] at hx
        by_cases ei : i = k
        · rw [ej, ei]
        · rw [updF_n ei] at hx2
          have := faC x hx
          have := hlow x (hFa i x hx2)
          omega
      · rw [updF_n ej] at hx
        by_cases ei : i = k
        · rw [updF_s ei] at hx2
          have := faC x hx2
          have := hlow x (hFa j x hx)
          omega
        · rw [updF_n ei] at hx2
          exact h8 j i x hx hx2
    · rcases hx with h9' | h9' | ⟨j, h9'⟩
      · exact Or.inl (by rw [h9']; exact hFp)
      · rcases fmB x h9' with ⟨e1, -⟩ | ⟨e1, -⟩
        · exact Or.inl (hFm x e1)
        · exact Or.inr (by omega)
      · by_cases ej : j = k
        · rw [updF_s ej] at h9'
          have := faC x h9'
          exact Or.inr (by omega)
        · rw [updF_n ej] at h9'
          exact Or.inl (hFa j x h9')
/-- no key is kept without stones -/
theorem s_plTidies {k : Nat} {K : AH → Prop} (hI : ICache G h) (hp : PlX (fun j => j = k) h p bs num purse bid ms F) (hk : k < 100) (HK : ∀ h' F', PlS h' p bs num purse bid ms F' → Chg 0 F h h' → (∀ x, F' x → F x) → K h') : MF G (d + 7) mi_Player_tidies 0 [.ref p, .int (i32 k), .retAddr 0] [] h (cV K Qx) := by
  have hp0 := hp
  refine b_Player_tidies_0 ⟨hp0.has, s_plHas hI hp hk ?_⟩
  obtain ⟨sn, tm, mv, Fm, Fa, h1, h2, h3, h4, h5, h6, h7, h8, h9⟩ := hp
  have hlen : (ms k).length < 2147483648 ∨ True := Or.inr trivial
  by_cases h0 : ms k = []
  · refine ⟨fun hn => absurd (by rw [h0]; rfl) hn, fun _ => gR_of h1 (by simp) rfl rfl (s_valueC (by omega) hI fun v hv => dR_of ⟨h3.has (by simp), s_pmRemove (d := d + 1) h3 (EI_of (by omega) hv) fun h' Fm' cR2 mR fR => ⟨fun q e9 => ?_, cV_mk ?_⟩⟩)⟩
    · have h4k := h4 k
      cases hmv : mv k with
      | none => rw [hmv] at e9; cases e9
      | some a =>
        rw [hmv] at h4k e9
        cases e9
        have ha : Alk h q (ms k) (Fa k) := h4k
        have ha' : Alk h' q (ms k) (Fa k) := ha.chg cR2 fun x hx h9' => (h7 k x hx).2 h9'
        obtain ⟨q', arr, es, a1, -⟩ := id ha'
        exact ⟨4, true, _, a1, ck_4⟩
    · refine HK h' (fun x => x = p ∨ Fm' x ∨ ∃ j, (j ≠ k ∧ Fa j x)) ⟨sn, tm, updM mv k none, Fm', fun j x => j ≠ k ∧ Fa j x, cR2.2.2.2.2 _ _ h1 (show KX 2 from by decide) h6, h2.chg cR2, mR, fun j => ?_, fun j hj _ => ?_, fun h9' => h6 (fR p h9'), fun j x hx => ⟨(h7 j x hx.2).1, fun h9' => (h7 j x hx.2).2 (fR x h9')⟩, fun j i x hx hx2 => h8 j i x hx.2 hx2.2, fun x => Iff.rfl⟩ (cR2.mono (Nat.le_refl _) fun x hx => (h9 x).mpr (Or.inr (Or.inl hx))) fun x hx => ?_
      · by_cases ej : j = k
        · subst ej
          rw [updM_s rfl]
          exact ⟨h0, fun x hx => hx.1 rfl⟩
        · rw [updM_n ej]
          have := (h4 j).chg cR2 fun x hx h9' => (h7 j x hx).2 h9'
          have e9 : (fun x => j ≠ k ∧ Fa j x) = Fa j := by
            funext x; exact propext ⟨fun h9 => h9.2, fun h9 => ⟨ej, h9⟩⟩
          show AkO h' (mv j) (ms j) (fun x => j ≠ k ∧ Fa j x)
          rw [e9]; exact this
      · by_cases ej : j = k
        · rw [updM_s ej]
        · rw [updM_n ej]
          exact h5 j hj ej
      · rcases hx with h9' | h9' | ⟨j, -, h9'⟩
        · exact (h9 x).mpr (Or.inl h9')
        · exact (h9 x).mpr (Or.inr (Or.inl (fR x h9')))
        · exact (h9 x).mpr (Or.inr (Or.inr ⟨j, h9'⟩))
  · have hT : PlS h p bs num purse bid ms F := ⟨sn, tm, mv, Fm, Fa, h1, h2, h3, h4, fun j hj _ => h5 j hj (fun e9 => h0 (by rw [← e9]; exact hj)), h6, h7, h8, h9⟩
    have hl61 : (ms k).length ≤ 130 := by
      have h4k := h4 k
      cases hmv : mv k with
      | none => rw [hmv] at h4k; exact absurd h4k.1 h0
      | some a =>
        rw [hmv] at h4k
        have ha : Alk h a (ms k) (Fa k) := h4k
        obtain ⟨q, arr, es, a1, ⟨mc, sl, b1, b2, b3, b4, -⟩, a3, -⟩ := id ha
        have := a3.length_eq
        simp at this
        omega
    refine ⟨fun _ => cV_mk (HK h F hT Chg.refl fun x hx => hx), fun he => absurd ?_ h0⟩
    have := (i32_eq (a := (ms k).length) (b := 0) (by omega) (by omega)).mp he
    exact List.eq_nil_of_length_eq_zero this
/-- what is left of the stones of key k is written -/
theorem PlX.setA {h' : AH} {k a c : Nat} {ms' : List Nat} {sn tm : Nat} {mv : Nat → Option Nat} {Fm : Nat → Prop} {Fa : Nat → Nat → Prop} (hmv : mv k = some a) (h1 : h.1 p = some (2, true, [.ref sn, .int num, .ref tm, .int purse, .int bid])) (h2 : StrO h sn bs) (h3 : PM h tm mv Fm) (h4 : ∀ k, AkO h (mv k) (ms k) (Fa k)) (h5 : ∀ k, ms k = [] → mv k = none) (h6 : ¬ Fm p) (h7 : ∀ k x, Fa k x → x ≠ p ∧ ¬ Fm x) (h8 : ∀ k j x, Fa k x → Fa j x → k = j) (h9 : ∀ x, F x ↔ (x = p ∨ Fm x ∨ ∃ k, Fa k x)) (hA : Alk h' a ms' (Fa k)) (hc : Chg c (Fa k) h h') : PlX (fun j => j = k) h' p bs num purse bid (updf ms k ms') F := by
  refine ⟨sn, tm, mv, Fm, Fa, hc.2.2.2.2 _ _ h1 (show KX 2 from by decide) (fun h9' => (h7 k p h9').1 rfl), h2.chg hc, h3.chg hc (fun x hx h9' => (h7 k x h9').2 hx), fun j => ?_, fun j hj he => ?_, h6, h7, h8, h9⟩
  · by_cases ej : j = k
    · subst ej
      rw [hmv, updf_s]
      exact hA
    · rw [updf_n ej]
      exact (h4 j).chg hc fun x hx h9' => ej (h8 j k x hx h9')
  · rw [updf_n he] at hj
    exact h5 j hj
theorem s_plGoesL {k : Nat} {K : Int32 → AH → Prop} (hI : ICache G h) (hp : PlS h p bs num purse bid ms F) (hk : k < 100) (hne : ms k ≠ []) (HK : ∀ h' m ms' F', (ms k).Perm (m :: ms') → (∀ j, j ∈ ms k → m ≤ j) → PlS h' p bs num purse bid (updf ms k ms') F' → Chg 0 F h h' → (∀ x, F' x → F x) → K (i32 m) h') : MF G (d + 10) mi_Player_goes 0 [.ref p, .int (i32 k), .int 1, .retAddr 0, .retAddr 0] [] h (cI K Qx) := by
  obtain ⟨sn, tm, mv, Fm, Fa, h1, h2, h3, h4, h5, h6, h7, h8, h9⟩ := hp
  refine b_Player_goes_0 (gR_of h1 (by simp) rfl rfl (s_valueC (by omega) hI fun v hv => dR_of ⟨h3.has (by simp), s_pmGet h3 (EI_of (by omega) hv) ?_⟩))
  have h4k := h4 k
  cases hmv : mv k with
  | none => rw [hmv] at h4k; exact absurd h4k.1 hne
  | some a =>
    rw [hmv] at h4k
    have ha : Alk h a (ms k) (Fa k) := h4k
    obtain ⟨q, arr, es, a1, -⟩ := id ha
    refine ⟨fun q e9 => (by cases e9; exact ⟨4, true, _, a1, ck_4⟩), fun e9 => absurd e9 (by decide), fun _ => dR_of ⟨hasKs_of a1 (by simp), (s_alkLeast ha (by cases hms : ms k with | nil => exact absurd hms hne | cons x t => simp) fun h' m ms' b1 b2 b3 b4 => ?_).up (by omega)⟩⟩
    have hX := PlX.setA hmv h1 h2 h3 h4 (fun k hk => h5 k hk (fun h9 => h9)) h6 h7 h8 h9 b3 b4
    have cF := b4.mono (c' := 0) (F' := F) (Nat.le_refl _) fun x hx => (h9 x).mpr (Or.inr (Or.inr ⟨k, hx⟩))
    refine b_Player_goes_30 rfl ⟨fun _ => b_Player_goes_42 rfl ⟨hX.has, s_plTidies (d := d + 2) (hI.chg b4) hX hk fun h2 F2 d1 d2 d3 => cI_mk (HK h2 m ms' F2 b1 b2 d1 (cF.same d2) d3)⟩, fun e9 => absurd e9 (by decide)⟩
theorem maxL_mem : ∀ {l : List Nat}, l ≠ [] → maxL l ∈ l
  | [], h => absurd rfl h
  | [a], _ => by show max a 0 ∈ [a]; rw [Nat.max_eq_left (Nat.zero_le _)]; simp
  | a :: b :: l, _ => by
    have ih := maxL_mem (l := b :: l) (by simp)
    show max a (maxL (b :: l)) ∈ _
    rcases Nat.le_total a (maxL (b :: l)) with h | h
    · rw [Nat.max_eq_right h]; exact List.mem_cons_of_mem _ ih
    · rw [Nat.max_eq_left h]; exact List.mem_cons_self
theorem s_plGoesM {k : Nat} {K : Int32 → AH → Prop} (hI : ICache G h) (hL : LamC G h 5) (hp : PlS h p bs num purse bid ms F) (hk : k < 100) (hne : ms k ≠ []) (hroom : 20 ≤ h.2.2) (HK : ∀ h' ms' F', (ms k).Perm (maxL (ms k) :: ms') → PlS h' p bs num purse bid (updf ms k ms') F' → Chg 15 F h h' → (∀ x, F' x → F x) → K (i32 (maxL (ms k))) h') : MF G (d + 10) mi_Player_goes 0 [.ref p, .int (i32 k), .int 0, .retAddr 0, .retAddr 0] [] h (cI K Qx) := by
  have hp0 := hp
  obtain ⟨sn, tm, mv, Fm, Fa, h1, h2, h3, h4, h5, h6, h7, h8, h9⟩ := hp
  refine b_Player_goes_0 (gR_of h1 (by simp) rfl rfl (s_valueC (by omega) hI fun v hv => dR_of ⟨h3.has (by simp), s_pmGet h3 (EI_of (by omega) hv) ?_⟩))
  have h4k := h4 k
  cases hmv : mv k with
  | none => rw [hmv] at h4k; exact absurd h4k.1 hne
  | some a =>
    rw [hmv] at h4k
    have ha : Alk h a (ms k) (Fa k) := h4k
    obtain ⟨q, arr, es, a1, -⟩ := id ha
    refine ⟨fun q e9 => (by cases e9; exact ⟨4, true, _, a1, ck_4⟩), fun _ => dR_of ⟨hasKs_of a1 (by simp), s_alkMost (d := d + 4) hL ha (by omega) fun hM cM haM => ?_⟩, fun e9 => absurd rfl e9⟩
    obtain ⟨q2, arr2, es2, a2, -⟩ := id haM
    refine b_Player_goes_30 rfl ⟨fun e9 => absurd rfl e9, fun _ => dR_of ⟨hasKs_of a2 (by simp), (s_alkGoes (hI.chg cM) haM (maxL_mem hne) (by have := cM.2.1; omega) fun h' ms' b1 b3 b4 => ?_).up (by omega)⟩⟩
    have cT := (cM.mono (F' := Fa k) (Nat.le_refl _) fun _ h9 => h9.elim).same b4
    have hX := PlX.setA hmv h1 h2 h3 h4 (fun k hk => h5 k hk (fun h9 => h9)) h6 h7 h8 h9 b3 cT
    have cF := cT.mono (c' := 15) (F' := F) (by omega) fun x hx => (h9 x).mpr (Or.inr (Or.inr ⟨k, hx⟩))
    exact b_Player_goes_42 rfl ⟨hX.has, s_plTidies (d := d + 2) (hI.chg cT) hX hk fun h2 F2 d1 d2 d3 => cI_mk (HK h2 ms' F2 b1 d1 (cF.same d2) d3)⟩
theorem s_plGets {x1 : Int32} {K : Int32 → AH → Prop} (hp : PlX e h p bs num purse bid ms F) (HK : ∀ h', PlX e h' p bs num (purse + mn x1 (9999 - purse)) bid ms F → Chg 0 F h h' → h'.2 = h.2 → K (mn x1 (9999 - purse)) h') : MF G (d + 1) mi_Player_gets 0 [.ref p, .int x1, .retAddr 0] [] h (cI K Qx) := by
  obtain ⟨sn, tm, h1, h2, h3⟩ := hp.cell
  obtain ⟨a1, a2⟩ := h3 (purse + mn x1 (9999 - purse)) bid
  exact b_Player_gets_0 (gI_of h1 (by simp) rfl (gI_of h1 (by simp) rfl (pF_of h1 (by simp) (by simp) (cI_mk (HK _ a1 a2 rfl)))))
end
