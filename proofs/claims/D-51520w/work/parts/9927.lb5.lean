/-! the game: its cells -/
set_option maxRecDepth 100000
def upW {α : Type} (f : Nat → α) (k : Nat) (v : α) : Nat → α := fun j => if j = k then v else f j
theorem upW_s {α : Type} {f : Nat → α} {k j : Nat} {v : α} (h : j = k) : upW f k v j = v := if_pos h
theorem upW_n {α : Type} {f : Nat → α} {k j : Nat} {v : α} (h : ¬ j = k) : upW f k v j = f j := if_neg h
def gCell (al hm ll ac : Nat) (ns : Nat → Int32) : List Value := [.ref al, .ref hm, .ref ll, .ref ac, .int (ns 0), .int (ns 1), .int (ns 4), .int (ns 5), .int (ns 6), .int (ns 7), .int (ns 8), .int (ns 9)]
def aCell (ns : Nat → Int32) : List Value := [.int (ns 11), .int (ns 12), .int (ns 13), .int (ns 14), .int (ns 15), .int (ns 16), .int (ns 17)]
/-- the game at a; its parts' cells are told apart by Fam: 0 itself, 1 the list of players, 2 the names, 3 the cart, 4 + k player k -/
def GmY (G : GL) (h : AH) (a : Nat) (pa : Nat → Nat) (ns : Nat → Int32) (n : Nat) (nb : Nat → List Int32) (pu bi : Nat → Int32) (ms : Nat → Nat → List Nat) (ct : List CS) (al hm ll ac : Nat) (es : List HE) (Fam : Nat → Nat → Prop) : Prop :=
  h.1 a = some (1, true, gCell al hm ll ac ns) ∧ h.1 ac = some (100, true, aCell ns) ∧ (∀ x, Fam 0 x ↔ (x = a ∨ x = ac)) ∧ ALh G h al 5 ((List.range n).map fun k => Value.ref (pa k)) (Fam 1) ∧ (HMh h hm es (Fam 2) ∧ es.length = n ∧ ∀ (k : Nat) (e : HE), es[k]? = some e → e.2.2.1 = nb k) ∧ CTh h ll ct (Fam 3) ∧
  (∀ k, k < n → PlS h (pa k) (nb k) (i32 k) (pu k) (bi k) (ms k) (Fam (4 + k))) ∧ (∀ i, 4 + n ≤ i → ∀ x, ¬ Fam i x) ∧ ∀ i j x, Fam i x → Fam j x → i = j
def GmX (G : GL) (h : AH) (a : Nat) (pa : Nat → Nat) (ns : Nat → Int32) (n : Nat) (nb : Nat → List Int32) (pu bi : Nat → Int32) (ms : Nat → Nat → List Nat) (ct : List CS) (F : Nat → Prop) : Prop := ∃ (al hm ll ac : Nat) (es : List HE) (Fam : Nat → Nat → Prop), GmY G h a pa ns n nb pu bi ms ct al hm ll ac es Fam ∧ ∀ x, F x ↔ ∃ i, Fam i x
theorem fam_upd {Fam : Nat → Nat → Prop} {i : Nat} {F' : Nat → Prop} (hd : ∀ i j x, Fam i x → Fam j x → i = j) (hn : ∀ x, F' x → Fam i x ∨ ∀ j, ¬ Fam j x) : ∀ j k x, updF Fam i F' j x → updF Fam i F' k x → j = k := by
  intro j k x hj hk
  by_cases ej : j = i
  · rw [updF_s ej] at hj
    by_cases ek : k = i
    · rw [ej, ek]
    · rw [updF_n ek] at hk
      rcases hn x hj with h9 | h9
      · exact absurd (hd k i x hk h9) ek
      · exact absurd hk (h9 k)
  · rw [updF_n ej] at hj
    by_cases ek : k = i
    · rw [updF_s ek] at hk
      rcases hn x hk with h9 | h9
      · exact absurd (hd j i x hj h9) ej
      · exact absurd hj (h9 j)
    · rw [updF_n ek] at hk
      exact hd j k x hj hk
section
variable {G : GL} {d : Nat} {h : AH} {a : Nat} {pa : Nat → Nat} {ns : Nat → Int32} {n : Nat} {nb : Nat → List Int32} {pu bi : Nat → Int32} {ms : Nat → Nat → List Nat} {ct : List CS} {al hm ll ac : Nat} {es : List HE} {Fam : Nat → Nat → Prop} {F : Nat → Prop} {Qx : Nat → AH → Prop}
theorem GmY.chg {h' : AH} {c : Nat} {F' : Nat → Prop} (hp : GmY G h a pa ns n nb pu bi ms ct al hm ll ac es Fam) (hc : Chg c F' h h') (hd : ∀ i x, Fam i x → ¬ F' x) : GmY G h' a pa ns n nb pu bi ms ct al hm ll ac es Fam := by
  obtain ⟨h1, h2, h3, h4, ⟨h5, h6, h7⟩, h8, h9, h10, h11⟩ := hp
  exact ⟨hc.2.2.2.2 _ _ h1 (show KX 1 from by decide) (hd 0 a ((h3 a).mpr (Or.inl rfl))), hc.2.2.2.2 _ _ h2 (show KX 100 from by decide) (hd 0 ac ((h3 ac).mpr (Or.inr rfl))), h3, h4.chg hc (hd 1), ⟨h5.chg hc (hd 2), h6, h7⟩, h8.chg hc (hd 3), fun k hk => (h9 k hk).chg hc (hd _), h10, h11⟩
theorem GmY.low (hp : GmY G h a pa ns n nb pu bi ms ct al hm ll ac es Fam) (hw : WFh h) : ∀ i x, Fam i x → x < h.2.1 := by
  obtain ⟨h1, h2, h3, h4, ⟨h5, h6, h7⟩, h8, h9, h10, h11⟩ := hp
  intro i x hx
  match i, hx with
  | 0, hx =>
    rcases (h3 x).mp hx with rfl | rfl
    · exact hw _ _ h1
    · exact hw _ _ h2
  | 1, hx => exact h4.low hw x hx
  | 2, hx => exact h5.low hw x hx
  | 3, hx => exact h8.low hw x hx
  | i + 4, hx =>
    by_cases hi : i < n
    · have := (h9 i hi).low hw x
      rw [Nat.add_comm] at this
      exact this hx
    · exact absurd hx (h10 (i + 4) (by omega) x)
theorem GmX.chg {h' : AH} {c : Nat} {F' : Nat → Prop} (hp : GmX G h a pa ns n nb pu bi ms ct F) (hc : Chg c F' h h') (hd : ∀ x, F x → ¬ F' x) : GmX G h' a pa ns n nb pu bi ms ct F := by
  obtain ⟨al, hm, ll, ac, es, Fam, h1, h2⟩ := hp
  exact ⟨al, hm, ll, ac, es, Fam, h1.chg hc (fun i x hx => hd x ((h2 x).mpr ⟨i, hx⟩)), h2⟩
theorem GmX.low (hp : GmX G h a pa ns n nb pu bi ms ct F) (hw : WFh h) : ∀ x, F x → x < h.2.1 := by
  obtain ⟨al, hm, ll, ac, es, Fam, h1, h2⟩ := hp
  intro x hx
  obtain ⟨i, hi⟩ := (h2 x).mp hx
  exact h1.low hw i x hi
theorem GmX.cell (hp : GmX G h a pa ns n nb pu bi ms ct F) : ∃ al hm ll ac : Nat, h.1 a = some (1, true, gCell al hm ll ac ns) ∧ h.1 ac = some (100, true, aCell ns) := by
  obtain ⟨al, hm, ll, ac, es, Fam, h1, h2⟩ := hp
  exact ⟨al, hm, ll, ac, h1.1, h1.2.1⟩
theorem GmX.has (hp : GmX G h a pa ns n nb pu bi ms ct F) : hasKs h a [1] := by
  obtain ⟨al, hm, ll, ac, h1, h2⟩ := hp.cell
  exact hasKs_of h1 (by simp)
theorem GmX.self (hp : GmX G h a pa ns n nb pu bi ms ct F) : F a := by
  obtain ⟨al, hm, ll, ac, es, Fam, h1, h2⟩ := hp
  exact (h2 a).mpr ⟨0, (h1.2.2.1 a).mpr (Or.inl rfl)⟩
theorem GmX.n5 (hp : GmX G h a pa ns n nb pu bi ms ct F) : n ≤ 5 := by
  obtain ⟨al, hm, ll, ac, es, Fam, h1, h2⟩ := hp
  obtain ⟨arr, mc, w, sl, -, -, -, -, h5, -⟩ := h1.2.2.2.1
  simpa using h5
theorem GmX.congr {nb' : Nat → List Int32} {pu' bi' : Nat → Int32} {ms' : Nat → Nat → List Nat} (hp : GmX G h a pa ns n nb pu bi ms ct F) (he : ∀ k, k < n → nb k = nb' k ∧ pu k = pu' k ∧ bi k = bi' k ∧ ∀ j, (ms k j).Perm (ms' k j)) : GmX G h a pa ns n nb' pu' bi' ms' ct F := by
  obtain ⟨al, hm, ll, ac, es, Fam, ⟨h1, h2, h3, h4, ⟨h5, h6, h7⟩, h8, h9, h10, h11⟩, g2⟩ := hp
  refine ⟨al, hm, ll, ac, es, Fam, ⟨h1, h2, h3, h4, ⟨h5, h6, fun k e hk => ?_⟩, h8, fun k hk => ?_, h10, h11⟩, g2⟩
  · have hkl := (List.getElem?_eq_some_iff.mp hk).1
    rw [← (he k (by omega)).1]
    exact h7 k e hk
  · obtain ⟨e1, e2, e3, e4⟩ := he k hk
    rw [← e1, ← e2, ← e3]
    exact (h9 k hk).perm e4
theorem pa_at {k : Nat} (hk : k < n) : ((List.range n).map fun k => Value.ref (pa k))[k]? = some (.ref (pa k)) := by
  rw [List.getElem?_map, List.getElem?_range hk]; rfl
/-- a player of the game; the game again when the player has changed -/
theorem GmX.pl (hp : GmX G h a pa ns n nb pu bi ms ct F) {k : Nat} (hk : k < n) : ∃ Fk : Nat → Prop, PlS h (pa k) (nb k) (i32 k) (pu k) (bi k) (ms k) Fk ∧ (∀ x, Fk x → F x) ∧ ¬ Fk a ∧ ∀ {h' : AH} {c : Nat} {pu' bi' : Int32} {ms' : Nat → List Nat} {Fk' : Nat → Prop}, PlS h' (pa k) (nb k) (i32 k) pu' bi' ms' Fk' → Chg c Fk h h' → (∀ x, Fk' x → Fk x ∨ ¬ F x) → ∃ F' : Nat → Prop, GmX G h' a pa ns n nb (upW pu k pu') (upW bi k bi') (upW ms k ms') ct F' ∧ ∀ x, F' x → F x ∨ Fk' x := by
  obtain ⟨al, hm, ll, ac, es, Fam, ⟨h1, h2, h3, h4, ⟨h5, h6, h7⟩, h8, h9, h10, h11⟩, g2⟩ := hp
  refine ⟨Fam (4 + k), h9 k hk, fun x hx => (g2 x).mpr ⟨_, hx⟩, fun h => ?_, fun {h' c pu' bi' ms' Fk'} hp' hc hn => ?_⟩
  · have := h11 _ 0 a h ((h3 a).mpr (Or.inl rfl)); omega
  have dj : ∀ i, ¬ i = 4 + k → ∀ x, Fam i x → ¬ Fam (4 + k) x := fun i hi x hx h9' => hi (h11 i _ x hx h9')
  refine ⟨fun x => ∃ i, updF Fam (4 + k) Fk' i x, ⟨al, hm, ll, ac, es, updF Fam (4 + k) Fk', ⟨hc.2.2.2.2 _ _ h1 (show KX 1 from by decide) (dj 0 (by omega) a ((h3 a).mpr (Or.inl rfl))), hc.2.2.2.2 _ _ h2 (show KX 100 from by decide) (dj 0 (by omega) ac ((h3 ac).mpr (Or.inr rfl))), fun x => by rw [updF_n (by omega)]; exact h3 x, ?_, ⟨?_, h6, h7⟩, ?_, fun j hj => ?_, fun i hi x hx => ?_, fam_upd h11 fun x hx => ?_⟩, fun x => Iff.rfl⟩, fun x hx => ?_⟩
  · rw [updF_n (by omega)]; exact h4.chg hc (dj 1 (by omega))
  · rw [updF_n (by omega)]; exact h5.chg hc (dj 2 (by omega))
  · rw [updF_n (by omega)]; exact h8.chg hc (dj 3 (by omega))
  · by_cases ej : j = k
    · subst ej
      rw [upW_s rfl, upW_s rfl, upW_s rfl, updF_s rfl]
      exact hp'
    · rw [upW_n ej, upW_n ej, upW_n ej, updF_n (by omega)]
      exact (h9 j hj).chg hc (dj _ (by omega))
  · rw [updF_n (by omega)] at hx
    exact h10 i hi x hx
  · rcases hn x hx with h | h
    · exact Or.inl h
    · exact Or.inr fun j hj => h ((g2 x).mpr ⟨j, hj⟩)
  · obtain ⟨i, hi⟩ := hx
    by_cases ei : i = 4 + k
    · rw [updF_s ei] at hi; exact Or.inr hi
    · rw [updF_n ei] at hi; exact Or.inl ((g2 x).mpr ⟨i, hi⟩)
/-- the cart of the game -/
theorem GmX.cart (hp : GmX G h a pa ns n nb pu bi ms ct F) : ∃ (al hm ll ac : Nat) (Fc : Nat → Prop), h.1 a = some (1, true, gCell al hm ll ac ns) ∧ CTh h ll ct Fc ∧ (∀ x, Fc x → F x) ∧ ¬ Fc a ∧ ¬ Fc ac ∧ ∀ {h' : AH} {c : Nat} {ct' : List CS} {Fc' : Nat → Prop}, CTh h' ll ct' Fc' → Chg c Fc h h' → (∀ x, Fc' x → Fc x ∨ ¬ F x) → ∃ F' : Nat → Prop, GmX G h' a pa ns n nb pu bi ms ct' F' ∧ ∀ x, F' x → (F x ∧ (Fc x → Fc' x)) ∨ Fc' x := by
  obtain ⟨al, hm, ll, ac, es, Fam, ⟨h1, h2, h3, h4, ⟨h5, h6, h7⟩, h8, h9, h10, h11⟩, g2⟩ := hp
  refine ⟨al, hm, ll, ac, Fam 3, h1, h8, fun x hx => (g2 x).mpr ⟨_, hx⟩, fun h => ?_, fun h => ?_, fun {h' c ct' Fc'} hp' hc hn => ?_⟩
  · have := h11 _ 0 a h ((h3 a).mpr (Or.inl rfl)); omega
  · have := h11 _ 0 ac h ((h3 ac).mpr (Or.inr rfl)); omega
  have dj : ∀ i, ¬ i = 3 → ∀ x, Fam i x → ¬ Fam 3 x := fun i hi x hx h9' => hi (h11 i _ x hx h9')
  refine ⟨fun x => ∃ i, updF Fam 3 Fc' i x, ⟨al, hm, ll, ac, es, updF Fam 3 Fc', ⟨hc.2.2.2.2 _ _ h1 (show KX 1 from by decide) (dj 0 (by omega) a ((h3 a).mpr (Or.inl rfl))), hc.2.2.2.2 _ _ h2 (show KX 100 from by decide) (dj 0 (by omega) ac ((h3 ac).mpr (Or.inr rfl))), fun x => by rw [updF_n (by omega)]; exact h3 x, ?_, ⟨?_, h6, h7⟩, ?_, fun j hj => ?_, fun i hi x hx => ?_, fam_upd h11 fun x hx => ?_⟩, fun x => Iff.rfl⟩, fun x hx => ?_⟩
  · rw [updF_n (by omega)]; exact h4.chg hc (dj 1 (by omega))
  · rw [updF_n (by omega)]; exact h5.chg hc (dj 2 (by omega))
  · rw [updF_s rfl]; exact hp'
  · rw [updF_n (by omega)]; exact (h9 j hj).chg hc (dj _ (by omega))
  · rw [updF_n (by omega)] at hx
    exact h10 i hi x hx
  · rcases hn x hx with h | h
    · exact Or.inl h
    · exact Or.inr fun j hj => h ((g2 x).mpr ⟨j, hj⟩)
  · obtain ⟨i, hi⟩ := hx
    by_cases ei : i = 3
    · rw [updF_s ei] at hi; exact Or.inr hi
    · rw [updF_n ei] at hi
      exact Or.inl ⟨(g2 x).mpr ⟨i, hi⟩, fun h9' => absurd (h11 i 3 x hi h9') ei⟩
/-- numbers written -/
theorem GmX.setN {ns' : Nat → Int32} (hp : GmX G h a pa ns n nb pu bi ms ct F) {al hm ll ac : Nat} (hc : h.1 a = some (1, true, gCell al hm ll ac ns)) (ha : aCell ns = aCell ns') : GmX G (h.put a (gCell al hm ll ac ns')) a pa ns' n nb pu bi ms ct F ∧ Chg 0 F h (h.put a (gCell al hm ll ac ns')) := by
  obtain ⟨al', hm', ll', ac', es, Fam, ⟨h1, h2, h3, h4, ⟨h5, h6, h7⟩, h8, h9, h10, h11⟩, g2⟩ := hp
  rw [hc] at h1
  have e1 : al = al' ∧ hm = hm' ∧ ll = ll' ∧ ac = ac' := by
    unfold gCell at h1
    simp only [Option.some.injEq, Prod.mk.injEq, List.cons.injEq, Value.ref.injEq] at h1
    exact ⟨h1.2.2.1, h1.2.2.2.1, h1.2.2.2.2.1, h1.2.2.2.2.2.1⟩
  obtain ⟨rfl, rfl, rfl, rfl⟩ := e1
  have c1 := Chg.put (F := fun x => x = a) (fs' := gCell al hm ll ac ns') hc (by decide) rfl
  have na : ∀ i, ¬ i = 0 → ∀ x, Fam i x → ¬ x = a := fun i hi x hx e => hi (h11 i 0 x hx ((h3 x).mpr (Or.inl e)))
  have nac : ac ≠ a := fun e => by rw [e, hc] at h2; cases h2
  refine ⟨⟨al, hm, ll, ac, es, Fam, ⟨AH.put_self hc, ?_, h3, h4.chg c1 (na 1 (by omega)), ⟨h5.chg c1 (na 2 (by omega)), h6, h7⟩, h8.chg c1 (na 3 (by omega)), fun k hk => (h9 k hk).chg c1 (na _ (by omega)), h10, h11⟩, g2⟩, c1.mono (Nat.le_refl _) fun x hx => (g2 x).mpr ⟨0, (h3 x).mpr (Or.inl hx)⟩⟩
  rw [AH.put_ne nac, ← ha]
  exact h2
/-- accounts written -/
theorem GmX.setA {ns' : Nat → Int32} (hp : GmX G h a pa ns n nb pu bi ms ct F) {al hm ll ac : Nat} (hc : h.1 a = some (1, true, gCell al hm ll ac ns)) (ha : gCell al hm ll ac ns = gCell al hm ll ac ns') : h.1 ac = some (100, true, aCell ns) ∧ GmX G (h.put ac (aCell ns')) a pa ns' n nb pu bi ms ct F ∧ Chg 0 F h (h.put ac (aCell ns')) ∧ (h.put ac (aCell ns')).1 a = some (1, true, gCell al hm ll ac ns') := by
  obtain ⟨al', hm', ll', ac', es, Fam, ⟨h1, h2, h3, h4, ⟨h5, h6, h7⟩, h8, h9, h10, h11⟩, g2⟩ := hp
  rw [hc] at h1
  have e1 : al = al' ∧ hm = hm' ∧ ll = ll' ∧ ac = ac' := by
    unfold gCell at h1
    simp only [Option.some.injEq, Prod.mk.injEq, List.cons.injEq, Value.ref.injEq] at h1
    exact ⟨h1.2.2.1, h1.2.2.2.1, h1.2.2.2.2.1, h1.2.2.2.2.2.1⟩
  obtain ⟨rfl, rfl, rfl, rfl⟩ := e1
  have c1 := Chg.put (F := fun x => x = ac) (fs' := aCell ns') h2 (by decide) rfl
  have na : ∀ i, ¬ i = 0 → ∀ x, Fam i x → ¬ x = ac := fun i hi x hx e => hi (h11 i 0 x hx ((h3 x).mpr (Or.inr e)))
  have nac : a ≠ ac := fun e => by rw [← e, hc] at h2; cases h2
  have a1 : (h.put ac (aCell ns')).1 a = some (1, true, gCell al hm ll ac ns') := by rw [AH.put_ne nac, ← ha]; exact hc
  refine ⟨h2, ⟨al, hm, ll, ac, es, Fam, ⟨a1, AH.put_self h2, h3, h4.chg c1 (na 1 (by omega)), ⟨h5.chg c1 (na 2 (by omega)), h6, h7⟩, h8.chg c1 (na 3 (by omega)), fun k hk => (h9 k hk).chg c1 (na _ (by omega)), h10, h11⟩, g2⟩, c1.mono (Nat.le_refl _) fun x hx => (g2 x).mpr ⟨0, (h3 x).mpr (Or.inr hx)⟩, a1⟩
theorem s_gmPlayer {k : Nat} {K : Value → AH → Prop} (hp : GmX G h a pa ns n nb pu bi ms ct F) (hk : k < n) (HK : K (.ref (pa k)) h) : MF G (d + 4) mi_Game_player 0 [.ref a, .int (i32 k)] [] h (cR K Qx) := by
  obtain ⟨al, hm, ll, ac, es, Fam, ⟨h1, h2, h3, h4, h5, h8, h9, h10, h11⟩, g2⟩ := hp
  refine b_Game_player_0 (gR_of h1 (by simp) rfl rfl (dR_of ⟨16, mi_ArrayList_get, h4.hk, rfl, s_alGet (d := d) h4 (pa_at hk) rfl ⟨fun q e => ?_, cR_mk rfl HK⟩⟩))
  cases e
  exact (h9 k hk).isC
/-- a sum over the players, c units of room for each -/
theorem s_gmSum {lam c al : Nat} {f : Nat → Int32} {K : Int32 → AH → Prop} {hm ll ac : Nat} (hp : GmX G h a pa ns n nb pu bi ms ct F) (hal : h.1 a = some (1, true, gCell al hm ll ac ns)) (hroom : 8 ≤ h.2.2) (hL : ∀ h2 k K X, k < n → Chg (8 + c * k) F0s h h2 → (∀ h3, Chg c F0s h2 h3 → K (f k) h3) → dL G (d + 2) h2 lam false [.ref (pa k)] (cI K X)) (HK : ∀ h', Chg (8 + c * n) F0s h h' → K (itn (fun x k => x + f k) 0 n) h') : MF G (d + 3) mi_Q_sum 0 [.ref al, .ref lam, .retAddr 0, .retAddr 0, .retAddr 0] [] h (cI K Qx) := by
  obtain ⟨al', hm', ll', ac', es, Fam, ⟨h1, h2, h3, h4, h5, h8, h9, h10, h11⟩, g2⟩ := hp
  rw [hal] at h1
  have e1 : al = al' := by
    unfold gCell at h1
    simp only [Option.some.injEq, Prod.mk.injEq, List.cons.injEq, Value.ref.injEq] at h1
    exact h1.2.2.1
  subst e1
  refine MF.wfh fun hw => ?_
  have hlen : ((List.range n).map fun k => Value.ref (pa k)).length = n := by simp
  have hA : ∀ (hh : AH) (i : Nat), Chg (8 + c * i) F0s h hh → ∃ cap F, ALh G hh al cap ((List.range n).map fun k => Value.ref (pa k)) F := fun hh i cc => ⟨5, Fam 1, h4.chg cc fun _ _ h9 => h9⟩
  have hall : al < h.2.1 := h4.low hw al h4.self
  refine s_sum (d := d + 2) (f := f) (n := n) (P := AlP (fun hh i => Chg (8 + c * i) F0s h hh) al h.2.1) (R := AlR (fun hh i => Chg (8 + c * i) F0s h hh) al h.2.1 ((List.range n).map fun k => Value.ref (pa k))) ?_ (fun it hh i v K2 X2 hi hR HK2 => ?_) (al_begin (d := d) h4 hroom (Nat.le_refl _) fun h' cc => cc.mono (by omega) fun _ h9 => h9) fun it h' hP => HK h' hP.2.2
  · have := al_iter (G := G) (d := d) (a := al) (base := h.2.1) (vs := (List.range n).map fun k => Value.ref (pa k)) (I := fun hh i => Chg (8 + c * i) F0s h hh) hA (fun hh h' i q cc hq c2 => (cc.trans c2 (F := F0s) fun x y e9 h9 => by have := hw _ _ e9; omega).mono (by omega) fun _ h9 => h9) (fun v hv => by obtain ⟨k, -, rfl⟩ := List.mem_map.mp hv; rfl)
    rw [hlen] at this
    exact this
  · obtain ⟨r1, r2, r3, r4⟩ := hR
    rw [pa_at hi] at r4
    cases r4
    exact hL hh i K2 X2 hi r3 fun h3' c3 => HK2 h3' ⟨r1.chg c3 (fun h9 => h9) (fun h9 => h9), r2, (r3.same c3).mono (by rw [Nat.mul_succ]; omega) fun _ h9 => h9⟩
theorem s_gmExt {lam c al : Nat} {f : Nat → Int32} {K : Int32 → AH → Prop} {hm ll ac : Nat} (hp : GmX G h a pa ns n nb pu bi ms ct F) (hal : h.1 a = some (1, true, gCell al hm ll ac ns)) (hroom : 8 ≤ h.2.2) (hL : ∀ h2 k K X, k < n → Chg (8 + c * k) F0s h h2 → (∀ h3, Chg c F0s h2 h3 → K (f k) h3) → dL G (d + 2) h2 lam false [.ref (pa k)] (cI K X)) (HK : ∀ h', Chg (8 + c * n) F0s h h' → K (itn (fun x k => mx x (f k)) 0 n) h') : MF G (d + 3) mi_Q_extreme 0 [.ref al, .ref lam, .retAddr 0, .retAddr 0, .retAddr 0] [] h (cI K Qx) := by
  obtain ⟨al', hm', ll', ac', es, Fam, ⟨h1, h2, h3, h4, h5, h8, h9, h10, h11⟩, g2⟩ := hp
  rw [hal] at h1
  have e1 : al = al' := by
    unfold gCell at h1
    simp only [Option.some.injEq, Prod.mk.injEq, List.cons.injEq, Value.ref.injEq] at h1
    exact h1.2.2.1
  subst e1
  refine MF.wfh fun hw => ?_
  have hlen : ((List.range n).map fun k => Value.ref (pa k)).length = n := by simp
  have hA : ∀ (hh : AH) (i : Nat), Chg (8 + c * i) F0s h hh → ∃ cap F, ALh G hh al cap ((List.range n).map fun k => Value.ref (pa k)) F := fun hh i cc => ⟨5, Fam 1, h4.chg cc fun _ _ h9 => h9⟩
  refine s_ext (d := d + 2) (f := f) (n := n) (P := AlP (fun hh i => Chg (8 + c * i) F0s h hh) al h.2.1) (R := AlR (fun hh i => Chg (8 + c * i) F0s h hh) al h.2.1 ((List.range n).map fun k => Value.ref (pa k))) ?_ (fun it hh i v K2 X2 hi hR HK2 => ?_) (al_begin (d := d) h4 hroom (Nat.le_refl _) fun h' cc => cc.mono (by omega) fun _ h9 => h9) fun it h' hP => HK h' hP.2.2
  · have := al_iter (G := G) (d := d) (a := al) (base := h.2.1) (vs := (List.range n).map fun k => Value.ref (pa k)) (I := fun hh i => Chg (8 + c * i) F0s h hh) hA (fun hh h' i q cc hq c2 => (cc.trans c2 (F := F0s) fun x y e9 h9 => by have := hw _ _ e9; omega).mono (by omega) fun _ h9 => h9) (fun v hv => by obtain ⟨k, -, rfl⟩ := List.mem_map.mp hv; rfl)
    rw [hlen] at this
    exact this
  · obtain ⟨r1, r2, r3, r4⟩ := hR
    rw [pa_at hi] at r4
    cases r4
    exact hL hh i K2 X2 hi r3 fun h3' c3 => HK2 h3' ⟨r1.chg c3 (fun h9 => h9) (fun h9 => h9), r2, (r3.same c3).mono (by rw [Nat.mul_succ]; omega) fun _ h9 => h9⟩
end
