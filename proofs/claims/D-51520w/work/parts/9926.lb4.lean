/-! the cart -/
set_option maxRecDepth 100000
def stV (s : CS) : List Value := [.int s.1, .int s.2.1, .int s.2.2]
/-- the cart at a holds ct; its cells F -/
def CTh (h : AH) (a : Nat) (ct : List CS) (F : Nat → Prop) : Prop := ∃ ps : List NP, LLh h a ps ∧ ps.length = ct.length ∧ (∀ (i : Nat) (p : NP) (s : CS), ps[i]? = some p → ct[i]? = some s → h.1 p.2 = some (3, true, stV s) ∧ (s.2.2 = 0 ∨ s.2.2 = 1)) ∧ (∀ (i j : Nat) (p q : NP), ps[i]? = some p → ps[j]? = some q → p.2 = q.2 → i = j) ∧ ∀ x, F x ↔ (x = a ∨ ∃ p, p ∈ ps ∧ (x = p.1 ∨ x = p.2))
theorem CTh.st {h : AH} {a : Nat} {ct : List CS} {ps : List NP} (hl : ps.length = ct.length) (hs : ∀ (i : Nat) (p : NP) (s : CS), ps[i]? = some p → ct[i]? = some s → h.1 p.2 = some (3, true, stV s) ∧ (s.2.2 = 0 ∨ s.2.2 = 1)) {p : NP} (hp : p ∈ ps) : ∃ s, h.1 p.2 = some (3, true, stV s) := by
  obtain ⟨i, hi⟩ := List.mem_iff_getElem?.mp hp
  have hil := (List.getElem?_eq_some_iff.mp hi).1
  exact ⟨_, (hs i p _ hi (List.getElem?_eq_getElem (by omega))).1⟩
theorem CTh.chg {h h' : AH} {a c : Nat} {ct : List CS} {F F' : Nat → Prop} (hp : CTh h a ct F) (hc : Chg c F' h h') (hd : ∀ x, F x → ¬ F' x) : CTh h' a ct F := by
  obtain ⟨ps, h1, h2, h3, h4, h5⟩ := hp
  refine ⟨ps, h1.chg hc (hd a ((h5 a).mpr (Or.inl rfl))) (fun p hp => hd _ ((h5 _).mpr (Or.inr ⟨p, hp, Or.inl rfl⟩))), h2, fun i p s hi hs => ⟨?_, (h3 i p s hi hs).2⟩, h4, h5⟩
  exact hc.2.2.2.2 _ _ (h3 i p s hi hs).1 (show KX 3 from by decide) (hd _ ((h5 _).mpr (Or.inr ⟨p, List.mem_of_getElem? hi, Or.inr rfl⟩)))
theorem CTh.low {h : AH} {a : Nat} {ct : List CS} {F : Nat → Prop} (hp : CTh h a ct F) (hw : WFh h) : ∀ x, F x → x < h.2.1 := by
  obtain ⟨ps, ⟨mc, l1, l2, l3⟩, h2, h3, h4, h5⟩ := hp
  intro x hx
  rcases (h5 x).mp hx with rfl | ⟨p, hp, rfl | rfl⟩
  · exact hw _ _ l1
  · obtain ⟨i, hi⟩ := List.mem_iff_getElem?.mp hp
    exact hw _ _ (l2 i p hi)
  · obtain ⟨s, hs⟩ := CTh.st (a := a) h2 h3 hp
    exact hw _ _ hs
theorem CTh.has {h : AH} {a : Nat} {ct : List CS} {F : Nat → Prop} (hp : CTh h a ct F) : hasKs h a [18] := by
  obtain ⟨ps, ⟨mc, l1, -⟩, -⟩ := hp
  exact hasKs_of l1 (by simp)
theorem CTh.hk {h : AH} {a : Nat} {ct : List CS} {F : Nat → Prop} (hp : CTh h a ct F) : hasK h a 18 := by
  obtain ⟨ps, ⟨mc, l1, -⟩, -⟩ := hp
  exact ⟨_, _, l1⟩
theorem CTh.len {h : AH} {a : Nat} {ct : List CS} {F : Nat → Prop} (hp : CTh h a ct F) : ct.length ≤ 100 := by
  obtain ⟨ps, ⟨mc, l1, l2, l3, l4⟩, h2, -⟩ := hp
  omega
section
variable {G : GL} {d : Nat} {h : AH} {a : Nat} {ct : List CS} {F : Nat → Prop} {Qx : Nat → AH → Prop}
theorem s_ctInit {K : AH → Prop} (ha : h.1 a = some (18, true, [.int 0, .int 0, .null, .null])) (HK : ∀ h', CTh h' a [] (fun x => x = a) → Chg 0 (fun q => q = a) h h' → K h') : MF G (d + 4) mi_LinkedList_init 0 [.ref a] [] h (cV K Qx) :=
  s_llInit ha fun h' l1 c1 => HK h' ⟨[], l1, rfl, fun i p s hi => by simp at hi, fun i j p q hi => by simp at hi, fun x => by simp⟩ c1
theorem s_ctSize {K : Int32 → AH → Prop} (hp : CTh h a ct F) (HK : K (i32 ct.length) h) : MF G d mi_LinkedList_size 0 [.ref a] [] h (cI K Qx) := by
  obtain ⟨ps, h1, h2, -⟩ := hp
  exact s_llSize h1 (by rw [h2]; exact HK)
theorem s_ctEmpty {K : Int32 → AH → Prop} (hp : CTh h a ct F) (HK : K (b01 (decide (ct.length = 0))) h) : vL G (d + 1) h a dsp_LinkedList_isEmpty [.ref a] (cI K Qx) := by
  have hl := hp.len
  refine ⟨18, mi_AbstractCollection_isEmpty, hp.hk, rfl, b_AbstractCollection_isEmpty_0 ⟨18, mi_LinkedList_size, hp.hk, rfl, s_ctSize hp ⟨fun hn => cI_mk ?_, fun he => cI_mk ?_⟩⟩⟩
  · rw [decide_eq_false (fun e9 => hn (by rw [e9]; rfl))] at HK; exact HK
  · rw [decide_eq_true ((i32_eq (a := ct.length) (b := 0) (by omega) (by omega)).mp he)] at HK; exact HK
/-- a stone, not in the cart, is laid behind -/
theorem s_ctAdd {q : Nat} {s : CS} {K : AH → Prop} (hp : CTh h a ct F) (hq : h.1 q = some (3, true, stV s)) (hs : s.2.2 = 0 ∨ s.2.2 = 1) (hnF : ¬ F q) (hl : ct.length < 100) (hroom : 7 ≤ h.2.2) (HK : ∀ h' F', CTh h' a (ct ++ [s]) F' → Chg 7 F h h' → (∀ x, F' x → F x ∨ x = q ∨ h.2.1 ≤ x) → K h') : MF G (d + 3) mi_LinkedList_addLast 0 [.ref a, .ref q] [] h (cV K Qx) := by
  have hp0 := hp
  obtain ⟨ps, h1, h2, h3, h4, h5⟩ := hp
  refine MF.wfh fun hw => s_llAdd h1 (by omega) hroom fun h' l1 c1 e1 => ?_
  have cF := c1.mono (c' := 7) (F' := F) (Nat.le_refl _) fun x hx => (h5 x).mpr (by
    rcases hx with h9 | ⟨p, h9, h8⟩
    · exact Or.inl h9
    · exact Or.inr ⟨p, h9, Or.inl h8⟩)
  have nst : ∀ p, p ∈ ps → ¬ (p.2 = a ∨ ∃ r, r ∈ ps ∧ p.2 = r.1) := fun p hp h9 => by
    obtain ⟨s', hs'⟩ := CTh.st (a := a) h2 h3 hp
    obtain ⟨mc, l1', l2', -⟩ := h1
    rcases h9 with h9 | ⟨r, hr, h9⟩
    · rw [h9, l1'] at hs'; cases hs'
    · obtain ⟨i, hi⟩ := List.mem_iff_getElem?.mp hr
      have := l2' i r hi
      rw [← h9, hs'] at this; cases this
  have nq : ¬ (q = a ∨ ∃ r, r ∈ ps ∧ q = r.1) := fun h9 => hnF ((h5 q).mpr (by
    rcases h9 with h9 | ⟨p, h9, h8⟩
    · exact Or.inl h9
    · exact Or.inr ⟨p, h9, Or.inl h8⟩))
  refine HK h' (fun x => x = a ∨ ∃ p, p ∈ ps ++ [(h.2.1, q)] ∧ (x = p.1 ∨ x = p.2)) ⟨ps ++ [(h.2.1, q)], l1, by simp [h2], fun i p t hi ht => ?_, fun i j p r hi hj e => ?_, fun x => Iff.rfl⟩ cF fun x hx => ?_
  · by_cases ei : i < ps.length
    · rw [List.getElem?_append_left ei] at hi
      rw [List.getElem?_append_left (by omega)] at ht
      obtain ⟨k1, k2⟩ := h3 i p t hi ht
      exact ⟨c1.2.2.2.2 _ _ k1 (show KX 3 from by decide) (nst p (List.mem_of_getElem? hi)), k2⟩
    · have hil := (List.getElem?_eq_some_iff.mp hi).1
      rw [List.length_append, List.length_singleton] at hil
      have : i = ps.length := by omega
      subst this
      rw [List.getElem?_append_right (Nat.le_refl _), Nat.sub_self] at hi
      cases hi
      rw [h2, List.getElem?_append_right (Nat.le_refl _), Nat.sub_self] at ht
      cases ht
      exact ⟨c1.2.2.2.2 _ _ hq (show KX 3 from by decide) nq, hs⟩
  · have at1 : ∀ i p, (ps ++ [(h.2.1, q)])[i]? = some p → (ps[i]? = some p) ∨ (i = ps.length ∧ p = (h.2.1, q)) := by
      intro i p hi
      have hil := (List.getElem?_eq_some_iff.mp hi).1
      rw [List.length_append, List.length_singleton] at hil
      by_cases ei : i < ps.length
      · rw [List.getElem?_append_left ei] at hi
        exact Or.inl hi
      · have : i = ps.length := by omega
        subst this
        rw [List.getElem?_append_right (Nat.le_refl _), Nat.sub_self] at hi
        exact Or.inr ⟨rfl, (Option.some.inj hi).symm⟩
    have nin : ∀ p, p ∈ ps → p.2 ≠ q := fun p hp e9 => hnF ((h5 q).mpr (Or.inr ⟨p, hp, Or.inr e9.symm⟩))
    rcases at1 i p hi with e1 | ⟨e1, e2⟩
    · rcases at1 j r hj with f1 | ⟨f1, f2⟩
      · exact h4 i j p r e1 f1 e
      · subst f2
        exact absurd e (nin p (List.mem_of_getElem? e1))
    · rcases at1 j r hj with f1 | ⟨f1, f2⟩
      · subst e2
        exact absurd e.symm (nin r (List.mem_of_getElem? f1))
      · omega
  · rcases hx with h9 | ⟨p, hp9, h9⟩
    · exact Or.inl ((h5 x).mpr (Or.inl h9))
    · rcases List.mem_append.mp hp9 with hp9 | hp9
      · exact Or.inl ((h5 x).mpr (Or.inr ⟨p, hp9, h9⟩))
      · rw [List.mem_singleton] at hp9
        subst hp9
        rcases h9 with h9 | h9
        · exact Or.inr (Or.inr (Nat.le_of_eq h9.symm))
        · exact Or.inr (Or.inl h9)
/-- the first stone goes -/
theorem s_ctRemove {s : CS} {K : Value → AH → Prop} (hp : CTh h a (s :: ct) F) (HK : ∀ h' q F', CTh h' a ct F' → h'.1 q = some (3, true, stV s) → (s.2.2 = 0 ∨ s.2.2 = 1) → F q → ¬ F' q → (∀ x, F' x → F x) → Chg 0 F h h' → h'.2 = h.2 → K (.ref q) h') : MF G (d + 1) mi_LinkedList_removeFirst 0 [.ref a, .retAddr 0] [] h (cR K Qx) := by
  obtain ⟨ps, h1, h2, h3, h4, h5⟩ := hp
  cases ps with
  | nil => simp at h2
  | cons p t =>
    obtain ⟨k1, k2⟩ := h3 0 p s rfl rfl
    refine s_llRemove h1 fun h' l1 c1 e1 => ?_
    have cF := c1.mono (c' := 0) (F' := F) (Nat.le_refl _) fun x hx => (h5 x).mpr (by
      rcases hx with h9 | ⟨r, h9, h8⟩
      · exact Or.inl h9
      · exact Or.inr ⟨r, h9, Or.inl h8⟩)
    have nst : ∀ r, r ∈ p :: t → ¬ (r.2 = a ∨ ∃ z, z ∈ p :: t ∧ r.2 = z.1) := fun r hr h9 => by
      obtain ⟨s', hs'⟩ := CTh.st (a := a) h2 h3 hr
      obtain ⟨mc, l1', l2', -⟩ := h1
      rcases h9 with h9 | ⟨z, hz, h9⟩
      · rw [h9, l1'] at hs'; cases hs'
      · obtain ⟨i, hi⟩ := List.mem_iff_getElem?.mp hz
        have := l2' i z hi
        rw [← h9, hs'] at this; cases this
    refine HK h' p.2 (fun x => x = a ∨ ∃ r, r ∈ t ∧ (x = r.1 ∨ x = r.2)) ⟨t, l1, by simpa using h2, fun i r z hi hz => ?_, fun i j r z hi hj e => ?_, fun x => Iff.rfl⟩ (c1.2.2.2.2 _ _ k1 (show KX 3 from by decide) (nst p List.mem_cons_self)) k2 ((h5 _).mpr (Or.inr ⟨p, List.mem_cons_self, Or.inr rfl⟩)) (fun h9 => ?_) (fun x hx => (h5 x).mpr ?_) cF e1
    · obtain ⟨z1, z2⟩ := h3 (i + 1) r z hi hz
      exact ⟨c1.2.2.2.2 _ _ z1 (show KX 3 from by decide) (nst r (List.mem_cons_of_mem _ (List.mem_of_getElem? hi))), z2⟩
    · have := h4 (i + 1) (j + 1) r z hi hj e
      omega
    · rcases h9 with h9 | ⟨r, hr, h9 | h9⟩
      · exact nst p List.mem_cons_self (Or.inl h9)
      · exact nst p List.mem_cons_self (Or.inr ⟨r, List.mem_cons_of_mem _ hr, h9⟩)
      · obtain ⟨i, hi⟩ := List.mem_iff_getElem?.mp hr
        have := h4 0 (i + 1) p r rfl hi h9
        omega
    · rcases hx with h9 | ⟨r, hr, h9⟩
      · exact Or.inl h9
      · exact Or.inr ⟨r, List.mem_cons_of_mem _ hr, h9⟩
theorem s_ctFirst {s : CS} {K : Value → AH → Prop} (hp : CTh h a (s :: ct) F) (HK : ∀ q, h.1 q = some (3, true, stV s) → K (.ref q) h) : MF G (d + 1) mi_LinkedList_getFirst 0 [.ref a, .retAddr 0] [] h (cR K Qx) := by
  obtain ⟨ps, h1, h2, h3, h4, h5⟩ := hp
  cases ps with
  | nil => simp at h2
  | cons p t => exact s_llFirst h1 (HK p.2 (h3 0 p s rfl rfl).1)
theorem s_ctGet {i : Nat} {s : CS} {K : Value → AH → Prop} (hp : CTh h a ct F) (hi : ct[i]? = some s) (HK : ∀ q, h.1 q = some (3, true, stV s) → K (.ref q) h) : MF G (d + 2) mi_LinkedList_get 0 [.ref a, .int (i32 i)] [] h (cR K Qx) := by
  obtain ⟨ps, h1, h2, h3, h4, h5⟩ := hp
  have hil := (List.getElem?_eq_some_iff.mp hi).1
  have hx := List.getElem?_eq_getElem (l := ps) (i := i) (by omega)
  exact s_llGet h1 hx (HK _ (h3 i _ s hx hi).1)
/-- stones and how often they may still be asked for -/
theorem s_ctHml {lam : Nat} {K : Int32 → AH → Prop} (hlam : h.1 lam = some (208, false, [])) (hp : CTh h a ct F) (hroom : 9 ≤ h.2.2) (HK : ∀ h', Chg 9 F0s h h' → K (itn (fun x i => x + (2 - (ct.getD i (0, 0, 0)).2.2)) 0 ct.length) h') : MF G (d + 5) mi_Q_sum 0 [.ref a, .ref lam, .retAddr 0, .retAddr 0, .retAddr 0] [] h (cI K Qx) := by
  have hp0 := hp
  obtain ⟨ps, h1, h2, h3, h4, h5⟩ := hp
  refine MF.wfh fun hw => ?_
  have stb : ∀ h1' h2' : AH, ∀ q, Chg 9 F0s h h1' → h.2.1 ≤ q → Chg 0 (fun x => x = q) h1' h2' → Chg 9 F0s h h2' := fun h1' h2' q c1 hq c2 => (c1.trans c2 (F := F0s) fun x y e9 h9 => by have := hw _ _ e9; omega).mono (by omega) fun _ h9 => h9
  refine s_sum (d := d + 4) (f := fun i => 2 - (ct.getD i (0, 0, 0)).2.2) (n := ps.length) (ll_iter (d := d + 2) (a := a) (base := h.2.1) (ps := ps) (I := fun hh i => Chg 9 F0s h hh) (fun hh i c => h1.chg c (fun h9 => h9) fun _ _ h9 => h9) (fun hh h' i q c hq c2 => stb hh h' q c hq c2)) (fun it hh i v K2 X2 hi hR HK2 => ?_) (ll_begin (d := d) (base := h.2.1) (I := fun hh i => Chg 9 F0s h hh) h1 hroom (Nat.le_refl _) fun h' c => c) fun it h' hP => ?_
  · obtain ⟨r1, r2, r3, p, r4, rfl⟩ := hR
    have hil : i < ct.length := by omega
    have hs := List.getElem?_eq_getElem hil
    obtain ⟨k1, k2⟩ := h3 i p _ r4 hs
    have k1' := r3.2.2.2.2 _ _ k1 (show KX 3 from by decide) fun h9 => h9
    have hl2 := r3.2.2.1 _ _ _ hlam
    have HK3 := HK2 hh ⟨r1, r2, r3⟩
    dsimp only at HK3
    rw [List.getD_eq_getElem?_getD, hs] at HK3
    have HK4 : K2 (2 - ct[i].2.2) hh := HK3
    refine ⟨8, false, [], by decide, rfl, hl2, lr_8 hl2 ⟨3, true, _, k1', ck_3⟩ (b_Game_lambda_hammersLeft_4_0 rfl (dR_of (gI_of k1' (by simp) rfl ⟨fun e => cI_mk ?_, fun hn => cI_mk ?_⟩)))⟩
    · rw [e] at HK4; exact HK4
    · have e1 : ct[i].2.2 = 1 := by rcases k2 with e9 | e9; exact absurd e9 hn; exact e9
      rw [e1] at HK4; exact HK4
  · rw [h2]
    exact HK h' hP.2.2
end
