/-! scripts that were read are well formed -/
set_option maxRecDepth 100000
theorem inB3_le {v : Int32} {n : Nat} (hn : n < 100000) (h : inB3 v 0 (i32 n) = true) : ∃ k, k ≤ n ∧ v = i32 k := by
  have h2 : inB3 v 0 (i32 (n + 1) - 1) = true := by rw [i32_pred]; exact h
  obtain ⟨k, hk, e⟩ := inB3_nat (n := n + 1) (by omega) h2
  exact ⟨k, by omega, e⟩
theorem pSto_ok {b : List Int32} {n : Nat} {cp : Int32} {p : PK} {v : Int32} {p' : PK} (h : pSto b n cp p = .inr (v, p')) : StK v := by
  unfold pSto at h
  obtain ⟨f, p1, h1, h2⟩ := bindP_inv h
  obtain ⟨x, p2, h3, h4⟩ := bindP_inv h2
  cases h4
  obtain ⟨F, hF, rfl⟩ := inB3_le (n := 5) (by omega) (pNum_in h1)
  obtain ⟨N, h1N, hN, rfl⟩ := inB3_19 (pNum_in h3)
  exact ⟨F, N, hF, h1N, hN, by rw [show (10 : Int32) = i32 10 from rfl, i32_mul, i32_add]⟩
theorem pSng_ok {b : List Int32} {n : Nat} {cp kd : Int32} {p : PK} {o : OD} {p' : PK} (hkd : kd = 0 ∨ kd = 1 ∨ kd = 2 ∨ kd = 3) (h : pSng b n cp kd p = .inr (o, p')) : Sgl o := by
  unfold pSng at h
  split at h
  · cases h; exact Or.inr (Or.inl rfl)
  · obtain ⟨nm, p1, h1, h2⟩ := bindP_inv h
    split at h2
    · obtain ⟨v, p2, h3, h4⟩ := bindP_inv h2
      cases h4
      obtain ⟨V, hV, rfl⟩ := inB3_le (n := 9999) (by omega) (pNum_in h3)
      exact Or.inl ⟨rfl, V, hV, rfl⟩
    · obtain ⟨st, p2, h3, h4⟩ := bindP_inv h2
      split at h4
      · cases h4; exact Or.inr (Or.inr (Or.inl ⟨rfl, pSto_ok h3⟩))
      · obtain ⟨nm2, p3, h5, h6⟩ := bindP_inv h4
        obtain ⟨st2, p4, h7, h8⟩ := bindP_inv h6
        cases h8
        exact Or.inr (Or.inr (Or.inr ⟨rfl, pSto_ok h3, pSto_ok h7⟩))
theorem WFr.app {os3 l2 : List OD} {s : Nat} (h1 : WFr os3 s) (h2 : WFr (os3 ++ l2) os3.length) : WFr (os3 ++ l2) s := by
  intro j o hj ho
  by_cases e : j < os3.length
  · rw [List.getElem?_append_left e] at ho
    rcases h1 j o hj ho with h9 | ⟨a1, t, w, a2, a3, a4, a5, a6, a7⟩
    · exact Or.inl h9
    · refine Or.inr ⟨a1, t, w, a2, a3, a4, a5, by rw [List.length_append]; omega, fun j' o' ho' h4 hjj hjw => ?_⟩
      rw [List.getElem?_append_left (by omega)] at ho'
      exact a7 j' o' ho' h4 hjj hjw
  · exact h2 j o (by omega) ho
theorem pOr1_wf {b : List Int32} {n : Nat} {cp : Int32} {rec : List OD → Nat → PK → PR (List OD)} (hpre : ∀ os w p os' p', rec os w p = .inr (os', p') → ∃ l, os' = os ++ l) (hrec : ∀ os w p os' p', rec os w p = .inr (os', p') → WFr os' os.length) {os : List OD} {w : Nat} {p : PK} {os' : List OD} {p' : PK} (h : pOr1 b n cp rec os w p = .inr (os', p')) : WFr os' os.length := by
  unfold pOr1 at h
  split at h
  · cases h
  · rename_i hkd
    split at h
    · obtain ⟨os3, p4, h1, h2⟩ := bindP_inv h
      obtain ⟨u, p5, h3, h4⟩ := bindP_inv h2
      cases h4
      split at h1
      · unfold pAgn at h1
        obtain ⟨t, p1, h5, h6⟩ := bindP_inv h1
        split at h6
        · split at h6
          · obtain ⟨os2, p2, h7, h8⟩ := bindP_inv h6
            obtain ⟨u, p3, h9, h10⟩ := bindP_inv h8
            cases h10
            have hw := hrec _ _ _ _ _ h7
            obtain ⟨l, hl⟩ := hpre _ _ _ _ _ h7
            have hlen : os.length < os2.length := by rw [hl]; simp
            have hlen1 : (os ++ [((4 : Int32), (0 : Int32), (0 : Int32), t, (0 : Int32))]).length = os.length + 1 := by simp
            rw [hlen1] at hw
            obtain ⟨T, hT, rfl⟩ := inB3_le (n := 20) (by omega) (pNum_in h5)
            intro j o hj ho
            by_cases e : os.length = j
            · subst e
              rw [List.getElem?_set_self hlen] at ho
              cases ho
              refine Or.inr ⟨rfl, T, os2.length, rfl, hT, rfl, hlen, by rw [List.length_set]; omega, fun j' o' ho' h4 hjj hjw => ?_⟩
              rw [List.getElem?_set_ne (by omega)] at ho'
              rcases hw j' o' (by omega) ho' with h9 | ⟨a1, t, w, a2, a3, a4, a5, a6, a7⟩
              · have := h9.kd; rw [h4] at this; exact absurd this (by decide)
              · exact ⟨w, a4, a6⟩
            · rw [List.getElem?_set_ne e] at ho
              rcases hw j o (by omega) ho with h9 | ⟨a1, t, w, a2, a3, a4, a5, a6, a7⟩
              · exact Or.inl h9
              · refine Or.inr ⟨a1, t, w, a2, a3, a4, a5, by rw [List.length_set]; exact a6, fun j' o' ho' h4 hjj hjw => ?_⟩
                rw [List.getElem?_set_ne (by omega)] at ho'
                exact a7 j' o' ho' h4 hjj hjw
          · cases h6
        · cases h6
      · rename_i hn4
        obtain ⟨o, p1, h5, h6⟩ := bindP_inv h1
        cases h6
        have hk4 : kdOf b p = 0 ∨ kdOf b p = 1 ∨ kdOf b p = 2 ∨ kdOf b p = 3 := by
          rcases kdOf_in b p with e | e | e | e | e | e
          · exact Or.inl e
          · exact Or.inr (Or.inl e)
          · exact Or.inr (Or.inr (Or.inl e))
          · exact Or.inr (Or.inr (Or.inr e))
          · exact absurd e hn4
          · exact absurd e hkd
        intro j o' hj ho
        have hlt := (List.getElem?_eq_some_iff.mp ho).1
        simp only [List.length_append, List.length_singleton] at hlt
        have e2 : j = os.length := by omega
        subst e2
        have : o = o' := by simpa using ho
        subst this
        exact Or.inl (pSng_ok hk4 h5)
    · cases h
theorem pOrs_wf {b : List Int32} {n : Nat} {cp : Int32} : ∀ r os w p os' p', pOrs b n cp r os w p = .inr (os', p') → WFr os' os.length := by
  intro r
  induction r with
  | zero =>
    intro os w p os' p' h
    cases h
    intro j o hj ho
    have := (List.getElem?_eq_some_iff.mp ho).1
    omega
  | succ r ih =>
    intro os w p os' p' h
    unfold pOrs at h
    have triv : WFr os os.length := by
      intro j o hj ho
      have := (List.getElem?_eq_some_iff.mp ho).1
      omega
    split at h
    · cases h; exact triv
    · split at h
      · cases h; exact triv
      · obtain ⟨os3, p5, h1, h2⟩ := bindP_inv h
        have w1 := pOr1_wf (pOrs_pre r) ih h1
        have w2 := ih _ _ _ _ _ h2
        obtain ⟨l2, rfl⟩ := pOrs_pre r _ _ _ _ _ h2
        exact w1.app w2
/-- the law's state: the game; states kept; states saved; refusals; the buffer, how much of it is fed; the error's place; the report, how long it is -/
abbrev LSt : Type := GS × List GS × (Nat → Option GS) × Int32 × (List Int32 × Nat) × Int32 × (List Int32 × Nat)
def LSt.g (x : LSt) : GS := x.1
def LSt.ps (x : LSt) : List GS := x.2.1
def LSt.sv (x : LSt) : Nat → Option GS := x.2.2.1
def LSt.rf (x : LSt) : Int32 := x.2.2.2.1
def LSt.b (x : LSt) : List Int32 := x.2.2.2.2.1.1
def LSt.n (x : LSt) : Nat := x.2.2.2.2.1.2
def LSt.er (x : LSt) : Int32 := x.2.2.2.2.2.1
def LSt.rp (x : LSt) : List Int32 := x.2.2.2.2.2.2.1
def LSt.w (x : LSt) : Nat := x.2.2.2.2.2.2.2
/-- one saved state -/
def Slt (S : TS) (i : Nat) : Option GS → Prop
  | none => (S.2 5)[i]? = some 0
  | some g' => (S.2 5)[i]? = some 1 ∧ TR (seg (S.2 4) (457 * i)) g'
/-- the twin between calls -/
def TI (S : TS) (x : LSt) : Prop := TL S ∧ TR (S.2 0) x.g ∧ Pst S x.ps ∧ S.1 24 = 0 ∧ S.1 99 = 0 ∧ (∀ i, i < 2 → Slt S i (x.sv i)) ∧ S.1 7 = x.rf ∧ (S.2 9 = x.b ∧ S.1 10 = i32 x.n ∧ x.n ≤ 500) ∧ S.1 11 = x.er ∧ (S.2 26 = x.rp ∧ S.1 28 = i32 x.w ∧ x.w ≤ 400)
theorem TI.qd {S S' : TS} {x : LSt} {c : Int32} (h : TI S x) (hq : Qd S S' x.g c) : TI S' x ∧ S'.1 8 = c := by
  obtain ⟨h1, h2, h3, h4, h5, h6, h7, h8, h9, h10⟩ := h
  obtain ⟨q1, q2, q3, q4⟩ := hq
  have f : ∀ k, k ≠ 8 → S'.1 k = S.1 k := fun k hk => by rw [q1, setF_n hk]
  refine ⟨⟨fun k hk => ?_, q4, ⟨(f 6 (by decide)).trans h3.1, h3.2.1, by rw [q2 3 (by decide) (by decide)]; exact h3.2.2⟩, (f 24 (by decide)).trans h4, (f 99 (by decide)).trans h5, fun i hi => ?_, (f 7 (by decide)).trans h7, ⟨(q2 9 (by decide) (by decide)).trans h8.1, (f 10 (by decide)).trans h8.2.1, h8.2.2⟩, (f 11 (by decide)).trans h9, ⟨(q2 26 (by decide) (by decide)).trans h10.1, (f 28 (by decide)).trans h10.2.1, h10.2.2⟩⟩, by rw [q1, setF_1]⟩
  · by_cases e0 : k = 0
    · subst e0; exact q4.1
    · by_cases e1 : k = 1
      · subst e1; exact q3
      · rw [q2 k e0 e1]; exact h1 k hk
  · have := h6 i hi
    cases hs : x.sv i with
    | none => rw [hs] at this; unfold Slt at this ⊢; rw [q2 5 (by decide) (by decide)]; exact this
    | some g' => rw [hs] at this; unfold Slt at this ⊢; rw [q2 5 (by decide) (by decide), q2 4 (by decide) (by decide)]; exact this
