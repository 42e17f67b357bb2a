/-! readings alike: two caps, two values left over -/
set_option maxRecDepth 100000
/-- values alike: the same below 100000 -/
def VE (v v' : Int32) : Prop := (∃ a, a < 100000 ∧ v = i32 a ∧ v' = i32 a) ∨ (v = i32 100000 ∧ ∃ a, 100000 ≤ a ∧ a ≤ 1000000 ∧ v' = i32 a)
def PKe (p p' : PK) : Prop := p.1 = p'.1 ∧ p.2.1 = p'.2.1 ∧ p.2.2.1 = p'.2.2.1 ∧ (p.2.2.1 = 2 → VE p.2.2.2 p'.2.2.2)
def PRe {α : Type} (x x' : PR α) : Prop := (∃ e, x = .inl e ∧ x' = .inl e) ∨ (∃ a p p', x = .inr (a, p) ∧ x' = .inr (a, p') ∧ PKe p p')
theorem bindP_e {α β : Type} {x x' : PR α} {f f' : α → PK → PR β} (h : PRe x x') (hf : ∀ a p p', PKe p p' → PRe (f a p) (f' a p')) : PRe (bindP x f) (bindP x' f') := by
  rcases h with ⟨e, rfl, rfl⟩ | ⟨a, p, p', rfl, rfl, hp⟩
  · exact Or.inl ⟨e, rfl, rfl⟩
  · exact hf a p p' hp
theorem PRe.er {α : Type} {e : Int32 × Nat} : PRe (.inl e : PR α) (.inl e) := Or.inl ⟨e, rfl, rfl⟩
theorem PRe.ok {α : Type} {a : α} {p p' : PK} (h : PKe p p') : PRe (.inr (a, p)) (.inr (a, p')) := Or.inr ⟨a, p, p', rfl, rfl, h⟩
theorem VE.in {v v' : Int32} {lo hi : Nat} (h : VE v v') (hh : hi < 100000) : inB3 v (i32 lo) (i32 hi) = inB3 v' (i32 lo) (i32 hi) ∧ (inB3 v (i32 lo) (i32 hi) = true → v = v') := by
  rcases h with ⟨a, ha, rfl, rfl⟩ | ⟨rfl, a, ha, ha2, rfl⟩
  · exact ⟨rfl, fun _ => rfl⟩
  · have f1 : inB3 (i32 100000) (i32 lo) (i32 hi) = false := by
      unfold inB3
      rw [decide_eq_true ((i32_lt (by omega) (by omega)).mpr (by omega : hi < 100000))]
      simp
    have f2 : inB3 (i32 a) (i32 lo) (i32 hi) = false := by
      unfold inB3
      rw [decide_eq_true ((i32_lt (by omega) (by omega)).mpr (by omega : hi < a))]
      simp
    exact ⟨f1.trans f2.symm, fun h9 => by rw [f1] at h9; cases h9⟩
theorem VE.step {v v' c : Int32} {c2 : Nat} (h : VE v v') (h1 : 100000 ≤ c2) (h2 : c2 ≤ 1000000) (hc : inB3 c 48 57 = true) : VE (if ((10 * v + c) - 48) < 100000 then ((10 * v + c) - 48) else 100000) (if ((10 * v' + c) - 48) < i32 c2 then ((10 * v' + c) - 48) else i32 c2) := by
  obtain ⟨k, hk, hk57, rfl⟩ : ∃ k, 48 ≤ k ∧ k ≤ 57 ∧ c = i32 k := by
    simp only [inB3, Bool.and_eq_true, Bool.not_eq_true', decide_eq_false_iff_not] at hc
    have h0 : ¬ c < 0 := by
      intro h9
      refine hc.1 ?_
      rw [Int32.lt_iff_toInt_lt] at *
      have e1 : (48 : Int32).toInt = 48 := rfl
      have e0 : (0 : Int32).toInt = 0 := rfl
      omega
    obtain ⟨e, hl⟩ := i32_of h0
    rw [e] at hc
    rw [show (48 : Int32) = i32 48 from rfl, show (57 : Int32) = i32 57 from rfl, i32_lt hl (by omega), i32_lt (by omega) hl] at hc
    exact ⟨_, by omega, by omega, e⟩
  have st : ∀ a, (10 : Int32) * i32 a + i32 k - 48 = i32 (10 * a + k - 48) := fun a => by
    rw [show (10 : Int32) = i32 10 from rfl, show (48 : Int32) = i32 48 from rfl, i32_mul, i32_add, i32_sub (by omega)]
  rw [show (100000 : Int32) = i32 100000 from rfl]
  rcases h with ⟨a, ha, rfl, rfl⟩ | ⟨rfl, a, ha, ha2, rfl⟩
  · rw [st]
    by_cases e : 10 * a + k - 48 < 100000
    · rw [if_pos ((i32_lt (by omega) (by omega)).mpr e), if_pos ((i32_lt (by omega) (by omega)).mpr (by omega))]
      exact Or.inl ⟨_, e, rfl, rfl⟩
    · rw [if_neg (fun h9 => e ((i32_lt (by omega) (by omega)).mp h9))]
      refine Or.inr ⟨rfl, ?_⟩
      by_cases e2 : 10 * a + k - 48 < c2
      · rw [if_pos ((i32_lt (by omega) (by omega)).mpr e2)]
        exact ⟨_, by omega, by omega, rfl⟩
      · rw [if_neg (fun h9 => e2 ((i32_lt (by omega) (by omega)).mp h9))]
        exact ⟨c2, h1, h2, rfl⟩
  · rw [st, st, if_neg (fun h9 => absurd ((i32_lt (by omega) (by omega)).mp h9) (by omega))]
    refine Or.inr ⟨rfl, ?_⟩
    by_cases e2 : 10 * a + k - 48 < c2
    · rw [if_pos ((i32_lt (by omega) (by omega)).mpr e2)]
      exact ⟨_, by omega, by omega, rfl⟩
    · rw [if_neg (fun h9 => e2 ((i32_lt (by omega) (by omega)).mp h9))]
      exact ⟨c2, h1, h2, rfl⟩
theorem skD_e {b : List Int32} {n c2 : Nat} (h1 : 100000 ≤ c2) (h2 : c2 ≤ 1000000) : ∀ r s v v', VE v v' → (skD b n 100000 r s v).1 = (skD b n (i32 c2) r s v').1 ∧ VE (skD b n 100000 r s v).2 (skD b n (i32 c2) r s v').2 := by
  intro r
  induction r with
  | zero => intro s v v' h; exact ⟨rfl, h⟩
  | succ r ih =>
    intro s v v' h
    unfold skD
    by_cases e : inB3 (sn b n s) 48 57 = true
    · rw [if_pos e, if_pos e]
      exact ih _ _ _ (h.step h1 h2 e)
    · rw [if_neg e, if_neg e]
      exact ⟨rfl, h⟩
section
variable {b : List Int32} {n c2 : Nat}
theorem nxt_e {p p' : PK} (h : p.1 = p'.1) (h1 : 100000 ≤ c2) (h2 : c2 ≤ 1000000) : PKe (nxt b n 100000 p) (nxt b n (i32 c2) p') := by
  unfold nxt
  rw [← h]
  generalize skW b n (n - p.1) p.1 = s
  unfold nxA
  have hd := skD_e (b := b) (n := n) h1 h2 (n - s) s 0 0 (Or.inl ⟨0, by omega, rfl, rfl⟩)
  split
  · exact ⟨rfl, rfl, rfl, fun h9 => absurd h9 (by show ¬ (0 : Int32) = 2; decide)⟩
  · split
    · exact ⟨rfl, rfl, rfl, fun h9 => absurd h9 (by show ¬ (1 : Int32) = 2; decide)⟩
    · split
      · exact ⟨hd.1, rfl, rfl, fun _ => hd.2⟩
      · refine ⟨rfl, rfl, rfl, fun h9 => ?_⟩
        exfalso
        revert h9
        show (if sn b n s = 59 ∨ sn b n s = 40 ∨ sn b n s = 41 then (3 : Int32) else 4) = 2 → False
        split <;> decide
theorem PKe.kw {p p' : PK} (h : PKe p p') (w : List Int32) : isKw b p w = isKw b p' w := by
  unfold isKw wd
  rw [h.1, h.2.1, h.2.2.1]
theorem PKe.sg {p p' : PK} (h : PKe p p') (c : Int32) : isSg b n p c = isSg b n p' c := by
  unfold isSg
  rw [h.2.1, h.2.2.1]
theorem PKe.lok {p p' : PK} (h : PKe p p') : pLok p = pLok p' := by
  unfold pLok
  rw [h.1, h.2.1, h.2.2.1]
theorem nam_e {p p' : PK} (h : PKe p p') : nam b p = nam b p' := by
  unfold nam
  rw [h.1, h.2.1]
theorem pNum_e {p p' : PK} {lo hi : Nat} (h : PKe p p') (hh : hi < 100000) (h1 : 100000 ≤ c2) (h2 : c2 ≤ 1000000) : PRe (pNum b n 100000 (i32 lo) (i32 hi) p) (pNum b n (i32 c2) (i32 lo) (i32 hi) p') := by
  unfold pNum
  rw [← h.2.2.1]
  by_cases e : p.2.2.1 = 2
  · rw [if_pos e, if_pos e]
    obtain ⟨e1, e2⟩ := (h.2.2.2 e).in (lo := lo) hh
    rw [← e1]
    by_cases e3 : inB3 p.2.2.2 (i32 lo) (i32 hi) = true
    · rw [if_pos e3, if_pos e3, ← e2 e3]
      exact PRe.ok (nxt_e h.1 h1 h2)
    · rw [if_neg e3, if_neg e3, h.2.1]
      exact PRe.er
  · rw [if_neg e, if_neg e, h.2.1]
    exact PRe.er
theorem pSig_e {p p' : PK} {c : Int32} (h : PKe p p') (h1 : 100000 ≤ c2) (h2 : c2 ≤ 1000000) : PRe (pSig b n 100000 c p) (pSig b n (i32 c2) c p') := by
  unfold pSig
  rw [← h.sg]
  split
  · exact PRe.ok (nxt_e h.1 h1 h2)
  · rw [h.2.1]; exact PRe.er
theorem pNam_e {p p' : PK} (h : PKe p p') (h1 : 100000 ≤ c2) (h2 : c2 ≤ 1000000) : PRe (pNam b n 100000 p) (pNam b n (i32 c2) p') := by
  unfold pNam
  rw [← h.lok]
  cases pLok p with
  | some e => exact PRe.er
  | none =>
    dsimp only
    rw [h.1, h.2.1]
    exact PRe.ok (nxt_e h.1 h1 h2)
theorem pPly_e {p p' : PK} {g : GS} (h : PKe p p') (h1 : 100000 ≤ c2) (h2 : c2 ≤ 1000000) : PRe (pPly b n 100000 g p) (pPly b n (i32 c2) g p') := by
  have hn := nxt_e (b := b) (n := n) h.1 h1 h2
  have hn2 := nxt_e (b := b) (n := n) hn.1 h1 h2
  unfold pPly
  rw [← h.kw, ← h.2.1, ← hn.lok, ← nam_e hn, ← hn.2.1]
  split
  · split
    · cases pLok (nxt b n 100000 p) with
      | some e => exact PRe.er
      | none =>
        dsimp only
        split
        · have := pNum_e (b := b) (n := n) (lo := 0) (hi := 999) hn2 (by omega) h1 h2
          rcases this with ⟨e, e1, e2⟩ | ⟨v, q, q', e1, e2, hq⟩
          · rw [show (0 : Int32) = i32 0 from rfl, show (999 : Int32) = i32 999 from rfl, e1, e2]; exact PRe.er
          · rw [show (0 : Int32) = i32 0 from rfl, show (999 : Int32) = i32 999 from rfl, e1, e2]; exact PRe.ok hq
        · exact PRe.er
    · exact PRe.er
  · exact PRe.er
theorem pStn_e {p p' : PK} {g : GS} {F : Nat} (hF : g.ns 0 = i32 (F + 1)) (hF6 : F < 100000) (h : PKe p p') (h1 : 100000 ≤ c2) (h2 : c2 ≤ 1000000) : PRe (pStn b n 100000 g p) (pStn b n (i32 c2) g p') := by
  have hn := nxt_e (b := b) (n := n) h.1 h1 h2
  unfold pStn
  rw [← h.2.2.1, ← h.2.1]
  by_cases e : p.2.2.1 = 2
  · rw [if_pos e, if_pos e, hF, i32_pred]
    obtain ⟨e1, e2⟩ := (h.2.2.2 e).in (lo := 0) (hi := F) hF6
    rw [show (0 : Int32) = i32 0 from rfl, ← e1]
    by_cases e3 : inB3 p.2.2.2 (i32 0) (i32 F) = true
    · rw [if_pos e3, if_pos e3]
      split
      · rcases pNum_e (b := b) (n := n) (lo := 1) (hi := 9) hn (by omega) h1 h2 with ⟨x, e4, e5⟩ | ⟨v, q, q', e4, e5, hq⟩
        · rw [show (1 : Int32) = i32 1 from rfl, show (9 : Int32) = i32 9 from rfl, e4, e5]; exact PRe.er
        · rw [show (1 : Int32) = i32 1 from rfl, show (9 : Int32) = i32 9 from rfl, e4, e5, ← e2 e3]; exact PRe.ok hq
      · exact PRe.er
    · rw [if_neg e3, if_neg e3]; exact PRe.er
  · rw [if_neg e, if_neg e]; exact PRe.er
theorem pStn_0 {c : Int32} {g g' : GS} {p p' : PK} (h : pStn b n c g p = .inr (g', p')) : g'.ns 0 = g.ns 0 := by
  unfold pStn at h
  split at h
  · split at h
    · split at h
      · split at h
        · cases h
        · cases h; rfl
      · cases h
    · cases h
  · cases h
theorem pCrL_e {F : Nat} (hF6 : F < 100000) (h1 : 100000 ≤ c2) (h2 : c2 ≤ 1000000) : ∀ r (g : GS) (p p' : PK), g.ns 0 = i32 (F + 1) → PKe p p' → PRe (pCrL b n 100000 r g p) (pCrL b n (i32 c2) r g p') := by
  intro r
  induction r with
  | zero => intro g p p' _ h; exact PRe.ok h
  | succ r ih =>
    intro g p p' hF h
    unfold pCrL
    rw [← h.2.2.1]
    split
    · rcases pStn_e (b := b) (n := n) hF hF6 h h1 h2 with ⟨x, e4, e5⟩ | ⟨v, q, q', e4, e5, hq⟩
      · rw [e4, e5]; exact PRe.er
      · rw [e4, e5]
        exact ih v q q' ((pStn_0 e4).trans hF) hq
    · exact PRe.ok h
theorem pCrt_e {F : Nat} {g : GS} {p p' : PK} (hF : g.ns 0 = i32 (F + 1)) (hF6 : F < 100000) (h : PKe p p') (h1 : 100000 ≤ c2) (h2 : c2 ≤ 1000000) : PRe (pCrt b n 100000 g p) (pCrt b n (i32 c2) g p') := by
  have hn := nxt_e (b := b) (n := n) h.1 h1 h2
  unfold pCrt
  rcases pStn_e (b := b) (n := n) hF hF6 hn h1 h2 with ⟨x, e4, e5⟩ | ⟨v, q, q', e4, e5, hq⟩
  · rw [e4, e5]; exact PRe.er
  · rw [e4, e5]
    dsimp only
    rcases pCrL_e (b := b) (n := n) hF6 h1 h2 60 v q q' ((pStn_0 e4).trans hF) hq with ⟨x, e6, e7⟩ | ⟨v2, q2, q2', e6, e7, hq2⟩
    · rw [e6, e7]; exact PRe.er
    · rw [e6, e7]; exact PRe.ok hq2
theorem pPly_0 {c : Int32} {g g' : GS} {p p' : PK} (h : pPly b n c g p = .inr (g', p')) : g'.ns 0 = g.ns 0 := by
  unfold pPly at h
  split at h
  · split at h
    · split at h
      · cases h
      · split at h
        · split at h
          · cases h
          · cases h; unfold gAdd; rw [wN_n (by decide)]; rfl
        · cases h
    · cases h
  · cases h
theorem pPrt_e {F : Nat} (hF6 : F < 100000) (h1 : 100000 ≤ c2) (h2 : c2 ≤ 1000000) : ∀ r (g : GS) (p p' : PK), g.ns 0 = i32 (F + 1) → PKe p p' → PRe (pPrt b n 100000 r g p) (pPrt b n (i32 c2) r g p') := by
  intro r
  induction r with
  | zero => intro g p p' _ h; exact PRe.ok h
  | succ r ih =>
    intro g p p' hF h
    have hn := nxt_e (b := b) (n := n) h.1 h1 h2
    unfold pPrt
    rw [← h.sg, ← hn.kw]
    split
    · split
      · exact pCrt_e hF hF6 hn h1 h2
      · rcases pPly_e (b := b) (n := n) (g := g) hn h1 h2 with ⟨x, e4, e5⟩ | ⟨v, q, q', e4, e5, hq⟩
        · rw [e4, e5]; exact PRe.er
        · rw [e4, e5]
          exact ih v q q' ((pPly_0 e4).trans hF) hq
    · exact PRe.ok h
theorem pEnd_e {α : Type} {a : α} {p p' : PK} (h : PKe p p') : PRe (pEnd a p) (pEnd a p') := by
  unfold pEnd
  rw [← h.2.2.1, ← h.2.1]
  split
  · exact PRe.ok h
  · exact PRe.er
theorem pSet_e {g : GS} {p p' : PK} (h : PKe p p') (h1 : 100000 ≤ c2) (h2 : c2 ≤ 1000000) : PRe (pSet b n 100000 g p) (pSet b n (i32 c2) g p') := by
  have hn := nxt_e (b := b) (n := n) h.1 h1 h2
  unfold pSet
  rw [← h.kw, ← h.2.1]
  split
  · rcases pNum_e (b := b) (n := n) (lo := 1) (hi := 6) hn (by omega) h1 h2 with ⟨x, e4, e5⟩ | ⟨v, q, q', e4, e5, hq⟩
    · rw [show (1 : Int32) = i32 1 from rfl, show (6 : Int32) = i32 6 from rfl, e4, e5]; exact PRe.er
    · have hv : ∃ F, F < 6 ∧ v = i32 (F + 1) := by
        have hin := pNum_in e4
        have h19 : inB3 v 1 9 = true := by
          simp only [inB3, Bool.and_eq_true, Bool.not_eq_true', decide_eq_false_iff_not] at hin ⊢
          refine ⟨hin.1, fun h9 => hin.2 ?_⟩
          rw [Int32.lt_iff_toInt_lt] at *
          have e1 : (9 : Int32).toInt = 9 := rfl
          have e0 : (i32 6).toInt = 6 := rfl
          omega
        obtain ⟨k, hk1, hk9, rfl⟩ := inB3_19 h19
        simp only [inB3, Bool.and_eq_true, Bool.not_eq_true', decide_eq_false_iff_not] at hin
        have : ¬ 6 < k := fun h9 => hin.2 ((i32_lt (by omega) (by omega)).mpr h9)
        exact ⟨k - 1, by omega, by rw [Nat.sub_add_cancel hk1]⟩
      obtain ⟨F, hF6, rfl⟩ := hv
      rw [show (1 : Int32) = i32 1 from rfl, show (6 : Int32) = i32 6 from rfl, e4, e5, bindP_ok, bindP_ok]
      refine bindP_e (pNum_e (lo := 0) (hi := 20) hq (by omega) h1 h2) fun i p2 p2' hp2 => bindP_e (pSig_e hp2 h1 h2) fun _ p3 p3' hp3 => ?_
      rcases pPly_e (b := b) (n := n) (g := (g.wN 0 (i32 (F + 1))).wN 1 i) hp3 h1 h2 with ⟨x, e6, e7⟩ | ⟨g1, q, q', e6, e7, hq⟩
      · rw [e6, e7]; exact PRe.er
      · rw [e6, e7, bindP_ok, bindP_ok]
        refine bindP_e (pSig_e hq h1 h2) fun _ p5 p5' hp5 => ?_
        rcases pPly_e (b := b) (n := n) (g := g1) hp5 h1 h2 with ⟨x, e8, e9⟩ | ⟨g2, q, q', e8, e9, hq⟩
        · rw [e8, e9]; exact PRe.er
        · rw [e8, e9, bindP_ok, bindP_ok]
          have hF : g2.ns 0 = i32 (F + 1) := (pPly_0 e8).trans ((pPly_0 e6).trans (by rw [wN_n (by decide), wN_e]))
          exact bindP_e (pPrt_e (by omega) h1 h2 4 g2 q q' hF hq) fun a p p' hp => pEnd_e hp
  · exact PRe.er
theorem kdOf_e {p p' : PK} (h : PKe p p') : kdOf b p = kdOf b p' := by
  unfold kdOf
  rw [h.kw, h.kw, h.kw, h.kw, h.kw]
theorem pSto_e {p p' : PK} (h : PKe p p') (h1 : 100000 ≤ c2) (h2 : c2 ≤ 1000000) : PRe (pSto b n 100000 p) (pSto b n (i32 c2) p') :=
  bindP_e (pNum_e (lo := 0) (hi := 5) h (by omega) h1 h2) fun _ p1 p1' hp1 => bindP_e (pNum_e (lo := 1) (hi := 9) hp1 (by omega) h1 h2) fun _ p2 p2' hp2 => PRe.ok hp2
theorem pSng_e {kd : Int32} {p p' : PK} (h : PKe p p') (h1 : 100000 ≤ c2) (h2 : c2 ≤ 1000000) : PRe (pSng b n 100000 kd p) (pSng b n (i32 c2) kd p') := by
  unfold pSng
  split
  · exact PRe.ok h
  · refine bindP_e (pNam_e h h1 h2) fun nm p1 p1' hp1 => ?_
    split
    · exact bindP_e (pNum_e (lo := 0) (hi := 9999) hp1 (by omega) h1 h2) fun _ p2 p2' hp2 => PRe.ok hp2
    · refine bindP_e (pSto_e hp1 h1 h2) fun st p2 p2' hp2 => ?_
      split
      · exact PRe.ok hp2
      · exact bindP_e (pNam_e hp2 h1 h2) fun nm2 p3 p3' hp3 => bindP_e (pSto_e hp3 h1 h2) fun st2 p4 p4' hp4 => PRe.ok hp4
theorem pOr1_e {rec rec' : List OD → Nat → PK → PR (List OD)} (hrec : ∀ os w p p', PKe p p' → PRe (rec os w p) (rec' os w p')) {os : List OD} {w : Nat} {p p' : PK} (h : PKe p p') (h1 : 100000 ≤ c2) (h2 : c2 ≤ 1000000) : PRe (pOr1 b n 100000 rec os w p) (pOr1 b n (i32 c2) rec' os w p') := by
  have hn := nxt_e (b := b) (n := n) h.1 h1 h2
  unfold pOr1
  rw [← kdOf_e h, ← h.2.1]
  split
  · exact PRe.er
  · split
    · refine bindP_e ?_ fun os3 p4 p4' hp4 => bindP_e (pSig_e hp4 h1 h2) fun _ p5 p5' hp5 => PRe.ok hp5
      split
      · unfold pAgn
        refine bindP_e (pNum_e (lo := 0) (hi := 20) hn (by omega) h1 h2) fun t p1 p1' hp1 => ?_
        rw [← hp1.sg, ← hp1.2.1]
        split
        · split
          · exact bindP_e (hrec _ _ _ _ (nxt_e hp1.1 h1 h2)) fun os2 p2 p2' hp2 => bindP_e (pSig_e hp2 h1 h2) fun _ p3 p3' hp3 => PRe.ok hp3
          · exact PRe.er
        · exact PRe.er
      · exact bindP_e (pSng_e hn h1 h2) fun o p1 p1' hp1 => PRe.ok hp1
    · exact PRe.er
theorem pOrs_e (h1 : 100000 ≤ c2) (h2 : c2 ≤ 1000000) : ∀ r os w (p p' : PK), PKe p p' → PRe (pOrs b n 100000 r os w p) (pOrs b n (i32 c2) r os w p') := by
  intro r
  induction r with
  | zero => intro os w p p' h; exact PRe.ok h
  | succ r ih =>
    intro os w p p' h
    unfold pOrs
    rw [← h.2.2.1, ← h.sg]
    split
    · exact PRe.ok h
    · split
      · exact PRe.ok h
      · exact bindP_e (pOr1_e ih h h1 h2) fun os3 p5 p5' hp5 => ih _ _ _ _ hp5
end
/-- the setup a buffer tells, the script -/
def rdS (b : List Int32) (n : Nat) : PR GS := pSet b n (i32 1000000) g00 (nxt b n (i32 1000000) (0, 0, 0, 0))
def rdO (b : List Int32) (n : Nat) : PR (List OD) := bindP (pOrs b n (i32 1000000) 31 [] 0 (nxt b n (i32 1000000) (0, 0, 0, 0))) pEnd
theorem rdS_t {b : List Int32} {n x : Nat} {z w : Int32} : PRe (pSet b n 100000 g00 (nxt b n 100000 (0, x, z, w))) (rdS b n) := pSet_e (nxt_e rfl (by omega) (by omega)) (by omega) (by omega)
theorem rdO_t {b : List Int32} {n x : Nat} {z w : Int32} : PRe (bindP (pOrs b n 100000 31 [] 0 (nxt b n 100000 (0, x, z, w))) pEnd) (rdO b n) := bindP_e (pOrs_e (by omega) (by omega) 31 [] 0 _ _ (nxt_e rfl (by omega) (by omega))) fun _ _ _ h => pEnd_e h
