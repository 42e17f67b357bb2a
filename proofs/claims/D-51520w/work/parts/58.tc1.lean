/-! the twin's reader: the cart, the setup -/
set_option maxRecDepth 100000
theorem pNum_ok {b : List Int32} {n : Nat} {cp lo hi : Int32} {p : PK} {v : Int32} {p' : PK} (hp : p.1 ≤ n) (h : pNum b n cp lo hi p = .inr (v, p')) : PKo n p' := by
  unfold pNum at h
  split at h
  · split at h
    · cases h; exact (nxt_ok hp).1
    · cases h
  · cases h
theorem pNum_in {b : List Int32} {n : Nat} {cp lo hi : Int32} {p : PK} {v : Int32} {p' : PK} (h : pNum b n cp lo hi p = .inr (v, p')) : inB3 v lo hi = true := by
  unfold pNum at h
  split at h
  · split at h
    · rename_i h2; cases h; exact h2
    · cases h
  · cases h
theorem pSig_ok {b : List Int32} {n : Nat} {cp c : Int32} {p : PK} {u : Unit} {p' : PK} (hp : p.1 ≤ n) (h : pSig b n cp c p = .inr (u, p')) : PKo n p' := by
  unfold pSig at h
  split at h
  · cases h; exact (nxt_ok hp).1
  · cases h
theorem pPly_len {b : List Int32} {n : Nat} {cp : Int32} {g g' : GS} {p p' : PK} (h : pPly b n cp g p = .inr (g', p')) : g'.pl.length = g.pl.length + 1 ∧ g.pl.length < 5 := by
  unfold pPly at h
  split at h
  · split at h
    · rename_i hl
      split at h
      · cases h
      · split at h
        · split at h
          · cases h
          · cases h; exact ⟨by show (g.pl ++ [_]).length = _; simp, hl⟩
        · cases h
    · cases h
  · cases h
theorem pStn_len {b : List Int32} {n : Nat} {cp : Int32} {g g' : GS} {p p' : PK} (h : pStn b n cp g p = .inr (g', p')) : g'.ct.length = g.ct.length + 1 ∧ g.ct.length < 60 := by
  unfold pStn at h
  split at h
  · split at h
    · split at h
      · rename_i hl
        split at h
        · cases h
        · cases h; exact ⟨by show (g.ct ++ [_]).length = _; simp, hl⟩
      · cases h
    · cases h
  · cases h
section
variable {G : GL} {d : Nat} {h0 h : AH} {m : Nat} {A : Nat → Nat} {S : TS} {g : GS} {n : Nat} {p : PK} {Qx : Nat → AH → Prop}
theorem e_rs60 {y : Int32} {u1 u2 : Value} {K : AH → Prop} (H : TWX h0 h m A S) (hc : ¬ S.1 16 = 0) (HK : K h) : MF G (d + 3) mi_M_readsStone 60 [.ref m, u1, u2] [.int y, .ref m] h (cV K Qx) :=
  b_M_readsStone_60 rfl (dR_of ⟨tw_K H, e_must H hc (tw_I H (by decide) rfl ⟨tw_K H, e_passes H hc ⟨tw_K H, e_number H hc (tw_I H (by decide) rfl ⟨fun _ => cV_mk HK, fun h9 => absurd h9 hc⟩)⟩⟩)⟩)
theorem e_rs14 {y : Int32} {u1 u2 : Value} {K : AH → Prop} (H : TWX h0 h m A S) (hl : (S.2 0).length = 457) (hc : ¬ S.1 16 = 0) (HK : K h) : MF G (d + 3) mi_M_readsStone 14 [.ref m, u1, u2] [.int y, .ref m] h (cV K Qx) :=
  b_M_readsStone_14 rfl (dR_of ⟨tw_K H, e_must H hc ⟨fun _ => tw_nE (j := 3) H hl (by decide) fun x => ⟨fun _ => e_rs60 H hc HK, fun _ => e_rs60 H hc HK⟩, fun hn => absurd rfl hn⟩⟩)
theorem e_readsStone {K : AH → Prop} (H : TWX h0 h m A S) (hl : (S.2 0).length = 457) (hc : ¬ S.1 16 = 0) (HK : K h) : MF G (d + 3) mi_M_readsStone 0 [.ref m, .retAddr 0, .retAddr 0] [] h (cV K Qx) :=
  b_M_readsStone_0 (tw_I H (by decide) rfl ⟨fun _ => e_rs14 H hl hc HK, fun _ => e_rs14 H hl hc HK⟩)
theorem o_readsStone {K : AH → Prop} (H : TWX h0 h m A (tP S p)) (hL : TL S) (hR : TR (S.2 0) g) (hf : S.1 10 = i32 n) (hn : n ≤ 500) (hp : PKo n p) (hc : S.1 16 = 0) (Ho : ∀ g' p', pStn (S.2 9) n 100000 g p = .inr (g', p') → PKo n p' → ∀ h' N', TR N' g' → TWX h0 h' m A (tP (setR S 0 N') p') → K h') (He : ∀ e q, pStn (S.2 9) n 100000 g p = .inl (e, q) → ∀ h' S', TWX h0 h' m A S' → ErS S S' e q → K h') : MF G (d + 6) mi_M_readsStone 0 [.ref m, .retAddr 0, .retAddr 0] [] h (cV K Qx) := by
  have hb : (S.2 9).length = 500 := hL 9 rfl
  have hl0 : (S.2 0).length = 457 := hL 0 rfl
  have h60 := hR.2.2.1
  have el0 : ∀ {S' : TS} {c : Int32} {q : Nat}, ErS S S' c q → (S'.2 0).length = 457 := fun hE => hE.2.2.2.2.2 0 rfl
  unfold pStn at Ho He
  have t60 : p.2.2.1 = 2 → inB3 p.2.2.2 0 (g.ns 0 - 1) = true → ∀ b, decide (g.ct.length < 60) = b → MF G (d + 6) mi_M_readsStone 60 [.ref m, .retAddr 0, .retAddr 0] [.int (b01 b), .ref m] h (cV K Qx) := by
    intro ht hin b hb2
    rw [if_pos ht, if_pos hin] at Ho He
    refine b_M_readsStone_60 rfl (dR_of ⟨tw_K H, o_must H hL hc (by decide) (fun hb3 => ?_) (fun hb3 h' S' H' hE => ?_)⟩)
    · have hlt : g.ct.length < 60 := of_decide_eq_true (hb2.trans hb3)
      rw [if_pos hlt] at Ho He
      refine tw_I H (by decide) rfl ?_
      rw [tP_15]
      refine ⟨tw_K H, o_passes H hb hf hn hp.2 hc fun h1 H1 => ?_⟩
      obtain ⟨hp1, -, -⟩ := nxt_ok (b := S.2 9) (cp := 100000) hp.2
      refine ⟨tw_K H1, o_number H1 hL hf hn hp1 hc (fun v p3 hv h3 H3 => ?_) (fun e q hv h' S' v H' hE => ?_)⟩
      · rw [hv] at Ho
        have e16' : (tP S p3).1 16 = 0 := (tP_r (by decide) (by decide) (by decide) (by decide)).trans hc
        exact tw_I H3 (by decide) rfl ⟨fun hn9 => absurd e16' hn9, fun _ => ⟨tw_K H3, s_toEnd (g := g) H3 hR (by omega) fun h4 N4 hN4 H4 => cV_mk (Ho _ _ rfl (pNum_ok hp1.2 hv) h4 N4 hN4 H4)⟩⟩
      · rw [hv] at He
        exact tw_I H' (by decide) rfl ⟨fun _ => cV_mk (He e q rfl h' S' H' hE), fun h9 => absurd h9 hE.c⟩
    · have hlt : ¬ g.ct.length < 60 := of_decide_eq_false (hb2.trans hb3)
      rw [if_neg hlt] at He
      exact tw_I H' (by decide) rfl ⟨tw_K H', e_passes H' hE.c ⟨tw_K H', e_number H' hE.c (tw_I H' (by decide) rfl ⟨fun _ => cV_mk (He _ _ rfl h' S' H' hE), fun h9 => absurd h9 hE.c⟩)⟩⟩
  have t14 : ∀ b, decide (p.2.2.1 = 2) = b → MF G (d + 6) mi_M_readsStone 14 [.ref m, .retAddr 0, .retAddr 0] [.int (b01 b), .ref m] h (cV K Qx) := by
    intro b hb2
    refine b_M_readsStone_14 rfl (dR_of ⟨tw_K H, o_must H hL hc (by decide) (fun hb3 => ⟨fun h9 => absurd h9 (by decide), fun _ => ?_⟩) (fun hb3 h' S' H' hE => ⟨fun _ => ?_, fun hn => absurd rfl hn⟩)⟩)
    · have ht : p.2.2.1 = 2 := of_decide_eq_true (hb2.trans hb3)
      refine tw_I H (by decide) rfl ?_
      rw [tP_15]
      refine tw_n (j := 0) (g := g) H hR (by decide) (s_in ⟨tw_K H, o_must (b := inB3 p.2.2.2 0 (g.ns 0 - 1)) H hL hc (by decide) (fun hb4 => ?_) (fun hb4 h' S' H' hE => ?_)⟩)
      · refine tw_n (j := 3) (g := g) H hR (by decide) ⟨fun hle => t60 ht hb4 false (decide_eq_false ?_), fun hgt => t60 ht hb4 true (decide_eq_true ?_)⟩
        · have := (i32_le (a := 60) (by omega) (by omega)).mp hle
          omega
        · have : ¬ 60 ≤ g.ct.length := fun e => hgt ((i32_le (a := 60) (by omega) (by omega)).mpr e)
          omega
      · rw [if_pos ht, if_neg (by rw [hb4]; decide)] at He
        have HE := He _ _ rfl h' S' H' hE
        exact tw_nE (j := 3) H' (el0 hE) (by decide) fun x => ⟨fun _ => e_rs60 H' hE.c HE, fun _ => e_rs60 H' hE.c HE⟩
    · have ht : ¬ p.2.2.1 = 2 := of_decide_eq_false (hb2.trans hb3)
      rw [if_neg ht] at He
      have HE := He _ _ rfl h' S' H' hE
      exact tw_nE (j := 3) H' (el0 hE) (by decide) fun x => ⟨fun _ => e_rs60 H' hE.c HE, fun _ => e_rs60 H' hE.c HE⟩
  refine b_M_readsStone_0 (tw_I H (by decide) rfl ?_)
  rw [tP_14]
  exact ⟨fun h9 => t14 false (decide_eq_false h9), fun h9 => t14 true (decide_eq_true h9)⟩
theorem o_readsCart {K : AH → Prop} (h99 : S.1 99 = 0) (H : TWX h0 h m A (tP S p)) (hL : TL S) (hR : TR (S.2 0) g) (hct : g.ct.length = 0) (hf : S.1 10 = i32 n) (hn : n ≤ 500) (hp : PKo n p) (hc : S.1 16 = 0) (Ho : ∀ g' p', pCrt (S.2 9) n 100000 g p = .inr (g', p') → PKo n p' → ∀ h' N', TR N' g' → TWX h0 h' m A (tP (setR S 0 N') p') → K h') (He : ∀ e q, pCrt (S.2 9) n 100000 g p = .inl (e, q) → ∀ h' S', TWX h0 h' m A S' → ErS S S' e q → K h') : MF G (d + 7) mi_M_readsCart 0 [.ref m] [] h (cV K Qx) := by
  have hb : (S.2 9).length = 500 := hL 9 rfl
  obtain ⟨hp1, -, -⟩ := nxt_ok (b := S.2 9) (cp := 100000) hp.2
  have eend : ∀ h' S' e q, pCrt (S.2 9) n 100000 g p = .inl (e, q) → TWX h0 h' m A S' → ErS S S' e q → MF G (d + 7) mi_M_readsCart 8 [.ref m] [] h' (cV K Qx) := by
    intro h' S' e q eq H' hE
    have hl9 : (S'.2 0).length = 457 := hE.2.2.2.2.2 0 rfl
    refine b_M_readsCart_8 (tw_I H' (by decide) rfl ⟨fun _ => tw_R (k := 0) H' (by decide) rfl (tw_nE (j := 3) H' hl9 (by decide) fun x => dR_of (tw_pA (k := 0) (n := 8) H' rfl (by decide) rfl (by omega) (by omega) fun h1 H1 => cV_mk (He e q eq h1 _ H1 (hE.rowS h99 (by rw [List.length_set]; exact hl9))))), fun h9 => absurd h9 hE.c⟩)
  have fin : ∀ g1 p1 N1 hh, pCrt (S.2 9) n 100000 g p = .inr (g1.wN 8 (i32 g1.ct.length), p1) → PKo n p1 → TR N1 g1 → TWX h0 hh m A (tP (setR S 0 N1) p1) → ¬ p1.2.2.1 = 2 → MF G (d + 7) mi_M_readsCart 8 [.ref m] [] hh (cV K Qx) := by
    intro g1 p1 N1 hh eq hp1 hN1 HH ht
    have e16' : (tP (setR S 0 N1) p1).1 16 = 0 := (tP_r (by decide) (by decide) (by decide) (by decide)).trans hc
    have hRR : TR ((tP (setR S 0 N1) p1).2 0) g1 := by rw [tP_2, setR_k]; exact hN1
    refine b_M_readsCart_8 (tw_I HH (by decide) rfl ⟨fun hn => absurd e16' hn, fun _ => tw_I HH (by decide) rfl ?_⟩)
    rw [tP_14]
    refine ⟨fun _ => tw_R (k := 0) HH (by decide) rfl (tw_n (j := 3) (g := g1) HH hRR (by decide) (dR_of (tw_pA (k := 0) (n := 8) HH rfl (by decide) rfl (by omega) (by rw [hRR.1]; omega) fun h1 H1 => cV_mk ?_))), fun h9 => absurd h9 ht⟩
    rw [tP_R, setR_R, tP_2, setR_k] at H1
    exact Ho _ _ eq hp1 h1 _ (TR_num hN1 (by decide) (by decide) (by decide) (by decide)) H1
  have loop : ∀ r g1 p1 N1 hh, r + g1.ct.length ≥ 61 → PKo n p1 → TR N1 g1 → TWX h0 hh m A (tP (setR S 0 N1) p1) → (∀ x, pCrL (S.2 9) n 100000 r g1 p1 = x → pCrt (S.2 9) n 100000 g p = match x with | .inl e => .inl e | .inr (g'', p'') => .inr (g''.wN 8 (i32 g''.ct.length), p'')) → MF G (d + 7) mi_M_readsCart 8 [.ref m] [] hh (cV K Qx) := by
    intro r
    induction r with
    | zero =>
      intro g1 p1 N1 hh hr hp1 hN1 HH eq
      have := hN1.2.2.1
      omega
    | succ r ih =>
      intro g1 p1 N1 hh hr hp1 hN1 HH eq
      by_cases ht : p1.2.2.1 = 2
      · have e16' : (tP (setR S 0 N1) p1).1 16 = 0 := (tP_r (by decide) (by decide) (by decide) (by decide)).trans hc
        have e9 : (setR S 0 N1).2 9 = S.2 9 := setR_n (by decide)
        refine b_M_readsCart_8 (tw_I HH (by decide) rfl ⟨fun hn => absurd e16' hn, fun _ => tw_I HH (by decide) rfl ?_⟩)
        rw [tP_14]
        refine ⟨fun h9 => absurd ht h9, fun _ => ⟨tw_K HH, o_readsStone (S := setR S 0 N1) (g := g1) (n := n) (p := p1) HH (TL_setR hL hN1.1) (by rw [setR_k]; exact hN1) hf hn hp1 hc (fun g2 p2 h2 hp2 h3 N3 hN3 H3 => ?_) (fun e q h2 h3 S3 H3 hE => ?_)⟩⟩
        · rw [e9] at h2
          obtain ⟨hln, -⟩ := pStn_len h2
          rw [setR_R] at H3
          refine ih g2 p2 N3 h3 (by omega) hp2 hN3 H3 fun x hx => ?_
          refine eq x ?_
          unfold pCrL
          rw [if_pos ht, h2]
          exact hx
        · rw [e9] at h2
          refine eend h3 S3 e q ?_ H3 (hE.row h99)
          have := eq (.inl (e, q)) (by unfold pCrL; rw [if_pos ht, h2])
          exact this
      · refine fin g1 p1 N1 hh ?_ hp1 hN1 HH ht
        exact eq (.inr (g1, p1)) (by unfold pCrL; rw [if_neg ht])
  refine b_M_readsCart_0 ⟨tw_K H, s_goes H hb hf hn hp.2 fun h1 H1 => ⟨tw_K H1, o_readsStone H1 hL hR hf hn hp1 hc (fun g2 p2 h2 hp2 h3 N3 hN3 H3 => ?_) (fun e q h2 h3 S3 H3 hE => ?_)⟩⟩
  · obtain ⟨hln, -⟩ := pStn_len h2
    refine loop 60 g2 p2 N3 h3 (by omega) hp2 hN3 H3 fun x hx => ?_
    unfold pCrt
    rw [h2]
    dsimp only
    rw [hx]
    rfl
  · refine eend h3 S3 e q ?_ H3 hE
    unfold pCrt
    rw [h2]
end
def bindP {α β : Type} (x : PR α) (f : α → PK → PR β) : PR β := match x with
  | .inl e => .inl e
  | .inr (a, p) => f a p
def pEnd {α : Type} (a : α) (p : PK) : PR α := if p.2.2.1 = 0 then .inr (a, p) else .inl (1, p.2.1)
def pSet (b : List Int32) (n : Nat) (cp : Int32) (g : GS) (p : PK) : PR GS :=
  if isKw b p (sbs "quarry") then
    bindP (pNum b n cp 1 6 (nxt b n cp p)) fun f p1 => bindP (pNum b n cp 0 20 p1) fun i p2 => bindP (pSig b n cp 59 p2) fun _ p3 => bindP (pPly b n cp ((g.wN 0 f).wN 1 i) p3) fun g1 p4 => bindP (pSig b n cp 59 p4) fun _ p5 => bindP (pPly b n cp g1 p5) fun g2 p6 => bindP (pPrt b n cp 4 g2 p6) pEnd
  else .inl (1, p.2.1)
section
variable {G : GL} {d : Nat} {h0 h : AH} {m : Nat} {A : Nat → Nat} {S : TS} {g : GS} {n : Nat} {p : PK} {Qx : Nat → AH → Prop}
theorem e_set64 {x : Int32} {K : AH → Prop} (H : TWX h0 h m A S) (hc : ¬ S.1 16 = 0) (HK : K h) : MF G (d + 2) mi_M_readsSetup 64 [.ref m, .int x] [] h (cV K Qx) := by
  have t : ∀ y : Int32, MF G (d + 2) mi_M_readsSetup 119 [.ref m, .int x] [.int y, .ref m] h (cV K Qx) := fun y => b_M_readsSetup_119 rfl (dR_of ⟨tw_K H, e_must H hc (cV_mk HK)⟩)
  exact b_M_readsSetup_64 ⟨fun _ => tw_I H (by decide) rfl ⟨fun _ => t 0, fun _ => t 1⟩, fun _ => ⟨tw_K H, e_isSign H hc ⟨fun _ => tw_I H (by decide) rfl ⟨fun _ => t 0, fun _ => t 1⟩, fun hn => absurd rfl hn⟩⟩⟩
theorem o_readsSetup {K : AH → Prop} (h99 : S.1 99 = 0) (H : TWX h0 h m A (tP S p)) (hL : TL S) (hZ : TRZ (S.2 0) g) (hpl : g.pl.length = 0) (hct : g.ct.length = 0) (hf : S.1 10 = i32 n) (hn : n ≤ 500) (hp : PKo n p) (hc : S.1 16 = 0) (hK : SK G) (hs : STR G h) (Ho : ∀ g' p', pSet (S.2 9) n 100000 g p = .inr (g', p') → ∀ h' N', TR N' g' → TWX h0 h' m A (tP (setR S 0 N') p') → K h') (He : ∀ e q, pSet (S.2 9) n 100000 g p = .inl (e, q) → ∀ h' S', TWX h0 h' m A S' → ErS S S' e q → K h') : MF G (d + 9) mi_M_readsSetup 0 [.ref m, .retAddr 0] [] h (cV K Qx) := by
  have hb : (S.2 9).length = 500 := hL 9 rfl
  have el0 : ∀ {S' : TS} {c : Int32} {q : Nat}, ErS S S' c q → (S'.2 0).length = 457 := fun hE => hE.2.2.2.2.2 0 rfl
  obtain ⟨hp1, -, -⟩ := nxt_ok (b := S.2 9) (cp := 100000) hp.2
  -- the end of the text
  have finT : ∀ (x : Int32) g1 p1 N1 hh, TR N1 g1 → TWX h0 hh m A (tP (setR S 0 N1) p1) → pSet (S.2 9) n 100000 g p = pEnd g1 p1 → gI hh m [12] 14 fun y2 => ((¬ y2 = 0 → MF G (d + 9) mi_M_readsSetup 119 [.ref m, .int x] [.int 0, .ref m] hh (cV K Qx)) ∧ (y2 = 0 → MF G (d + 9) mi_M_readsSetup 119 [.ref m, .int x] [.int 1, .ref m] hh (cV K Qx))) := by
    intro x g1 p1 N1 hh hN1 HH eq
    have t : ∀ b, decide (p1.2.2.1 = 0) = b → MF G (d + 9) mi_M_readsSetup 119 [.ref m, .int x] [.int (b01 b), .ref m] hh (cV K Qx) := by
      intro b hb2
      refine b_M_readsSetup_119 rfl (dR_of ⟨tw_K HH, o_must HH (TL_setR hL hN1.1) hc (by decide) (fun hb3 => cV_mk ?_) (fun hb3 h' S' H' hE => cV_mk ?_)⟩)
      · have ht : p1.2.2.1 = 0 := of_decide_eq_true (hb2.trans hb3)
        exact Ho g1 p1 (eq.trans (if_pos ht)) hh N1 hN1 HH
      · have ht : ¬ p1.2.2.1 = 0 := of_decide_eq_false (hb2.trans hb3)
        exact He _ _ (eq.trans (if_neg ht)) h' S' H' (hE.row h99)
    refine tw_I HH (by decide) rfl ?_
    rw [tP_14]
    exact ⟨fun h9 => t false (decide_eq_false h9), fun h9 => t true (decide_eq_true h9)⟩
  have loop : ∀ r g1 p1 N1 hh, r + g1.pl.length ≥ 6 → g1.ct.length = 0 → PKo n p1 → TRZ N1 g1 → TWX h0 hh m A (tP (setR S 0 N1) p1) → (∀ x, pPrt (S.2 9) n 100000 r g1 p1 = x → pSet (S.2 9) n 100000 g p = bindP x pEnd) → MF G (d + 9) mi_M_readsSetup 64 [.ref m, .int 0] [] hh (cV K Qx) := by
    intro r
    induction r with
    | zero =>
      intro g1 p1 N1 hh hr hct1 hp1 hN1 HH eq
      have := hN1.1.2.1
      omega
    | succ r ih =>
      intro g1 p1 N1 hh hr hct1 hp1 hN1 HH eq
      have e9 : (setR S 0 N1).2 9 = S.2 9 := setR_n (by decide)
      have hLN : TL (setR S 0 N1) := TL_setR hL hN1.1.1
      refine b_M_readsSetup_64 ⟨fun hn => absurd rfl hn, fun _ => ⟨tw_K HH, o_isSign (S := setR S 0 N1) HH hb hf hn hp1 hc ⟨fun hz => ?_, fun hnz => ⟨tw_K HH, s_goes (S := setR S 0 N1) HH hb hf hn hp1.2 fun h2 H2 => ?_⟩⟩⟩⟩
      · refine finT 0 g1 p1 N1 hh hN1.1 HH (eq (.inr (g1, p1)) ?_)
        unfold pPrt
        rw [if_neg (by rw [show isSg (S.2 9) n p1 59 = false from b01_0 hz]; decide)]
      · have hsg : isSg (S.2 9) n p1 59 = true := b01_1 hnz
        rw [e9] at H2
        obtain ⟨hp2, -, -⟩ := nxt_ok (b := S.2 9) (cp := 100000) hp1.2
        have hs2 : STR G h2 := hs.tw H H2
        refine ⟨tw_K H2, o_isKey (S := setR S 0 N1) (w := sbs "cart") H2 hb hn hp2 hc hK (hs2 20 _ _ _ rfl) (by decide) ⟨fun hz2 => ?_, fun hnz2 => ?_⟩⟩
        · have hkw : isKw (S.2 9) (nxt (S.2 9) n 100000 p1) (sbs "cart") = false := b01_0 hz2
          rw [show isKw ((setR S 0 N1).2 9) (nxt (S.2 9) n 100000 p1) (sbs "cart") = false from hkw]
          refine ⟨tw_K H2, o_readsPlayer (S := setR S 0 N1) (g := g1) H2 hLN (by rw [setR_k]; exact hN1) hf hn hp2 hc hK hs2 (fun g2 p2 hy hp3 h3 N3 hN3 H3 => ?_) (fun e q hy h3 S3 H3 hE => ?_)⟩
          · rw [e9] at hy
            rw [setR_R] at H3
            obtain ⟨hln, -⟩ := pPly_len hy
            have hct2 : g2.ct.length = 0 := by
              unfold pPly at hy
              split at hy
              · split at hy
                · split at hy
                  · cases hy
                  · split at hy
                    · split at hy
                      · cases hy
                      · cases hy; exact hct1
                    · cases hy
                · cases hy
              · cases hy
            refine ih g2 p2 N3 h3 (by omega) hct2 hp3 hN3 H3 fun x hx => ?_
            refine eq x ?_
            unfold pPrt
            rw [if_pos hsg, if_neg (by rw [hkw]; decide), hy]
            exact hx
          · rw [e9] at hy
            refine e_set64 H3 (hE.row h99).c (He e q ?_ h3 S3 H3 (hE.row h99))
            exact eq (.inl (e, q)) (by unfold pPrt; rw [if_pos hsg, if_neg (by rw [hkw]; decide), hy])
        · have hkw : isKw (S.2 9) (nxt (S.2 9) n 100000 p1) (sbs "cart") = true := b01_1 hnz2
          rw [show isKw ((setR S 0 N1).2 9) (nxt (S.2 9) n 100000 p1) (sbs "cart") = true from hkw]
          refine ⟨tw_K H2, o_readsCart (S := setR S 0 N1) (g := g1) h99 H2 hLN (by rw [setR_k]; exact hN1.1) hct1 hf hn hp2 hc (fun g2 p2 hy hp3 h3 N3 hN3 H3 => ?_) (fun e q hy h3 S3 H3 hE => ?_)⟩
          · rw [e9] at hy
            rw [setR_R] at H3
            refine b_M_readsSetup_64 ⟨fun _ => finT (b01 true) g2 p2 N3 h3 hN3 H3 (eq (.inr (g2, p2)) ?_), fun h9 => absurd h9 (by decide)⟩
            unfold pPrt
            rw [if_pos hsg, if_pos hkw, hy]
          · rw [e9] at hy
            refine e_set64 H3 (hE.row h99).c (He e q ?_ h3 S3 H3 (hE.row h99))
            exact eq (.inl (e, q)) (by unfold pPrt; rw [if_pos hsg, if_pos hkw, hy])
  refine b_M_readsSetup_0 ⟨tw_K H, o_isKey (w := sbs "quarry") H hb hn hp hc hK (hs 18 _ _ _ rfl) (by decide) ⟨tw_K H, o_must H hL hc (by decide) (fun hb1 => ?_) (fun hb1 h' S' H' hE => ?_)⟩⟩
  · have eSet : pSet (S.2 9) n 100000 g p = _ := if_pos hb1
    refine ⟨tw_K H, o_passes H hb hf hn hp.2 hc fun h1 H1 => tw_R (k := 0) H1 (by decide) rfl ⟨tw_K H1, o_number H1 hL hf hn hp1 hc (fun f p1 hv1 h2 H2 => ?_) (fun e q hv1 h' S' v H' hE => ?_)⟩⟩
    · rw [hv1] at eSet
      have hp2 := pNum_ok hp1.2 hv1
      refine dR_of (tw_pA (k := 0) (n := 0) H2 rfl (by decide) rfl (by omega) (by show 0 < (S.2 0).length; rw [hZ.1.1]; omega) fun h3 H3 => ?_)
      rw [tP_R, tP_2] at H3
      have hZ1 := TRZ_num (x := f) hZ (j := 0) (by decide) (by decide) (by decide) (by decide)
      have hL1 : TL (setR S 0 ((S.2 0).set 0 f)) := TL_setR hL hZ1.1.1
      refine tw_R (k := 0) H3 (by decide) rfl ⟨tw_K H3, o_number (S := setR S 0 ((S.2 0).set 0 f)) H3 hL1 hf hn hp2 hc (fun i p2 hv2 h4 H4 => ?_) (fun e q hv2 h' S' v H' hE => ?_)⟩
      · rw [setR_n (by decide)] at hv2
        have eSet2 := eSet.trans (show _ = bindP (pNum (S.2 9) n 100000 0 20 p1) _ from rfl)
        rw [hv2] at eSet2
        have hp3 := pNum_ok hp2.2 hv2
        refine dR_of (tw_pA (k := 0) (n := 1) H4 rfl (by decide) rfl (by omega) (by rw [tP_2, setR_k, List.length_set, hZ.1.1]; omega) fun h5 H5 => ?_)
        rw [tP_R, setR_R, tP_2, setR_k] at H5
        have hZ2 := TRZ_num (x := i) hZ1 (j := 1) (by decide) (by decide) (by decide) (by decide)
        have hL2 : TL (setR S 0 (((S.2 0).set 0 f).set 1 i)) := TL_setR hL hZ2.1.1
        have b2 : (setR S 0 (((S.2 0).set 0 f).set 1 i)).2 9 = S.2 9 := setR_n (by decide)
        refine ⟨tw_K H5, o_takesSign (S := setR S 0 (((S.2 0).set 0 f).set 1 i)) H5 hL2 hf hn hp3 hc (fun p3 hv3 h6 H6 => ?_) (fun e q hv3 h' S' H' hE => ?_)⟩
        · rw [b2] at hv3
          have eSet3 := eSet2.trans (show _ = bindP (pSig (S.2 9) n 100000 59 p2) _ from rfl)
          rw [hv3] at eSet3
          have hp4 := pSig_ok hp3.2 hv3
          have hs6 : STR G h6 := hs.tw H H6
          refine ⟨tw_K H6, o_readsPlayer (S := setR S 0 (((S.2 0).set 0 f).set 1 i)) (g := (g.wN 0 f).wN 1 i) H6 hL2 (by rw [setR_k]; exact hZ2) hf hn hp4 hc hK hs6 (fun g1 p4 hv4 hp5 h7 N7 hN7 H7 => ?_) (fun e q hv4 h' S' H' hE => ?_)⟩
          · rw [b2] at hv4
            rw [setR_R] at H7
            have eSet4 := eSet3.trans (show _ = bindP (pPly (S.2 9) n 100000 ((g.wN 0 f).wN 1 i) p3) _ from rfl)
            rw [hv4] at eSet4
            have hL3 : TL (setR S 0 N7) := TL_setR hL hN7.1.1
            have b3 : (setR S 0 N7).2 9 = S.2 9 := setR_n (by decide)
            have len4 := (pPly_len hv4).1
            have ct4 : g1.ct.length = 0 := by
              unfold pPly at hv4
              split at hv4
              · split at hv4
                · split at hv4
                  · cases hv4
                  · split at hv4
                    · split at hv4
                      · cases hv4
                      · cases hv4; exact hct
                    · cases hv4
                · cases hv4
              · cases hv4
            refine ⟨tw_K H7, o_takesSign (S := setR S 0 N7) H7 hL3 hf hn hp5 hc (fun p5 hv5 h8 H8 => ?_) (fun e q hv5 h' S' H' hE => ?_)⟩
            · rw [b3] at hv5
              have eSet5 := eSet4.trans (show _ = bindP (pSig (S.2 9) n 100000 59 p4) _ from rfl)
              rw [hv5] at eSet5
              have hp6 := pSig_ok hp5.2 hv5
              have hs8 : STR G h8 := hs.tw H H8
              refine ⟨tw_K H8, o_readsPlayer (S := setR S 0 N7) (g := g1) H8 hL3 (by rw [setR_k]; exact hN7) hf hn hp6 hc hK hs8 (fun g2 p6 hv6 hp7 h9 N9 hN9 H9 => ?_) (fun e q hv6 h' S' H' hE => ?_)⟩
              · rw [b3] at hv6
                rw [setR_R] at H9
                have eSet6 := eSet5.trans (show _ = bindP (pPly (S.2 9) n 100000 g1 p5) _ from rfl)
                rw [hv6] at eSet6
                have len6 := (pPly_len hv6).1
                have ct6 : g2.ct.length = 0 := by
                  unfold pPly at hv6
                  split at hv6
                  · split at hv6
                    · split at hv6
                      · cases hv6
                      · split at hv6
                        · split at hv6
                          · cases hv6
                          · cases hv6; exact ct4
                        · cases hv6
                    · cases hv6
                  · cases hv6
                have len0 : ((g.wN 0 f).wN 1 i).pl.length = 0 := hpl
                refine loop 4 g2 p6 N9 h9 (by omega) ct6 hp7 hN9 H9 fun x hx => ?_
                have eSet7 := eSet6.trans (show _ = bindP (pPrt (S.2 9) n 100000 4 g2 p6) pEnd from rfl)
                rw [hx] at eSet7
                exact eSet7
              · rw [b3] at hv6
                have eSet6 := eSet5.trans (show _ = bindP (pPly (S.2 9) n 100000 g1 p5) _ from rfl)
                rw [hv6] at eSet6
                exact e_set64 H' (hE.row h99).c (He e q eSet6 h' S' H' (hE.row h99))
            · rw [b3] at hv5
              have eSet5 := eSet4.trans (show _ = bindP (pSig (S.2 9) n 100000 59 p4) _ from rfl)
              rw [hv5] at eSet5
              have hE' := (hE.row h99)
              exact ⟨tw_K H', e_readsPlayer H' (el0 hE') hE'.c (e_set64 H' hE'.c (He e q eSet5 h' S' H' hE'))⟩
          · rw [b2] at hv4
            have eSet4 := eSet3.trans (show _ = bindP (pPly (S.2 9) n 100000 ((g.wN 0 f).wN 1 i) p3) _ from rfl)
            rw [hv4] at eSet4
            have hE' := (hE.row h99)
            exact ⟨tw_K H', e_takesSign H' hE'.c ⟨tw_K H', e_readsPlayer H' (el0 hE') hE'.c (e_set64 H' hE'.c (He e q eSet4 h' S' H' hE'))⟩⟩
        · rw [b2] at hv3
          have eSet3 := eSet2.trans (show _ = bindP (pSig (S.2 9) n 100000 59 p2) _ from rfl)
          rw [hv3] at eSet3
          have hE' := (hE.row h99)
          exact ⟨tw_K H', e_readsPlayer H' (el0 hE') hE'.c ⟨tw_K H', e_takesSign H' hE'.c ⟨tw_K H', e_readsPlayer H' (el0 hE') hE'.c (e_set64 H' hE'.c (He e q eSet3 h' S' H' hE'))⟩⟩⟩
      · rw [setR_n (by decide)] at hv2
        have eSet2 := eSet.trans (show _ = bindP (pNum (S.2 9) n 100000 0 20 p1) _ from rfl)
        rw [hv2] at eSet2
        have hE' := (hE.row h99)
        have l9 := el0 hE'
        refine dR_of (tw_pA (k := 0) (n := 1) H' rfl (by decide) rfl (by omega) (by omega) fun h5 H5 => ?_)
        have hE2 := hE'.rowS h99 (N := (S'.2 0).set 1 v) (by rw [List.length_set]; exact l9)
        exact ⟨tw_K H5, e_takesSign H5 hE2.c ⟨tw_K H5, e_readsPlayer H5 (el0 hE2) hE2.c ⟨tw_K H5, e_takesSign H5 hE2.c ⟨tw_K H5, e_readsPlayer H5 (el0 hE2) hE2.c (e_set64 H5 hE2.c (He e q eSet2 h5 _ H5 hE2))⟩⟩⟩⟩
    · rw [hv1] at eSet
      have l9 := el0 hE
      refine dR_of (tw_pA (k := 0) (n := 0) H' rfl (by decide) rfl (by omega) (by omega) fun h3 H3 => ?_)
      have hE1 := hE.rowS h99 (N := (S'.2 0).set 0 v) (by rw [List.length_set]; exact l9)
      refine tw_R (k := 0) H3 (by decide) rfl ⟨tw_K H3, e_number H3 hE1.c (dR_of (tw_pA (k := 0) (n := 1) H3 rfl (by decide) rfl (by omega) (by have := el0 hE1; omega) fun h5 H5 => ?_))⟩
      have hE2 := hE1.rowS h99 (N := ((setR S' 0 ((S'.2 0).set 0 v)).2 0).set 1 ((setR S' 0 ((S'.2 0).set 0 v)).1 15)) (by rw [List.length_set]; exact el0 hE1)
      exact ⟨tw_K H5, e_takesSign H5 hE2.c ⟨tw_K H5, e_readsPlayer H5 (el0 hE2) hE2.c ⟨tw_K H5, e_takesSign H5 hE2.c ⟨tw_K H5, e_readsPlayer H5 (el0 hE2) hE2.c (e_set64 H5 hE2.c (He e q eSet h5 _ H5 hE2))⟩⟩⟩⟩
  · have eSet : pSet (S.2 9) n 100000 g p = .inl (1, p.2.1) := if_neg (by rw [hb1]; decide)
    refine ⟨tw_K H', e_passes H' hE.c (tw_R (k := 0) H' (by decide) rfl ⟨tw_K H', e_number H' hE.c (dR_of (tw_pA (k := 0) (n := 0) H' rfl (by decide) rfl (by omega) (by have := el0 hE; omega) fun h3 H3 => ?_))⟩)⟩
    have hE1 := hE.rowS h99 (N := (S'.2 0).set 0 (S'.1 15)) (by rw [List.length_set]; exact el0 hE)
    refine tw_R (k := 0) H3 (by decide) rfl ⟨tw_K H3, e_number H3 hE1.c (dR_of (tw_pA (k := 0) (n := 1) H3 rfl (by decide) rfl (by omega) (by have := el0 hE1; omega) fun h5 H5 => ?_))⟩
    have hE2 := hE1.rowS h99 (N := ((setR S' 0 ((S'.2 0).set 0 (S'.1 15))).2 0).set 1 ((setR S' 0 ((S'.2 0).set 0 (S'.1 15))).1 15)) (by rw [List.length_set]; exact el0 hE1)
    exact ⟨tw_K H5, e_takesSign H5 hE2.c ⟨tw_K H5, e_readsPlayer H5 (el0 hE2) hE2.c ⟨tw_K H5, e_takesSign H5 hE2.c ⟨tw_K H5, e_readsPlayer H5 (el0 hE2) hE2.c (e_set64 H5 hE2.c (He _ _ eSet h5 _ H5 hE2))⟩⟩⟩⟩
end
