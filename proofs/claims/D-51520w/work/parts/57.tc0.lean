/-! the twin's reader: players, stones, the setup -/
set_option maxRecDepth 100000
def nam (b : List Int32) (p : PK) : Int32 := pkd b p.2.1 (p.1 - p.2.1)
def gAdd (g : GS) (nm v : Int32) : GS := (g.wP (g.pl ++ [(nm, v, 0)])).wN 9 (g.ns 9 + v)
def pPly (b : List Int32) (n : Nat) (cp : Int32) (g : GS) (p : PK) : PR GS :=
  if isKw b p (sbs "player") then
    if g.pl.length < 5 then
      match pLok (nxt b n cp p) with
      | some e => .inl e
      | none => if nmd g (nam b (nxt b n cp p)) = -1 then (match pNum b n cp 0 999 (nxt b n cp (nxt b n cp p)) with
        | .inl e => .inl e
        | .inr (v, p3) => .inr (gAdd g (nam b (nxt b n cp p)) v, p3)) else .inl (3, (nxt b n cp p).2.1)
    else .inl (4, p.2.1)
  else .inl (1, p.2.1)
def pStn (b : List Int32) (n : Nat) (cp : Int32) (g : GS) (p : PK) : PR GS :=
  if p.2.2.1 = 2 then
    if inB3 p.2.2.2 0 (g.ns 0 - 1) then
      if g.ct.length < 60 then (match pNum b n cp 1 9 (nxt b n cp p) with
        | .inl e => .inl e
        | .inr (v, p2) => .inr (g.wC (g.ct ++ [(p.2.2.2, v, 0)]), p2))
      else .inl (4, p.2.1)
    else .inl (2, p.2.1)
  else .inl (1, p.2.1)
def pCrL (b : List Int32) (n : Nat) (cp : Int32) : Nat → GS → PK → PR GS
  | 0, g, p => .inr (g, p)
  | r + 1, g, p => if p.2.2.1 = 2 then (match pStn b n cp g p with
    | .inl e => .inl e
    | .inr (g', p') => pCrL b n cp r g' p') else .inr (g, p)
def pCrt (b : List Int32) (n : Nat) (cp : Int32) (g : GS) (p : PK) : PR GS := match pStn b n cp g (nxt b n cp p) with
  | .inl e => .inl e
  | .inr (g', p') => match pCrL b n cp 60 g' p' with
    | .inl e => .inl e
    | .inr (g'', p'') => .inr (g''.wN 8 (i32 g''.ct.length), p'')
def pPrt (b : List Int32) (n : Nat) (cp : Int32) : Nat → GS → PK → PR GS
  | 0, g, p => .inr (g, p)
  | r + 1, g, p => if isSg b n p 59 then (if isKw b (nxt b n cp p) (sbs "cart") then pCrt b n cp g (nxt b n cp p) else match pPly b n cp g (nxt b n cp p) with
    | .inl e => .inl e
    | .inr (g', p') => pPrt b n cp r g' p') else .inr (g, p)
/-- the row of zeros with a player at most gone: those to come have bid nothing -/
def TRZ (N : List Int32) (g : GS) : Prop := TR N g ∧ ∀ k, g.pl.length ≤ k → k < 5 → N[18 + 3 * k + 2]? = some 0
theorem TRZ_add {N : List Int32} {g : GS} {nm v : Int32} (hZ : TRZ N g) (hl : g.pl.length < 5) : TRZ ((((N.set (18 + 3 * g.pl.length + 0) nm).set (18 + 3 * g.pl.length + 1) v).set 2 (i32 (g.pl.length + 1))).set 9 (g.ns 9 + v)) (gAdd g nm v) := by
  obtain ⟨⟨r1, r2, r3, r4, r5, r6, r7, r8⟩, hz⟩ := hZ
  have epl : (gAdd g nm v).pl = g.pl ++ [(nm, v, 0)] := rfl
  refine ⟨⟨by simp only [List.length_set]; exact r1, by rw [epl]; simp; omega, r3, r4, fun i hi => ?_, fun q y hq i hi => ?_, fun q y hq i hi => ?_, fun q y hq i hi => ?_⟩, fun k hk hk5 => ?_⟩
  · by_cases e9 : i = 9
    · subst e9
      rw [gS_e (by simp only [List.length_set]; omega)]
      simp [rowN, gAdd, GS.ns, GS.wN, GS.wP]
    · rw [gS_n (Ne.symm e9)]
      by_cases e : i = 2
      · subst e
        rw [gS_e (by simp only [List.length_set]; omega)]
        simp [rowN, epl]
      · rw [gS_n (Ne.symm e), gS_n (by omega), gS_n (by omega), r5 i hi]
        simp only [rowN, if_neg e]
        have e1 : (gAdd g nm v).ct = g.ct := rfl
        have e2 : (gAdd g nm v).hd = g.hd := rfl
        have e3 : (gAdd g nm v).ns i = g.ns i := if_neg e9
        rw [e1, e2, e3]
  · rw [gS_n (by omega), gS_n (by omega)]
    rw [epl] at hq
    by_cases e : q < g.pl.length
    · rw [List.getElem?_append_left e] at hq
      rw [gS_n (by omega), gS_n (by omega)]
      exact r6 q y hq i hi
    · have hlt := (List.getElem?_eq_some_iff.mp hq).1
      simp only [List.length_append, List.length_singleton] at hlt
      have e2 : q = g.pl.length := by omega
      subst e2
      have hy : (nm, v, 0) = y := by simpa using hq
      subst hy
      have hc : i = 0 ∨ i = 1 ∨ i = 2 := by omega
      rcases hc with rfl | rfl | rfl
      · rw [gS_n (by omega), gS_e (by omega)]; rfl
      · rw [gS_e (by simp only [List.length_set]; omega)]; rfl
      · rw [gS_n (by omega), gS_n (by omega), hz _ (Nat.le_refl _) hl]; rfl
  · have := (List.getElem?_eq_some_iff.mp hq).1
    rw [gS_n (by omega), gS_n (by omega), gS_n (by omega), gS_n (by omega)]; exact r7 q y hq i hi
  · rw [gS_n (by omega), gS_n (by omega), gS_n (by omega), gS_n (by omega)]; exact r8 q y hq i hi
  · rw [epl, List.length_append, List.length_singleton] at hk
    rw [gS_n (by omega), gS_n (by omega), gS_n (by omega), gS_n (by omega)]
    exact hz k (by omega) hk5
theorem TRZ_num {N : List Int32} {g : GS} {j : Nat} {x : Int32} (hZ : TRZ N g) (hj : j < 18) (h2 : j ≠ 2) (h3 : j ≠ 3) (h10 : j ≠ 10) : TRZ (N.set j x) (g.wN j x) :=
  ⟨TR_num hZ.1 hj h2 h3 h10, fun k hk hk5 => by rw [gS_n (by omega)]; exact hZ.2 k hk hk5⟩
theorem ErS.row {S S' : TS} {N : List Int32} {c : Int32} {q : Nat} (h : ErS (setR S 0 N) S' c q) (h99 : S.1 99 = 0) : ErS S S' c q :=
  ⟨h.1, h.2.1, h.2.2.1, h.2.2.2.1, fun k hk h1 => (h.2.2.2.2.1 k hk h1).trans (setR_n fun e => absurd (h99.symm.trans (hk e)) (by decide)), h.2.2.2.2.2⟩
theorem ErS.rowS {S S' : TS} {N : List Int32} {c : Int32} {q : Nat} (h : ErS S S' c q) (h99 : S.1 99 = 0) (hN : N.length = 457) : ErS S (setR S' 0 N) c q :=
  ⟨h.1, h.2.1, h.2.2.1, h.2.2.2.1, fun k hk h1 => (setR_n fun e => absurd (h99.symm.trans (hk e)) (by decide)).trans (h.2.2.2.2.1 k hk h1), fun k hk => by
    by_cases e : k = 0
    · subst e; rw [setR_k]; exact hN
    · rw [setR_n e]; exact h.2.2.2.2.2 k hk⟩
section
variable {G : GL} {d : Nat} {h0 h : AH} {m : Nat} {A : Nat → Nat} {S : TS} {g : GS} {n : Nat} {p : PK} {Qx : Nat → AH → Prop}
theorem s_putsRaw {k j : Nat} {v : Int32} {K : AH → Prop} (H : TWX h0 h m A S) (hl : (S.2 0).length = 457) (hk : k < 5) (hj : j < 3) (HK : ∀ h', TWX h0 h' m A (setR S 0 ((S.2 0).set (18 + 3 * k + j) v)) → K h') : MF G d mi_M_puts 0 [.ref m, .int (i32 k), .int (i32 j), .int v] [] h (cV K Qx) :=
  b_M_puts_0 (tw_RR H (by decide) rfl (tw_pA H rfl (by decide) (ix3 18 k j) (by omega) (by omega) fun h' H' => cV_mk (HK h' H')))
theorem e_rp64 {x y : Int32} {u : Value} {K : AH → Prop} (H : TWX h0 h m A S) (hc : ¬ S.1 16 = 0) (HK : K h) : MF G (d + 3) mi_M_readsPlayer 64 [.ref m, .int x, u] [.int y, .ref m] h (cV K Qx) :=
  b_M_readsPlayer_64 rfl (dR_of ⟨tw_K H, e_must H hc ⟨tw_K H, e_passes H hc ⟨tw_K H, e_number H hc (tw_I H (by decide) rfl ⟨fun h9 => absurd h9 hc, fun _ => cV_mk HK⟩)⟩⟩⟩)
theorem e_rp28 {y : Int32} {u1 u2 : Value} {K : AH → Prop} (H : TWX h0 h m A S) (hc : ¬ S.1 16 = 0) (HK : K h) : MF G (d + 3) mi_M_readsPlayer 28 [.ref m, u1, u2] [.int y, .ref m] h (cV K Qx) :=
  b_M_readsPlayer_28 rfl (dR_of ⟨tw_K H, e_must H hc ⟨tw_K H, e_passes H hc ⟨tw_K H, e_looks H hc (tw_I H (by decide) rfl ⟨fun _ => e_rp64 H hc HK, fun h9 => absurd h9 hc⟩)⟩⟩⟩)
theorem tw_nE {j : Nat} {K : Int32 → Prop} (H : TWX h0 h m A S) (hl : (S.2 0).length = 457) (hj : j < 18) (HK : ∀ x, K x) : gR h m [12] 0 fun v1 => dR v1 fun q2 => aI h q2 100 (i32 j) K :=
  tw_g (k := 0) H (by decide) rfl (by decide) rfl (by omega) (getD_some (by omega)) (HK _)
theorem e_readsPlayer {K : AH → Prop} (H : TWX h0 h m A S) (hl : (S.2 0).length = 457) (hc : ¬ S.1 16 = 0) (HK : K h) : MF G (d + 3) mi_M_readsPlayer 0 [.ref m, .retAddr 0, .retAddr 0] [] h (cV K Qx) :=
  b_M_readsPlayer_0 ⟨tw_K H, e_isKey H hc ⟨tw_K H, e_must H hc (tw_nE (j := 2) H hl (by decide) fun x => ⟨fun _ => e_rp28 H hc HK, fun _ => e_rp28 H hc HK⟩)⟩⟩
theorem o_readsPlayer {K : AH → Prop} (H : TWX h0 h m A (tP S p)) (hL : TL S) (hZ : TRZ (S.2 0) g) (hf : S.1 10 = i32 n) (hn : n ≤ 500) (hp : PKo n p) (hc : S.1 16 = 0) (hK : SK G) (hs : STR G h) (Ho : ∀ g' p', pPly (S.2 9) n 100000 g p = .inr (g', p') → PKo n p' → ∀ h' N', TRZ N' g' → TWX h0 h' m A (tP (setR S 0 N') p') → K h') (He : ∀ e q, pPly (S.2 9) n 100000 g p = .inl (e, q) → ∀ h' S', TWX h0 h' m A S' → ErS S S' e q → K h') : MF G (d + 6) mi_M_readsPlayer 0 [.ref m, .retAddr 0, .retAddr 0] [] h (cV K Qx) := by
  have hb : (S.2 9).length = 500 := hL 9 rfl
  have hl0 : (S.2 0).length = 457 := hL 0 rfl
  have hR := hZ.1
  have h5 := hR.2.1
  have el0 : ∀ {S' : TS} {c : Int32} {q : Nat}, ErS S S' c q → (S'.2 0).length = 457 := fun hE => hE.2.2.2.2.2 0 rfl
  unfold pPly at Ho He
  refine b_M_readsPlayer_0 ⟨tw_K H, o_isKey (w := sbs "player") H hb hn hp hc hK (hs 19 _ _ _ rfl) (by decide) ⟨tw_K H, o_must H hL hc (by decide) (fun hb1 => ?_) (fun hb1 h' S' H' hE => ?_)⟩⟩
  · rw [if_pos hb1] at Ho He
    -- players at most five
    have tail : ∀ b, decide (g.pl.length < 5) = b → MF G (d + 6) mi_M_readsPlayer 28 [.ref m, .retAddr 0, .retAddr 0] [.int (b01 b), .ref m] h (cV K Qx) := by
      intro b hb2
      refine b_M_readsPlayer_28 rfl (dR_of ⟨tw_K H, o_must H hL hc (by decide) (fun hb3 => ?_) (fun hb3 h' S' H' hE => ?_)⟩)
      · have hlt : g.pl.length < 5 := of_decide_eq_true (hb2.trans hb3)
        rw [if_pos hlt] at Ho He
        refine ⟨tw_K H, o_passes H hb hf hn hp.2 hc fun h1 H1 => ?_⟩
        obtain ⟨hp1, -, -⟩ := nxt_ok (b := S.2 9) (cp := 100000) hp.2
        refine ⟨tw_K H1, o_looks H1 hL hn hp1 hc (fun ho => ?_) (fun e q ho h' S' H' hE => ?_)⟩
        · rw [ho] at Ho He
          dsimp only at Ho He
          have e16 : (tP S (nxt (S.2 9) n 100000 p)).1 16 = 0 := (tP_r (by decide) (by decide) (by decide) (by decide)).trans hc
          have tail2 : ∀ b, decide (nmd g (nam (S.2 9) (nxt (S.2 9) n 100000 p)) = -1) = b → MF G (d + 6) mi_M_readsPlayer 64 [.ref m, .int (nam (S.2 9) (nxt (S.2 9) n 100000 p)), .retAddr 0] [.int (b01 b), .ref m] h1 (cV K Qx) := by
            intro b hb4
            refine b_M_readsPlayer_64 rfl (dR_of ⟨tw_K H1, o_must H1 hL hc (by decide) (fun hb5 => ?_) (fun hb5 h' S' H' hE => ?_)⟩)
            · have hnm := of_decide_eq_true (hb4.trans hb5)
              rw [if_pos hnm] at Ho He
              refine ⟨tw_K H1, o_passes H1 hb hf hn hp1.2 hc fun h2 H2 => ?_⟩
              obtain ⟨hp2, -, -⟩ := nxt_ok (b := S.2 9) (cp := 100000) hp1.2
              refine ⟨tw_K H2, o_number H2 hL hf hn hp2 hc (fun v p3 hv h3 H3 => ?_) (fun e q hv h' S' v H' hE => ?_)⟩
              · rw [hv] at Ho
                have hp3 : PKo n p3 := by
                  unfold pNum at hv
                  split at hv
                  · split at hv
                    · cases hv; exact (nxt_ok hp2.2).1
                    · cases hv
                  · cases hv
                have e16' : (tP S p3).1 16 = 0 := (tP_r (by decide) (by decide) (by decide) (by decide)).trans hc
                refine tw_I H3 (by decide) rfl ⟨fun _ => tw_n (j := 2) (g := g) H3 hR (by decide) ⟨tw_K H3, s_putsRaw (k := g.pl.length) (j := 0) H3 hl0 hlt (by decide) fun h4 H4 => ?_⟩, fun hn9 => absurd e16' hn9⟩
                have e2 : ((setR (tP S p3) 0 (((tP S p3).2 0).set (18 + 3 * g.pl.length + 0) (nam (S.2 9) (nxt (S.2 9) n 100000 p)))).2 0)[2]? = some (i32 g.pl.length) := by
                  rw [setR_k, gS_n (by omega)]; exact hR.2.2.2.2.1 2 (by omega)
                refine tw_g (k := 0) (n := 2) H4 (by decide) rfl (by decide) rfl (by omega) e2 ⟨tw_K H4, s_putsRaw (k := g.pl.length) (j := 1) H4 (by rw [setR_k, List.length_set]; exact hl0) hlt (by decide) fun h5 H5 => ?_⟩
                rw [setR_R, setR_k] at H5
                refine tw_RR (k := 0) H5 (by decide) rfl (tw_aI (k := 0) (n := 2) H5 rfl (by decide) rfl (by omega) (x := i32 g.pl.length) (by rw [setR_k, gS_n (by omega), gS_n (by omega)]; exact hR.2.2.2.2.1 2 (by omega)) (tw_pA (k := 0) (n := 2) H5 rfl (by decide) rfl (by omega) (by rw [setR_k, List.length_set, List.length_set, tP_2]; omega) fun h6 H6 => ?_))
                rw [setR_R, setR_k, i32_succ] at H6
                refine tw_RR (k := 0) H6 (by decide) rfl (tw_aI (k := 0) (n := 9) H6 rfl (by decide) rfl (by omega) (x := g.ns 9) (by rw [setR_k, gS_n (by omega), gS_n (by omega), gS_n (by omega)]; exact hR.2.2.2.2.1 9 (by omega)) (tw_pA (k := 0) (n := 9) H6 rfl (by decide) rfl (by omega) (by rw [setR_k, List.length_set, List.length_set, List.length_set, tP_2]; omega) fun h7 H7 => cV_mk ?_))
                rw [setR_R, setR_k] at H7
                exact Ho _ _ rfl hp3 h7 _ (TRZ_add hZ hlt) H7
              · rw [hv] at He
                exact tw_I H' (by decide) rfl ⟨fun h9 => absurd h9 hE.c, fun _ => cV_mk (He e q rfl h' S' H' hE)⟩
            · have hnm := of_decide_eq_false (hb4.trans hb5)
              rw [if_neg hnm] at He
              exact ⟨tw_K H', e_passes H' hE.c ⟨tw_K H', e_number H' hE.c (tw_I H' (by decide) rfl ⟨fun h9 => absurd h9 hE.c, fun _ => cV_mk (He _ _ rfl h' S' H' hE)⟩)⟩⟩
          refine tw_I H1 (by decide) rfl ⟨fun hn9 => absurd e16 hn9, fun _ => ⟨tw_K H1, s_named (g := g) H1 hR ⟨fun hne => tail2 false (decide_eq_false hne), fun he => tail2 true (decide_eq_true he)⟩⟩⟩
        · rw [ho] at He
          exact tw_I H' (by decide) rfl ⟨fun _ => e_rp64 H' hE.c (He e q rfl h' S' H' hE), fun h9 => absurd h9 hE.c⟩
      · have hlt : ¬ g.pl.length < 5 := of_decide_eq_false (hb2.trans hb3)
        rw [if_neg hlt] at He
        exact ⟨tw_K H', e_passes H' hE.c ⟨tw_K H', e_looks H' hE.c (tw_I H' (by decide) rfl ⟨fun _ => e_rp64 H' hE.c (He _ _ rfl h' S' H' hE), fun h9 => absurd h9 hE.c⟩)⟩⟩
    refine tw_n (j := 2) (g := g) H hR (by decide) ⟨fun hle => tail false (decide_eq_false ?_), fun hgt => tail true (decide_eq_true ?_)⟩
    · have := (i32_le (a := 5) (by omega) (by omega)).mp hle
      omega
    · have : ¬ 5 ≤ g.pl.length := fun e => hgt ((i32_le (a := 5) (by omega) (by omega)).mpr e)
      omega
  · rw [if_neg (by rw [hb1]; decide)] at He
    have HE := He _ _ rfl h' S' H' hE
    exact tw_nE (j := 2) H' (el0 hE) (by decide) fun x => ⟨fun _ => e_rp28 H' hE.c HE, fun _ => e_rp28 H' hE.c HE⟩
end
