/-! the twin's reader: must, signs, keys, numbers, names -/
set_option maxRecDepth 100000
/-- what a reading gives: an error's code and place, or something and where the reader stands -/
abbrev PR (α : Type) : Type := (Int32 × Nat) ⊕ (α × PK)
/-- the letters of the token -/
def wd (b : List Int32) (p : PK) : List Int32 := (List.range (p.1 - p.2.1)).map fun j => b.getD (p.2.1 + j) 0
def isKw (b : List Int32) (p : PK) (w : List Int32) : Bool := decide (p.2.2.1 = 1) && decide (wd b p = w)
def isSg (b : List Int32) (n : Nat) (p : PK) (c : Int32) : Bool := decide (p.2.2.1 = 3) && decide (sn b n p.2.1 = c)
def pSig (b : List Int32) (n : Nat) (cp : Int32) (c : Int32) (p : PK) : PR Unit := if isSg b n p c then .inr ((), nxt b n cp p) else .inl (1, p.2.1)
def pNum (b : List Int32) (n : Nat) (cp lo hi : Int32) (p : PK) : PR Int32 := if p.2.2.1 = 2 then (if inB3 p.2.2.2 lo hi then .inr (p.2.2.2, nxt b n cp p) else .inl (2, p.2.1)) else .inl (1, p.2.1)
def pLok (p : PK) : Option (Int32 × Nat) := if p.2.2.1 = 1 then (if p.1 - p.2.1 ≤ 6 then none else some (2, p.2.1)) else some (1, p.2.1)
def pNam (b : List Int32) (n : Nat) (cp : Int32) (p : PK) : PR Int32 := match pLok p with
  | some e => .inl e
  | none => .inr (pkd b p.2.1 (p.1 - p.2.1), nxt b n cp p)
theorem wd_len {b : List Int32} {p : PK} : (wd b p).length = p.1 - p.2.1 := by simp [wd]
theorem wd_at {b : List Int32} {p : PK} {j : Nat} (h : j < p.1 - p.2.1) : (wd b p)[j]? = some (b.getD (p.2.1 + j) 0) := by
  unfold wd
  rw [List.getElem?_map, List.getElem?_range h]
  rfl
/-- an error has been told: code c at q; nothing else changed but the row and the orders -/
def ErS (S S' : TS) (c : Int32) (q : Nat) : Prop := S'.1 16 = c ∧ ¬ c = 0 ∧ S'.1 11 = i32 q ∧ (∀ k, k ≠ 11 → k ≠ 12 → k ≠ 13 → k ≠ 14 → k ≠ 15 → k ≠ 16 → k ≠ 22 → S'.1 k = S.1 k) ∧ (∀ k, (k = 0 → S.1 99 = 1) → ¬ (17 ≤ k ∧ k ≤ 21) → S'.2 k = S.2 k) ∧ (∀ k, isA k = true → (S'.2 k).length = tLen k)
def erF (S : TS) (c : Int32) (q : Nat) : TS := setF (setF S 16 c) 11 (i32 q)
theorem ErS.mk0 {S : TS} {c : Int32} {q : Nat} {p : PK} (hL : TL S) (hc : ¬ c = 0) : ErS S (tP (erF S c q) p) c q := by
  refine ⟨?_, hc, ?_, fun k h1 h2 h3 h4 h5 h6 h7 => ?_, fun _ _ _ => rfl, hL⟩
  · rw [tP_r (by decide) (by decide) (by decide) (by decide)]; unfold erF; rw [setF_n (by decide), setF_1]
  · rw [tP_r (by decide) (by decide) (by decide) (by decide)]; unfold erF; rw [setF_1]
  · rw [tP_r h2 h3 h4 h5]; unfold erF; rw [setF_n h1, setF_n h6]
section
variable {G : GL} {d : Nat} {h0 h : AH} {m : Nat} {A : Nat → Nat} {S : TS} {g : GS} {n : Nat} {p : PK} {Qx : Nat → AH → Prop}
theorem o_must {b : Bool} {its : Int32} {K : Int32 → AH → Prop} (H : TWX h0 h m A (tP S p)) (hL : TL S) (hc : S.1 16 = 0) (hi : ¬ its = 0) (Hy : b = true → K 1 h) (Hn : b = false → ∀ h' S', TWX h0 h' m A S' → ErS S S' its p.2.1 → K 0 h') : MF G d mi_M_must 0 [.ref m, .int (b01 b), .int its] [] h (cI K Qx) := by
  have e16 : (tP S p).1 16 = 0 := (tP_r (by decide) (by decide) (by decide) (by decide)).trans hc
  refine b_M_must_0 (tw_I H (by decide) rfl ⟨fun hn => absurd e16 hn, fun _ => ⟨fun hn => ?_, fun hz => ?_⟩⟩)
  · exact tw_I H (by decide) rfl ⟨fun hn => absurd e16 hn, fun _ => cI_mk (Hy (b01_1 hn))⟩
  · refine tw_F H (by decide) rfl fun h1 H1 => tw_I H1 (by decide) rfl (tw_F H1 (by decide) rfl fun h2 H2 => tw_I H2 (by decide) rfl ?_)
    rw [tP_F (by decide) (by decide) (by decide) (by decide), tP_13, tP_F (by decide) (by decide) (by decide) (by decide)] at H2
    rw [show (setF (setF (tP S p) 16 its) 11 ((setF (tP S p) 16 its).1 13)).1 16 = its from by rw [setF_n (by decide), setF_1]]
    exact ⟨fun _ => cI_mk (Hn (b01_0 hz) h2 _ H2 (ErS.mk0 hL hi)), fun h9 => absurd h9 hi⟩
theorem o_passes {K : AH → Prop} (H : TWX h0 h m A (tP S p)) (hb : (S.2 9).length = 500) (hf : S.1 10 = i32 n) (hn : n ≤ 500) (hp : p.1 ≤ n) (hc : S.1 16 = 0) (HK : ∀ h', TWX h0 h' m A (tP S (nxt (S.2 9) n 100000 p)) → K h') : MF G (d + 2) mi_M_passes 0 [.ref m] [] h (cV K Qx) := by
  have e16 : (tP S p).1 16 = 0 := (tP_r (by decide) (by decide) (by decide) (by decide)).trans hc
  exact b_M_passes_0 (tw_I H (by decide) rfl ⟨fun hn => absurd e16 hn, fun _ => ⟨tw_K H, s_goes H hb hf hn hp fun h' H' => cV_mk (HK h' H')⟩⟩)
theorem o_isSign {c : Int32} {K : Int32 → AH → Prop} (H : TWX h0 h m A (tP S p)) (hb : (S.2 9).length = 500) (hf : S.1 10 = i32 n) (hn : n ≤ 500) (hp : PKo n p) (hc : S.1 16 = 0) (HK : K (b01 (isSg (S.2 9) n p c)) h) : MF G (d + 1) mi_M_isSign 0 [.ref m, .int c] [] h (cI K Qx) := by
  have e16 : (tP S p).1 16 = 0 := (tP_r (by decide) (by decide) (by decide) (by decide)).trans hc
  have e10 : (tP S p).1 10 = i32 n := (tP_r (by decide) (by decide) (by decide) (by decide)).trans hf
  have h1 := hp.1
  have h2 := hp.2
  unfold isSg at HK
  refine b_M_isSign_0 (tw_I H (by decide) rfl ⟨fun hn => absurd e16 hn, fun _ => tw_I H (by decide) rfl ?_⟩)
  rw [tP_14]
  refine ⟨fun hne => cI_mk ?_, fun he => tw_I H (by decide) rfl ?_⟩
  · rw [decide_eq_false hne] at HK; exact HK
  · rw [decide_eq_true he] at HK
    rw [tP_13]
    refine ⟨tw_K H, s_seen H hb e10 hn (by omega) ⟨fun hne => cI_mk ?_, fun he2 => cI_mk ?_⟩⟩
    · rw [decide_eq_false (show ¬ sn (S.2 9) n p.2.1 = c from hne)] at HK; exact HK
    · rw [decide_eq_true (show sn (S.2 9) n p.2.1 = c from he2)] at HK; exact HK
theorem o_isKey {q : Nat} {w : List Int32} {K : Int32 → AH → Prop} (H : TWX h0 h m A (tP S p)) (hb : (S.2 9).length = 500) (hn : n ≤ 500) (hp : PKo n p) (hc : S.1 16 = 0) (hK : SK G) (hs : StrAt h q w) (hw : w.length < 1000) (HK : K (b01 (isKw (S.2 9) p w)) h) : MF G (d + 5) mi_M_isKey 0 [.ref m, .ref q, .retAddr 0] [] h (cI K Qx) := by
  have e16 : (tP S p).1 16 = 0 := (tP_r (by decide) (by decide) (by decide) (by decide)).trans hc
  have h1 := hp.1
  have h2 := hp.2
  have hks : hasKs h q [14] := by obtain ⟨w9, w', a, x, y, h1, -⟩ := hs; exact ⟨14, by simp, w9, _, h1⟩
  unfold isKw at HK
  refine b_M_isKey_0 rfl (tw_I H (by decide) rfl ⟨fun hn => absurd e16 hn, fun _ => tw_I H (by decide) rfl ?_⟩)
  rw [tP_14]
  refine ⟨fun hne => cI_mk ?_, fun he => tw_I H (by decide) rfl (tw_I H (by decide) rfl (dR_of ⟨hks, s_strlen hK hs ?_⟩))⟩
  · rw [decide_eq_false hne] at HK; exact HK
  · rw [decide_eq_true he] at HK
    rw [tP_12, tP_13, i32_sub h1]
    refine ⟨fun hl => ?_, fun hl => cI_mk ?_⟩
    · have hl2 : p.1 - p.2.1 = w.length := (i32_eq (by omega) (by omega)).mp hl
      have loop : ∀ r j, r + j = w.length → (∀ i, i < j → w[i]? = (wd (S.2 9) p)[i]?) → MF G (d + 5) mi_M_isKey 35 [.ref m, .ref q, .int (i32 j)] [] h (cI K Qx) := by
        intro r
        induction r with
        | zero =>
          intro j hj hall
          refine b_M_isKey_35 rfl (dR_of ⟨hks, s_strlen hK hs ⟨fun _ => cI_mk ?_, fun hn => absurd ((i32_le (by omega) (by omega)).mpr (by omega)) hn⟩⟩)
          have : wd (S.2 9) p = w := by
            apply List.ext_getElem?
            intro i
            by_cases hi : i < j
            · exact (hall i hi).symm
            · rw [List.getElem?_eq_none (by rw [wd_len]; omega), List.getElem?_eq_none (by omega)]
          rw [decide_eq_true this] at HK
          exact HK
        | succ r ih =>
          intro j hj hall
          obtain ⟨c, hcj⟩ : ∃ c, w[j]? = some c := ⟨_, List.getElem?_eq_getElem (by omega)⟩
          refine b_M_isKey_35 rfl (dR_of ⟨hks, s_strlen hK hs ⟨fun hn => absurd ((i32_le (by omega) (by omega)).mp hn) (by omega), fun _ => tw_R (k := 9) H (by decide) rfl (tw_I H (by decide) rfl ?_)⟩⟩)
          rw [tP_13]
          refine dR_of (tw_aI (k := 9) (n := p.2.1 + j) H rfl (by decide) (i32_add _ _) (by omega) (getD_some (by show p.2.1 + j < (S.2 9).length; omega)) ⟨hks, s_charAt hK hs (by omega) hcj ⟨fun he2 => ?_, fun hne => cI_mk ?_⟩⟩)
          · rw [i32_succ]
            refine ih (j + 1) (by omega) fun i hi => ?_
            by_cases e : i = j
            · subst e
              rw [hcj, wd_at (by omega)]
              exact congrArg some he2.symm
            · exact hall i (by omega)
          · have : ¬ wd (S.2 9) p = w := by
              intro e
              have e2 := wd_at (b := S.2 9) (p := p) (j := j) (by omega)
              rw [e, hcj] at e2
              exact hne (Option.some.inj e2).symm
            rw [decide_eq_false this] at HK
            exact HK
      exact loop w.length 0 rfl (fun i hi => absurd hi (by omega))
    · have : ¬ wd (S.2 9) p = w := by
        intro e
        have e2 := wd_len (b := S.2 9) (p := p)
        rw [e] at e2
        exact hl (by rw [e2])
      rw [decide_eq_false this] at HK
      exact HK
theorem e_must {x its : Int32} {K : Int32 → AH → Prop} (H : TWX h0 h m A S) (hc : ¬ S.1 16 = 0) (HK : K 0 h) : MF G d mi_M_must 0 [.ref m, .int x, .int its] [] h (cI K Qx) :=
  b_M_must_0 (tw_I H (by decide) rfl ⟨fun _ => tw_I H (by decide) rfl ⟨fun _ => cI_mk HK, fun hn => absurd hn hc⟩, fun hn => absurd hn hc⟩)
theorem e_passes {K : AH → Prop} (H : TWX h0 h m A S) (hc : ¬ S.1 16 = 0) (HK : K h) : MF G (d + 1) mi_M_passes 0 [.ref m] [] h (cV K Qx) :=
  b_M_passes_0 (tw_I H (by decide) rfl ⟨fun _ => cV_mk HK, fun hn => absurd hn hc⟩)
theorem e_isSign {c : Int32} {K : Int32 → AH → Prop} (H : TWX h0 h m A S) (hc : ¬ S.1 16 = 0) (HK : K 0 h) : MF G (d + 1) mi_M_isSign 0 [.ref m, .int c] [] h (cI K Qx) :=
  b_M_isSign_0 (tw_I H (by decide) rfl ⟨fun _ => cI_mk HK, fun hn => absurd hn hc⟩)
theorem e_isKey {v : Nat} {K : Int32 → AH → Prop} (H : TWX h0 h m A S) (hc : ¬ S.1 16 = 0) (HK : K 0 h) : MF G (d + 1) mi_M_isKey 0 [.ref m, .ref v, .retAddr 0] [] h (cI K Qx) :=
  b_M_isKey_0 rfl (tw_I H (by decide) rfl ⟨fun _ => cI_mk HK, fun hn => absurd hn hc⟩)
theorem e_takesSign {c : Int32} {K : AH → Prop} (H : TWX h0 h m A S) (hc : ¬ S.1 16 = 0) (HK : K h) : MF G (d + 2) mi_M_takesSign 0 [.ref m, .int c] [] h (cV K Qx) :=
  b_M_takesSign_0 ⟨tw_K H, e_isSign H hc ⟨tw_K H, e_must H hc ⟨tw_K H, e_passes H hc (cV_mk HK)⟩⟩⟩
theorem e_number {lo hi : Int32} {K : Int32 → AH → Prop} (H : TWX h0 h m A S) (hc : ¬ S.1 16 = 0) (HK : K (S.1 15) h) : MF G (d + 2) mi_M_number 0 [.ref m, .int lo, .int hi, .retAddr 0] [] h (cI K Qx) := by
  have tail : ∀ x : Int32, MF G (d + 2) mi_M_number 14 [.ref m, .int lo, .int hi, .retAddr 0] [.int x, .ref m] h (cI K Qx) := fun x =>
    b_M_number_14 rfl (dR_of ⟨tw_K H, e_must H hc ⟨fun _ => b_M_number_36 (tw_I H (by decide) rfl ⟨tw_K H, e_passes H hc (cI_mk HK)⟩), fun hn => absurd rfl hn⟩⟩)
  exact b_M_number_0 (tw_I H (by decide) rfl ⟨fun _ => tail 0, fun _ => tail 1⟩)
theorem e_looks {K : Int32 → AH → Prop} (H : TWX h0 h m A S) (hc : ¬ S.1 16 = 0) (HK : K 0 h) : MF G (d + 1) mi_M_looksAtName 0 [.ref m] [] h (cI K Qx) := by
  have tail : ∀ x : Int32, MF G (d + 1) mi_M_looksAtName 14 [.ref m] [.int x, .ref m] h (cI K Qx) := fun x =>
    b_M_looksAtName_14 rfl (dR_of ⟨tw_K H, e_must H hc ⟨fun _ => b_M_looksAtName_46 (tw_I H (by decide) rfl ⟨fun _ => cI_mk HK, fun hn => absurd hn hc⟩), fun hn => absurd rfl hn⟩⟩)
  exact b_M_looksAtName_0 (tw_I H (by decide) rfl ⟨fun _ => tail 0, fun _ => tail 1⟩)
theorem e_takesName {K : Int32 → AH → Prop} (H : TWX h0 h m A S) (hc : ¬ S.1 16 = 0) (HK : K 0 h) : MF G (d + 2) mi_M_takesName 0 [.ref m, .retAddr 0] [] h (cI K Qx) :=
  b_M_takesName_0 ⟨tw_K H, e_looks H hc ⟨tw_K H, e_passes H hc (cI_mk HK)⟩⟩
theorem ErS.c {S' : TS} {c : Int32} {q : Nat} (h : ErS S S' c q) : ¬ S'.1 16 = 0 := by rw [h.1]; exact h.2.1
theorem o_takesSign {c : Int32} {K : AH → Prop} (H : TWX h0 h m A (tP S p)) (hL : TL S) (hf : S.1 10 = i32 n) (hn : n ≤ 500) (hp : PKo n p) (hc : S.1 16 = 0) (Ho : ∀ p', pSig (S.2 9) n 100000 c p = .inr ((), p') → ∀ h', TWX h0 h' m A (tP S p') → K h') (He : ∀ e q, pSig (S.2 9) n 100000 c p = .inl (e, q) → ∀ h' S', TWX h0 h' m A S' → ErS S S' e q → K h') : MF G (d + 3) mi_M_takesSign 0 [.ref m, .int c] [] h (cV K Qx) := by
  unfold pSig at Ho He
  refine b_M_takesSign_0 ⟨tw_K H, o_isSign H (hL 9 rfl) hf hn hp hc ⟨tw_K H, o_must H hL hc (by decide) (fun hb => ⟨tw_K H, o_passes H (hL 9 rfl) hf hn hp.2 hc fun h' H' => cV_mk (Ho _ (by rw [hb]; rfl) h' H')⟩) (fun hb h' S' H' hE => ⟨tw_K H', e_passes H' hE.c (cV_mk (He 1 p.2.1 (by rw [hb]; rfl) h' S' H' hE))⟩)⟩⟩
theorem o_number {lo hi : Int32} {K : Int32 → AH → Prop} (H : TWX h0 h m A (tP S p)) (hL : TL S) (hf : S.1 10 = i32 n) (hn : n ≤ 500) (hp : PKo n p) (hc : S.1 16 = 0) (Ho : ∀ v p', pNum (S.2 9) n 100000 lo hi p = .inr (v, p') → ∀ h', TWX h0 h' m A (tP S p') → K v h') (He : ∀ e q, pNum (S.2 9) n 100000 lo hi p = .inl (e, q) → ∀ h' S' v, TWX h0 h' m A S' → ErS S S' e q → K v h') : MF G (d + 3) mi_M_number 0 [.ref m, .int lo, .int hi, .retAddr 0] [] h (cI K Qx) := by
  unfold pNum at Ho He
  have eend : ∀ h' S' e q, (if p.2.2.1 = 2 then (if inB3 p.2.2.2 lo hi then (.inr (p.2.2.2, nxt (S.2 9) n 100000 p) : PR Int32) else .inl (2, p.2.1)) else .inl (1, p.2.1)) = .inl (e, q) → TWX h0 h' m A S' → ErS S S' e q → MF G (d + 3) mi_M_number 36 [.ref m, .int lo, .int hi, .retAddr 0] [] h' (cI K Qx) := fun h' S' e q eq H' hE =>
    b_M_number_36 (tw_I H' (by decide) rfl ⟨tw_K H', e_passes H' hE.c (cI_mk (He e q eq h' S' _ H' hE))⟩)
  have tail : ∀ b, decide (p.2.2.1 = 2) = b → MF G (d + 3) mi_M_number 14 [.ref m, .int lo, .int hi, .retAddr 0] [.int (b01 b), .ref m] h (cI K Qx) := by
    intro b hb
    refine b_M_number_14 rfl (dR_of ⟨tw_K H, o_must H hL hc (by decide) (fun hb1 => ⟨fun h9 => absurd h9 (by decide), fun _ => tw_I H (by decide) rfl (s_in ⟨tw_K H, ?_⟩)⟩) (fun hb1 h' S' H' hE => ⟨fun _ => ?_, fun h9 => absurd rfl h9⟩)⟩)
    · have h2 : p.2.2.1 = 2 := of_decide_eq_true (hb.trans hb1)
      rw [tP_15]
      refine o_must H hL hc (by decide) (fun hb2 => ?_) (fun hb2 h' S' H' hE => ?_)
      · refine b_M_number_36 (tw_I H (by decide) rfl ⟨tw_K H, o_passes H (hL 9 rfl) hf hn hp.2 hc fun h' H' => cI_mk ?_⟩)
        rw [tP_15]
        exact Ho _ _ (by rw [if_pos h2, if_pos hb2]) h' H'
      · exact eend h' S' 2 p.2.1 (by rw [if_pos h2, if_neg (by rw [hb2]; decide)]) H' hE
    · have h2 : ¬ p.2.2.1 = 2 := of_decide_eq_false (hb.trans hb1)
      exact eend h' S' 1 p.2.1 (by rw [if_neg h2]) H' hE
  refine b_M_number_0 (tw_I H (by decide) rfl ?_)
  rw [tP_14]
  exact ⟨fun h9 => tail false (decide_eq_false h9), fun h9 => tail true (decide_eq_true h9)⟩
theorem o_looks {K : Int32 → AH → Prop} (H : TWX h0 h m A (tP S p)) (hL : TL S) (hn : n ≤ 500) (hp : PKo n p) (hc : S.1 16 = 0) (Ho : pLok p = none → K (pkd (S.2 9) p.2.1 (p.1 - p.2.1)) h) (He : ∀ e q, pLok p = some (e, q) → ∀ h' S', TWX h0 h' m A S' → ErS S S' e q → K 0 h') : MF G (d + 1) mi_M_looksAtName 0 [.ref m] [] h (cI K Qx) := by
  have h1 := hp.1
  have h2 := hp.2
  have e16 : (tP S p).1 16 = 0 := (tP_r (by decide) (by decide) (by decide) (by decide)).trans hc
  have eend : ∀ h' S' e q, pLok p = some (e, q) → TWX h0 h' m A S' → ErS S S' e q → MF G (d + 1) mi_M_looksAtName 46 [.ref m] [] h' (cI K Qx) := fun h' S' e q eq H' hE =>
    b_M_looksAtName_46 (tw_I H' (by decide) rfl ⟨fun _ => cI_mk (He e q eq h' S' H' hE), fun hn => absurd hn hE.c⟩)
  have tail2 : p.2.2.1 = 1 → ∀ b, decide (p.1 - p.2.1 ≤ 6) = b → MF G (d + 1) mi_M_looksAtName 41 [.ref m] [.int (b01 b), .ref m] h (cI K Qx) := by
    intro ht b hb
    refine b_M_looksAtName_41 rfl (dR_of ⟨tw_K H, o_must H hL hc (by decide) (fun hb1 => ?_) (fun hb1 h' S' H' hE => ?_)⟩)
    · have h6 : p.1 - p.2.1 ≤ 6 := of_decide_eq_true (hb.trans hb1)
      refine b_M_looksAtName_46 (tw_I H (by decide) rfl ⟨fun hn => absurd e16 hn, fun _ => tw_I H (by decide) rfl (tw_I H (by decide) rfl (tw_I H (by decide) rfl ?_))⟩)
      rw [tP_13, tP_12, i32_sub h1]
      exact ⟨tw_K H, s_packed H hL (by omega) (cI_mk (Ho (by unfold pLok; rw [if_pos ht, if_pos h6])))⟩
    · have h6 : ¬ p.1 - p.2.1 ≤ 6 := of_decide_eq_false (hb.trans hb1)
      exact eend h' S' 2 p.2.1 (by unfold pLok; rw [if_pos ht, if_neg h6]) H' hE
  have tail : ∀ b, decide (p.2.2.1 = 1) = b → MF G (d + 1) mi_M_looksAtName 14 [.ref m] [.int (b01 b), .ref m] h (cI K Qx) := by
    intro b hb
    refine b_M_looksAtName_14 rfl (dR_of ⟨tw_K H, o_must H hL hc (by decide) (fun hb1 => ⟨fun h9 => absurd h9 (by decide), fun _ => tw_I H (by decide) rfl (tw_I H (by decide) rfl ?_)⟩) (fun hb1 h' S' H' hE => ⟨fun _ => ?_, fun h9 => absurd rfl h9⟩)⟩)
    · have ht : p.2.2.1 = 1 := of_decide_eq_true (hb.trans hb1)
      rw [tP_12, tP_13, i32_sub h1]
      refine ⟨fun h9 => tail2 ht false (decide_eq_false ?_), fun h9 => tail2 ht true (decide_eq_true ?_)⟩
      · have := (i32_lt (a := 6) (by omega) (by omega)).mp h9
        omega
      · have : ¬ 6 < p.1 - p.2.1 := fun e => h9 ((i32_lt (a := 6) (by omega) (by omega)).mpr e)
        omega
    · have ht : ¬ p.2.2.1 = 1 := of_decide_eq_false (hb.trans hb1)
      exact eend h' S' 1 p.2.1 (by unfold pLok; rw [if_neg ht]) H' hE
  refine b_M_looksAtName_0 (tw_I H (by decide) rfl ?_)
  rw [tP_14]
  exact ⟨fun h9 => tail false (decide_eq_false h9), fun h9 => tail true (decide_eq_true h9)⟩
theorem o_takesName {K : Int32 → AH → Prop} (H : TWX h0 h m A (tP S p)) (hL : TL S) (hf : S.1 10 = i32 n) (hn : n ≤ 500) (hp : PKo n p) (hc : S.1 16 = 0) (Ho : ∀ v p', pNam (S.2 9) n 100000 p = .inr (v, p') → ∀ h', TWX h0 h' m A (tP S p') → K v h') (He : ∀ e q, pNam (S.2 9) n 100000 p = .inl (e, q) → ∀ h' S', TWX h0 h' m A S' → ErS S S' e q → K 0 h') : MF G (d + 3) mi_M_takesName 0 [.ref m, .retAddr 0] [] h (cI K Qx) := by
  unfold pNam at Ho He
  refine b_M_takesName_0 ⟨tw_K H, o_looks H hL hn hp hc (fun ho => ⟨tw_K H, o_passes H (hL 9 rfl) hf hn hp.2 hc fun h' H' => cI_mk (Ho _ _ (by rw [ho]) h' H')⟩) (fun e q ho h' S' H' hE => ⟨tw_K H', e_passes H' hE.c (cI_mk (He e q (by rw [ho]) h' S' H' hE))⟩)⟩
end
