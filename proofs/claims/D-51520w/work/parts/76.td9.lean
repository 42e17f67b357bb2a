/-! the twin made -/
set_option maxRecDepth 100000
/-- the fields so far, the arrays made so far (kind, length) -/
def CB (h : AH) (m : Nat) (fs : List Value) (as : List (Nat × Nat)) (cur : AH) : Prop := cur.1 m = some (12, true, fs) ∧ m < h.2.1 ∧ cur.2.1 = h.2.1 + as.length ∧ (∀ i kd n, as[i]? = some (kd, n) → cur.1 (h.2.1 + i) = some (kd, true, (List.replicate n (0 : Int32)).map Value.int)) ∧ (∀ q, q < h.2.1 → q ≠ m → cur.1 q = h.1 q) ∧ (∀ q, cur.2.1 ≤ q → cur.1 q = none)
section
variable {G : GL} {d : Nat} {h cur : AH} {m : Nat} {fs : List Value} {as : List (Nat × Nat)} {K : AH → Prop}
theorem cb_step {j kd n : Nat} {e : Int32} (C : CB h m fs as cur) (he : e = i32 n) (hn : n ≤ 10000) (hj : j < fs.length) (hc : n + 4 ≤ cur.2.2) (HK : ∀ h2, CB h m (fs.set j (.ref (h.2.1 + as.length))) (as ++ [(kd, n)]) h2 → h2.2.2 = cur.2.2 - (n + 4) → K h2) : nA cur kd e (.int 0) fun q h1 => pF h1 m [12] j (.ref q) K := by
  obtain ⟨c1, c2, c3, c4, c5, c6⟩ := C
  subst he
  refine ⟨_, _, rfl, rfl, i32_nn (by omega), by rw [i32_nat (by omega)]; omega, by rw [i32_nat (by omega)]; exact hc, ?_⟩
  rw [i32_nat (by omega)]
  have hm : m ≠ cur.2.1 := by omega
  have c1' : (cur.new kd (List.replicate n (.int 0)) (n + 4)).1 m = some (12, true, fs) := by rw [AH.new_ne hm]; exact c1
  refine pF_of c1' (by simp) hj (HK _ ⟨?_, c2, ?_, fun i kd' n' hi => ?_, fun q hq hqm => ?_, fun q hq => ?_⟩ ?_)
  · rw [AH.put_self c1', c3]
  · rw [AH.put_2]
    show cur.2.1 + 1 = _
    rw [c3, List.length_append]
    rfl
  · rw [AH.put_ne (by omega)]
    by_cases e : i < as.length
    · rw [List.getElem?_append_left e] at hi
      rw [AH.new_ne (by omega)]
      exact c4 i kd' n' hi
    · have hlt := (List.getElem?_eq_some_iff.mp hi).1
      rw [List.length_append, List.length_singleton] at hlt
      have e2 : i = as.length := by omega
      subst e2
      have : (kd, n) = (kd', n') := by simpa using hi
      cases this
      rw [← c3, AH.new_self, List.map_replicate]
  · rw [AH.put_ne hqm, AH.new_ne (by omega)]
    exact c5 q hq hqm
  · rw [AH.put_2] at hq
    have hq' : cur.2.1 + 1 ≤ q := hq
    rw [AH.put_ne (by omega), AH.new_ne (by omega)]
    exact c6 q (by omega)
  · rfl
end
/-- the arrays of the twin in the order they are made -/
def tAs : List (Nat × Nat) := [(100, 457), (100, 457), (100, 457), (100, 3656), (100, 914), (103, 2), (100, 500), (100, 30), (100, 30), (100, 30), (100, 30), (100, 30), (100, 400), (100, 8)]
/-- which of them a field holds -/
def tIx (k : Nat) : Nat := if k ≤ 5 then k else if k = 9 then 6 else if k ≤ 21 then k - 10 else k - 14
def tA (q : Nat) (k : Nat) : Nat := q + tIx k
def tS0 : TS := (fun k => if k = 11 then -1 else 0, fun k => List.replicate (tLen k) 0)
/-- the twin's object as it is made -/
def tNew : List Value := (List.range 29).map fun k => if isA k then .null else .int 0
theorem tIx_inj : ∀ k, isA k = true → ∀ j, isA j = true → tIx k = tIx j → k = j := by
  intro k hk j hj
  have h1 : ∀ k, isA k = true → k < 29 := fun k hk => by
    simp [isA] at hk
    omega
  have h2 : ∀ k : Fin 29, ∀ j : Fin 29, isA k.1 = true → isA j.1 = true → tIx k.1 = tIx j.1 → k.1 = j.1 := by decide +kernel
  exact h2 ⟨k, h1 k hk⟩ ⟨j, h1 j hj⟩ hk hj
theorem tIx_as : ∀ k, isA k = true → tAs[tIx k]? = some (tK k, tLen k) ∧ tIx k < 14 := by
  intro k hk
  have h1 : k < 29 := by
    simp [isA] at hk
    omega
  have h2 : ∀ k : Fin 29, isA k.1 = true → tAs[tIx k.1]? = some (tK k.1, tLen k.1) ∧ tIx k.1 < 14 := by decide +kernel
  exact h2 ⟨k, h1⟩ hk
def tTxt : String := "quarry 3 2; player ann 20; player bob 20; player cy 25; cart 0 3 1 5 0 4 2 2 1 6 0 5 2 2 1 4 0 4 2 9"
def tB0 : List Int32 := sbs tTxt ++ List.replicate (500 - (sbs tTxt).length) 0
theorem tTxt_len : (sbs tTxt).length = 100 := by decide +kernel
def gIni : GS := match rdS tB0 100 with
  | .inl _ => g00
  | .inr (g, _) => g
theorem gIni_ok : ∃ p, rdS tB0 100 = .inr (gIni, p) := by
  have h : (match rdS tB0 100 with
    | .inl _ => false
    | .inr _ => true) = true := by decide +kernel
  unfold gIni
  cases hr : rdS tB0 100 with
  | inl e => rw [hr] at h; cases h
  | inr a => exact ⟨a.2, rfl⟩
/-- the law's state at first -/
def x0 : LSt := (gIni, [], fun _ => none, 0, (tB0, 0), -1, (List.replicate 400 0, 0))
section
variable {G : GL} {d : Nat} {h0 h : AH} {m : Nat} {A : Nat → Nat} {S : TS} {K : AH → Prop} {Qx : Nat → AH → Prop}
theorem s_lays {q : Nat} (H : TWX h0 h m A S) (hL : TL S) (h0R : S.2 0 = List.replicate 457 0) (h9R : S.2 9 = List.replicate 500 0) (h99 : S.1 99 = 0) (hK : SK G) (hs : STR G h) (hq : StrAt h q (sbs tTxt)) (HK : ∀ h' S', TWX h0 h' m A S' → TR (S'.2 0) gIni → TL S' → S'.2 9 = tB0 → S'.1 10 = 0 → S'.1 11 = -1 → (∀ k, k ≠ 10 → k ≠ 11 → ¬ (12 ≤ k ∧ k ≤ 16) → S'.1 k = S.1 k) → (∀ k, k ≠ 0 → k ≠ 9 → S'.2 k = S.2 k) → K h') : MF G (d + 10) mi_M_lays 0 [.ref m, .ref q, .retAddr 0] [] h (cV K Qx) := by
  have hl := tTxt_len
  refine b_M_lays_0 rfl ?_
  have behind : ∀ hh, TWX h0 hh m A (setR S 9 tB0) → StrAt hh q (sbs tTxt) → STR G hh → MF G (d + 10) mi_M_lays 2 [.ref m, .ref q, .int (i32 100)] [] hh (cV K Qx) := by
    intro hh HH hq hs
    have hks : hasKs hh q [14] := by obtain ⟨w9, w', a, x, y, h1, -⟩ := hq; exact ⟨14, by simp, w9, _, h1⟩
    refine b_M_lays_2 rfl (dR_of ⟨hks, s_strlen hK hq ?_⟩)
    rw [hl]
    refine ⟨fun _ => ⟨hks, s_strlen hK hq ?_⟩, fun hn => absurd ((i32_le (by omega) (by omega)).mpr (Nat.le_refl _)) hn⟩
    rw [hl]
    refine tw_F HH (by decide) rfl fun h1 H1 => ?_
    have hLT : TL (setF (setR S 9 tB0) 10 (i32 100)) := TL_setR (k := 9) hL (by unfold tB0; rw [List.length_append, List.length_replicate, hl]; rfl)
    have b9 : (setF (setR S 9 tB0) 10 (i32 100)).2 9 = tB0 := (setR_k : (setR S 9 tB0).2 9 = tB0)
    refine ⟨tw_K H1, s_starts' (n := 100) H1 hLT setF_1 (by omega) fun h2 x y z H2 => ?_⟩
    rw [b9] at H2
    have hs2 : STR G h2 := hs.tw HH H2
    have b92 : (st0 (setF (setR S 9 tB0) 10 (i32 100))).2 9 = tB0 := b9
    have f102 : (st0 (setF (setR S 9 tB0) 10 (i32 100))).1 10 = i32 100 := by unfold st0; rw [setF_n (by decide), setF_n (by decide), setF_1]
    have c16 : (st0 (setF (setR S 9 tB0) 10 (i32 100))).1 16 = 0 := by unfold st0; rw [setF_n (by decide), setF_1]
    have e99 : (st0 (setF (setR S 9 tB0) 10 (i32 100))).1 99 = 0 := by unfold st0; rw [setF_n (by decide), setF_n (by decide), setF_n (by decide)]; exact h99
    have r0 : (st0 (setF (setR S 9 tB0) 10 (i32 100))).2 0 = List.replicate 457 0 := (setR_n (by decide) : (setR S 9 tB0).2 0 = S.2 0).trans h0R
    obtain ⟨p0, hp0⟩ := gIni_ok
    refine ⟨tw_K H2, o_readsSetup (g := g00) e99 H2 hLT (by rw [r0]; exact TRZ_0) rfl rfl f102 (by omega) (nxt_ok (Nat.zero_le _)).1 c16 hK hs2 (fun g' p' hg h3 N3 hN3 H3 => ?_) (fun c q hg h3 S3 H3 hE => ?_)⟩
    · rw [b92] at hg
      have hgI : g' = gIni := by
        rcases rdS_t (b := tB0) (n := 100) (x := x) (z := y) (w := z) with ⟨e, e1, e2⟩ | ⟨v, q1, q2, e1, e2, -⟩
        · rw [e1] at hg; cases hg
        · rw [e1] at hg; cases hg
          rw [hp0] at e2
          cases e2; rfl
      subst hgI
      refine tw_F H3 (by decide) rfl fun h4 H4 => cV_mk (HK h4 _ H4 ?_ ?_ ?_ setF_1 ?_ (fun k a b c => ?_) fun k a b => ?_)
      · show TR ((setR (st0 (setF (setR S 9 tB0) 10 (i32 100))) 0 N3).2 0) _
        rw [setR_k]; exact hN3
      · exact TL_setR (k := 0) hLT hN3.1
      · show (setR (st0 (setF (setR S 9 tB0) 10 (i32 100))) 0 N3).2 9 = tB0
        rw [setR_n (by decide)]; exact b92
      · rw [setF_n (by decide), tP_r (by decide) (by decide) (by decide) (by decide), setR_1]
        unfold st0
        rw [setF_1]
      · rw [setF_n a, tP_r (by omega) (by omega) (by omega) (by omega), setR_1]
        unfold st0
        rw [setF_n b, setF_n (by omega), setF_n a, setR_1]
      · show (setR (st0 (setF (setR S 9 tB0) 10 (i32 100))) 0 N3).2 k = S.2 k
        rw [setR_n a]
        exact setR_n b
    · rw [b92] at hg
      exfalso
      rcases rdS_t (b := tB0) (n := 100) (x := x) (z := y) (w := z) with ⟨e, e1, e2⟩ | ⟨v, q1, q2, e1, e2, -⟩
      · rw [hp0] at e2; cases e2
      · rw [e1] at hg; cases hg
  have loop : ∀ r k, r + k = 100 → ∀ hh, TWX h0 hh m A (setR S 9 ((sbs tTxt).take k ++ List.replicate (500 - k) 0)) → StrAt hh q (sbs tTxt) → STR G hh → MF G (d + 10) mi_M_lays 2 [.ref m, .ref q, .int (i32 k)] [] hh (cV K Qx) := by
    intro r
    induction r with
    | zero =>
      intro k hk hh HH hq hs
      have : k = 100 := by omega
      subst this
      refine behind hh ?_ hq hs
      unfold tB0
      rw [hl]
      rw [List.take_of_length_le (by omega)] at HH
      exact HH
    | succ r ih =>
      intro k hk hh HH hq hs
      have hks : hasKs hh q [14] := by obtain ⟨w9, w', a, x, y, h1, -⟩ := hq; exact ⟨14, by simp, w9, _, h1⟩
      obtain ⟨c, hc⟩ : ∃ c, (sbs tTxt)[k]? = some c := ⟨_, List.getElem?_eq_getElem (by omega)⟩
      have htl : ((sbs tTxt).take k).length = k := by rw [List.length_take]; omega
      refine b_M_lays_2 rfl (dR_of ⟨hks, s_strlen hK hq ?_⟩)
      rw [hl]
      refine ⟨fun hn => absurd ((i32_le (by omega) (by omega)).mp hn) (by omega), fun _ => tw_R (k := 9) HH (by decide) rfl ⟨hks, s_charAt hK hq (by omega) hc (dR_of (tw_pA (k := 9) (n := k) HH rfl (by decide) rfl (by omega) (by rw [setR_k, List.length_append, htl, List.length_replicate]; omega) fun h1 H1 => ?_))⟩⟩
      rw [i32_succ]
      rw [setR_R, setR_k] at H1
      refine ih (k + 1) (by omega) h1 ?_ (hq.tw (A' := A) HH H1) (hs.tw HH H1)
      have e9 : ((sbs tTxt).take k ++ List.replicate (500 - k) 0).set k c = (sbs tTxt).take (k + 1) ++ List.replicate (500 - (k + 1)) 0 := by
        rw [List.set_append_right _ _ (by omega), htl, Nat.sub_self]
        obtain ⟨hk2, hc2⟩ := List.getElem?_eq_some_iff.mp hc
        rw [List.take_succ_eq_append_getElem hk2, hc2, show 500 - k = (500 - (k + 1)) + 1 by omega, List.replicate_succ, List.set_cons_zero, List.append_assoc]
        rfl
      rw [e9] at H1
      exact H1
  refine loop 100 0 rfl h ?_ hq hs
  rw [List.take_zero, List.nil_append, ← h9R, setR_same]
  exact H
theorem cb_put {h cur : AH} {fs : List Value} {as : List (Nat × Nat)} {j : Nat} {v : Value} (C : CB h m fs as cur) (hj : j < fs.length) (HK : ∀ h2, CB h m (fs.set j v) as h2 → h2.2.2 = cur.2.2 → K h2) : pF cur m [12] j v K := by
  obtain ⟨c1, c2, c3, c4, c5, c6⟩ := C
  refine pF_of c1 (by simp) hj (HK _ ⟨AH.put_self c1, c2, c3, fun i kd n hi => ?_, fun q hq hqm => ?_, fun q hq => ?_⟩ rfl)
  · rw [AH.put_ne (by omega)]; exact c4 i kd n hi
  · rw [AH.put_ne hqm]; exact c5 q hq hqm
  · rw [AH.put_2] at hq
    rw [AH.put_ne (by omega)]; exact c6 q hq
theorem StrAt.old {h h' : AH} {q : Nat} {bs : List Int32} (hs : StrAt h q bs) (ho : ∀ q c, h.1 q = some c → c.1 = 14 ∨ c.1 = 101 → h'.1 q = h.1 q) : StrAt h' q bs := by
  obtain ⟨w, w', a, x, y, h1, h2, h3⟩ := hs
  exact ⟨w, w', a, x, y, by rw [ho q _ h1 (Or.inl rfl)]; exact h1, by rw [ho a _ h2 (Or.inr rfl)]; exact h2, h3⟩
theorem s_initM {G : GL} {d : Nat} {h : AH} {m : Nat} {K : AH → Prop} {Qx : Nat → AH → Prop} (hm : h.1 m = some (12, true, tNew)) (hml : m < h.2.1) (hwf : ∀ q, h.2.1 ≤ q → h.1 q = none) (hroom : 7100 ≤ h.2.2) (hK : SK G) (hs : STR G h) (HK : ∀ h' S', TWX h' h' m (tA h.2.1) S' → TI S' x0 → h'.2.1 = h.2.1 + 14 → h.2.2 ≤ h'.2.2 + 7100 → (∀ q, q < h.2.1 → q ≠ m → h'.1 q = h.1 q) → (∀ q, h.2.1 + 14 ≤ q → h'.1 q = none) → K h') : MF G (d + 11) mi_M_init 0 [.ref m] [] h (cV K Qx) := by
  have C0 : CB h m tNew [] h := ⟨hm, hml, rfl, fun i kd n hi => by simp at hi, fun _ _ _ => rfl, hwf⟩
  refine b_M_init_0 ?_
  refine cb_step (n := 457) C0 rfl (by omega) (by decide) (by omega) fun h1 C1 r1 => ?_
  refine cb_step (n := 457) C1 rfl (by omega) (by simp [tNew]) (by omega) fun h2 C2 r2 => ?_
  refine cb_step (n := 457) C2 rfl (by omega) (by simp [tNew]) (by omega) fun h3 C3 r3 => ?_
  refine cb_step (n := 3656) C3 rfl (by omega) (by simp [tNew]) (by omega) fun h4 C4 r4 => ?_
  refine cb_step (n := 914) C4 rfl (by omega) (by simp [tNew]) (by omega) fun h5 C5 r5 => ?_
  refine cb_step (n := 2) C5 rfl (by omega) (by simp [tNew]) (by omega) fun h6 C6 r6 => ?_
  refine cb_step (n := 500) C6 rfl (by omega) (by simp [tNew]) (by omega) fun h7 C7 r7 => ?_
  refine cb_put C7 (by simp [tNew]) fun h8 C8 r8 => ?_
  refine cb_step (n := 30) C8 rfl (by omega) (by simp [tNew]) (by omega) fun h9 C9 r9 => ?_
  refine cb_step (n := 30) C9 rfl (by omega) (by simp [tNew]) (by omega) fun h10 C10 r10 => ?_
  refine cb_step (n := 30) C10 rfl (by omega) (by simp [tNew]) (by omega) fun h11 C11 r11 => ?_
  refine cb_step (n := 30) C11 rfl (by omega) (by simp [tNew]) (by omega) fun h12 C12 r12 => ?_
  refine cb_step (n := 30) C12 rfl (by omega) (by simp [tNew]) (by omega) fun h13 C13 r13 => ?_
  refine cb_step (n := 400) C13 rfl (by omega) (by simp [tNew]) (by omega) fun h14 C14 r14 => ?_
  refine cb_step (n := 8) C14 rfl (by omega) (by simp [tNew]) (by omega) fun h15 C15 r15 => ?_
  obtain ⟨c1, c2, c3, c4, c5, c6⟩ := C15
  have H15 : TWX h15 h15 m (tA h.2.1) tS0 := ⟨c1, fun k hk => by
      have h9 := c4 (tIx k) (tK k) (tLen k) (tIx_as k hk).1
      exact h9, fun k j hk hj e => tIx_inj k hk j hj (by unfold tA at e; omega), fun k hk e => by unfold tA at e; omega, rfl, fun _ _ => rfl⟩
  have c3' : h15.2.1 = h.2.1 + 14 := c3
  have hold : ∀ q c, h.1 q = some c → c.1 = 14 ∨ c.1 = 101 → h15.1 q = h.1 q := by
    intro q c hc hcc
    refine c5 q ?_ ?_
    · by_cases e : q < h.2.1
      · exact e
      · rw [hwf q (by omega)] at hc; cases hc
    · intro e
      subst e
      rw [hm] at hc
      cases hc
      rcases hcc with h9 | h9 <;> cases h9
  have hs15 : STR G h15 := fun k C i s e => (hs k C i s e).old hold
  have hL : TL tS0 := fun k hk => by simp [tS0]
  have nTF : ∀ q, q < h.2.1 → q ≠ m → ¬ TF m (tA h.2.1) q := by
    rintro q hq hqm (e | ⟨k, hk, e⟩)
    · exact hqm e
    · unfold tA at e; omega
  refine ⟨tw_K H15, s_lays H15 hL rfl rfl rfl hK hs15 (hs15 17 _ _ _ rfl) fun h' S' H' t1 t2 t3 t4 t5 t6 t7 => cV_mk (HK h' S' H'.self ?_ ?_ ?_ (fun q hq hqm => ?_) fun q hq => ?_)⟩
  · refine ⟨t2, t1, ⟨?_, Nat.zero_le _, fun i g9 hg9 => by cases hg9⟩, ?_, ?_, fun i hi => ?_, ?_, ⟨t3, t4, Nat.zero_le _⟩, t5, ⟨?_, ?_, Nat.zero_le _⟩⟩
    · rw [t6 6 (by decide) (by decide) (by decide)]; rfl
    · rw [t6 24 (by decide) (by decide) (by decide)]; rfl
    · rw [t6 99 (by decide) (by decide) (by decide)]; rfl
    · show Slt S' i none
      unfold Slt
      rw [t7 5 (by decide) (by decide)]
      rcases (by omega : i = 0 ∨ i = 1) with rfl | rfl <;> rfl
    · rw [t6 7 (by decide) (by decide) (by decide)]; rfl
    · rw [t7 26 (by decide) (by decide)]; rfl
    · rw [t6 28 (by decide) (by decide) (by decide)]; rfl
  · rw [H'.2.2.2.2.1]; exact c3'
  · rw [H'.2.2.2.2.1]
    omega
  · rw [H'.2.2.2.2.2 q (nTF q hq hqm)]
    exact c5 q hq hqm
  · rw [H'.2.2.2.2.2 q ?_]
    · exact c6 q (by omega)
    · rintro (e | ⟨k, hk, e⟩)
      · omega
      · have := (tIx_as k hk).2
        unfold tA at e; omega
end
