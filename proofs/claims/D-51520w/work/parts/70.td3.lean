/-! the twin: load and play over the law's state -/
set_option maxRecDepth 100000
def fLoad (x : LSt) : RS := match rdS x.b x.n with
  | .inl (c, q) => (0, -20 - c, (x.1, x.2.1, x.2.2.1, x.2.2.2.1, (x.b, 0), i32 q, x.2.2.2.2.2.2))
  | .inr (g', _) => (0, i32 g'.pl.length, (g', [], fun _ => none, 0, (x.b, 0), -1, x.2.2.2.2.2.2))
def fPlay (x : LSt) : RS := match rdO x.b x.n with
  | .inl (c, q) => (0, -20 - c, (x.1, x.2.1, x.2.2.1, x.2.2.2.1, (x.b, 0), i32 q, x.2.2.2.2.2.2))
  | .inr (os, _) => (0, i32 (dAl os 31 0 os.length (x.g, x.rf, 0)).2.2.2, ((dAl os 31 0 os.length (x.g, x.rf, 0)).2.1, kept x.ps x.g, x.2.2.1, (dAl os 31 0 os.length (x.g, x.rf, 0)).2.2.1, (x.b, 0), -1, x.2.2.2.2.2.2))
theorem tFs_hi {A : Nat → Nat} {S : TS} {k : Nat} {x : Int32} (hk : 29 ≤ k) : tFs A (setF S k x) = tFs A S := by
  unfold tFs
  refine List.map_congr_left fun j hj => ?_
  have := List.mem_range.mp hj
  rw [setF_n (by omega)]
theorem TWX.hi {h0 h : AH} {m : Nat} {A : Nat → Nat} {S : TS} {k : Nat} {x : Int32} (H : TWX h0 h m A S) (hk : 29 ≤ k) : TWX h0 h m A (setF S k x) := ⟨by rw [tFs_hi hk]; exact H.1, H.2⟩
/-- a text that could not be read leaves the game as it was -/
theorem TI.fail {S S' : TS} {x : LSt} {q : Nat} (h : TI S x) (hL : TL S') (h8 : S'.1 8 = 0) (h10 : S'.1 10 = 0) (h11 : S'.1 11 = i32 q) (h99 : S'.1 99 = 0) (hf : ∀ k, k = 6 ∨ k = 7 ∨ k = 24 ∨ k = 28 → S'.1 k = S.1 k) (ha : ∀ k, k = 0 ∨ k = 3 ∨ k = 4 ∨ k = 5 ∨ k = 9 ∨ k = 26 → S'.2 k = S.2 k) : TI S' (x.1, x.2.1, x.2.2.1, x.2.2.2.1, (x.b, 0), i32 q, x.2.2.2.2.2.2) := by
  obtain ⟨t1, t2, t3, t4, t5, t6, t7, t8, t9, t10⟩ := h
  exact ⟨hL, by rw [ha 0 (by decide)]; exact t2, ⟨(hf 6 (by decide)).trans t3.1, t3.2.1, by rw [ha 3 (by decide)]; exact t3.2.2⟩, (hf 24 (by decide)).trans t4, h99, fun i hi => (t6 i hi).of (ha 5 (by decide)) (ha 4 (by decide)), (hf 7 (by decide)).trans t7, ⟨(ha 9 (by decide)).trans t8.1, h10, Nat.zero_le _⟩, h11, ⟨(ha 26 (by decide)).trans t10.1, (hf 28 (by decide)).trans t10.2.1, t10.2.2⟩⟩
section
variable {G : GL} {d : Nat} {h0 h : AH} {m : Nat} {A : Nat → Nat} {S : TS} {x : LSt} {Qx : Nat → AH → Prop}
theorem t_load {K : Int32 → AH → Prop} (H : TWX h0 h m A S) (hI : TI S x) (hK : SK G) (hs : STR G h) (HK : TPost h0 m A (fLoad x) K) : MF G (d + 10) mi_M_load 0 [.ref m, .retAddr 0] [] h (cI K Qx) := by
  have hI0 := hI
  obtain ⟨t1, t2, t3, t4, t5, t6, t7, t8, t9, t10⟩ := hI
  unfold fLoad at HK
  refine p_load (n := x.n) t5 H t1 t8.2.1 t8.2.2 hK hs (fun a b c g' p' hg h' N S' hN H' hO => ?_) (fun a b c e q hg h' S' H' hE => ?_)
  · rw [t8.1] at hg
    rcases rdS_t (b := x.b) (n := x.n) (x := a) (z := b) (w := c) with ⟨e, e1, e2⟩ | ⟨v, q1, q2, e1, e2, -⟩
    · rw [e1] at hg; cases hg
    · rw [e1] at hg
      cases hg
      rw [e2] at HK
      obtain ⟨o1, o2, o3, o4, o5, o6, o7, o8, o9, o10, o11⟩ := hO
      refine HK h' S' H' ⟨o11, by rw [o1]; exact hN, ⟨o2, Nat.zero_le _, fun i g9 hg9 => by cases hg9⟩, (o9 24 (by decide) (by decide) (by decide) (by decide) (by decide) (by decide)).trans t4, (o9 99 (by decide) (by decide) (by decide) (by decide) (by decide) (by decide)).trans t5, fun i hi => ?_, o3, ⟨(o10 9 (by decide) (by decide) (by decide)).trans t8.1, o5, Nat.zero_le _⟩, o6, ⟨(o10 26 (by decide) (by decide) (by decide)).trans t10.1, (o9 28 (by decide) (by decide) (by decide) (by decide) (by decide) (by decide)).trans t10.2.1, t10.2.2⟩⟩ o4
      rcases (by omega : i = 0 ∨ i = 1) with rfl | rfl
      · exact o7
      · exact o8
  · rw [t8.1] at hg
    rcases rdS_t (b := x.b) (n := x.n) (x := a) (z := b) (w := c) with ⟨e', e1, e2⟩ | ⟨v, q1, q2, e1, e2, -⟩
    · rw [e1] at hg
      cases hg
      rw [e2] at HK
      obtain ⟨o1, o2, o3, o4, o5, o6⟩ := hE
      refine HK h' S' H' (hI0.fail o6 o1 o2 o3 ((o4 99 (by decide) (by decide) (by decide) (by decide) (by decide)).trans t5) (fun k hk => o4 k (by omega) (by omega) (by omega) (by omega) (by omega)) fun k hk => o5 k (by omega) (by omega)) o1
    · rw [e1] at hg; cases hg
theorem t_play {K : Int32 → AH → Prop} {J : Nat → GS → Prop} (hJ0 : J 0 x.g) (hJv : ∀ c g, J c g → GV g) (hJs : ∀ os p', rdO x.b x.n = .inr (os, p') → ∀ (c : Nat) (g : GS) (j : Nat) (o : OD) (g' : GS), J c g → c < 40 → os[j]? = some o → oAct g o = some (some g') → J (c + 1) g') (H : TWX h0 h m A S) (hI : TI S x) (hK : SK G) (hs : STR G h) (HK : TPost h0 m A (fPlay x) K) : MF G (d + 40) mi_M_play 0 [.ref m, .retAddr 0] [] h (cI K Qx) := by
  have hI0 := hI
  obtain ⟨t1, t2, t3, t4, t5, t6, t7, t8, t9, t10⟩ := hI
  have H0 : TWX h0 h m A (setF S 99 1) := H.hi (by omega)
  have hJs' := hJs
  unfold fPlay at HK
  have hbase : ∀ k, k ≠ 8 → k ≠ 11 → k ≠ 16 → k ≠ 22 → k ≠ 99 → (setF (st0 (setF (setF S 99 1) 8 0)) 22 0).1 k = S.1 k := fun k a b c e f => by
    unfold st0
    rw [setF_n e, setF_n b, setF_n c, setF_n a, setF_n f]
  have hB8 : (setF (st0 (setF (setF S 99 1) 8 0)) 22 0).1 8 = 0 := by
    unfold st0
    rw [setF_n (by decide), setF_n (by decide), setF_n (by decide), setF_1]
  have hB11 : (setF (st0 (setF (setF S 99 1) 8 0)) 22 0).1 11 = -1 := by
    unfold st0
    rw [setF_n (by decide), setF_1]
  have hB16 : (setF (st0 (setF (setF S 99 1) 8 0)) 22 0).1 16 = 0 := by
    unfold st0
    rw [setF_n (by decide), setF_n (by decide), setF_1]
  have hB22 : (setF (st0 (setF (setF S 99 1) 8 0)) 22 0).1 22 = 0 := setF_1
  have hB99 : (setF (st0 (setF (setF S 99 1) 8 0)) 22 0).1 99 = 1 := by
    unfold st0
    rw [setF_n (by decide), setF_n (by decide), setF_n (by decide), setF_n (by decide), setF_1]
  have hB2 : (setF (st0 (setF (setF S 99 1) 8 0)) 22 0).2 = S.2 := rfl
  refine b_M_play_0 (tw_F H0 (by decide) rfl fun h1 H1 => ⟨tw_K H1, s_starts' (n := x.n) H1 t1 (by rw [setF_n (by decide), setF_n (by decide)]; exact t8.2.1) t8.2.2 fun h2 a b c H2 => tw_F H2 (by decide) rfl fun h3 H3 => ?_⟩)
  rw [show (setF (setF S 99 1) 8 0).2 9 = x.b from t8.1] at H3
  rw [tP_F (by decide) (by decide) (by decide) (by decide)] at H3
  generalize hB : setF (st0 (setF (setF S 99 1) 8 0)) 22 0 = B at *
  have hs3 : STR G h3 := hs.tw H H3
  have hp0 := (nxt_ok (b := x.b) (n := x.n) (cp := 100000) (p := (0, a, b, c)) (Nat.zero_le _)).1
  have hLB : TL B := by rw [← hB]; exact t1
  have hparse := rdO_t (b := x.b) (n := x.n) (x := a) (z := b) (w := c)
  have hB9 : B.2 9 = x.b := by rw [hB2]; exact t8.1
  have hBn : B.1 10 = i32 x.n := (hbase 10 (by decide) (by decide) (by decide) (by decide) (by decide)).trans t8.2.1
  -- an error
  have fail : ∀ (e : Int32) (q : Nat) h' S', TWX h0 h' m A S' → ErS B S' e q → rdO x.b x.n = .inl (e, q) → pF h' m [12] 10 (.int 0) fun h3 => gI h3 m [12] 16 fun y4 => ((y4 = 0 → (hasKs h3 m [12] ∧ MF G (d + 39) mi_M_keeps 0 [.ref m, .retAddr 0] [] h3 (cV (fun h6 => (narrow .boolean (.int 1) = .int 1 ∧ fits .boolean (.int 1) = true ∧ pF h6 m [12] 24 (.int 1) fun h7 => pF h7 m [12] 23 (.int 0) fun h8 => gI h8 m [12] 22 fun y9 => (hasKs h8 m [12] ∧ MF G (d + 39) mi_M_doesAll 0 [.ref m, .int 0, .int y9, .retAddr 0, .retAddr 0] [] h8 (cI (fun y10 h10 => (narrow .boolean (.int 0) = .int 0 ∧ fits .boolean (.int 0) = true ∧ pF h10 m [12] 24 (.int 0) fun h11 => gI h11 m [12] 23 fun y12 => cI K Qx (.inl (some (.int y12))) h11)) (fun q9 h9 => cI K Qx (.inr q9) h9))))) (fun q9 h9 => cI K Qx (.inr q9) h9)))) ∧ (¬ y4 = 0 → gI h3 m [12] 16 fun y13 => cI K Qx (.inl (some (.int ((-20) - y13)))) h3)) := by
    intro e q h' S' H' hE eq
    rw [eq] at HK
    refine tw_F H' (by decide) rfl fun h4 H4 => tw_I H4 (by decide) rfl ?_
    have e16 : (setF S' 10 0).1 16 = e := by rw [setF_n (by decide)]; exact hE.1
    rw [e16]
    refine ⟨fun h9 => absurd h9 hE.2.1, fun _ => tw_I H4 (by decide) rfl (cI_mk ?_)⟩
    rw [e16]
    have e8 : (setF (setF S' 10 0) 99 0).1 8 = 0 := by
      rw [setF_n (by decide), setF_n (by decide), hE.2.2.2.1 8 (by decide) (by decide) (by decide) (by decide) (by decide) (by decide) (by decide)]; exact hB8
    refine HK h4 _ (H4.hi (k := 99) (x := 0) (by omega)) (hI0.fail (show TL (setF (setF S' 10 0) 99 0) from hE.2.2.2.2.2) e8 ?_ ?_ setF_1 (fun k hk => ?_) fun k hk => ?_) e8
    · rw [setF_n (by decide), setF_1]
    · rw [setF_n (by decide), setF_n (by decide)]; exact hE.2.2.1
    · rw [setF_n (by omega), setF_n (by omega), hE.2.2.2.1 k (by omega) (by omega) (by omega) (by omega) (by omega) (by omega) (by omega)]
      exact hbase k (by omega) (by omega) (by omega) (by omega) (by omega)
    · show S'.2 k = S.2 k
      rw [hE.2.2.2.2.1 k (fun _ => hB99) (by omega), hB2]
  refine ⟨tw_K H3, o_readsOrders (d := d + 25) t8.2.2 hK 31 2 0 rfl h3 B [] _ _ _ H3 hLB hB9 hBn hp0 hB16 hs3 (fun k o hk => by cases hk) hB22 (by omega) (by decide) (fun os p' heq hp' h4 S2 hR hO n2 l2 H4 => ?_) (fun e q heq h' S' H' hE => ?_)⟩
  · rw [heq, bindP_ok] at hparse
    have t32 : ∀ bb, decide (p'.2.2.1 = 0) = bb → MF G (d + 40) mi_M_play 32 [.ref m, .retAddr 0] [.int (b01 bb), .ref m] h4 (cI K Qx) := by
      intro bb hbb
      refine b_M_play_32 rfl (dR_of ⟨tw_K H4, o_must H4 hR.2.2 ((hR.1 16 (by decide)).trans hB16) (by decide) (fun hb3 => ?_) (fun hb3 h' S' H' hE => ?_)⟩)
      · have ht : p'.2.2.1 = 0 := of_decide_eq_true (hbb.trans hb3)
        have eE : pEnd os p' = .inr (os, p') := if_pos ht
        rw [eE] at hparse
        rcases hparse with ⟨e', e1, e2⟩ | ⟨v, q1, q2, e1, e2, -⟩
        · cases e1
        · cases e1
          rw [e2] at HK
          dsimp only at HK
          refine tw_F H4 (by decide) rfl fun h5 H5 => tw_I H5 (by decide) rfl ?_
          rw [tP_F (by decide) (by decide) (by decide) (by decide)] at H5
          have e16 : (setF (tP S2 p') 10 0).1 16 = 0 := by
            rw [setF_n (by decide), tP_r (by decide) (by decide) (by decide) (by decide)]
            exact (hR.1 16 (by decide)).trans hB16
          refine ⟨fun _ => ?_, fun hn => absurd e16 hn⟩
          have f2 : ∀ k, k ≠ 8 → k ≠ 11 → k ≠ 16 → k ≠ 22 → k ≠ 99 → k ≠ 10 → ¬ (12 ≤ k ∧ k ≤ 15) → (tP (setF S2 10 0) p').1 k = S.1 k := fun k a b c e f i j => by
            rw [tP_r (by omega) (by omega) (by omega) (by omega), setF_n i, hR.1 k e]
            exact hbase k a b c e f
          have a2 : ∀ k, ¬ (17 ≤ k ∧ k ≤ 21) → (tP (setF S2 10 0) p').2 k = S.2 k := fun k hk => by
            show S2.2 k = S.2 k
            rw [hR.2.1 k hk, hB2]
          have hR2 : TR ((tP (setF S2 10 0) p').2 0) x.g := by rw [a2 0 (by omega)]; exact t2
          refine ⟨tw_K H5, s_keeps (ps := x.ps) H5 hR.2.2 hR2 ((f2 6 (by decide) (by decide) (by decide) (by decide) (by decide) (by decide) (by decide)).trans t3.1) t3.2.1 (by rw [a2 3 (by omega)]; exact t3.2.2) fun h6 E6 hE6 lE6 H6 => ⟨rfl, rfl, tw_F H6 (by decide) rfl fun h7 H7 => tw_F H7 (by decide) rfl fun h8 H8 => tw_I H8 (by decide) rfl ?_⟩⟩
          have g5 : ∀ k, k ≠ 6 → k ≠ 24 → k ≠ 23 → (setF (setF (setF (setR (tP (setF S2 10 0) p') 3 E6) 6 (i32 (kept x.ps x.g).length)) 24 1) 23 0).1 k = (tP (setF S2 10 0) p').1 k := fun k a b c => by
            rw [setF_n c, setF_n b, setF_n a, setR_1]
          have b5 : ∀ k, k ≠ 3 → (setF (setF (setF (setR (tP (setF S2 10 0) p') 3 E6) 6 (i32 (kept x.ps x.g).length)) 24 1) 23 0).2 k = (tP (setF S2 10 0) p').2 k := fun k a => setR_n a
          have e22 : (setF (setF (setF (setR (tP (setF S2 10 0) p') 3 E6) 6 (i32 (kept x.ps x.g).length)) 24 1) 23 0).1 22 = i32 os.length := by
            rw [g5 22 (by decide) (by decide) (by decide), tP_r (by decide) (by decide) (by decide) (by decide), setF_n (by decide)]; exact n2
          rw [e22]
          have hTA : TA (setF (setF (setF (setR (tP (setF S2 10 0) p') 3 E6) 6 (i32 (kept x.ps x.g).length)) 24 1) 23 0) x.g (kept x.ps x.g) true := by
            refine ⟨TL_setR (k := 3) (S := tP (setF S2 10 0) p') hR.2.2 lE6, by rw [b5 0 (by decide)]; exact hR2, ⟨?_, kept_len t3.2.1, ?_⟩, ?_⟩
            · rw [setF_n (by decide), setF_n (by decide), setF_1]
            · show TPast ((setR (tP (setF S2 10 0) p') 3 E6).2 3) _
              rw [setR_k]; exact hE6
            · rw [setF_n (by decide), setF_1]; rfl
          have hOs : Ods (setF (setF (setF (setR (tP (setF S2 10 0) p') 3 E6) 6 (i32 (kept x.ps x.g).length)) 24 1) 23 0) os := fun k o hk => by
            have := hO k o hk
            unfold OdAt at this ⊢
            rw [b5 17 (by decide), b5 18 (by decide), b5 19 (by decide), b5 20 (by decide), b5 21 (by decide)]
            exact this
          have h7' : (setF (setF (setF (setR (tP (setF S2 10 0) p') 3 E6) 6 (i32 (kept x.ps x.g).length)) 24 1) 23 0).1 7 = x.rf := by
            rw [g5 7 (by decide) (by decide) (by decide), f2 7 (by decide) (by decide) (by decide) (by decide) (by decide) (by decide) (by decide)]; exact t7
          have hW : Wos os := pOrs_wf 31 [] 0 _ os p' heq
          have hSg : Seg os 0 os.length := by
            intro j o _ hj hjo h4
            rcases hW j o (Nat.zero_le _) hjo with e9 | ⟨-, t, w, -, -, w1, w2, w3, -⟩
            · have := e9.kd; rw [h4] at this; exact absurd this (by decide)
            · exact ⟨w, w1, w3⟩
          refine ⟨tw_K H8, b_M_doesAll_0 (s_doesAll hW l2 hJv (hJs' os q2 e2) 31 0 os.length (d + 38 + 1) (by omega) (Nat.le_refl _) (Nat.zero_le _) (by omega) hSg h8 _ (x.g, x.rf, 0) _ _ _ _ H8 hTA h7' setF_1 hJ0 (Nat.zero_le _) hOs fun h9 S9 H9 hs9 hT9 h79 h239 hJ9 h409 => ⟨rfl, rfl, tw_F H9 (by decide) rfl fun h10 H10 => tw_I H10 (by decide) rfl (cI_mk ?_)⟩)⟩
          rw [setF_n (by decide), h239]
          have g9 : ∀ k, k ≠ 6 → k ≠ 7 → k ≠ 23 → k ≠ 25 → k ≠ 24 → (tP (setF S2 10 0) p').1 k = S9.1 k := fun k a b c e f => by
            rw [hs9.1 k a b c e, g5 k a f c]
          have b9 : ∀ k, k ≠ 0 → k ≠ 1 → k ≠ 3 → ¬ (17 ≤ k ∧ k ≤ 21) → S9.2 k = S.2 k := fun k a b c e => by
            rw [hs9.2 k a b c, b5 k c, a2 k e]
          have e89 : (setF (setF S9 24 0) 99 0).1 8 = 0 := by
            rw [setF_n (by decide), setF_n (by decide), ← g9 8 (by decide) (by decide) (by decide) (by decide) (by decide), tP_r (by decide) (by decide) (by decide) (by decide), setF_n (by decide), hR.1 8 (by decide)]; exact hB8
          refine HK h10 _ (H10.hi (k := 99) (x := 0) (by omega)) ⟨hT9.1, hT9.2.1, ⟨?_, hT9.2.2.1.2.1, hT9.2.2.1.2.2⟩, ?_, setF_1, fun i hi => (t6 i hi).of (b9 5 (by decide) (by decide) (by decide) (by omega)) (b9 4 (by decide) (by decide) (by decide) (by omega)), ?_, ⟨(b9 9 (by decide) (by decide) (by decide) (by omega)).trans t8.1, ?_, Nat.zero_le _⟩, ?_, ⟨(b9 26 (by decide) (by decide) (by decide) (by omega)).trans t10.1, ?_, t10.2.2⟩⟩ e89
          · rw [setF_n (by decide), setF_n (by decide)]; exact hT9.2.2.1.1
          · rw [setF_n (by decide), setF_1]
          · rw [setF_n (by decide), setF_n (by decide)]; exact h79
          · rw [setF_n (by decide), setF_n (by decide), ← g9 10 (by decide) (by decide) (by decide) (by decide) (by decide), tP_r (by decide) (by decide) (by decide) (by decide), setF_1]; rfl
          · rw [setF_n (by decide), setF_n (by decide), ← g9 11 (by decide) (by decide) (by decide) (by decide) (by decide), tP_r (by decide) (by decide) (by decide) (by decide), setF_n (by decide), hR.1 11 (by decide)]; exact hB11
          · rw [setF_n (by decide), setF_n (by decide), ← g9 28 (by decide) (by decide) (by decide) (by decide) (by decide), f2 28 (by decide) (by decide) (by decide) (by decide) (by decide) (by decide) (by decide)]; exact t10.2.1
      · have ht : ¬ p'.2.2.1 = 0 := of_decide_eq_false (hbb.trans hb3)
        have eE : pEnd os p' = .inl (1, p'.2.1) := if_neg ht
        rw [eE] at hparse
        rcases hparse with ⟨e', e1, e2⟩ | ⟨v, q1, q2, e1, e2, -⟩
        · cases e1
          exact fail 1 p'.2.1 h' S' H' (hE.base hR) e2
        · cases e1
    refine tw_I H4 (by decide) rfl ?_
    rw [tP_14]
    exact ⟨fun h9 => t32 false (decide_eq_false h9), fun h9 => t32 true (decide_eq_true h9)⟩
  · rw [heq, bindP_er] at hparse
    rcases hparse with ⟨e', e1, e2⟩ | ⟨v, q1, q2, e1, e2, -⟩
    · cases e1
      have t32 : ∀ y : Int32, MF G (d + 40) mi_M_play 32 [.ref m, .retAddr 0] [.int y, .ref m] h' (cI K Qx) := fun y =>
        b_M_play_32 rfl (dR_of ⟨tw_K H', e_must H' hE.c (fail e q h' S' H' hE e2)⟩)
      exact tw_I H' (by decide) rfl ⟨fun _ => t32 0, fun _ => t32 1⟩
    · cases e1
end
