/-! the twin's reader: all orders -/
set_option maxRecDepth 100000
def ROk (G : GL) (h0 : AH) (m : Nat) (A : Nat → Nat) (b : List Int32) (n r w E : Nat) : Prop := ∀ (h : AH) (S : TS) (os : List OD) (p : PK) (K : AH → Prop) (Qx : Nat → AH → Prop), TWX h0 h m A (tP S p) → TL S → S.2 9 = b → S.1 10 = i32 n → PKo n p → S.1 16 = 0 → STR G h → Ods S os → S.1 22 = i32 os.length → 31 ≤ r + os.length → os.length ≤ 30 →
  (∀ os' p', pOrs b n 100000 r os w p = .inr (os', p') → PKo n p' → ∀ h' S', OrS S S' → Ods S' os' → S'.1 22 = i32 os'.length → os'.length ≤ 30 → TWX h0 h' m A (tP S' p') → K h') →
  (∀ e q, pOrs b n 100000 r os w p = .inl (e, q) → ∀ h' S', TWX h0 h' m A S' → ErS S S' e q → K h') →
  MF G E mi_M_readsOrders 0 [.ref m, .int (i32 w)] [] h (cV K Qx)
theorem Ods.setO {S : TS} {os : List OD} {k : Nat} {o : OD} {v : Int32} (h : Ods S os) (hk : k < os.length) (ho : OdAt (setR S 21 ((S.2 21).set k v)) k o) : Ods (setR S 21 ((S.2 21).set k v)) (os.set k o) := fun j o' hj => by
  by_cases e : k = j
  · subst e
    rw [List.getElem?_set_self hk] at hj
    cases hj
    exact ho
  · rw [List.getElem?_set_ne e] at hj
    exact (h j o' hj).set e
section
variable {G : GL} {d : Nat} {h0 h : AH} {m : Nat} {A : Nat → Nat} {S : TS} {g : GS} {n : Nat} {p : PK} {b : List Int32} {r w : Nat} {os : List OD} {K : AH → Prop} {Qx : Nat → AH → Prop}
theorem e_readsOrders {x : Int32} (H : TWX h0 h m A S) (hc : ¬ S.1 16 = 0) (HK : K h) : MF G (d + 1) mi_M_readsOrders 0 [.ref m, .int x] [] h (cV K Qx) :=
  b_M_readsOrders_0 (tw_I H (by decide) rfl ⟨fun _ => cV_mk HK, fun h9 => absurd h9 hc⟩)
/-- behind an error in "again" -/
theorem e_ra43 {k : Nat} {x : Int32} {e : Int32} {q : Nat} {S' : TS} (H : TWX h0 h m A S') (hE : ErS S S' e q) (hk : k < 30) (HK : ∀ h' S', TWX h0 h' m A S' → ErS S S' e q → K h') : MF G (d + 4) mi_M_readsAgain 43 [.ref m, .int (i32 k), .int x] [] h (cV K Qx) := by
  have l21 : (S'.2 21).length = 30 := hE.2.2.2.2.2 21 rfl
  exact b_M_readsAgain_43 ⟨tw_K H, e_passes H hE.c ⟨tw_K H, e_readsOrders H hE.c ⟨tw_K H, e_takesSign H hE.c (tw_R (k := 21) H (by decide) rfl (tw_I H (by decide) rfl (dR_of (tw_pA (k := 21) (n := k) H rfl (by decide) rfl (by omega) (by omega) fun h1 H1 => cV_mk (HK h1 _ H1 (hE.set (by decide)))))))⟩⟩⟩
theorem o_readsAgain {k : Nat} (hn : n ≤ 500) (hw : w ≤ 2) (IH : w < 2 → ROk G h0 m A b n r (w + 1) (d + 4)) (H : TWX h0 h m A (tP S p)) (hL : TL S) (hb : S.2 9 = b) (hf : S.1 10 = i32 n) (hp : PKo n p) (hc : S.1 16 = 0) (hs : STR G h) (hk : k = os.length) (hk3 : k < 30) (hO : Ods S os) (h17 : (S.2 17)[k]? = some 4) (h22 : S.1 22 = i32 (k + 1)) (hr : 31 ≤ r + (k + 1)) (Ho : ∀ os' p', pAgn b n 100000 (pOrs b n 100000 r) os w p = .inr (os', p') → PKo n p' → ∀ h' S', OrS S S' → Ods S' os' → S'.1 22 = i32 os'.length → os'.length ≤ 30 → TWX h0 h' m A (tP S' p') → K h') (He : ∀ e q, pAgn b n 100000 (pOrs b n 100000 r) os w p = .inl (e, q) → ∀ h' S', TWX h0 h' m A S' → ErS S S' e q → K h') : MF G (d + 5) mi_M_readsAgain 0 [.ref m, .int (i32 k), .int (i32 w)] [] h (cV K Qx) := by
  have l20 : (S.2 20).length = 30 := hL 20 rfl
  subst hb
  unfold pAgn at Ho He
  refine b_M_readsAgain_0 (tw_R (k := 20) H (by decide) rfl ⟨tw_K H, o_number H hL hf hn hp hc (fun t p1 hv h1 H1 => ?_) (fun e q hv h' S' v H' hE => ?_)⟩)
  · rw [hv, bindP_ok] at Ho He
    have hp1 := pNum_ok hp.2 hv
    refine dR_of (tw_pA (k := 20) (n := k) H1 rfl (by decide) rfl (by omega) (by rw [tP_2]; omega) fun h2 H2 => ?_)
    rw [tP_R, tP_2] at H2
    have hR2 : OrS S (setR S 20 ((S.2 20).set k t)) := (OrS.refl hL).wr (by decide)
    have hO2 : Ods (setR S 20 ((S.2 20).set k t)) os := hO.set (by omega)
    have b2 : (setR S 20 ((S.2 20).set k t)).2 9 = S.2 9 := setR_n (by decide)
    have a17 : ((setR S 20 ((S.2 20).set k t)).2 17)[k]? = some 4 := by rw [setR_n (by decide)]; exact h17
    have a20 : ((setR S 20 ((S.2 20).set k t)).2 20)[k]? = some t := by rw [setR_k]; exact gS_e (by omega)
    have n22 : (setR S 20 ((S.2 20).set k t)).1 22 = i32 (k + 1) := h22
    generalize setR S 20 ((S.2 20).set k t) = S2 at *
    have f2 : S2.1 10 = i32 n := (hR2.1 10 (by decide)).trans hf
    have c2 : S2.1 16 = 0 := (hR2.1 16 (by decide)).trans hc
    have hb2 : (S2.2 9).length = 500 := hR2.2.2 9 rfl
    have t38 : isSg (S.2 9) n p1 40 = true → ∀ bb, decide (w < 2) = bb → MF G (d + 5) mi_M_readsAgain 38 [.ref m, .int (i32 k), .int (i32 w)] [.int (b01 bb), .ref m] h2 (cV K Qx) := by
      intro hsg bb hbb
      rw [if_pos hsg] at Ho He
      refine b_M_readsAgain_38 rfl (dR_of ⟨tw_K H2, o_must H2 hR2.2.2 c2 (by decide) (fun hb3 => ?_) (fun hb3 h' S' H' hE => ?_)⟩)
      · have hw2 : w < 2 := of_decide_eq_true (hbb.trans hb3)
        rw [if_pos hw2] at Ho He
        refine b_M_readsAgain_43 ⟨tw_K H2, o_passes H2 hb2 f2 hn hp1.2 c2 fun h3 H3 => ?_⟩
        rw [b2] at H3
        obtain ⟨hp3, -, -⟩ := nxt_ok (b := S.2 9) (cp := 100000) hp1.2
        have hs3 : STR G h3 := hs.tw H H3
        have hOt : Ods S2 (os ++ [(4, 0, 0, t, 0)]) := hO2.add (by
          rw [← hk]
          exact ⟨a17, fun _ h9 => absurd rfl h9, fun h9 => absurd h9 (by show ¬ (4 : Int32) = 3; decide), fun _ => a20, fun h9 => absurd h9 (by show ¬ ((4 : Int32) = 3 ∨ ((4 : Int32) = 4 ∧ ¬ (0 : Int32) = 0)); decide)⟩)
        have hlen : (os ++ [((4 : Int32), (0 : Int32), (0 : Int32), t, (0 : Int32))]).length = k + 1 := by simp [hk]
        refine ⟨tw_K H3, ?_⟩
        rw [i32_succ]
        refine IH hw2 h3 S2 (os ++ [(4, 0, 0, t, 0)]) (nxt (S.2 9) n 100000 p1) _ _ H3 hR2.2.2 b2 f2 hp3 c2 hs3 hOt (by rw [hlen]; exact n22) (by rw [hlen]; exact hr) (by rw [hlen]; omega) (fun os2 p2 heq hp2 h4 S4 hR4 hO4 n4 l4 H4 => ?_) (fun e q heq h' S' H' hE => ?_)
        · rw [heq, bindP_ok] at Ho He
          obtain ⟨l, hl⟩ := pOrs_pre _ _ _ _ _ _ heq
          have hk4 : os2[k]? = some (4, 0, 0, t, 0) := by
            rw [hl, hk]; simp
          have hk2 : k < os2.length := (List.getElem?_eq_some_iff.mp hk4).1
          have hR24 := hR2.trans hR4
          have f4 : S4.1 10 = i32 n := (hR24.1 10 (by decide)).trans hf
          have c4 : S4.1 16 = 0 := (hR24.1 16 (by decide)).trans hc
          have b4 : S4.2 9 = S.2 9 := hR24.2.1 9 (by omega)
          refine ⟨tw_K H4, o_takesSign H4 hR4.2.2 f4 hn hp2 c4 (fun p3 hv3 h5 H5 => ?_) (fun e q hv3 h' S' H' hE => ?_)⟩
          · rw [b4] at hv3
            rw [hv3, bindP_ok] at Ho
            have l21 : (S4.2 21).length = 30 := hR4.2.2 21 rfl
            refine tw_R (k := 21) H5 (by decide) rfl (tw_I H5 (by decide) rfl (dR_of (tw_pA (k := 21) (n := k) H5 rfl (by decide) rfl (by omega) (by rw [tP_2]; omega) fun h6 H6 => cV_mk ?_)))
            rw [tP_R, tP_2, tP_r (by decide) (by decide) (by decide) (by decide), n4] at H6
            rw [← hk] at Ho
            obtain ⟨o1, -, -, o4, -⟩ := hO4 k _ hk4
            refine Ho _ _ rfl (pSig_ok hp2.2 hv3) h6 _ (hR24.wr (by decide)) (hO4.setO hk2 ?_) (by rw [List.length_set]; exact n4) (by rw [List.length_set]; exact l4) H6
            refine ⟨?_, fun _ h9 => absurd rfl h9, fun h9 => absurd h9 (by show ¬ (4 : Int32) = 3; decide), fun h9 => ?_, fun _ => ?_⟩
            · rw [setR_n (by decide)]; exact o1
            · rw [setR_n (by decide)]; exact o4 h9
            · rw [setR_k]; exact gS_e (by omega)
          · rw [b4] at hv3
            rw [hv3, bindP_er] at He
            have hE' := hE.base hR24
            have l21 : (S'.2 21).length = 30 := hE'.2.2.2.2.2 21 rfl
            exact tw_R (k := 21) H' (by decide) rfl (tw_I H' (by decide) rfl (dR_of (tw_pA (k := 21) (n := k) H' rfl (by decide) rfl (by omega) (by omega) fun h6 H6 => cV_mk (He _ _ rfl h6 _ H6 (hE'.set (by decide))))))
        · rw [heq, bindP_er] at He
          have hE' := hE.base hR2
          have l21 : (S'.2 21).length = 30 := hE'.2.2.2.2.2 21 rfl
          exact ⟨tw_K H', e_takesSign H' hE'.c (tw_R (k := 21) H' (by decide) rfl (tw_I H' (by decide) rfl (dR_of (tw_pA (k := 21) (n := k) H' rfl (by decide) rfl (by omega) (by omega) fun h6 H6 => cV_mk (He _ _ rfl h6 _ H6 (hE'.set (by decide)))))))⟩
      · have hw2 : ¬ w < 2 := of_decide_eq_false (hbb.trans hb3)
        rw [if_neg hw2] at He
        exact e_ra43 H' (hE.base hR2) (by omega) fun h' S' H' hE => He _ _ rfl h' S' H' hE
    refine ⟨tw_K H2, o_isSign H2 hb2 f2 hn hp1 c2 ⟨tw_K H2, o_must H2 hR2.2.2 c2 (by decide) (fun hb3 => ⟨fun h9 => absurd h9 (by decide), fun _ => ?_⟩) (fun hb3 h' S' H' hE => ⟨fun _ => ?_, fun h9 => absurd rfl h9⟩)⟩⟩
    · rw [b2] at hb3
      refine ⟨fun hle => t38 hb3 false (decide_eq_false ?_), fun hgt => t38 hb3 true (decide_eq_true ?_)⟩
      · have := (i32_le (a := 2) (by omega) (by omega)).mp hle
        omega
      · have : ¬ 2 ≤ w := fun e => hgt ((i32_le (a := 2) (by omega) (by omega)).mpr e)
        omega
    · rw [b2] at hb3
      rw [if_neg (by rw [hb3]; decide)] at He
      exact e_ra43 H' (hE.base hR2) (by omega) fun h' S' H' hE => He _ _ rfl h' S' H' hE
  · rw [hv, bindP_er] at He
    have l20' : (S'.2 20).length = 30 := hE.2.2.2.2.2 20 rfl
    refine dR_of (tw_pA (k := 20) (n := k) H' rfl (by decide) rfl (by omega) (by omega) fun h2 H2 => ?_)
    have hE2 := hE.set (a := 20) (j := k) (v := v) (by decide)
    exact ⟨tw_K H2, e_isSign H2 hE2.c ⟨tw_K H2, e_must H2 hE2.c ⟨fun _ => e_ra43 H2 hE2 (by omega) fun h' S' H' hE => He _ _ rfl h' S' H' hE, fun h9 => absurd rfl h9⟩⟩⟩
theorem o_readsOrder (hn : n ≤ 500) (hw : w ≤ 2) (hK : SK G) (IH : w < 2 → ROk G h0 m A b n r (w + 1) (d + 5)) (H : TWX h0 h m A (tP S p)) (hL : TL S) (hb : S.2 9 = b) (hf : S.1 10 = i32 n) (hp : PKo n p) (hc : S.1 16 = 0) (hs : STR G h) (hO : Ods S os) (h22 : S.1 22 = i32 os.length) (hr : 31 ≤ r + 1 + os.length) (hl : os.length ≤ 30) (Ho : ∀ os' p', pOr1 b n 100000 (pOrs b n 100000 r) os w p = .inr (os', p') → PKo n p' → ∀ h' S', OrS S S' → Ods S' os' → S'.1 22 = i32 os'.length → os'.length ≤ 30 → TWX h0 h' m A (tP S' p') → K h') (He : ∀ e q, pOr1 b n 100000 (pOrs b n 100000 r) os w p = .inl (e, q) → ∀ h' S', TWX h0 h' m A S' → ErS S S' e q → K h') : MF G (d + 7) mi_M_readsOrder 0 [.ref m, .int (i32 w), .retAddr 0, .retAddr 0] [] h (cV K Qx) := by
  subst hb
  have hb5 : (S.2 9).length = 500 := hL 9 rfl
  have l17 : (S.2 17).length = 30 := hL 17 rfl
  unfold pOr1 at Ho He
  have t38 : ¬ kdOf (S.2 9) p = -1 → ∀ bb, decide (os.length < 30) = bb → MF G (d + 7) mi_M_readsOrder 38 [.ref m, .int (i32 w), .int (kdOf (S.2 9) p), .retAddr 0] [.int (b01 bb), .ref m] h (cV K Qx) := by
    intro hkd bb hbb
    rw [if_neg hkd] at Ho He
    refine b_M_readsOrder_38 rfl (dR_of ⟨tw_K H, o_must H hL hc (by decide) (fun hb3 => ⟨fun _ => ?_, fun h9 => absurd h9 (by decide)⟩) (fun hb3 h' S' H' hE => ⟨fun h9 => absurd rfl h9, fun _ => cV_mk ?_⟩)⟩)
    · have hlt : os.length < 30 := of_decide_eq_true (hbb.trans hb3)
      rw [if_pos hlt] at Ho He
      have e22 : (tP S p).1 22 = i32 os.length := (tP_r (by decide) (by decide) (by decide) (by decide)).trans h22
      refine tw_I H (by decide) rfl ?_
      rw [e22]
      refine tw_RR (k := 17) H (by decide) rfl (tw_pA (k := 17) (n := os.length) H rfl (by decide) rfl (by omega) (by rw [tP_2]; omega) fun h1 H1 => ?_)
      rw [tP_R, tP_2] at H1
      refine tw_I H1 (by decide) rfl (tw_F H1 (by decide) rfl fun h2 H2 => ?_)
      rw [tP_r (by decide) (by decide) (by decide) (by decide), tP_F (by decide) (by decide) (by decide) (by decide), setR_1, h22, i32_succ] at H2
      have hR2 : OrS S (setF (setR S 17 ((S.2 17).set os.length (kdOf (S.2 9) p))) 22 (i32 (os.length + 1))) := ((OrS.refl hL).wr (by decide)).F
      have hO2 : Ods (setF (setR S 17 ((S.2 17).set os.length (kdOf (S.2 9) p))) 22 (i32 (os.length + 1))) os := fun k o hk => (hO.set (Nat.le_refl _) k o hk).F
      have a17 : ((setF (setR S 17 ((S.2 17).set os.length (kdOf (S.2 9) p))) 22 (i32 (os.length + 1))).2 17)[os.length]? = some (kdOf (S.2 9) p) := by rw [setF_2, setR_k]; exact gS_e (by omega)
      have n22 : (setF (setR S 17 ((S.2 17).set os.length (kdOf (S.2 9) p))) 22 (i32 (os.length + 1))).1 22 = i32 (os.length + 1) := setF_1
      generalize setF (setR S 17 ((S.2 17).set os.length (kdOf (S.2 9) p))) 22 (i32 (os.length + 1)) = S2 at *
      have b2 : S2.2 9 = S.2 9 := hR2.2.1 9 (by omega)
      have hb2 : (S2.2 9).length = 500 := hR2.2.2 9 rfl
      have f2 : S2.1 10 = i32 n := (hR2.1 10 (by decide)).trans hf
      have c2 : S2.1 16 = 0 := (hR2.1 16 (by decide)).trans hc
      obtain ⟨hp3, -, -⟩ := nxt_ok (b := S.2 9) (cp := 100000) hp.2
      -- behind the order: the semicolon
      have fin : ∀ (its : Int32) hh S3 os3 p4, OrS S S3 → Ods S3 os3 → S3.1 22 = i32 os3.length → os3.length ≤ 30 → PKo n p4 → TWX h0 hh m A (tP S3 p4) → (∀ x, bindP (pSig (S.2 9) n 100000 59 p4) (fun _ p5 => .inr (os3, p5)) = x → bindP (if kdOf (S.2 9) p = 4 then pAgn (S.2 9) n 100000 (pOrs (S.2 9) n 100000 r) os w (nxt (S.2 9) n 100000 p) else bindP (pSng (S.2 9) n 100000 (kdOf (S.2 9) p) (nxt (S.2 9) n 100000 p)) fun o p1 => .inr (os ++ [o], p1)) (fun os3 p4 => bindP (pSig (S.2 9) n 100000 59 p4) fun _ p5 => (.inr (os3, p5) : PR (List OD))) = x) → MF G (d + 7) mi_M_readsOrder 91 [.ref m, .int (i32 w), .int (kdOf (S.2 9) p), .int its] [] hh (cV K Qx) := by
        intro its hh S3 os3 p4 hR3 hO3 n3 l3 hp4 HH eq
        have f3 : S3.1 10 = i32 n := (hR3.1 10 (by decide)).trans hf
        have c3 : S3.1 16 = 0 := (hR3.1 16 (by decide)).trans hc
        have b3 : S3.2 9 = S.2 9 := hR3.2.1 9 (by omega)
        refine b_M_readsOrder_91 ⟨tw_K HH, o_takesSign HH hR3.2.2 f3 hn hp4 c3 (fun p5 hv h5 H5 => cV_mk ?_) (fun e q hv h' S' H' hE => cV_mk ?_)⟩
        · rw [b3] at hv
          exact Ho os3 p5 (eq _ (by rw [hv]; rfl)) (pSig_ok hp4.2 hv) h5 S3 hR3 hO3 n3 l3 H5
        · rw [b3] at hv
          exact He e q (eq _ (by rw [hv]; rfl)) h' S' H' (hE.base hR3)
      have finE : ∀ (its : Int32) h' S' e q, ErS S S' e q → TWX h0 h' m A S' → (if kdOf (S.2 9) p = 4 then pAgn (S.2 9) n 100000 (pOrs (S.2 9) n 100000 r) os w (nxt (S.2 9) n 100000 p) else bindP (pSng (S.2 9) n 100000 (kdOf (S.2 9) p) (nxt (S.2 9) n 100000 p)) fun o p1 => (.inr (os ++ [o], p1) : PR (List OD))) = .inl (e, q) → MF G (d + 7) mi_M_readsOrder 91 [.ref m, .int (i32 w), .int (kdOf (S.2 9) p), .int its] [] h' (cV K Qx) := fun its h' S' e q hE H' eq =>
        b_M_readsOrder_91 ⟨tw_K H', e_takesSign H' hE.c (cV_mk (He e q (by rw [eq]; rfl) h' S' H' hE))⟩
      refine ⟨tw_K H2, s_goes H2 hb2 f2 hn hp.2 fun h3 H3 => ?_⟩
      rw [b2] at H3
      have hs3 : STR G h3 := hs.tw H H3
      refine ⟨fun hn4 => ⟨tw_K H3, o_readsSingle (S := S2) (os := os) H3 hR2.2.2 f2 hn hp3 c2 ?_ hlt hO2 rfl a17 (fun o p' heq hp' h' S' hR' n' hO' H' => ?_) (fun e q heq h' S' H' hE => ?_)⟩, fun he4 => ⟨tw_K H3, o_readsAgain (S := S2) (os := os) (k := os.length) (b := S.2 9) hn hw IH H3 hR2.2.2 b2 f2 hp3 c2 hs3 rfl hlt hO2 (by rw [a17, he4]) n22 (by omega) (fun os' p' heq hp' h' S' hR' hO' n' l' H' => ?_) (fun e q heq h' S' H' hE => ?_)⟩⟩
      · rcases kdOf_in (S.2 9) p with e | e | e | e | e | e
        · exact Or.inl e
        · exact Or.inr (Or.inl e)
        · exact Or.inr (Or.inr (Or.inl e))
        · exact Or.inr (Or.inr (Or.inr e))
        · exact absurd e hn4
        · exact absurd e hkd
      · rw [b2] at heq
        refine fin _ h' S' (os ++ [o]) p' (hR2.trans hR') hO' ?_ (by simp; omega) hp' H' fun x hx => ?_
        · rw [n', n22]; simp
        · rw [if_neg hn4, heq]; exact hx
      · rw [b2] at heq
        exact finE _ h' S' e q (hE.base hR2) H' (by rw [if_neg hn4, heq]; rfl)
      · refine fin _ h' S' os' p' (hR2.trans hR') hO' n' l' hp' H' fun x hx => ?_
        rw [if_pos he4, heq]; exact hx
      · exact finE _ h' S' e q (hE.base hR2) H' (by rw [if_pos he4, heq])
    · have hlt : ¬ os.length < 30 := of_decide_eq_false (hbb.trans hb3)
      rw [if_neg hlt] at He
      exact He _ _ rfl h' S' H' hE
  have t16 : ∀ bb, decide (¬ kdOf (S.2 9) p = -1) = bb → MF G (d + 7) mi_M_readsOrder 16 [.ref m, .int (i32 w), .int (kdOf (S.2 9) p), .retAddr 0] [.int (b01 bb), .ref m] h (cV K Qx) := by
    intro bb hbb
    refine b_M_readsOrder_16 rfl (dR_of ⟨tw_K H, o_must H hL hc (by decide) (fun hb3 => ⟨fun h9 => absurd h9 (by decide), fun _ => ?_⟩) (fun hb3 h' S' H' hE => ⟨fun _ => cV_mk ?_, fun h9 => absurd rfl h9⟩)⟩)
    · have hkd : ¬ kdOf (S.2 9) p = -1 := of_decide_eq_true (hbb.trans hb3)
      have e22 : (tP S p).1 22 = i32 os.length := (tP_r (by decide) (by decide) (by decide) (by decide)).trans h22
      refine tw_I H (by decide) rfl ?_
      rw [e22]
      refine ⟨fun hle => t38 hkd false (decide_eq_false ?_), fun hgt => t38 hkd true (decide_eq_true ?_)⟩
      · have := (i32_le (a := 30) (by omega) (by omega)).mp hle
        omega
      · have : ¬ 30 ≤ os.length := fun e => hgt ((i32_le (a := 30) (by omega) (by omega)).mpr e)
        omega
    · have hkd : kdOf (S.2 9) p = -1 := by
        have := of_decide_eq_false (hbb.trans hb3)
        exact Classical.not_not.mp this
      rw [if_pos hkd] at He
      exact He _ _ rfl h' S' H' hE
  exact b_M_readsOrder_0 ⟨tw_K H, s_orderHere H hb5 hn hp hc hK hs ⟨fun he => t16 false (decide_eq_false (fun h9 => h9 he)), fun hne => t16 true (decide_eq_true hne)⟩⟩
/-- all orders, at every depth -/
theorem o_readsOrders (hn : n ≤ 500) (hK : SK G) : ∀ r v w, w + v = 2 → ROk G h0 m A b n r w (d + 3 * v + 8) := by
  intro r
  induction r with
  | zero =>
    intro v w hw h S os p K Qx H hL hb hf hp hc hs hO h22 hr hl Ho He
    omega
  | succ r ih =>
    intro v w hw h S os p K Qx H hL hb hf hp hc hs hO h22 hr hl Ho He
    have e16 : (tP S p).1 16 = 0 := (tP_r (by decide) (by decide) (by decide) (by decide)).trans hc
    have hb5 : (S.2 9).length = 500 := hL 9 rfl
    have IH : w < 2 → ROk G h0 m A b n r (w + 1) (d + 3 * v + 5) := by
      intro hw2
      obtain ⟨v', rfl⟩ : ∃ v', v = v' + 1 := ⟨v - 1, by omega⟩
      have h7 := ih v' (w + 1) (by omega)
      rw [show d + 3 * (v' + 1) + 5 = d + 3 * v' + 8 from by omega]
      exact h7
    unfold pOrs at Ho He
    refine b_M_readsOrders_0 (tw_I H (by decide) rfl ⟨fun h9 => absurd e16 h9, fun _ => tw_I H (by decide) rfl ?_⟩)
    rw [tP_14]
    refine ⟨fun ht => cV_mk ?_, fun ht => ⟨tw_K H, o_isSign H hb5 hf hn hp hc ⟨fun hsg => cV_mk ?_, fun hz => ⟨tw_K H, o_readsOrder (b := b) (r := r) (os := os) hn (by omega) hK IH H hL hb hf hp hc hs hO h22 (by omega) hl (fun os3 p5 heq hp5 h' S' hR hO' n' l' H' => ?_) (fun e q heq h' S' H' hE => ?_)⟩⟩⟩⟩
    · exact Ho os p (if_pos ht) hp h S (OrS.refl hL) hO h22 hl H
    · refine Ho os p ?_ hp h S (OrS.refl hL) hO h22 hl H
      rw [if_neg ht, if_pos (by rw [← hb]; exact b01_1 hsg)]
    · have hsg : isSg b n p 41 = false := by rw [← hb]; exact b01_0 hz
      rw [if_neg ht, if_neg (by rw [hsg]; decide), heq, bindP_ok] at Ho He
      have hlo : os.length < os3.length := by
        obtain ⟨o, l, rfl⟩ := pOr1_pre (fun os w p os' p' h => pOrs_pre r os w p os' p' h) heq
        simp
      refine ih v w hw h' S' os3 p5 K Qx H' hR.2.2 ((hR.2.1 9 (by omega)).trans hb) ((hR.1 10 (by decide)).trans hf) hp5 ((hR.1 16 (by decide)).trans hc) (hs.tw H H') hO' n' (by omega) l' (fun os' p' h2 hp' h' S2 hR2 hO2 n2 l2 H2 => Ho os' p' h2 hp' h' S2 (hR.trans hR2) hO2 n2 l2 H2) (fun e q h2 h' S2 H2 hE => He e q h2 h' S2 H2 (hE.base hR))
    · have hsg : isSg b n p 41 = false := by rw [← hb]; exact b01_0 hz
      rw [if_neg ht, if_neg (by rw [hsg]; decide), heq, bindP_er] at He
      exact e_readsOrders H' hE.c (He e q rfl h' S' H' hE)
end
