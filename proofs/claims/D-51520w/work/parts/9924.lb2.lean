/-! players: sums over the stones; made, copied -/
set_option maxRecDepth 100000
theorem itn_list (l : List Nat) : ∀ k, k ≤ l.length → itn (fun a i => a + i32 (l.getD i 0)) 0 k = i32 (l.take k).sum := by
  intro k
  induction k with
  | zero => intro _; rfl
  | succ k ih =>
    intro hk
    have hg := getD_at (l := l) (i := k) (x := 0) (by omega)
    obtain ⟨g1, g2⟩ := List.getElem?_eq_some_iff.mp hg
    rw [itn_succ, ih (by omega), List.take_succ_eq_append_getElem g1, List.sum_append, g2, i32_add]
    simp
theorem itn_sum (l : List Nat) : itn (fun a i => a + i32 (l.getD i 0)) 0 l.length = i32 l.sum := by
  rw [itn_list l l.length (Nat.le_refl _), List.take_length]
theorem itn_congr {f f' : Int32 → Nat → Int32} {a : Int32} : ∀ n, (∀ x i, i < n → f x i = f' x i) → itn f a n = itn f' a n := by
  intro n
  induction n with
  | zero => intro _; rfl
  | succ n ih =>
    intro h
    rw [itn_succ, itn_succ, ih fun x i hi => h x i (by omega), h _ _ (by omega)]
def totF (c : Nat → Nat) : Nat → Nat
  | 0 => 0
  | k + 1 => totF c k + c k
theorem sum_flt (mv : Nat → Option Nat) (c : Nat → Nat) (hc : ∀ k, mv k = none → c k = 0) : ∀ n, (((List.range n).filter fun k => (mv k).isSome).map c).sum = totF c n := by
  intro n
  induction n with
  | zero => rfl
  | succ n ih =>
    rw [List.range_succ, List.filter_append, List.map_append, List.sum_append, ih]
    show _ = totF c n + c n
    congr 1
    cases hm : mv n with
    | none => rw [List.filter_cons_of_neg (by simp [hm])]; simp [hc n hm]
    | some a => rw [List.filter_cons_of_pos (by simp [hm])]; simp
theorem ksM_sum {mv : Nat → Option Nat} {c : Nat → Nat} (hc : ∀ k, mv k = none → c k = 0) : itn (fun a i => a + i32 (c ((ksM mv).getD i 0))) 0 (ksM mv).length = i32 (totF c 100) := by
  have h1 := itn_sum ((ksM mv).map c)
  rw [List.length_map] at h1
  have h2 : itn (fun a i => a + i32 (c ((ksM mv).getD i 0))) 0 (ksM mv).length = itn (fun a i => a + i32 (((ksM mv).map c).getD i 0)) 0 (ksM mv).length := by
    refine itn_congr _ fun x i hi => ?_
    have := getD_at (l := ksM mv) (i := i) (x := 0) hi
    rw [List.getD_eq_getElem?_getD (l := (ksM mv).map c), List.getElem?_map, this]; rfl
  rw [h2, h1]
  congr 1
  exact sum_flt mv c hc 100
section
variable {G : GL} {d : Nat} {e : Nat → Prop} {h : AH} {p : Nat} {bs : List Int32} {num purse bid : Int32} {ms : Nat → List Nat} {F : Nat → Prop} {Qx : Nat → AH → Prop} {K : Int32 → AH → Prop}
/-- a sum over what was paid -/
theorem s_alkSum {al lam : Nat} {l : List Nat} {F : Nat → Prop} {q : Nat} (ha : Alk h al l F) (hq : h.1 al = some (4, true, [.ref q])) (hroom : 10 ≤ h.2.2) (hL : ∀ h2 v m K X, Chg 10 F0s h h2 → IntO h2 v (i32 m) → K (i32 m) h2 → dL G (d + 2) h2 lam false [v] (cI K X)) (HK : ∀ h', Chg 10 F0s h h' → K (i32 l.sum) h') : MF G (d + 3) mi_Q_sum 0 [.ref q, .ref lam, .retAddr 0, .retAddr 0, .retAddr 0] [] h (cI K Qx) := by
  obtain ⟨q', arr, es, h1, h2, h3, h4⟩ := ha
  rw [hq] at h1
  cases h1
  have hlen : es.length = l.length := by have := h3.length_eq; simpa using this
  obtain ⟨r1, r2, r3⟩ := h2.ranks h3
  refine MF.wfh fun hw => s_sum (d := d + 2) (f := fun i => i32 ((rkN0 es).getD i 0)) (pq_iter (d := d) hw) (fun it h2 i v K2 X2 hi hR HK2 => ?_) (pq_begin (d := d) hw h2 hroom) fun it h' hP => ?_
  · obtain ⟨⟨p1, p2, p3, p4⟩, n, hn⟩ := hR
    obtain ⟨m, em, hm, hi9, hrk⟩ := r3 i v n hn
    refine hL h2 v m K2 X2 p4 (hi9.chg p4) ?_
    have := HK2 h2 ⟨p1, p2, p3, p4⟩
    dsimp only at this
    rw [show (rkN0 es).getD i 0 = m from by rw [List.getD_eq_getElem?_getD, hrk]; rfl] at this
    exact this
  · have e1 := itn_sum (rkN0 es)
    rw [show (rkN0 es).length = es.length from by unfold rkN0; rw [List.length_map]] at e1
    rw [e1, r1.sum_nat]
    exact HK h' hP.2.2.2
theorem s_plSum {lam : Nat} {c : Nat → Nat} {sn tm q : Nat} (hp : PlX e h p bs num purse bid ms F) (h1 : h.1 p = some (2, true, [.ref sn, .int num, .ref tm, .int purse, .int bid])) (hq : h.1 q = some (25, false, [.ref tm])) (hc0 : ∀ k, ms k = [] → c k = 0) (hroom : 8 ≤ h.2.2) (hL : ∀ h2 a k Fk K X, Chg 8 F0s h h2 → Alk h2 a (ms k) Fk → K (i32 (c k)) h2 → dL G (d + 3) h2 lam false [.ref a] (cI K X)) (HK : ∀ h', Chg 8 F0s h h' → K (i32 (totF c 100)) h') : MF G (d + 4) mi_Q_sum 0 [.ref q, .ref lam, .retAddr 0, .retAddr 0, .retAddr 0] [] h (cI K Qx) := by
  obtain ⟨sn', tm', mv, Fm, Fa, g1, h2, h3, h4, h5, h6, h7, h8, h9⟩ := hp
  rw [h1] at g1
  cases g1
  refine MF.wfh fun hw => MF.up (d := d + 4) (Nat.le_refl _) (s_sum (d := d + 3) (f := fun i => i32 (c ((ksM mv).getD i 0))) (val_iter (d := d + 1) (mv := mv) (m := tm) (F := Fm) hw) (fun it hh i v K2 X2 hi hR HK2 => ?_) (fun K' X' HK' => ⟨25, mi_TreeMapValues_iterator, ⟨_, _, hq⟩, rfl, s_tmValuesIt (d := d) hq h3 hroom HK'⟩) fun it h' hP => ?_)
  · obtain ⟨hT, k, a, k1, k2, rfl⟩ := hR
    obtain ⟨t1, t2, t3⟩ := hT.pm
    have h4k := h4 k
    rw [k2] at h4k
    have ha : Alk h a (ms k) (Fa k) := h4k
    exact hL hh a k (Fa k) K2 X2 t3 (ha.chg t3 fun _ _ h9 => h9) (by
      have := HK2 hh hT
      dsimp only at this
      rw [show (ksM mv).getD i 0 = k from by rw [List.getD_eq_getElem?_getD, k1]; rfl] at this
      exact this)
  · rw [ksM_sum (c := c) (fun k hk => hc0 k (by have := h4 k; rw [hk] at this; exact this.1))]
    exact HK h' hP.pm.2.2
theorem s_plMany (hL : LamC G h 0) (hp : PlX e h p bs num purse bid ms F) (hroom : 20 ≤ h.2.2) (HK : ∀ h', Chg 13 F0s h h' → K (i32 (totF (fun k => (ms k).length) 100)) h') : MF G (d + 6) mi_Player_many 0 [.ref p] [] h (cI K Qx) := by
  have hp0 := hp
  obtain ⟨sn, tm, mv, Fm, Fa, h1, h2, h3, h4, h5, h6, h7, h8, h9⟩ := hp
  refine b_Player_many_0 (gR_of h1 (by simp) rfl rfl (dR_of ⟨h3.has (by simp), s_pmValues (d := d + 1) h3 (by omega) fun q h' c1 p1 q1 => ?_⟩))
  have hp1 := hp0.chg c1 fun _ _ h9 => h9
  have h11 : h'.1 p = some (2, true, [.ref sn, .int num, .ref tm, .int purse, .int bid]) := c1.2.2.2.2 _ _ h1 (show KX 2 from by decide) fun h9 => h9
  have hL1 := hL.chg c1
  refine s_plSum (d := d + 1) (c := fun k => (ms k).length) hp1 h11 q1 (fun k hk => by rw [hk]; rfl) (by have := c1.2.1; omega) (fun h2 a k Fk K2 X2 c2 ha HK2 => ?_) fun h' c2 => cI_mk (HK h' ((c1.same c2).mono (by omega) fun _ h9 => h9))
  obtain ⟨q5, arr5, es5, b1, -⟩ := id ha
  exact ⟨0, false, [], by decide, rfl, hL1.chg c2, lr_0 (hL1.chg c2) ⟨4, true, _, b1, ck_4⟩ (b_Player_lambda_many_0_0 rfl (dR_of ⟨hasKs_of b1 (by simp), s_alkMany (d := d + 1) ha (cI_mk HK2)⟩))⟩
/-- a player made -/
theorem s_plInit {sn : Nat} {K : AH → Prop} (ha : h.1 p = some (2, true, [.null, .int 0, .null, .int 0, .int 0])) (hs : StrO h sn bs) (hroom : 13 ≤ h.2.2) (HK : ∀ h' F', PlS h' p bs num purse 0 (fun _ => []) F' → Chg 13 (fun x => x = p) h h' → (∀ x, F' x → x = p ∨ h.2.1 ≤ x) → K h') : MF G (d + 3) mi_Player_init 0 [.ref p, .ref sn, .int num, .int purse] [] h (cV K Qx) := by
  refine MF.wfh fun hw => b_Player_init_0 rfl ⟨_, _, rfl, rfl, hroom, s_pmInit AH.new_self fun h' c1 p1 => ?_⟩
  have c0 := Chg.new (kd := 23) (fs := [.null, .null, .null, .null, .int 0, .int 0, .null, .null, .null]) hw hroom
  have c01 := c0.trans c1 (F := F0s) fun x y e h9 => by have := hw _ _ e; omega
  have hpl : p < h.2.1 := hw _ _ ha
  have a0 : h'.1 p = some (2, true, [.null, .int 0, .null, .int 0, .int 0]) := c01.2.2.2.2 _ _ ha (show KX 2 from by decide) fun h9 => h9
  have a1 := AH.put_self (fs' := [.null, .int 0, .ref h.2.1, .int 0, .int 0]) a0
  have a2 := AH.put_self (fs' := [.ref sn, .int 0, .ref h.2.1, .int 0, .int 0]) a1
  have a3 := AH.put_self (fs' := [.ref sn, .int num, .ref h.2.1, .int 0, .int 0]) a2
  have a4 := AH.put_self (fs' := [.ref sn, .int num, .ref h.2.1, .int purse, .int 0]) a3
  have p1' := Chg.put (F := fun x => x = p) (fs' := [.null, .int 0, .ref h.2.1, .int 0, .int 0]) a0 (by decide) rfl
  have p2 := Chg.put (F := fun x => x = p) (fs' := [.ref sn, .int 0, .ref h.2.1, .int 0, .int 0]) a1 (by decide) rfl
  have p3 := Chg.put (F := fun x => x = p) (fs' := [.ref sn, .int num, .ref h.2.1, .int 0, .int 0]) a2 (by decide) rfl
  have p4 := Chg.put (F := fun x => x = p) (fs' := [.ref sn, .int num, .ref h.2.1, .int purse, .int 0]) a3 (by decide) rfl
  have pp := ((p1'.same p2).same p3).same p4
  have call := (c01.mono (F' := fun x => x = p) (Nat.le_refl _) fun _ h9 => h9.elim).same pp
  refine pF_of a0 (by simp) (by simp) (pF_of a1 (by simp) (by simp) (pF_of a2 (by simp) (by simp) (pF_of a3 (by simp) (by simp) (cV_mk (HK _ (fun x => x = p ∨ x = h.2.1 ∨ ∃ k : Nat, False) ⟨sn, h.2.1, fun _ => none, fun x => x = h.2.1, fun _ _ => False, a4, hs.chg call, p1.chg pp (fun x hx h9 => by omega), fun k => ⟨rfl, fun x h9 => h9⟩, fun k _ _ => rfl, by omega, fun k x hx => hx.elim, fun k j x hx => hx.elim, fun x => Iff.rfl⟩ (call.mono (by omega) fun _ h9 => h9) fun x hx => ?_)))))
  rcases hx with h9 | h9 | ⟨-, h9⟩
  · exact Or.inl h9
  · exact Or.inr (by omega)
  · exact h9.elim
end
/-- the empty heap as a base: nothing is said of what changed -/
def hE : AH := (fun _ => none, 0, 0)
theorem hE_chg (h : AH) : Chg 8 F0s hE h := ⟨Nat.zero_le _, Nat.zero_le _, fun q k fs e => (by cases e), ⟨fun q bs e => (by obtain ⟨w, a, x, y, e, -⟩ := e; cases e), fun q fs e => (by cases e)⟩, fun q x e => (by cases e)⟩
theorem hE_wf : WFh hE := fun a c e => by cases e
/-- an iterator over the keys of a map stands ahead of key i -/
def KIt (h : AH) (m : Nat) (mv : Nat → Option Nat) (F : Nat → Prop) (it i : Nat) : Prop := TP hE m mv F 27 it h i
theorem KIt.chg {h h' : AH} {m it i c : Nat} {mv : Nat → Option Nat} {F F' : Nat → Prop} (hp : KIt h m mv F it i) (hc : Chg c F' h h') (hF : ∀ x, F x → ¬ F' x) (hit : ¬ F' it) : KIt h' m mv F it i := TP.chg hp (Or.inl rfl) hc (hE_chg h') hF hit
section
variable {G : GL} {h : AH} {m it i : Nat} {mv : Nat → Option Nat} {F : Nat → Prop} {Qx : Nat → AH → Prop}
theorem s_tmNextX {kd it i : Nat} (hkd : kd = 27 ∨ kd = 28) (hp : TP hE m mv F kd it h i) (hi : i < (ksM mv).length) {d : Nat} {K : Value → AH → Prop} (HK : ∀ (h' : AH) (x k : Nat) (v0 : Value), (ksM mv)[i]? = some k → TP hE m mv F kd it h' (i + 1) → Chg 0 (fun q => q = it) h h' → h'.2 = h.2 → (∃ fs, h'.1 x = some (24, true, fs) ∧ fs[0]? = some v0 ∧ EI h' v0 k ∧ fs[1]? = some (oref (mv k))) → K (.ref x) h') : MF G (d + 1) mi_TreeMapPrivateEntryIterator_nextEntry 0 [.ref it, .retAddr 0] [] h (cR K Qx) := by
  refine MF.wfh fun hw => ?_
  obtain ⟨Nd, f, E, C, root, sz, mo, g, v, lr, h1, h2, h3, h4, h5, h6, h7, h8, h9, h10⟩ := hp
  have hk : kd ∈ [27, 28] := by rcases hkd with rfl | rfl <;> simp
  have hk14 : kd ≠ 14 := by rcases hkd with rfl | rfl <;> decide
  have hv : v.isRef = true := by rcases h8 with ⟨-, rfl⟩ | ⟨x, k, rfl, -⟩ <;> rfl
  have W := h1.tw hw (F := F) fun x hx => (h6 x).mpr hx
  have nit : ∀ x, x = m ∨ Nd x → x ≠ it := fun x hx e => by
    subst e
    rcases hx with rfl | hx
    · rw [h1.1] at h7; rcases hkd with rfl | rfl <;> cases h7
    · rw [h1.2.1 x hx] at h7; rcases hkd with rfl | rfl <;> cases h7
  refine b_TreeMapPrivateEntryIterator_nextEntry_0 (gR_of h7 hk rfl hv ⟨fun e => ?_, fun x e => gR_of h7 hk rfl rfl (dR_of (W.gM (gI_of h7 hk rfl ⟨fun _ => ?_, fun h9 => absurd rfl h9⟩)))⟩)
  · rcases h8 with ⟨e1, -⟩ | ⟨x, k, e1, -⟩
    · omega
    · rw [e] at e1; cases e1
  · subst e
    rcases h8 with ⟨-, e1⟩ | ⟨x', k, e1, x1, x2, x3⟩
    · cases e1
    cases e1
    refine s_succ W h2 x1 fun v' q1 q2 _ => ?_
    have h7' := AH.put_self (fs' := [v', lr, .int mo, .ref m]) h7
    have c1 := Chg.put (F := fun q => q = it) (fs' := [v', lr, .int mo, .ref m]) h7 hk14 rfl
    have c2 := Chg.put (F := fun q => q = it) (fs' := [v', .ref x, .int mo, .ref m]) h7' hk14 rfl
    have c3 := c1.trans c2 (F := fun q => q = it) fun _ _ _ h9 => h9
    refine pF_of h7 hk (by simp) (pF_of h7' hk (by simp) (cR_mk rfl (HK _ x k (E x 0) x3 ?_ c3 rfl ?_)))
    · obtain ⟨f', t1, t2⟩ := h1.chg h5 c3 (fun y hy => nit y hy)
      exact ⟨Nd, f', E, C, root, sz, mo, g, v', .ref x, t1, h2, h3.chg c3, h4, t2, h6, AH.put_self h7', AtI.next h4 x2 x3 q1, h9, hE_chg _⟩
    · obtain ⟨k', a, k1, k2, k3, k4⟩ := h4.1 x x1
      have ek : k' = k := by omega
      subst ek
      have hE := ((h3 x x1).chg c1).chg c2
      rw [x2] at hE
      refine ⟨tCell E C x, ?_, rfl, hE, ?_⟩
      · have := nit x (Or.inr x1)
        show ((_ : AH).put it _).1 x = _
        rw [AH.put_ne this, AH.put_ne this]
        exact h1.2.1 x x1
      · rw [k4]
        show some (E x 1) = _
        rw [k3]; rfl
theorem s_kiNew {d q : Nat} {K : Value → AH → Prop} (hq : h.1 q = some (26, false, [.ref m])) (hp : PM h m mv F) (hroom : 8 ≤ h.2.2) (HK : ∀ it h', KIt h' m mv F it 0 → Chg 8 F0s h h' → h.2.1 ≤ it → K (.ref it) h') : vL G (d + 4) h q dsp_Set_iterator [.ref q] (cR K Qx) :=
  ⟨26, mi_TreeMapKeySet_iterator, ⟨_, _, hq⟩, rfl, s_tmKeySetIt (d := d) hq hp hroom fun it h' hT => by
    obtain ⟨Nd, f, E, C, root, sz, mo, g, v, lr, h1, h2, h3, h4, h5, h6, h7, h8, h9, h10⟩ := id hT
    exact HK it h' ⟨Nd, f, E, C, root, sz, mo, g, v, lr, h1, h2, h3, h4, h5, h6, h7, h8, Nat.zero_le _, hE_chg _⟩ h10 h9⟩
theorem s_kiHas {d : Nat} {K : Int32 → AH → Prop} (hp : KIt h m mv F it i) (hi : i ≤ (ksM mv).length) (HK : K (b01 (decide (i < (ksM mv).length))) h) : vL G d h it dsp_Iterator_hasNext [.ref it] (cI K Qx) :=
  ⟨27, mi_TreeMapPrivateEntryIterator_hasNext, hp.hask, rfl, s_tmHas (Or.inl rfl) hp hi HK⟩
theorem s_kiNext {d : Nat} {K : Value → AH → Prop} (hp : KIt h m mv F it i) (hi : i < (ksM mv).length) (HK : ∀ h' v k, (ksM mv)[i]? = some k → EI h' v k → KIt h' m mv F it (i + 1) → Chg 0 (fun q => q = it) h h' → h'.2 = h.2 → K v h') : vL G (d + 2) h it dsp_Iterator_next [.ref it] (cR K Qx) := by
  refine ⟨27, mi_TreeMapKeyIterator_next, hp.hask, rfl, ?_⟩
  refine b_TreeMapKeyIterator_next_0 ⟨27, mi_TreeMapPrivateEntryIterator_nextEntry, hp.hask, rfl, s_tmNextX (d := d) (Or.inl rfl) hp hi fun h' x k v0 e1 e2 c3 e4 e3 => ?_⟩
  obtain ⟨fs, f1, f2, f3, f4⟩ := e3
  have hvr : v0.isRef = true := by obtain ⟨m', -, -, hi⟩ := f3; exact hi.isRef
  exact dR_of (gR_of f1 (by simp) f2 hvr (cR_mk hvr (HK h' v0 k e1 f3 e2 c3 e4)))
/-- the values gone over, c units of room a step -/
def VIx (h0 : AH) (m : Nat) (mv : Nat → Option Nat) (F : Nat → Prop) (c it : Nat) (h : AH) (i : Nat) : Prop := TP hE m mv F 28 it h i ∧ Chg (8 + c * i) F0s h0 h ∧ h0.2.1 ≤ it
def VIr (h0 : AH) (m : Nat) (mv : Nat → Option Nat) (F : Nat → Prop) (c it : Nat) (h : AH) (i : Nat) (v : Value) : Prop := TP hE m mv F 28 it h (i + 1) ∧ Chg (8 + c * i) F0s h0 h ∧ h0.2.1 ≤ it ∧ ∃ k a : Nat, (ksM mv)[i]? = some k ∧ mv k = some a ∧ v = .ref a
theorem vix_iter {d c : Nat} {h0 : AH} (hw0 : WFh h0) : IterOK G (d + 2) (ksM mv).length (VIx h0 m mv F c) (VIr h0 m mv F c) := by
  refine ⟨fun it h i K X hP hi HK => ⟨28, mi_TreeMapPrivateEntryIterator_hasNext, hP.1.hask, rfl, s_tmHas (Or.inr rfl) hP.1 hi HK⟩, fun it h i K X hP hi HK => ⟨28, mi_TreeMapValueIterator_next, hP.1.hask, rfl, ?_⟩⟩
  refine b_TreeMapValueIterator_next_0 ⟨28, mi_TreeMapPrivateEntryIterator_nextEntry, hP.1.hask, rfl, s_tmNextX (d := d) (Or.inr rfl) hP.1 hi fun h' x k v0 e1 e2 c3 e4 e3 => ?_⟩
  obtain ⟨fs, f1, f2, f3, f4⟩ := e3
  obtain ⟨-, a, ha⟩ := ksM_mem.mp (List.mem_of_getElem? e1)
  rw [ha] at f4
  exact dR_of (gR_of f1 (by simp) f4 rfl (cR_mk rfl (HK _ h' rfl ⟨e2, (hP.2.1.trans c3 (F := F0s) fun q y e9 h9' => by have := hw0 _ _ e9; have := hP.2.2; omega).mono (by omega) fun _ h9 => h9, hP.2.2, k, a, e1, ha, rfl⟩)))
end
theorem ksM_len {mv : Nat → Option Nat} : (ksM mv).length ≤ 100 := by
  unfold ksM
  exact Nat.le_trans (List.length_filter_le _ _) (by simp)
section
variable {G : GL} {d : Nat} {e : Nat → Prop} {h : AH} {p : Nat} {bs : List Int32} {num purse bid : Int32} {ms : Nat → List Nat} {F : Nat → Prop} {Qx : Nat → AH → Prop} {K : Int32 → AH → Prop}
theorem s_plPaid (hL : LamC G h 11) (hL2 : LamC G h 12) (hp : PlX e h p bs num purse bid ms F) (hroom : 1100 ≤ h.2.2) (HK : ∀ h', Chg 1100 F0s h h' → K (i32 (totF (fun k => (ms k).sum) 100)) h') : MF G (d + 8) mi_Player_paid 0 [.ref p] [] h (cI K Qx) := by
  have hp0 := hp
  obtain ⟨sn, tm, mv, Fm, Fa, h1, h2, h3, h4, h5, h6, h7, h8, h9⟩ := hp
  refine b_Player_paid_0 (gR_of h1 (by simp) rfl rfl (dR_of ⟨h3.has (by simp), s_pmValues (d := d + 3) h3 (by omega) fun q h' c1 p1 q1 => MF.wfh fun hw => ?_⟩))
  have hL1 := hL.chg c1
  have hL3 := hL2.chg c1
  have hkl := ksM_len (mv := mv)
  refine s_sum (d := d + 6) (f := fun i => i32 ((fun k => (ms k).sum) ((ksM mv).getD i 0))) (vix_iter (d := d + 4) (c := 10) (mv := mv) (m := tm) (F := Fm) hw) (fun it hh i v K2 X2 hi hR HK2 => ?_) (fun K' X' HK' => ⟨25, mi_TreeMapValues_iterator, ⟨_, _, q1⟩, rfl, s_tmValuesIt (d := d + 3) q1 p1 (by have := c1.2.1; omega) fun it h2 hT => HK' it h2 ?_⟩) fun it h2 hP => cI_mk ?_
  · obtain ⟨hT, t3, t2, k, a, k1, k2, rfl⟩ := hR
    have h4k := h4 k
    rw [k2] at h4k
    have ha : Alk h a (ms k) (Fa k) := h4k
    have ha2 : Alk hh a (ms k) (Fa k) := (ha.chg c1 fun _ _ h9 => h9).chg t3 fun _ _ h9 => h9
    obtain ⟨q5, arr5, es5, b1, -⟩ := id ha2
    have hLh := hL1.chg t3
    refine ⟨11, false, [], by decide, rfl, hLh, lr_11 (d := d + 5) hLh ⟨4, true, _, b1, ck_4⟩ (b_Player_lambda_paid_2_0 rfl (dR_of (gR_of b1 (by simp) rfl rfl (s_alkSum (d := d + 1) ha2 b1 ?_ (fun h3' v m K3 X3 c3 hv HK3 => ?_) fun h3' c3 => cI_mk ?_))))⟩
    · have := t3.2.1; have := c1.2.1; omega
    · obtain ⟨rv, rfl, ev⟩ := hv
      have hLv := (hL3.chg t3).chg c3
      exact ⟨12, false, [], by decide, rfl, hLv, lr_12 (d := d + 2) hLv ⟨13, false, _, ev, ck_13⟩ (b_Player_lambda_paid_1_0 rfl (dR_of ⟨hasKs_of ev (by simp), b_Integer_intValue_0 (gI_of ev (by simp) rfl (cI_mk (cI_mk HK3)))⟩))⟩
    · have := HK2 h3' ⟨hT.chg (Or.inr rfl) c3 (hE_chg _) (fun _ _ h9 => h9) (fun h9 => h9), (t3.same c3).mono (by rw [Nat.mul_succ]; omega) fun _ h9 => h9, t2⟩
      dsimp only at this
      rw [show (ksM mv).getD i 0 = k from by rw [List.getD_eq_getElem?_getD, k1]; rfl] at this
      exact this
  · obtain ⟨Nd, f, E, C, root, sz, mo, g, v, lr, g1, g2, g3, g4, g5, g6, g7, g8, g9, g10⟩ := id hT
    exact ⟨⟨Nd, f, E, C, root, sz, mo, g, v, lr, g1, g2, g3, g4, g5, g6, g7, g8, Nat.zero_le _, hE_chg _⟩, g10.mono (by omega) fun _ h9 => h9, g9⟩
  · rw [ksM_sum (c := fun k => (ms k).sum) (fun k hk => by have := h4 k; rw [hk] at this; show (ms k).sum = 0; rw [this.1]; rfl)]
    exact HK h2 ((c1.same hP.2.1).mono (by omega) fun _ h9 => h9)
end
