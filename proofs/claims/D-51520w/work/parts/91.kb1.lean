/-! sums and extremes over what can be iterated; alike: least goes, most, one goes -/
set_option maxRecDepth 100000
section
variable {G : GL} {d : Nat} {n : Nat} {f : Nat → Int32} {P : Nat → AH → Nat → Prop} {R : Nat → AH → Nat → Value → Prop} {lam : Nat}
/-- an iteration of n steps; P it h i: the iterator it stands ahead of step i; R: behind next, what it gave -/
def IterOK (G : GL) (d n : Nat) (P : Nat → AH → Nat → Prop) (R : Nat → AH → Nat → Value → Prop) : Prop :=
  (∀ it h i K X, P it h i → i ≤ n → K (b01 (decide (i < n))) h → vL G d h it dsp_Iterator_hasNext [.ref it] (cI K X)) ∧
  (∀ it h i K X, P it h i → i < n → (∀ v h', v.isRef = true → R it h' i v → K v h') → vL G d h it dsp_Iterator_next [.ref it] (cR K X))
def LamStep (G : GL) (d n lam : Nat) (f : Nat → Int32) (P : Nat → AH → Nat → Prop) (R : Nat → AH → Nat → Value → Prop) : Prop :=
  ∀ it h i v K X, i < n → R it h i v → (∀ h', P it h' (i + 1) → K (f i) h') → dL G d h lam false [v] (cI K X)
theorem s_sum9 (hI : IterOK G d n P R) (hL : LamStep G d n lam f P R) {K : Int32 → AH → Prop} {X : Nat → AH → Prop} {q it : Nat} : ∀ r i, r + i = n → ∀ h u4, P it h i → (∀ h', P it h' n → K (itn (fun a i => a + f i) 0 n) h') → MF G (d + 1) mi_Q_sum 9 [.ref q, .ref lam, .int (itn (fun a i => a + f i) 0 i), .ref it, u4] [] h (cI K X) := by
  intro r
  induction r with
  | zero =>
    intro i hi h u4 hP HK
    have : i = n := by omega
    subst this
    refine b_Q_sum_9 rfl rfl rfl (dR_of (hI.1 it h i _ _ hP (Nat.le_refl _) ⟨fun _ => cI_mk (HK h hP), fun hn => absurd ?_ hn⟩))
    rw [decide_eq_false (Nat.lt_irrefl _)]; rfl
  | succ r ih =>
    intro i hi h u4 hP HK
    refine b_Q_sum_9 rfl rfl rfl (dR_of (hI.1 it h i _ _ hP (by omega) ⟨fun hz => ?_, fun _ => hI.2 it h i _ _ hP (by omega) fun v h' hv hR => dR_of (hL it h' i v _ _ (by omega) hR fun h2 hP2 => ?_)⟩))
    · rw [decide_eq_true (by omega)] at hz
      exact absurd hz (by decide)
    · have := ih (i + 1) (by omega) h2 v hP2 HK
      rw [itn_succ] at this
      exact this
theorem s_ext9 (hI : IterOK G d n P R) (hL : LamStep G d n lam f P R) {K : Int32 → AH → Prop} {X : Nat → AH → Prop} {q it : Nat} : ∀ r i, r + i = n → ∀ h u4, P it h i → (∀ h', P it h' n → K (itn (fun a i => mx a (f i)) 0 n) h') → MF G (d + 1) mi_Q_extreme 9 [.ref q, .ref lam, .int (itn (fun a i => mx a (f i)) 0 i), .ref it, u4] [] h (cI K X) := by
  intro r
  induction r with
  | zero =>
    intro i hi h u4 hP HK
    have : i = n := by omega
    subst this
    refine b_Q_extreme_9 rfl rfl rfl (dR_of (hI.1 it h i _ _ hP (Nat.le_refl _) ⟨fun _ => cI_mk (HK h hP), fun hn => absurd ?_ hn⟩))
    rw [decide_eq_false (Nat.lt_irrefl _)]; rfl
  | succ r ih =>
    intro i hi h u4 hP HK
    refine b_Q_extreme_9 rfl rfl rfl (dR_of (hI.1 it h i _ _ hP (by omega) ⟨fun hz => ?_, fun _ => hI.2 it h i _ _ hP (by omega) fun v h' hv hR => dR_of (hL it h' i v _ _ (by omega) hR fun h2 hP2 => ?_)⟩))
    · rw [decide_eq_true (by omega)] at hz
      exact absurd hz (by decide)
    · have := ih (i + 1) (by omega) h2 v hP2 HK
      rw [itn_succ] at this
      exact this
theorem s_sum (hI : IterOK G d n P R) (hL : LamStep G d n lam f P R) {K : Int32 → AH → Prop} {X : Nat → AH → Prop} {q : Nat} {h : AH} (hit : ∀ K' X', (∀ it h', P it h' 0 → K' (.ref it) h') → vL G d h q dsp_Iterable_iterator [.ref q] (cR K' X')) (HK : ∀ it h', P it h' n → K (itn (fun a i => a + f i) 0 n) h') : MF G (d + 1) mi_Q_sum 0 [.ref q, .ref lam, .retAddr 0, .retAddr 0, .retAddr 0] [] h (cI K X) :=
  b_Q_sum_0 rfl rfl (dR_of (hit _ _ fun it h' hP => s_sum9 hI hL n 0 rfl h' _ hP (HK it)))
theorem s_ext (hI : IterOK G d n P R) (hL : LamStep G d n lam f P R) {K : Int32 → AH → Prop} {X : Nat → AH → Prop} {q : Nat} {h : AH} (hit : ∀ K' X', (∀ it h', P it h' 0 → K' (.ref it) h') → vL G d h q dsp_Iterable_iterator [.ref q] (cR K' X')) (HK : ∀ it h', P it h' n → K (itn (fun a i => mx a (f i)) 0 n) h') : MF G (d + 1) mi_Q_extreme 0 [.ref q, .ref lam, .retAddr 0, .retAddr 0, .retAddr 0] [] h (cI K X) :=
  b_Q_extreme_0 rfl rfl (dR_of (hit _ _ fun it h' hP => s_ext9 hI hL n 0 rfl h' _ hP (HK it)))
end
/-- the iteration over a queue of numbers -/
def PqP (h0 : AH) (q arr : Nat) (es : List VI) (it : Nat) (h : AH) (i : Nat) : Prop := PQh EI h q arr es ∧ ItP h it q i ∧ h0.2.1 ≤ it ∧ Chg 10 F0s h0 h
def PqR (h0 : AH) (q arr : Nat) (es : List VI) (it : Nat) (h : AH) (i : Nat) (v : Value) : Prop := PqP h0 q arr es it h (i + 1) ∧ ∃ n : Int, es[i]? = some (v, n)
theorem pq_iter {G : GL} {d : Nat} {h0 : AH} {q arr : Nat} {es : List VI} (hw : WFh h0) : IterOK G (d + 2) es.length (PqP h0 q arr es) (PqR h0 q arr es) := by
  refine ⟨fun it h i K X hP hi HK => ?_, fun it h i K X hP hi HK => ?_⟩
  · obtain ⟨p1, p2, p3, p4⟩ := hP
    have hk : hasK h it 30 := by obtain ⟨lr, v3, mc, w, v0, v1, v2, e, -⟩ := p2; exact ⟨true, _, e⟩
    exact ⟨30, mi_PriorityQueueItr_hasNext, hk, rfl, s_pqHas p1 p2 hi HK⟩
  · have hP0 := hP
    obtain ⟨p1, p2, p3, p4⟩ := hP
    have hk : hasK h it 30 := by obtain ⟨lr, v3, mc, w, v0, v1, v2, e, -⟩ := p2; exact ⟨true, _, e⟩
    have hx := List.getElem?_eq_getElem hi
    have hE : EI h es[i].1 es[i].2 := by obtain ⟨mc, sl, -, -, -, -, -, -, -, hE, -⟩ := p1; exact hE _ (List.mem_of_getElem? hx)
    have hqi : q ≠ it ∧ arr ≠ it := by
      obtain ⟨mc, sl, h1, h2, -⟩ := p1
      obtain ⟨lr, v3, mc, w, v0, v1, v2, e, -⟩ := p2
      exact ⟨fun e9 => (by subst e9; rw [h1] at e; cases e), fun e9 => (by subst e9; rw [h2] at e; cases e)⟩
    refine ⟨30, mi_PriorityQueueItr_next, hk, rfl, s_pqNext (d' := d + 1) (cmpI (G := G)) p1 p2 hx fun h' q1 q2 q3 => HK _ h' ?_ ⟨⟨p1.chg q2 hqi.1 hqi.2 fun v n hv => hv.chg q2, q1, p3, ?_⟩, es[i].2, hx⟩⟩
    · obtain ⟨m, -, -, hi9⟩ := hE; exact hi9.isRef
    · exact (p4.trans q2 fun q9 x e h9 => by have := hw _ _ e; omega).mono (by omega) fun _ h9 => h9
theorem pq_begin {G : GL} {d : Nat} {h : AH} {q arr : Nat} {es : List VI} (hw : WFh h) (hp : PQh EI h q arr es) (hroom : 10 ≤ h.2.2) : ∀ K' X', (∀ it h', PqP h q arr es it h' 0 → K' (.ref it) h') → vL G (d + 2) h q dsp_Iterable_iterator [.ref q] (cR K' X') := by
  intro K' X' HK
  have hk : hasK h q 29 := by obtain ⟨mc, sl, e, -⟩ := hp; exact ⟨true, _, e⟩
  refine ⟨29, mi_PriorityQueue_iterator, hk, rfl, s_pqIter hp hroom fun h' i1 c1 _ => HK _ h' ⟨hp.chg c1 (fun h9 => h9) (fun h9 => h9) fun v n hv => hv.chg c1, i1, Nat.le_refl _, c1⟩⟩
/-- the constant lambdas -/
def LamC (G : GL) (h : AH) (k : Nat) : Prop := h.1 (G.lam k) = some (200 + k, false, [])
theorem LamC.chg {G : GL} {h h' : AH} {k c : Nat} {F : Nat → Prop} (hl : LamC G h k) (hc : Chg c F h h') : LamC G h' k := hc.2.2.1 _ _ _ hl
def maxL : List Nat → Nat
  | [] => 0
  | m :: ms => max m (maxL ms)
theorem maxL_perm {l l' : List Nat} (h : l.Perm l') : maxL l = maxL l' := by
  induction h with
  | nil => rfl
  | cons x _ ih => show max x _ = max x _; rw [ih]
  | swap x y l => show max y (max x _) = max x (max y _); omega
  | trans _ _ ih1 ih2 => exact ih1.trans ih2
theorem maxL_app (l : List Nat) (m : Nat) : maxL (l ++ [m]) = max (maxL l) m := by
  have := maxL_perm (List.perm_append_comm (l₁ := l) (l₂ := [m]))
  rw [this]
  show max m (maxL l) = _
  omega
/-- ranks as numbers -/
def rkN0 (es : List VI) : List Nat := es.map fun x => x.2.toNat
section
variable {G : GL} {h : AH} {al : Nat} {ms : List Nat} {F : Nat → Prop} {Qx : Nat → AH → Prop}
theorem PQh.ranks {q arr : Nat} {es : List VI} (hp : PQh EI h q arr es) (h3 : (es.map fun x => x.2).Perm (ms.map fun m : Nat => (m : Int))) : (rkN0 es).Perm ms ∧ (∀ m, m ∈ ms → m < 1000000) ∧ ∀ (i : Nat) (v : Value) (n : Int), es[i]? = some (v, n) → ∃ m : Nat, n = m ∧ m < 1000000 ∧ IntO h v (i32 m) ∧ (rkN0 es)[i]? = some m := by
  obtain ⟨mc, sl, -, -, -, -, -, -, -, hE, -⟩ := hp
  have p1 := h3.map Int.toNat
  have e1 : (es.map fun x => x.2).map Int.toNat = rkN0 es := by simp [rkN0]
  have e2 : (ms.map fun m : Nat => (m : Int)).map Int.toNat = ms := by
    rw [List.map_map]
    exact (List.map_congr_left (fun m _ => rfl)).trans (List.map_id ms)
  rw [e1, e2] at p1
  refine ⟨p1, fun m hm => ?_, fun i v n hi => ?_⟩
  · have hm2 : (m : Int) ∈ es.map fun x => x.2 := h3.mem_iff.mpr (List.mem_map.mpr ⟨m, hm, rfl⟩)
    obtain ⟨x, hx, ex⟩ := List.mem_map.mp hm2
    obtain ⟨k, hk, ek, -⟩ := hE x hx
    omega
  · obtain ⟨k, hk, ek, hi9⟩ := hE _ (List.mem_of_getElem? hi)
    refine ⟨k, ek, hk, hi9, ?_⟩
    unfold rkN0
    rw [List.getElem?_map, hi]
    simp only [Option.map_some]
    congr 1
    have : n = (k : Int) := ek
    omega
theorem s_alkMost {K : Int32 → AH → Prop} (hLm : LamC G h 5) (hp : Alk h al ms F) (hroom : 10 ≤ h.2.2) {d : Nat} (HK : ∀ h', Chg 10 F0s h h' → Alk h' al ms F → K (i32 (maxL ms)) h') : MF G (d + 5) mi_Alike_most 0 [.ref al] [] h (cI K Qx) := by
  have hp0 := hp
  obtain ⟨q, arr, es, h1, h2, h3, h4⟩ := hp
  have hlen : es.length = ms.length := by have := h3.length_eq; simpa using this
  obtain ⟨r1, r2, r3⟩ := h2.ranks h3
  refine MF.wfh fun hw => b_Alike_most_0 (gR_of h1 (by simp) rfl rfl ?_)
  have hfin : ∀ k, k ≤ es.length → itn (fun a i => mx a (i32 ((rkN0 es).getD i 0))) 0 k = i32 (maxL ((rkN0 es).take k)) := by
    intro k
    induction k with
    | zero => intro _; rfl
    | succ k ih =>
      intro hk
      have hkl : k < (rkN0 es).length := by unfold rkN0; rw [List.length_map]; omega
      have hg := getD_at (l := rkN0 es) (x := 0) hkl
      have hb : ∀ m, m ∈ rkN0 es → m < 1000000 := fun m hm => r2 m (r1.mem_iff.mp hm)
      have hmx : ∀ l : List Nat, (∀ m, m ∈ l → m < 1000000) → maxL l < 1000000 := by
        intro l
        induction l with
        | nil => intro _; decide
        | cons a l ih2 =>
          intro hl
          have a1 := hl a List.mem_cons_self
          have a2 := ih2 fun m hm => hl m (List.mem_cons_of_mem _ hm)
          show max a (maxL l) < 1000000
          omega
      rw [itn_succ, ih (by omega)]
      obtain ⟨g1, g2⟩ := List.getElem?_eq_some_iff.mp hg
      rw [List.take_succ_eq_append_getElem g1, g2, maxL_app]
      have b1 := hb _ (List.mem_of_getElem? hg)
      have b2 := hmx ((rkN0 es).take k) fun m hm => hb m (List.mem_of_mem_take hm)
      unfold mx
      by_cases e : maxL ((rkN0 es).take k) < (rkN0 es).getD k 0
      · rw [if_pos ((i32_lt (by omega) (by omega)).mpr e), Nat.max_eq_right (by omega)]
      · rw [if_neg (fun h9 => e ((i32_lt (by omega) (by omega)).mp h9)), Nat.max_eq_left (by omega)]
  refine s_ext (d := d + 3) (f := fun i => i32 ((rkN0 es).getD i 0)) (pq_iter (d := d + 1) hw) (fun it h2 i v K2 X2 hi hR HK2 => ?_) (pq_begin (d := d + 1) hw h2 hroom) fun it h' hP => cI_mk ?_
  · obtain ⟨⟨p1, p2, p3, p4⟩, n, hn⟩ := hR
    obtain ⟨m, em, hm, hi9, hrk⟩ := r3 i v n hn
    have hi2 : IntO h2 v (i32 m) := hi9.chg p4
    obtain ⟨rv, rfl, ev⟩ := hi2
    have hl2 := hLm.chg p4
    refine ⟨5, false, [], by decide, rfl, hl2, lr_5 hl2 ⟨13, false, _, ev, ck_13⟩ (b_Alike_lambda_most_0_0 rfl (dR_of ⟨hasKs_of ev (by simp), b_Integer_intValue_0 (gI_of ev (by simp) rfl (cI_mk (cI_mk ?_)))⟩))⟩
    have := HK2 h2 ⟨p1, p2, p3, p4⟩
    dsimp only at this
    rw [show (rkN0 es).getD i 0 = m from by rw [List.getD_eq_getElem?_getD, hrk]; rfl] at this
    exact this
  · have e9 := hfin es.length (Nat.le_refl _)
    rw [show (rkN0 es).take es.length = rkN0 es from List.take_of_length_le (by unfold rkN0; rw [List.length_map]; exact Nat.le_refl _), maxL_perm r1] at e9
    rw [e9]
    exact HK h' hP.2.2.2 (hp0.chg hP.2.2.2 fun _ _ h9 => h9)
end
