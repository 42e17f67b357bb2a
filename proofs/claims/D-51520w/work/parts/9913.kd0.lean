/-! tree maps: their keys and values, gone over -/
set_option maxRecDepth 100000
def ksM (mv : Nat → Option Nat) : List Nat := (List.range 100).filter fun k => (mv k).isSome
theorem ksM_mem {mv : Nat → Option Nat} {k : Nat} : k ∈ ksM mv ↔ k < 100 ∧ ∃ a, mv k = some a := by
  unfold ksM
  rw [List.mem_filter, List.mem_range]
  constructor
  · rintro ⟨h1, h2⟩
    exact ⟨h1, Option.isSome_iff_exists.mp h2⟩
  · rintro ⟨h1, h2⟩
    exact ⟨h1, Option.isSome_iff_exists.mpr h2⟩
theorem ksM_sorted {mv : Nat → Option Nat} : (ksM mv).Pairwise (· < ·) := List.Pairwise.filter _ List.pairwise_lt_range
/-- in a sorted list the one behind place i is the next greater -/
theorem srt_next {l : List Nat} (hs : l.Pairwise (· < ·)) {i k y : Nat} (hk : l[i]? = some k) (hy : y ∈ l) (hlt : k < y) (hno : ∀ z, z ∈ l → ¬ (k < z ∧ z < y)) : l[i + 1]? = some y := by
  obtain ⟨j, hj, ej⟩ := List.mem_iff_getElem.mp hy
  obtain ⟨hi, ei⟩ := List.getElem?_eq_some_iff.mp hk
  have hp := List.pairwise_iff_getElem.mp hs
  have hij : i < j := by
    rcases Nat.lt_trichotomy i j with e | e | e
    · exact e
    · subst e; omega
    · have := hp j i hj hi e; omega
  have hi1 : i + 1 < l.length := by omega
  rw [List.getElem?_eq_getElem hi1]
  congr 1
  by_cases e : i + 1 = j
  · subst e; exact ej
  · have h1 := hp i (i + 1) hi hi1 (by omega)
    have h2 := hp (i + 1) j hi1 hj (by omega)
    exact absurd ⟨by omega, by omega⟩ (hno _ (List.getElem_mem hi1))
theorem srt_last {l : List Nat} (hs : l.Pairwise (· < ·)) {i k : Nat} (hk : l[i]? = some k) (hno : ∀ z, z ∈ l → ¬ k < z) : i + 1 = l.length := by
  obtain ⟨hi, ei⟩ := List.getElem?_eq_some_iff.mp hk
  have hp := List.pairwise_iff_getElem.mp hs
  by_cases e : i + 1 < l.length
  · have := hp i (i + 1) hi e (by omega)
    exact absurd (by omega) (hno _ (List.getElem_mem e))
  · omega
theorem srt_first {l : List Nat} (hs : l.Pairwise (· < ·)) {y : Nat} (hy : y ∈ l) (hno : ∀ z, z ∈ l → ¬ z < y) : l[0]? = some y := by
  obtain ⟨j, hj, ej⟩ := List.mem_iff_getElem.mp hy
  have hp := List.pairwise_iff_getElem.mp hs
  by_cases e : j = 0
  · subst e; rw [List.getElem?_eq_getElem hj, ej]
  · have := hp 0 j (by omega) hj (by omega)
    exact absurd (by omega) (hno _ (List.getElem_mem (show 0 < l.length by omega)))
/-- where an iteration stands: v is the node with key number i -/
def AtI (Nd : Nat → Prop) (gk : Nat → Int) (ks : List Nat) (i : Nat) (v : Value) : Prop := (i = ks.length ∧ v = .null) ∨ ∃ (x k : Nat), v = .ref x ∧ Nd x ∧ gk x = (k : Int) ∧ ks[i]? = some k
section
variable {Nd : Nat → Prop} {E : TE} {gk : Nat → Int} {mv : Nat → Option Nat}
theorem PMc.key (hc : PMc Nd E gk mv) {x : Nat} (hx : Nd x) : ∃ k : Nat, gk x = (k : Int) ∧ k ∈ ksM mv := by
  obtain ⟨k, a, h1, h2, h3, h4⟩ := hc.1 x hx
  exact ⟨k, h2, ksM_mem.mpr ⟨h1, a, h4⟩⟩
theorem PMc.node (hc : PMc Nd E gk mv) {k : Nat} (hk : k ∈ ksM mv) : ∃ x, Nd x ∧ gk x = (k : Int) := by
  obtain ⟨h1, a, h2⟩ := ksM_mem.mp hk
  obtain ⟨x, x1, x2, -⟩ := hc.2 k a h2
  exact ⟨x, x1, x2⟩
theorem AtI.first (hc : PMc Nd E gk mv) {v : Value} (hn : Nxt Nd gk (-1) v) : AtI Nd gk (ksM mv) 0 v := by
  rcases hn with ⟨e, hno⟩ | ⟨y, e, hy, hlt, hno⟩
  · refine Or.inl ⟨?_, e⟩
    cases hl : ksM mv with
    | nil => rfl
    | cons k ks =>
      obtain ⟨x, x1, x2⟩ := hc.node (k := k) (by rw [hl]; exact List.mem_cons_self)
      exact absurd (by omega) (hno x x1)
  · obtain ⟨k, k1, k2⟩ := hc.key hy
    refine Or.inr ⟨y, k, e, hy, k1, srt_first ksM_sorted k2 fun z hz hzk => ?_⟩
    obtain ⟨x, x1, x2⟩ := hc.node hz
    exact hno x x1 (by omega)
theorem AtI.next (hc : PMc Nd E gk mv) {x k i : Nat} {v : Value} (hx : gk x = (k : Int)) (hi : (ksM mv)[i]? = some k) (hn : Nxt Nd gk (gk x) v) : AtI Nd gk (ksM mv) (i + 1) v := by
  rcases hn with ⟨e, hno⟩ | ⟨y, e, hy, hlt, hno⟩
  · refine Or.inl ⟨srt_last ksM_sorted hi fun z hz hzk => ?_, e⟩
    obtain ⟨y, y1, y2⟩ := hc.node hz
    exact hno y y1 (by omega)
  · obtain ⟨j, j1, j2⟩ := hc.key hy
    refine Or.inr ⟨y, j, e, hy, j1, srt_next ksM_sorted hi j2 (by omega) fun z hz hzk => ?_⟩
    obtain ⟨y', y1, y2⟩ := hc.node hz
    exact hno y' y1 (by omega)
end
/-- an iterator (kind kd) over the tree map m stands ahead of entry i -/
def TP (h0 : AH) (m : Nat) (mv : Nat → Option Nat) (F : Nat → Prop) (kd it : Nat) (h : AH) (i : Nat) : Prop := ∃ (Nd : Nat → Prop) (f : Nat → Value) (E : TE) (C : Nat → Int32) (root : Value) (sz mo : Int32) (g : TG) (v lr : Value), TC h m Nd f E C root sz mo ∧ TOK (-1) 100 E Nd root g ∧ KyO h E Nd g.1 ∧ PMc Nd E g.1 mv ∧ Vw h m f ∧ (∀ x, F x ↔ (x = m ∨ Nd x)) ∧ h.1 it = some (kd, true, [v, lr, .int mo, .ref m]) ∧ AtI Nd g.1 (ksM mv) i v ∧ h0.2.1 ≤ it ∧ Chg 8 F0s h0 h
theorem TP.pm {h0 h : AH} {m kd it i : Nat} {mv : Nat → Option Nat} {F : Nat → Prop} (hp : TP h0 m mv F kd it h i) : PM h m mv F ∧ h0.2.1 ≤ it ∧ Chg 8 F0s h0 h := by
  obtain ⟨Nd, f, E, C, root, sz, mo, g, v, lr, h1, h2, h3, h4, h5, h6, h7, h8, h9, h10⟩ := hp
  exact ⟨⟨Nd, f, E, C, root, sz, mo, g, h1, h2, h3, h4, h5, h6⟩, h9, h10⟩
/-- what else changed, no cell of the map or the iterator -/
theorem TP.chg {h0 h h' : AH} {m kd it i c : Nat} {mv : Nat → Option Nat} {F F' : Nat → Prop} (hp : TP h0 m mv F kd it h i) (hkd : kd = 27 ∨ kd = 28) (hc : Chg c F' h h') (h0c : Chg 8 F0s h0 h') (hF : ∀ x, F x → ¬ F' x) (hit : ¬ F' it) : TP h0 m mv F kd it h' i := by
  obtain ⟨Nd, f, E, C, root, sz, mo, g, v, lr, h1, h2, h3, h4, h5, h6, h7, h8, h9, h10⟩ := hp
  obtain ⟨f', t1, t2⟩ := h1.chg h5 hc (fun x hx => hF x ((h6 x).mpr hx))
  refine ⟨Nd, f', E, C, root, sz, mo, g, v, lr, t1, h2, h3.chg hc, h4, t2, h6, hc.2.2.2.2 _ _ h7 ?_ hit, h8, h9, h0c⟩
  rcases hkd with rfl | rfl
  · exact (show KX 27 from by decide)
  · exact (show KX 28 from by decide)
section
variable {G : GL} {d : Nat} {h : AH} {m : Nat} {mv : Nat → Option Nat} {F : Nat → Prop} {Qx : Nat → AH → Prop} {K : Value → AH → Prop}
theorem s_tmHas {h0 : AH} {kd it i : Nat} {K : Int32 → AH → Prop} (hkd : kd = 27 ∨ kd = 28) (hp : TP h0 m mv F kd it h i) (hi : i ≤ (ksM mv).length) (HK : K (b01 (decide (i < (ksM mv).length))) h) : MF G d mi_TreeMapPrivateEntryIterator_hasNext 0 [.ref it] [] h (cI K Qx) := by
  obtain ⟨Nd, f, E, C, root, sz, mo, g, v, lr, h1, h2, h3, h4, h5, h6, h7, h8, h9, h10⟩ := hp
  have hk : kd ∈ [27, 28] := by rcases hkd with rfl | rfl <;> simp
  have hv : v.isRef = true := by rcases h8 with ⟨-, rfl⟩ | ⟨x, k, rfl, -⟩ <;> rfl
  refine b_TreeMapPrivateEntryIterator_hasNext_0 (gR_of h7 hk rfl hv ⟨fun e => cI_mk ?_, fun q e => cI_mk ?_⟩)
  · rcases h8 with ⟨e1, -⟩ | ⟨x, k, e1, -⟩
    · rw [e1, decide_eq_false (Nat.lt_irrefl _)] at HK; exact HK
    · rw [e] at e1; cases e1
  · rcases h8 with ⟨-, e1⟩ | ⟨x, k, e1, -, -, e2⟩
    · rw [e] at e1; cases e1
    · rw [decide_eq_true (List.getElem?_eq_some_iff.mp e2).1] at HK; exact HK
theorem s_tmNextE {h0 : AH} {kd it i : Nat} (hw0 : WFh h0) (hkd : kd = 27 ∨ kd = 28) (hp : TP h0 m mv F kd it h i) (hi : i < (ksM mv).length) (HK : ∀ (h' : AH) (x k : Nat) (v0 : Value), (ksM mv)[i]? = some k → TP h0 m mv F kd it h' (i + 1) → (∃ fs, h'.1 x = some (24, true, fs) ∧ fs[0]? = some v0 ∧ EI h' v0 k ∧ fs[1]? = some (oref (mv k))) → K (.ref x) h') : MF G (d + 1) mi_TreeMapPrivateEntryIterator_nextEntry 0 [.ref it, .retAddr 0] [] h (cR K Qx) := by
  refine MF.wfh fun hw => ?_
  obtain ⟨Nd, f, E, C, root, sz, mo, g, v, lr, h1, h2, h3, h4, h5, h6, h7, h8, h9, h10⟩ := hp
  have hk : kd ∈ [27, 28] := by rcases hkd with rfl | rfl <;> simp
  have hk14 : kd ≠ 14 := by rcases hkd with rfl | rfl <;> decide
  have hv : v.isRef = true := by rcases h8 with ⟨-, rfl⟩ | ⟨x, k, rfl, -⟩ <;> rfl
  have W := h1.tw hw (F := F) fun x hx => (h6 x).mpr hx
  have nit : ∀ x, x = m ∨ Nd x → x ≠ it := fun x hx e => by
    subst e
    rcases hx with rfl | hx
    · rw [h1.1] at h7; rcases hkd with rfl | rfl <;> cases h7
    · rw [h1.2.1 x hx] at h7; rcases hkd with rfl | rfl <;> cases h7
  refine b_TreeMapPrivateEntryIterator_nextEntry_0 (gR_of h7 hk rfl hv ⟨fun e => ?_, fun x e => gR_of h7 hk rfl rfl (dR_of (W.gM (gI_of h7 hk rfl ⟨fun _ => ?_, fun h9 => absurd rfl h9⟩)))⟩)
  · rcases h8 with ⟨e1, -⟩ | ⟨x, k, e1, -⟩
    · omega
    · rw [e] at e1; cases e1
  · subst e
    rcases h8 with ⟨-, e1⟩ | ⟨x', k, e1, x1, x2, x3⟩
    · cases e1
    cases e1
    refine s_succ W h2 x1 fun v' q1 q2 _ => ?_
    have h7' := AH.put_self (fs' := [v', lr, .int mo, .ref m]) h7
    refine pF_of h7 hk (by simp) (pF_of h7' hk (by simp) (cR_mk rfl (HK _ x k (E x 0) x3 ?_ ?_)))
    · have c1 := Chg.put (F := fun q => q = it) (fs' := [v', lr, .int mo, .ref m]) h7 hk14 rfl
      have c2 := Chg.put (F := fun q => q = it) (fs' := [v', .ref x, .int mo, .ref m]) h7' hk14 rfl
      have c3 := c1.trans c2 (F := fun q => q = it) fun _ _ _ h9 => h9
      have c4 := h10.trans c3 (F := F0s) fun q y e9 h9' => by have := hw0 _ _ e9; omega
      obtain ⟨f', t1, t2⟩ := h1.chg h5 c3 (fun y hy => nit y hy)
      exact ⟨Nd, f', E, C, root, sz, mo, g, v', .ref x, t1, h2, h3.chg c3, h4, t2, h6, AH.put_self h7', AtI.next h4 x2 x3 q1, h9, c4⟩
    · obtain ⟨k', a, k1, k2, k3, k4⟩ := h4.1 x x1
      have ek : k' = k := by omega
      subst ek
      have c1 := Chg.put (F := fun q => q = it) (fs' := [v', lr, .int mo, .ref m]) h7 hk14 rfl
      have c2 := Chg.put (F := fun q => q = it) (fs' := [v', .ref x, .int mo, .ref m]) h7' hk14 rfl
      have hE := ((h3 x x1).chg c1).chg c2
      rw [x2] at hE
      refine ⟨tCell E C x, ?_, rfl, hE, ?_⟩
      · have := nit x (Or.inr x1)
        show ((_ : AH).put it _).1 x = _
        rw [AH.put_ne this, AH.put_ne this]
        exact h1.2.1 x x1
      · rw [k4]
        show some (E x 1) = _
        rw [k3]; rfl
/-- an iterator is made -/
theorem s_tmItInit {kd : Nat} {v : Value} {K : AH → Prop} (hw : WFh h) (hkd : kd = 27 ∨ kd = 28) (hroom : 8 ≤ h.2.2) {Nd : Nat → Prop} {f : Nat → Value} {E : TE} {C : Nat → Int32} {root : Value} {sz mo : Int32} {g : TG} (h1 : TC h m Nd f E C root sz mo) (h2 : TOK (-1) 100 E Nd root g) (h3 : KyO h E Nd g.1) (h4 : PMc Nd E g.1 mv) (h5 : Vw h m f) (h6 : ∀ x, F x ↔ (x = m ∨ Nd x)) (hv : NV Nd v) (hn : Nxt Nd g.1 (-1) v) (HK : ∀ h', TP h m mv F kd h.2.1 h' 0 → K h') : MF G (d + 1) mi_TreeMapPrivateEntryIterator_init 0 [.ref h.2.1, .ref m, v] [] (h.new kd [.null, .null, .int 0, .null] 8) (cV K Qx) := by
  have hk : kd ∈ [27, 28] := by rcases hkd with rfl | rfl <;> simp
  have hk14 : kd ≠ 14 := by rcases hkd with rfl | rfl <;> decide
  have c0 := Chg.new (kd := kd) (fs := [.null, .null, .int 0, .null]) hw hroom
  have T0 := h1.new (kd := kd) (fs := [.null, .null, .int 0, .null]) (cost := 8) hw
  have i0 : (h.new kd [.null, .null, .int 0, .null] 8).1 h.2.1 = some (kd, true, [.null, .null, .int 0, .null]) := AH.new_self
  have i1 := AH.put_self (fs' := [.null, .null, .int 0, .ref m]) i0
  have i2 := AH.put_self (fs' := [.null, .null, .int mo, .ref m]) i1
  have i3 := AH.put_self (fs' := [.null, .null, .int mo, .ref m]) i2
  have i4 := AH.put_self (fs' := [v, .null, .int mo, .ref m]) i3
  have c1 := Chg.put (F := fun q => q = h.2.1) (fs' := [.null, .null, .int 0, .ref m]) i0 hk14 rfl
  have c2 := Chg.put (F := fun q => q = h.2.1) (fs' := [.null, .null, .int mo, .ref m]) i1 hk14 rfl
  have c3 := Chg.put (F := fun q => q = h.2.1) (fs' := [.null, .null, .int mo, .ref m]) i2 hk14 rfl
  have c4 := Chg.put (F := fun q => q = h.2.1) (fs' := [v, .null, .int mo, .ref m]) i3 hk14 rfl
  have cc := ((c1.same c2).same c3).same c4
  have nm : m ≠ h.2.1 := by have := hw _ _ h1.1; omega
  have Tm : ((h.new kd [.null, .null, .int 0, .null] 8).put h.2.1 [.null, .null, .int 0, .ref m]).1 m = some (23, true, mCell f root sz mo) := by rw [AH.put_ne nm]; exact T0.1
  refine b_TreeMapPrivateEntryIterator_init_0 rfl hv.isRef (pF_of i0 hk (by simp) (dR_of (gI_of Tm (by simp) rfl (pF_of i1 hk (by simp) (pF_of i2 hk (by simp) (pF_of i3 hk (by simp) (cV_mk (HK _ ?_))))))))
  have call := c0.trans cc (F := F0s) fun q y e9 h9 => by have := hw _ _ e9; omega
  obtain ⟨f', t1, t2⟩ := h1.chg h5 call (fun _ _ h9 => h9)
  exact ⟨Nd, f', E, C, root, sz, mo, g, v, .null, t1, h2, h3.chg call, h4, t2, h6, i4, AtI.first h4 hn, Nat.le_refl _, call⟩
theorem s_tmKeyIt (hp : PM h m mv F) (hroom : 8 ≤ h.2.2) (HK : ∀ it h', TP h m mv F 27 it h' 0 → K (.ref it) h') : MF G (d + 3) mi_TreeMap_keyIterator 0 [.ref m] [] h (cR K Qx) := by
  refine MF.wfh fun hw => ?_
  obtain ⟨Nd, f, E, C, root, sz, mo, g, h1, h2, h3, h4, h5, h6⟩ := hp
  have c0 := Chg.new (kd := 27) (fs := [.null, .null, .int 0, .null]) hw hroom
  have W0 := (h1.new (kd := 27) (fs := [.null, .null, .int 0, .null]) (cost := 8) hw).tw (F := F) hw.new fun x hx => (h6 x).mpr hx
  refine b_TreeMap_keyIterator_0 ⟨_, _, rfl, rfl, hroom, W0.hasK (by simp), s_first W0 h2 fun v q1 q2 => ?_⟩
  exact b_TreeMapKeyIterator_init_0 rfl q2.isRef (s_tmItInit hw (Or.inl rfl) hroom h1 h2 h3 h4 h5 h6 q2 q1 fun h' hT => cV_mk (cR_mk rfl (HK _ _ hT)))
theorem s_tmKeySetIt {q : Nat} (hq : h.1 q = some (26, false, [.ref m])) (hp : PM h m mv F) (hroom : 8 ≤ h.2.2) (HK : ∀ it h', TP h m mv F 27 it h' 0 → K (.ref it) h') : MF G (d + 4) mi_TreeMapKeySet_iterator 0 [.ref q] [] h (cR K Qx) := by
  have hm : isC h m "java/util/TreeMap" := by
    obtain ⟨Nd, f, E, C, root, sz, mo, g, h1, -⟩ := hp
    exact ⟨23, _, _, h1.1, ck_23⟩
  refine b_TreeMapKeySet_iterator_0 (gR_of hq (by simp) rfl rfl ⟨1, Or.inr (Or.inl ⟨m, rfl, hm, rfl⟩), fun e => absurd e (by decide), fun _ => gR_of hq (by simp) rfl rfl ⟨fun q9 e9 => (by cases e9; exact hm), dR_of ⟨hp.has (by simp), s_tmKeyIt hp hroom fun it h' hT => cR_mk rfl (HK it h' hT)⟩⟩⟩)
theorem s_tmValuesIt {q : Nat} (hq : h.1 q = some (25, false, [.ref m])) (hp : PM h m mv F) (hroom : 8 ≤ h.2.2) (HK : ∀ it h', TP h m mv F 28 it h' 0 → K (.ref it) h') : MF G (d + 3) mi_TreeMapValues_iterator 0 [.ref q] [] h (cR K Qx) := by
  refine MF.wfh fun hw => ?_
  obtain ⟨Nd, f, E, C, root, sz, mo, g, h1, h2, h3, h4, h5, h6⟩ := hp
  have c0 := Chg.new (kd := 28) (fs := [.null, .null, .int 0, .null]) hw hroom
  have W0 := (h1.new (kd := 28) (fs := [.null, .null, .int 0, .null]) (cost := 8) hw).tw (F := F) hw.new fun x hx => (h6 x).mpr hx
  have hq1 := c0.2.2.1 _ _ _ hq
  refine b_TreeMapValues_iterator_0 ⟨_, _, rfl, rfl, hroom, gR_of hq1 (by simp) rfl rfl (gR_of hq1 (by simp) rfl rfl (dR_of ⟨W0.hasK (by simp), s_first W0 h2 fun v q1 q2 => ?_⟩))⟩
  exact b_TreeMapValueIterator_init_0 rfl q2.isRef (s_tmItInit hw (Or.inr rfl) hroom h1 h2 h3 h4 h5 h6 q2 q1 fun h' hT => cV_mk (cR_mk rfl (HK _ _ hT)))
/-- what a key's, a value's step gives -/
def KeyR (h0 : AH) (m : Nat) (mv : Nat → Option Nat) (F : Nat → Prop) (it : Nat) (h : AH) (i : Nat) (v : Value) : Prop := TP h0 m mv F 27 it h (i + 1) ∧ ∃ k : Nat, (ksM mv)[i]? = some k ∧ EI h v k
def ValR (h0 : AH) (m : Nat) (mv : Nat → Option Nat) (F : Nat → Prop) (it : Nat) (h : AH) (i : Nat) (v : Value) : Prop := TP h0 m mv F 28 it h (i + 1) ∧ ∃ (k a : Nat), (ksM mv)[i]? = some k ∧ mv k = some a ∧ v = .ref a
theorem TP.hask {h0 : AH} {kd it i : Nat} (hp : TP h0 m mv F kd it h i) : hasK h it kd := by
  obtain ⟨Nd, f, E, C, root, sz, mo, g, v, lr, h1, h2, h3, h4, h5, h6, h7, h8, h9, h10⟩ := hp
  exact ⟨_, _, h7⟩
theorem key_iter {h0 : AH} (hw0 : WFh h0) : IterOK G (d + 2) (ksM mv).length (TP h0 m mv F 27) (KeyR h0 m mv F) := by
  refine ⟨fun it h i K X hP hi HK => ⟨27, mi_TreeMapPrivateEntryIterator_hasNext, hP.hask, rfl, s_tmHas (Or.inl rfl) hP hi HK⟩, fun it h i K X hP hi HK => ⟨27, mi_TreeMapKeyIterator_next, hP.hask, rfl, ?_⟩⟩
  refine b_TreeMapKeyIterator_next_0 ⟨27, mi_TreeMapPrivateEntryIterator_nextEntry, hP.hask, rfl, s_tmNextE hw0 (Or.inl rfl) hP hi fun h' x k v0 e1 e2 e3 => ?_⟩
  obtain ⟨fs, f1, f2, f3, f4⟩ := e3
  have hvr : v0.isRef = true := by obtain ⟨m', -, -, hi⟩ := f3; exact hi.isRef
  exact dR_of (gR_of f1 (by simp) f2 hvr (cR_mk hvr (HK v0 h' hvr ⟨e2, k, e1, f3⟩)))
theorem val_iter {h0 : AH} (hw0 : WFh h0) : IterOK G (d + 2) (ksM mv).length (TP h0 m mv F 28) (ValR h0 m mv F) := by
  refine ⟨fun it h i K X hP hi HK => ⟨28, mi_TreeMapPrivateEntryIterator_hasNext, hP.hask, rfl, s_tmHas (Or.inr rfl) hP hi HK⟩, fun it h i K X hP hi HK => ⟨28, mi_TreeMapValueIterator_next, hP.hask, rfl, ?_⟩⟩
  refine b_TreeMapValueIterator_next_0 ⟨28, mi_TreeMapPrivateEntryIterator_nextEntry, hP.hask, rfl, s_tmNextE hw0 (Or.inr rfl) hP hi fun h' x k v0 e1 e2 e3 => ?_⟩
  obtain ⟨fs, f1, f2, f3, f4⟩ := e3
  obtain ⟨-, a, ha⟩ := ksM_mem.mp (List.mem_of_getElem? e1)
  rw [ha] at f4
  exact dR_of (gR_of f1 (by simp) f4 rfl (cR_mk rfl (HK _ h' rfl ⟨e2, k, a, e1, ha, rfl⟩)))
/-- the views -/
theorem view_pm {k : Nat} {Nd : Nat → Prop} {f : Nat → Value} {E : TE} {C : Nat → Int32} {root : Value} {sz mo : Int32} {g : TG} {kd : Nat} (hw : WFh h) (hroom : 5 ≤ h.2.2) (hk14 : kd ≠ 14) (hkk : (k = 1 ∧ kd = 25) ∨ (k = 7 ∧ kd = 26)) (h1 : TC h m Nd f E C root sz mo) (h2 : TOK (-1) 100 E Nd root g) (h3 : KyO h E Nd g.1) (h4 : PMc Nd E g.1 mv) (h5 : Vw h m f) (h6 : ∀ x, F x ↔ (x = m ∨ Nd x)) :
    Chg 5 F0s h (frz (((h.new kd [.null] 5).put h.2.1 [.ref m]).put m ((mCell f root sz mo).set k (.ref h.2.1))) h.2.1) ∧ PM (frz (((h.new kd [.null] 5).put h.2.1 [.ref m]).put m ((mCell f root sz mo).set k (.ref h.2.1))) h.2.1) m mv F ∧ (frz (((h.new kd [.null] 5).put h.2.1 [.ref m]).put m ((mCell f root sz mo).set k (.ref h.2.1))) h.2.1).1 h.2.1 = some (kd, false, [.ref m]) := by
  have c0 := Chg.new (kd := kd) (fs := [.null]) hw hroom
  have nm : m ≠ h.2.1 := by have := hw _ _ h1.1; omega
  have i0 : (h.new kd [.null] 5).1 h.2.1 = some (kd, true, [.null]) := AH.new_self
  have i1 := AH.put_self (fs' := [.ref m]) i0
  have T1 : ((h.new kd [.null] 5).put h.2.1 [.ref m]).1 m = some (23, true, mCell f root sz mo) := by rw [AH.put_ne nm, AH.new_ne nm]; exact h1.1
  have c1 := Chg.put (F := fun q => q = h.2.1) (fs' := [.ref m]) i0 hk14 rfl
  have c2 := Chg.put (F := fun q => q = m) (fs' := (mCell f root sz mo).set k (.ref h.2.1)) T1 (by decide) rfl
  have i2 : (((h.new kd [.null] 5).put h.2.1 [.ref m]).put m ((mCell f root sz mo).set k (.ref h.2.1))).1 h.2.1 = some (kd, true, [.ref m]) := by rw [AH.put_ne (Ne.symm nm)]; exact i1
  have c3 := Chg.frz (F := fun q => q = h.2.1) i2 hk14 rfl
  have i3 := frz_self i2
  have d1 := c0.trans c1 (F := F0s) fun q y e9 h9 => by have := hw _ _ e9; omega
  have d2 := (d1.mono (Nat.le_refl _) (F' := fun q => q = m) fun _ h9 => h9.elim).same c2
  have d3' := d2.trans c3 (F := fun q => q = m) fun q y e9 h9 => by have := hw _ _ e9; omega
  have mNew : (frz (((h.new kd [.null] 5).put h.2.1 [.ref m]).put m ((mCell f root sz mo).set k (.ref h.2.1))) h.2.1).1 m = some (23, true, (mCell f root sz mo).set k (.ref h.2.1)) := by
    rw [frz_ne nm]; exact AH.put_self T1
  have d3 : Chg 5 F0s h (frz (((h.new kd [.null] 5).put h.2.1 [.ref m]).put m ((mCell f root sz mo).set k (.ref h.2.1))) h.2.1) := by
    refine ⟨d3'.1, d3'.2.1, d3'.2.2.1, ⟨d3'.2.2.2.1.1, fun q fs e _ => ?_⟩, fun q x e hx _ => d3'.2.2.2.2 q x e hx fun h9 => ?_⟩
    · by_cases e9 : q = m
      · subst e9
        rw [h1.1] at e
        cases e
        refine ⟨_, mNew, List.length_set, fun j hj1 hj7 => ?_, ?_, ?_⟩
        · rw [List.getElem?_set_ne (by rcases hkk with ⟨rfl, -⟩ | ⟨rfl, -⟩ <;> omega)]
        · rcases hkk with ⟨rfl, rfl⟩ | ⟨rfl, rfl⟩
          · exact Or.inr ⟨h.2.1, rfl, i3⟩
          · exact Or.inl rfl
        · rcases hkk with ⟨rfl, rfl⟩ | ⟨rfl, rfl⟩
          · exact Or.inl rfl
          · exact Or.inr ⟨h.2.1, rfl, i3⟩
      · exact d3'.2.2.2.1.2 q fs e e9
    · have h9' : q = m := h9
      subst h9'
      rw [h1.1] at e
      cases e
      exact hx.2 rfl
  have eset : (mCell f root sz mo).set k (.ref h.2.1) = mCell (fun j => if j = k then .ref h.2.1 else f j) root sz mo := by
    rcases hkk with ⟨rfl, -⟩ | ⟨rfl, -⟩ <;> simp [mCell]
  refine ⟨d3, ⟨Nd, fun j => if j = k then .ref h.2.1 else f j, E, C, root, sz, mo, g, ⟨?_, fun x hx => ?_, h1.2.2⟩, h2, h3.chg d3, h4, ?_, h6⟩, i3⟩
  · rw [frz_ne nm, ← eset]
    exact AH.put_self T1
  · have n1 : x ≠ h.2.1 := by have := hw _ _ (h1.2.1 x hx); omega
    have n2 : x ≠ m := fun e => by subst e; have h9 := h1.2.1 x hx; rw [h1.1] at h9; cases h9
    rw [frz_ne n1, AH.put_ne n2, AH.put_ne n1, AH.new_ne n1]
    exact h1.2.1 x hx
  · have h5' := h5.chg d3
    rcases hkk with ⟨rfl, rfl⟩ | ⟨rfl, rfl⟩
    · exact ⟨Or.inr ⟨_, rfl, i3⟩, h5'.2⟩
    · exact ⟨h5'.1, Or.inr ⟨_, rfl, i3⟩⟩
theorem s_pmKeys (hp : PM h m mv F) (hroom : 5 ≤ h.2.2) (HK : ∀ q h', Chg 5 F0s h h' → PM h' m mv F → h'.1 q = some (26, false, [.ref m]) → K (.ref q) h') : MF G (d + 5) mi_TreeMap_keySet 0 [.ref m] [] h (cR K Qx) := by
  refine MF.wfh fun hw => ?_
  have hp0 := hp
  obtain ⟨Nd, f, E, C, root, sz, mo, g, h1, h2, h3, h4, h5, h6⟩ := hp
  refine b_TreeMap_keySet_0 ⟨hp0.has (by simp), MF.post ?_⟩
  have hf7 : (f 7).isRef = true := by rcases h5.2 with e | ⟨q, e, -⟩ <;> rw [e] <;> rfl
  refine b_TreeMap_navigableKeySet_0 (gR_of h1.1 (by simp) rfl hf7 ⟨fun e => ⟨_, _, rfl, rfl, hroom, ?_⟩, fun q e => ?_⟩)
  · have nm : m ≠ h.2.1 := by have := hw _ _ h1.1; omega
    have i0 : (h.new 26 [.null] 5).1 h.2.1 = some (26, true, [.null]) := AH.new_self
    have T1 : ((h.new 26 [.null] 5).put h.2.1 [.ref m]).1 m = some (23, true, mCell f root sz mo) := by rw [AH.put_ne nm, AH.new_ne nm]; exact h1.1
    obtain ⟨v1, v2, v3⟩ := view_pm (k := 7) (kd := 26) hw hroom (by decide) (Or.inr ⟨rfl, rfl⟩) h1 h2 h3 h4 h5 h6
    exact b_TreeMapKeySet_init_0 rfl (b_AbstractSet_init_0 (b_AbstractCollection_init_0 (cV_mk (cV_mk (pF_of i0 (by simp) (by simp) (cV_mk (pF_of T1 (by simp) (by show 7 < 9; omega) ⟨_, frz_less (q := h.2.1), cR_mk rfl (cR_mk rfl (HK _ _ v1 v2 v3))⟩)))))))
  · rcases h5.2 with e9 | ⟨q', e9, e8⟩
    · rw [e9] at e; cases e
    · rw [e9] at e; cases e
      exact ⟨h, Less.refl, cR_mk rfl (cR_mk rfl (HK q h ((Chg.refl (F := F0s)).mono (by omega) fun _ h9 => h9) hp0 e8))⟩
theorem s_pmValues (hp : PM h m mv F) (hroom : 5 ≤ h.2.2) (HK : ∀ q h', Chg 5 F0s h h' → PM h' m mv F → h'.1 q = some (25, false, [.ref m]) → K (.ref q) h') : MF G (d + 4) mi_TreeMap_values 0 [.ref m, .retAddr 0] [] h (cR K Qx) := by
  refine MF.wfh fun hw => MF.post ?_
  have hp0 := hp
  obtain ⟨Nd, f, E, C, root, sz, mo, g, h1, h2, h3, h4, h5, h6⟩ := hp
  have hf1 : (f 1).isRef = true := by rcases h5.1 with e | ⟨q, e, -⟩ <;> rw [e] <;> rfl
  refine b_TreeMap_values_0 (gR_of h1.1 (by simp) rfl hf1 ⟨fun e => ⟨_, _, rfl, rfl, hroom, ?_⟩, fun q e => ?_⟩)
  · have nm : m ≠ h.2.1 := by have := hw _ _ h1.1; omega
    have i0 : (h.new 25 [.null] 5).1 h.2.1 = some (25, true, [.null]) := AH.new_self
    have T1 : ((h.new 25 [.null] 5).put h.2.1 [.ref m]).1 m = some (23, true, mCell f root sz mo) := by rw [AH.put_ne nm, AH.new_ne nm]; exact h1.1
    obtain ⟨v1, v2, v3⟩ := view_pm (k := 1) (kd := 25) hw hroom (by decide) (Or.inl ⟨rfl, rfl⟩) h1 h2 h3 h4 h5 h6
    exact b_TreeMapValues_init_0 rfl (pF_of i0 (by simp) (by simp) (b_AbstractCollection_init_0 (cV_mk (cV_mk (pF_of T1 (by simp) (by show 1 < 9; omega) ⟨_, frz_less (q := h.2.1), cR_mk rfl (HK _ _ v1 v2 v3)⟩)))))
  · rcases h5.1 with e9 | ⟨q', e9, e8⟩
    · rw [e9] at e; cases e
    · rw [e9] at e; cases e
      exact ⟨h, Less.refl, cR_mk rfl (HK q h ((Chg.refl (F := F0s)).mono (by omega) fun _ h9 => h9) hp0 e8)⟩
end
