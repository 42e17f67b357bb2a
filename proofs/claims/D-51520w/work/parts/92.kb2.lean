/-! alike: the least goes, one goes, copies -/
set_option maxRecDepth 100000
theorem hp_min {es : List VI} (hH : hpA rkV es) : ∀ (i : Nat) (x y : VI), es[0]? = some x → es[i]? = some y → x.2 ≤ y.2 := by
  intro i
  induction i using Nat.strongRecOn with
  | _ i ih =>
    intro x y hx hy
    by_cases e : i = 0
    · subst e
      rw [hx] at hy
      cases hy
      exact Int.le_refl _
    · have hl := (List.getElem?_eq_some_iff.mp hy).1
      have hz := List.getElem?_eq_getElem (l := es) (i := (i - 1) / 2) (by omega)
      have h1 := hH i y _ (by omega) hy hz
      have h2 := ih ((i - 1) / 2) (by omega) x _ hx hz
      exact Int.le_trans h2 h1
section
variable {G : GL} {h : AH} {al : Nat} {ms : List Nat} {F : Nat → Prop} {Qx : Nat → AH → Prop}
theorem Alk.ranks (hp : Alk h al ms F) : ∀ m, m ∈ ms → m < 1000000 := by
  obtain ⟨q, arr, es, h1, h2, h3, h4⟩ := hp
  exact (h2.ranks h3).2.1
theorem s_alkLeast {K : Int32 → AH → Prop} (hp : Alk h al ms F) (h0 : 0 < ms.length) (HK : ∀ h' m ms', ms.Perm (m :: ms') → (∀ k, k ∈ ms → m ≤ k) → Alk h' al ms' F → Chg 0 F h h' → K (i32 m) h') : MF G 6 mi_Alike_leastGoes 0 [.ref al] [] h (cI K Qx) := by
  obtain ⟨q, arr, es, h1, h2, h3, h4, h5, h6⟩ := hp
  have hlen : es.length = ms.length := by have := h3.length_eq; simpa using this
  obtain ⟨r1, r2, r3⟩ := h2.ranks h3
  have hq : hasKs h q [29] := by obtain ⟨mc, sl, ha, -⟩ := h2; exact hasKs_of ha (by simp)
  have hH : hpA rkV es := by obtain ⟨mc, sl, -, -, -, -, -, -, -, -, hH⟩ := h2; exact hH
  cases es with
  | nil => simp at hlen; omega
  | cons x t =>
    obtain ⟨m, em, hm, hi9, hrk⟩ := r3 0 x.1 x.2 rfl
    refine b_Alike_leastGoes_0 (gR_of h1 (by simp) rfl rfl (dR_of ⟨hq, s_pqPoll (d := 3) cmpI h2 trivial trivial (by omega) fun h' hp' c' => ?_⟩))
    have hF : ∀ y, Fpq q arr y → F y := fun y hy => (h6 y).mpr (Or.inr hy)
    have cF := (c'.mono (F' := F) (Nat.le_refl _) hF).mono (c' := 0) (by omega) fun _ h9 => h9
    obtain ⟨rv, ev, ev2⟩ := hi9.chg cF
    rw [ev]
    have hal : ¬ Fpq q arr al := by
      rintro (h9 | h9)
      · exact h4 h9
      · exact h5 h9
    refine ⟨fun q9 h9 => by cases h9; exact ⟨13, false, _, ev2, ck_13⟩, dR_of ⟨hasKs_of ev2 (by simp), b_Integer_intValue_0 (gI_of ev2 (by simp) rfl (cI_mk (cI_mk ?_)))⟩⟩
    have hpm : ms.Perm (m :: rkN0 (pqPol (x :: t))) := by
      refine r1.symm.trans ?_
      have := (pqPol_perm (x := x) (t := t)).map fun y : VI => y.2.toNat
      refine List.Perm.trans this ?_
      rw [List.map_cons]
      have : x.2.toNat = m := by omega
      rw [this]
      exact List.Perm.refl _
    refine HK h' m (rkN0 (pqPol (x :: t))) hpm (fun k hk => ?_) ⟨q, arr, pqPol (x :: t), c'.2.2.2.2 _ _ h1 (show KX 4 from by decide) hal, hp', ?_, h4, h5, h6⟩ cF
    · obtain ⟨i, hi⟩ := List.mem_iff_getElem?.mp (r1.mem_iff.mpr hk)
      have hil := (List.getElem?_eq_some_iff.mp hi).1
      unfold rkN0 at hi hil
      rw [List.length_map] at hil
      have hy := List.getElem?_eq_getElem hil
      rw [List.getElem?_map, hy] at hi
      have hk2 : ((x :: t)[i]).2.toNat = k := by simpa using hi
      have := hp_min hH i x _ rfl hy
      omega
    · obtain ⟨mc, sl, -, -, -, -, -, -, -, hE', -⟩ := hp'
      unfold rkN0
      rw [List.map_map]
      have : (pqPol (x :: t)).map (fun y => y.2) = (pqPol (x :: t)).map ((fun m : Nat => (m : Int)) ∘ fun y => y.2.toNat) := by
        refine List.map_congr_left fun y hy => ?_
        obtain ⟨k, hk, ek, -⟩ := hE' y hy
        show y.2 = ((y.2.toNat : Nat) : Int)
        omega
      rw [this]
theorem s_alkGoes {m : Nat} {K : AH → Prop} (hI : ICache G h) (hp : Alk h al ms F) (hm : m ∈ ms) (hroom : 5 ≤ h.2.2) (HK : ∀ h' ms', ms.Perm (m :: ms') → Alk h' al ms' F → Chg 5 F h h' → K h') : MF G 8 mi_Alike_goes 0 [.ref al, .int (i32 m), .retAddr 0] [] h (cV K Qx) := by
  obtain ⟨q, arr, es, h1, h2, h3, h4, h5, h6⟩ := hp
  obtain ⟨r1, r2, r3⟩ := h2.ranks h3
  refine b_Alike_goes_0 (gR_of h1 (by simp) rfl rfl (s_valueOf (d := 4) (r2 m hm) hI hroom fun v h' hv c1 _ => dR_of ?_))
  have h2' : PQh EI h' q arr es := h2.chg c1 (fun h9 => h9) (fun h9 => h9) fun v n hv => hv.chg c1
  have h1' : h'.1 al = some (4, true, [.ref q]) := c1.2.2.2.2 _ _ h1 (show KX 4 from by decide) fun h9 => h9
  have hq : hasKs h' q [29] := by obtain ⟨mc, sl, ha, -⟩ := h2'; exact hasKs_of ha (by simp)
  have hex : ∃ y : VI, y ∈ es ∧ y.2 = (m : Int) := by
    have hm2 : (m : Int) ∈ es.map fun x => x.2 := h3.mem_iff.mpr (List.mem_map.mpr ⟨m, hm, rfl⟩)
    obtain ⟨x, hx, ex⟩ := List.mem_map.mp hm2
    exact ⟨x, hx, ex⟩
  refine ⟨hq, s_pqRemove h2' (r2 m hm) hv hex fun h3' es' hp' hy c2 => cV_mk ?_⟩
  obtain ⟨y, ey, hperm⟩ := hy
  have hF : ∀ z, Fpq q arr z → F z := fun z hz => (h6 z).mpr (Or.inr hz)
  have hal : ¬ Fpq q arr al := by
    rintro (h9 | h9)
    · exact h4 h9
    · exact h5 h9
  have c12 := ((c1.mono (F' := F) (Nat.le_refl _) fun _ h9 => h9.elim).same (c2.mono (F' := F) (Nat.le_refl _) hF)).mono (c' := 5) (by omega) fun _ h9 => h9
  have hpm : ms.Perm (m :: rkN0 es') := by
    refine r1.symm.trans ?_
    have := hperm.map fun y : VI => y.2.toNat
    refine List.Perm.trans this ?_
    rw [List.map_cons]
    have : y.2.toNat = m := by omega
    rw [this]
    exact List.Perm.refl _
  refine HK h3' (rkN0 es') hpm ⟨q, arr, es', c2.2.2.2.2 _ _ h1' (show KX 4 from by decide) hal, hp', ?_, h4, h5, h6⟩ c12
  obtain ⟨mc, sl, -, -, -, -, -, -, -, hE', -⟩ := hp'
  unfold rkN0
  rw [List.map_map]
  have : es'.map (fun y => y.2) = es'.map ((fun m : Nat => (m : Int)) ∘ fun y => y.2.toNat) := by
    refine List.map_congr_left fun y hy => ?_
    obtain ⟨k, hk, ek, -⟩ := hE' y hy
    show y.2 = ((y.2.toNat : Nat) : Int)
    omega
  rw [this]
/-- a copy -/
theorem s_alkCopy {K : Value → AH → Prop} (hI : ICache G h) (hp : Alk h al ms F) (h61 : ms.length ≤ 61) (hroom : 38 + 150 * 61 ≤ h.2.2) (HK : ∀ h' al' F', Alk h' al' ms F' → (∀ x, F' x → h.2.1 ≤ x) → Chg (38 + 150 * ms.length) F0s h h' → K (.ref al') h') : MF G 10 mi_Alike_copy 0 [.ref al, .retAddr 0, .retAddr 0, .retAddr 0] [] h (cR K Qx) := by
  have hp0 := hp
  obtain ⟨q, arr, es, h1, h2, h3, h4, h5, h6⟩ := hp
  have hlen : es.length = ms.length := by have := h3.length_eq; simpa using this
  obtain ⟨r1, r2, r3⟩ := h2.ranks h3
  refine MF.wfh fun hw => b_Alike_copy_0 ⟨_, _, rfl, rfl, by omega, ?_⟩
  have c1 := Chg.new (kd := 4) (fs := [.null]) (cost := 5) hw (by omega)
  refine (s_alkInit (K := fun h2 => _) AH.new_self (by show 23 ≤ h.2.2 - 5; omega) fun hA FA hpA cA fA => ?_).up (by omega)
  have c2 := c1.trans cA (F := F0s) fun x y e h9 => by have := hw _ _ e; omega
  have h2A : PQh EI hA q arr es := h2.chg c2 (fun h9 => h9) (fun h9 => h9) fun v n hv => hv.chg c2
  have h1A : hA.1 al = some (4, true, [.ref q]) := c2.2.2.2.2 _ _ h1 (show KX 4 from by decide) fun h9 => h9
  have hq : hasKs hA q [29] := by obtain ⟨mc, sl, ha, -⟩ := h2A; exact hasKs_of ha (by simp)
  have hfA : ∀ x, FA x → h.2.1 ≤ x := fun x hx => by
    rcases fA x hx with h9 | h9
    · omega
    · have : h.2.1 + 1 ≤ x := h9
      omega
  refine gR_of h1A (by simp) rfl rfl (dR_of ⟨hq, MF.wfh fun hwA => (s_pqIter (d := 7) h2A (by have := c2.2.1; omega) fun h5 i5 c5 e5 => ?_)⟩)
  have cn : ∀ {c c' : Nat} {F' : Nat → Prop} {h1 h2 : AH}, Chg c F0s h h1 → Chg c' F' h1 h2 → (∀ x, F' x → h.2.1 ≤ x) → Chg (c + c') F0s h h2 := fun a b hf => a.trans b fun x y e h9 => by have := hw _ _ e; have := hf x h9; omega
  have hqo : q < h.2.1 ∧ arr < h.2.1 := by obtain ⟨mc, sl, a1, a2, -⟩ := h2; exact ⟨hw _ _ a1, hw _ _ a2⟩
  have hitA : h.2.1 ≤ hA.2.1 := c2.1
  have loop : ∀ r i hh FA' acc u3, r + i = es.length → PQh EI hh q arr es → ItP hh hA.2.1 q i → Alk hh h.2.1 acc FA' → acc.Perm ((rkN0 es).take i) → (∀ x, FA' x → h.2.1 ≤ x) → ¬ FA' hA.2.1 → hA.2.1 < hh.2.1 → Chg (38 + 150 * i) F0s h hh → MF G 10 mi_Alike_copy 16 [.ref al, .ref h.2.1, .ref hA.2.1, u3] [] hh (cR K Qx) := by
    intro r
    induction r with
    | zero =>
      intro i hh FA' acc u3 hi hpq hit hal hacc hfr hnit hlt hc
      have hi2 : i = es.length := by omega
      subst hi2
      have hk : hasK hh hA.2.1 30 := by obtain ⟨lr, v3, mc, w, v0, v1, v2, e, -⟩ := hit; exact ⟨true, _, e⟩
      refine b_Alike_copy_16 rfl rfl (dR_of ⟨30, mi_PriorityQueueItr_hasNext, hk, rfl, s_pqHas (d := 8) hpq hit (Nat.le_refl _) ⟨fun _ => cR_mk rfl (HK hh h.2.1 FA' (hal.perm ?_) hfr ?_), fun hn => absurd (by rw [decide_eq_false (Nat.lt_irrefl _)]; rfl) hn⟩⟩)
      · refine hacc.trans ?_
        rw [List.take_of_length_le (by unfold rkN0; rw [List.length_map]; exact Nat.le_refl _)]
        exact r1
      · rw [← hlen]; exact hc
    | succ r ih =>
      intro i hh FA' acc u3 hi hpq hit hal hacc hfr hnit hlt hc
      have hk : hasK hh hA.2.1 30 := by obtain ⟨lr, v3, mc, w, v0, v1, v2, e, -⟩ := hit; exact ⟨true, _, e⟩
      have hx := List.getElem?_eq_getElem (l := es) (i := i) (by omega)
      obtain ⟨m, em, hm, hi9, hrk⟩ := r3 i es[i].1 es[i].2 hx
      refine b_Alike_copy_16 rfl rfl (dR_of ⟨30, mi_PriorityQueueItr_hasNext, hk, rfl, s_pqHas (d := 8) hpq hit (by omega) ⟨fun hz => absurd hz (by rw [decide_eq_true (by omega)]; decide), fun _ => ⟨30, mi_PriorityQueueItr_next, hk, rfl, s_pqNext (d' := 8) (cmpI (G := G)) hpq hit hx fun h6' i6 c6 e6 => ?_⟩⟩⟩)
      have c06 := cn hc c6 fun x h9 => by rw [h9]; exact hitA
      obtain ⟨rv, ev, ev2⟩ := hi9.chg c06
      rw [ev]
      have hpq6 : PQh EI h6' q arr es := hpq.chg c6 (by show ¬ q = hA.2.1; omega) (by show ¬ arr = hA.2.1; omega) fun v n hv => hv.chg c6
      have hal6 : Alk h6' h.2.1 acc FA' := hal.chg c6 fun x hx h9 => hnit (by rw [← h9]; exact hx)
      have hks6 : hasKs h6' h.2.1 [4] := by obtain ⟨q2, a2, e2, b1, -⟩ := hal6; exact hasKs_of b1 (by simp)
      have hal_len : acc.length = i := by
        rw [hacc.length_eq, List.length_take]
        unfold rkN0
        rw [List.length_map]; omega
      refine ⟨fun q9 h9 => by cases h9; exact ⟨13, false, _, ev2, ck_13⟩, dR_of ⟨hasKs_of ev2 (by simp), b_Integer_intValue_0 (gI_of ev2 (by simp) rfl (cI_mk (dR_of ⟨hks6, s_alkComes (hI.chg c06) hal6 hm (by omega) (by have := c06.2.1; omega) fun h7 F7 hp7 c7 f7 => ?_⟩)))⟩⟩
      have c07 := cn c06 c7 hfr
      have hlt6 : hA.2.1 < h6'.2.1 := by rw [e6]; exact hlt
      refine ih (i + 1) h7 F7 (m :: acc) _ (by omega) (hpq6.chg c7 (fun h9 => by have := hfr _ h9; omega) (fun h9 => by have := hfr _ h9; omega) fun v n hv => hv.chg c7) ?_ hp7 ?_ (fun x hx => ?_) (fun h9 => ?_) (Nat.lt_of_lt_of_le hlt6 c7.1) (c07.mono (by omega) fun _ h9 => h9)
      · obtain ⟨lr, v3, mc, w, v0, v1, v2, i1, i2⟩ := i6
        exact ⟨lr, v3, mc, w, v0, v1, v2, c7.2.2.2.2 _ _ i1 (show KX 30 from by decide) hnit, c7.2.2.2.2 _ _ i2 (show KX 29 from by decide) fun h9 => by have := hfr _ h9; omega⟩
      · obtain ⟨g1, g2⟩ := List.getElem?_eq_some_iff.mp hrk
        rw [List.take_succ_eq_append_getElem g1, g2]
        exact (List.Perm.cons m hacc).trans (List.perm_append_comm (l₁ := [m]))
      · rcases f7 x hx with h9 | h9
        · exact hfr x h9
        · have := c06.1; omega
      · rcases f7 _ h9 with h8 | h8
        · exact hnit h8
        · omega
  refine loop es.length 0 h5 FA [] _ rfl (h2A.chg c5 (fun h9 => h9) (fun h9 => h9) fun v n hv => hv.chg c5) i5 (hpA.chg c5 fun _ _ h9 => h9) (List.Perm.refl _) hfA (fun h9 => ?_) (by omega) ((cn c2 c5 fun _ h9 => h9.elim).mono (by omega) fun _ h9 => h9)
  have := hpA.low hwA _ h9
  omega
end
