/-! queues of numbers: remove; stones that are alike -/
set_option maxRecDepth 100000
section
variable {G : GL} {h : AH} {a arr : Nat} {es : List VI} {Qx : Nat → AH → Prop}
theorem s_intEq {q m n : Nat} {v : Value} {K : Int32 → AH → Prop} (hm : m < 1000000) (hn : n < 1000000) (h1 : IntO h (.ref q) (i32 m)) (h2 : IntO h v (i32 n)) (HK : K (b01 (decide (m = n))) h) {d : Nat} : vL G (d + 2) h q dsp_Object_equals [.ref q, v] (cI K Qx) := by
  obtain ⟨r, e1, e2⟩ := h1
  cases e1
  obtain ⟨r', rfl, f2⟩ := h2
  refine ⟨13, mi_Integer_equals, ⟨false, _, e2⟩, rfl, ?_⟩
  show MF G (d + 2) mi_Integer_equals 0 [.ref q, .ref r'] [] h (cI K Qx)
  have hc : isC h r' "java/lang/Integer" := ⟨13, false, _, f2, ck_13⟩
  refine b_Integer_equals_0 rfl ⟨1, Or.inr (Or.inl ⟨r', rfl, hc, rfl⟩), fun h9 => absurd h9 (by decide), fun _ => gI_of e2 (by simp) rfl ⟨fun q9 h9 => by cases h9; exact hc, dR_of ⟨hasKs_of f2 (by simp), b_Integer_intValue_0 (gI_of f2 (by simp) rfl (cI_mk ⟨fun hne => cI_mk ?_, fun he => cI_mk ?_⟩))⟩⟩⟩
  · rw [decide_eq_false (fun e => hne (by rw [e]))] at HK; exact HK
  · rw [decide_eq_true ((i32_eq (by omega) (by omega)).mp he)] at HK; exact HK
theorem s_pqRemove (hp : PQh EI h a arr es) {m : Nat} {v : Value} (hm : m < 1000000) (hv : IntO h v (i32 m)) (hex : ∃ y : VI, y ∈ es ∧ y.2 = (m : Int)) {K : Int32 → AH → Prop} (HK : ∀ h' es', PQh EI h' a arr es' → (∃ y : VI, y.2 = (m : Int) ∧ es.Perm (y :: es')) → Chg 0 (Fpq a arr) h h' → K 1 h') : MF G 7 mi_PriorityQueue_remove 0 [.ref a, v, .retAddr 0] [] h (cI K Qx) := by
  have hp0 := hp
  obtain ⟨mc, sl, ha, hr, h130, hle, h1, hS, hnull, hE, hH⟩ := hp
  have hks : hasKs h a [29] := hasKs_of ha (by simp)
  obtain ⟨rv, rfl, ev⟩ := hv
  refine b_PriorityQueue_remove_0 rfl ⟨hks, b_PriorityQueue_indexOf_0 rfl ⟨fun h9 => (by cases h9), fun q1 hq1 => gR_of ha (by simp) rfl rfl (gI_of ha (by simp) rfl ?_)⟩⟩
  cases hq1
  have found : ∀ i, i < es.length → ∀ y : VI, es[i]? = some y → y.2 = (m : Int) → cI (fun y1 h1 => ((¬ y1 = (-1) → (hasKs h1 a [29] ∧ MF G 6 mi_PriorityQueue_removeAt 0 [.ref a, .int y1, .retAddr 0, .retAddr 0, .retAddr 0] [] h1 (cR (fun v3 h3 => cI K Qx (.inl (some (.int 1))) h3) (fun q9 h9 => cI K Qx (.inr q9) h9)))) ∧ (y1 = (-1) → cI K Qx (.inl (some (.int 0))) h1))) (fun q9 h9 => cI K Qx (.inr q9) h9) (.inl (some (.int (i32 i)))) h := by
    intro i hi y hy hym
    refine cI_mk ⟨fun _ => ⟨hks, s_pqRemAt hp0 hi fun v3 h' _ hp' hc' => cI_mk (HK h' _ hp' ⟨y, hym, pqRem_perm (EI.inj hE) hy⟩ hc')⟩, fun he => ?_⟩
    have := i32_nn (n := i) (by omega)
    rw [he] at this
    exact absurd this (by decide)
  have loop : ∀ r i, r + i = es.length → (∃ j y, i ≤ j ∧ es[j]? = some y ∧ y.2 = (m : Int)) → MF G 6 mi_PriorityQueue_indexOf 17 [.ref a, .ref rv, .ref arr, .int (i32 i), .int (i32 es.length)] [] h (cI (fun y1 h1 => ((¬ y1 = (-1) → (hasKs h1 a [29] ∧ MF G 6 mi_PriorityQueue_removeAt 0 [.ref a, .int y1, .retAddr 0, .retAddr 0, .retAddr 0] [] h1 (cR (fun v3 h3 => cI K Qx (.inl (some (.int 1))) h3) (fun q9 h9 => cI K Qx (.inr q9) h9)))) ∧ (y1 = (-1) → cI K Qx (.inl (some (.int 0))) h1))) (fun q9 h9 => cI K Qx (.inr q9) h9)) := by
    intro r
    induction r with
    | zero =>
      rintro i hi ⟨j, y, hj, hy, -⟩
      have := (List.getElem?_eq_some_iff.mp hy).1
      omega
    | succ r ih =>
      rintro i hi ⟨j, y, hj, hy, hym⟩
      have hx := List.getElem?_eq_getElem (l := es) (i := i) (by omega)
      have hEx := hE _ (List.mem_of_getElem? hx)
      generalize es[i] = x at *
      obtain ⟨mx, hmx, emx, hix⟩ := hEx
      refine b_PriorityQueue_indexOf_17 rfl rfl ⟨fun hn => absurd ((i32_le (by omega) (by omega)).mp hn) (by omega), fun _ => dR_of (aR_of hr (i32_nn (by omega)) (by rw [i32_nat (by omega)]; exact hS i x hx) hix.isRef (dR_of (s_intEq hm hmx ⟨rv, rfl, ev⟩ hix ⟨fun hz => ?_, fun hnz => ?_⟩)))⟩
      · have hne : ¬ m = mx := of_decide_eq_false (b01_0 hz)
        rw [i32_succ]
        refine ih (i + 1) (by omega) ⟨j, y, ?_, hy, hym⟩
        by_cases e : i = j
        · subst e
          rw [hx] at hy
          cases hy
          omega
        · omega
      · have he : m = mx := of_decide_eq_true (b01_1 hnz)
        exact found i (by omega) x hx (by rw [emx, he])
  obtain ⟨y, hy, hym⟩ := hex
  obtain ⟨j, hj⟩ := List.mem_iff_getElem?.mp hy
  exact loop es.length 0 rfl ⟨j, y, Nat.zero_le _, hj, hym⟩
end
/-- stones that are alike at al: what was paid for them; its cells F -/
def Alk (h : AH) (al : Nat) (ms : List Nat) (F : Nat → Prop) : Prop := ∃ (q arr : Nat) (es : List VI), h.1 al = some (4, true, [.ref q]) ∧ PQh EI h q arr es ∧ (es.map fun x => x.2).Perm (ms.map fun m : Nat => (m : Int)) ∧ al ≠ q ∧ al ≠ arr ∧ ∀ x, F x ↔ (x = al ∨ x = q ∨ x = arr)
theorem Alk.chg {h h' : AH} {al c : Nat} {ms : List Nat} {F F' : Nat → Prop} (hp : Alk h al ms F) (hc : Chg c F' h h') (hd : ∀ x, F x → ¬ F' x) : Alk h' al ms F := by
  obtain ⟨q, arr, es, h1, h2, h3, h4, h5, h6⟩ := hp
  exact ⟨q, arr, es, hc.2.2.2.2 _ _ h1 (show KX 4 from by decide) (hd _ ((h6 _).mpr (Or.inl rfl))), h2.chg hc (hd _ ((h6 _).mpr (Or.inr (Or.inl rfl)))) (hd _ ((h6 _).mpr (Or.inr (Or.inr rfl)))) (fun v n hv => hv.chg hc), h3, h4, h5, h6⟩
theorem Alk.perm {h : AH} {al : Nat} {ms ms' : List Nat} {F : Nat → Prop} (hp : Alk h al ms F) (hm : ms.Perm ms') : Alk h al ms' F := by
  obtain ⟨q, arr, es, h1, h2, h3, h4⟩ := hp
  exact ⟨q, arr, es, h1, h2, h3.trans (hm.map _), h4⟩
theorem Alk.low {h : AH} {al : Nat} {ms : List Nat} {F : Nat → Prop} (hp : Alk h al ms F) (hw : WFh h) : ∀ x, F x → x < h.2.1 := by
  obtain ⟨q, arr, es, h1, ⟨mc, sl, h2, h3, -⟩, -, -, -, h6⟩ := hp
  intro x hx
  rcases (h6 x).mp hx with rfl | rfl | rfl
  · exact hw _ _ h1
  · exact hw _ _ h2
  · exact hw _ _ h3
/-- footprint grown by fresh cells alone -/
def Fgr (h : AH) (F F' : Nat → Prop) : Prop := ∀ x, F' x → F x ∨ h.2.1 ≤ x
section
variable {G : GL} {h : AH} {al : Nat} {ms : List Nat} {F : Nat → Prop} {Qx : Nat → AH → Prop}
theorem Alk.len (hp : Alk h al ms F) : ∃ (q arr : Nat) (es : List VI), h.1 al = some (4, true, [.ref q]) ∧ PQh EI h q arr es ∧ es.length = ms.length := by
  obtain ⟨q, arr, es, h1, h2, h3, -⟩ := hp
  exact ⟨q, arr, es, h1, h2, by have := h3.length_eq; simpa using this⟩
theorem s_alkMany {d : Nat} {K : Int32 → AH → Prop} (hp : Alk h al ms F) (HK : K (i32 ms.length) h) : MF G (d + 1) mi_Alike_many 0 [.ref al] [] h (cI K Qx) := by
  obtain ⟨q, arr, es, h1, h2, h3⟩ := hp.len
  have hq : hasKs h q [29] := by obtain ⟨mc, sl, ha, -⟩ := h2; exact hasKs_of ha (by simp)
  refine b_Alike_many_0 (gR_of h1 (by simp) rfl rfl (dR_of ⟨hq, s_pqSize h2 ?_⟩))
  rw [h3]
  exact cI_mk HK
theorem s_alkInit {K : AH → Prop} (ha : h.1 al = some (4, true, [.null])) (hroom : 23 ≤ h.2.2) (HK : ∀ h' F', Alk h' al [] F' → Chg 23 (fun q => q = al) h h' → (∀ x, F' x → x = al ∨ h.2.1 ≤ x) → K h') : MF G 6 mi_Alike_init 0 [.ref al] [] h (cV K Qx) := by
  refine MF.wfh fun hw => b_Alike_init_0 ⟨_, _, rfl, rfl, by omega, ?_⟩
  have hal : al < h.2.1 := hw _ _ ha
  have c1 := Chg.new (kd := 29) (fs := [.null, .int 0, .null, .int 0]) (cost := 8) hw (by omega)
  refine s_pqInit (Eh := EI) (d := 1) AH.new_self (by show 15 ≤ h.2.2 - 8; omega) fun h2 hp c2 e2 => ?_
  have ha2 : h2.1 al = some (4, true, [.null]) := by
    refine c2.2.2.2.2 _ _ ?_ (show KX 4 from by decide) (by show ¬ al = h.2.1; omega)
    rw [AH.new_ne (by omega)]; exact ha
  have c12 := c1.trans c2 (F := F0s) fun q x e h9 => by have := hw _ _ e; omega
  have e3 : (h.new 29 [.null, .int 0, .null, .int 0] 8).2.1 = h.2.1 + 1 := rfl
  have c3 := Chg.put (F := fun q => q = al) (fs' := [.ref h.2.1]) ha2 (by decide) rfl
  refine pF_of ha2 (by simp) (by simp) (cV_mk (HK _ (fun x => x = al ∨ x = h.2.1 ∨ x = h.2.1 + 1) ⟨h.2.1, h.2.1 + 1, [], AH.put_self ha2, ?_, List.Perm.refl _, by omega, by omega, fun x => Iff.rfl⟩ ?_ fun x hx => ?_))
  · rw [e3] at hp
    exact hp.chg c3 (by show ¬ h.2.1 = al; omega) (by show ¬ h.2.1 + 1 = al; omega) fun v n hv => hv.chg c3
  · exact ((c12.mono (F' := fun q => q = al) (Nat.le_refl _) fun _ h9 => h9.elim).same c3).mono (by omega) fun _ h9 => h9
  · rcases hx with h9 | h9 | h9
    · exact Or.inl h9
    · exact Or.inr (by omega)
    · exact Or.inr (by omega)
theorem s_alkComes {m : Nat} {K : AH → Prop} (hI : ICache G h) (hp : Alk h al ms F) (hm : m < 1000000) (h61 : ms.length ≤ 61) (hroom : 150 ≤ h.2.2) (HK : ∀ h' F', Alk h' al (m :: ms) F' → Chg 150 F h h' → Fgr h F F' → K h') : MF G 9 mi_Alike_comes 0 [.ref al, .int (i32 m), .retAddr 0] [] h (cV K Qx) := by
  have hp0 := hp
  obtain ⟨q, arr, es, h1, h2, h3, h4, h5, h6⟩ := hp
  have hlen : es.length = ms.length := by have := h3.length_eq; simpa using this
  refine MF.wfh fun hw => b_Alike_comes_0 (gR_of h1 (by simp) rfl rfl (s_valueOf (d := 5) hm hI (by omega) fun v h' hv c1 _ => dR_of ?_))
  have h2' : PQh EI h' q arr es := h2.chg c1 (fun h9 => h9) (fun h9 => h9) fun v n hv => hv.chg c1
  have h1' : h'.1 al = some (4, true, [.ref q]) := c1.2.2.2.2 _ _ h1 (show KX 4 from by decide) fun h9 => h9
  have hq : hasKs h' q [29] := by obtain ⟨mc, sl, ha, -⟩ := h2'; exact hasKs_of ha (by simp)
  refine ⟨hq, s_pqAdd (d := 3) (x := (v, (m : Int))) cmpI h2' trivial trivial (fun _ _ => trivial) ⟨m, hm, rfl, hv⟩ (by omega) (by have := c1.2.1; omega) fun h2 arr' hp' c2 ha' => cV_mk ?_⟩
  have hqa : ∀ x, Fpq q arr x → F x := fun x hx => (h6 x).mpr (Or.inr hx)
  have c12 := c1.mono (c' := 5) (F' := F) (Nat.le_refl _) (fun _ h9 => h9.elim) |>.same (c2.mono (F' := F) (Nat.le_refl _) hqa)
  have hal2 : ¬ Fpq q arr al := by
    rintro (h9 | h9)
    · exact h4 h9
    · exact h5 h9
  have hwl := hp0.low hw
  have hal : al < h.2.1 := hwl al ((h6 al).mpr (Or.inl rfl))
  have hla : al ≠ arr' := by
    rcases ha' with h9 | h9
    · rw [h9]; exact h5
    · have := c1.1; omega
  refine HK h2 (fun x => x = al ∨ x = q ∨ x = arr') ⟨q, arr', _, c2.2.2.2.2 _ _ h1' (show KX 4 from by decide) hal2, hp', ?_, h4, hla, fun x => Iff.rfl⟩ (c12.mono (by omega) fun _ h9 => h9) fun x hx => ?_
  · have p1 := (pqUp_perm (key := rkV) es.length (es ++ [(v, (m : Int))]) es.length (v, (m : Int)) (by simp)).map fun x : VI => x.2
    have hset : (es ++ [(v, (m : Int))]).set es.length (v, (m : Int)) = es ++ [(v, (m : Int))] := by
      rw [List.set_append_right _ _ (Nat.le_refl _), Nat.sub_self]; rfl
    rw [hset, List.map_append] at p1
    refine p1.trans ?_
    refine (List.perm_append_comm).trans ?_
    exact List.Perm.cons _ h3
  · rcases hx with h9 | h9 | h9
    · exact Or.inl ((h6 x).mpr (Or.inl h9))
    · exact Or.inl ((h6 x).mpr (Or.inr (Or.inl h9)))
    · rcases ha' with h8 | h8
      · exact Or.inl ((h6 x).mpr (Or.inr (Or.inr (h9.trans h8))))
      · exact Or.inr (by have := c1.1; omega)
end
