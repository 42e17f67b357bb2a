/-! array lists -/
set_option maxRecDepth 100000
theorem isC.put {h : AH} {q a : Nat} {fs' : List Value} {nm : String} (hi : isC h q nm) : isC (h.put a fs') q nm := by
  obtain ⟨k, w, f, h1, h2⟩ := hi
  by_cases e : q = a
  · subst e; exact ⟨k, w, fs', AH.put_self h1, h2⟩
  · exact ⟨k, w, f, by rw [AH.put_ne e]; exact h1, h2⟩
/-- an object at q that is no text -/
def isO (h : AH) (q : Nat) : Prop := ∃ (kd : Nat) (w : Bool) (fs : List Value), h.1 q = some (kd, w, fs) ∧ KX kd ∧ CastK kd "java/lang/Object"
theorem isO.isC {h : AH} {q : Nat} (hi : isO h q) : isC h q "java/lang/Object" := by
  obtain ⟨k, w, f, h1, h2, h3⟩ := hi
  exact ⟨k, w, f, h1, h3⟩
theorem isO.put {h : AH} {q a : Nat} {fs' : List Value} (hi : isO h q) : isO (h.put a fs') q := by
  obtain ⟨k, w, f, h1, h2⟩ := hi
  by_cases e : q = a
  · subst e; exact ⟨k, w, fs', AH.put_self h1, h2⟩
  · exact ⟨k, w, f, by rw [AH.put_ne e]; exact h1, h2⟩
theorem isO.chg {h h' : AH} {q c : Nat} {F : Nat → Prop} (hi : isO h q) (hc : Chg c F h h') (hF : ¬ F q) : isO h' q := by
  obtain ⟨k, w, f, h1, h2, h3⟩ := hi
  exact ⟨k, w, f, hc.2.2.2.2 _ _ h1 h2 hF, h2, h3⟩
theorem isO.fz {h h' : AH} {q c k : Nat} {f : List Value} {F : Nat → Prop} (h1 : h.1 q = some (k, false, f)) (h2 : KX k) (h3 : CastK k "java/lang/Object") (hc : Chg c F h h') : isO h' q := ⟨k, false, f, hc.2.2.1 _ _ _ h1, h2, h3⟩
theorem i32_sar1 : ∀ k, k < 128 → (i32 k) >>> (1 &&& 31 : Int32) = i32 (k / 2) := by decide +kernel
/-- an array list at a of cap places holds vs; its cells F -/
def ALh (G : GL) (h : AH) (a cap : Nat) (vs : List Value) (F : Nat → Prop) : Prop := ∃ (arr : Nat) (mc : Int32) (w : Bool) (sl : List Value), h.1 a = some (16, true, [.int mc, .ref arr, .int (i32 vs.length)]) ∧ h.1 arr = some (104, w, sl) ∧ sl.length = cap ∧ cap ≤ 100 ∧ vs.length ≤ cap ∧ (∀ (i : Nat) (v : Value), vs[i]? = some v → sl[i]? = some v) ∧ (w = true → 0 < cap) ∧ (w = false → cap = 0 ∧ G.sta 22 = .ref arr) ∧ ∀ x, F x ↔ (x = a ∨ (x = arr ∧ w = true))
theorem ALh.chg {G : GL} {h h' : AH} {a cap c : Nat} {vs : List Value} {F F' : Nat → Prop} (hp : ALh G h a cap vs F) (hc : Chg c F' h h') (hd : ∀ x, F x → ¬ F' x) : ALh G h' a cap vs F := by
  obtain ⟨arr, mc, w, sl, h1, h2, h3, h4, h5, h6, h7, h8, h9⟩ := hp
  refine ⟨arr, mc, w, sl, hc.2.2.2.2 _ _ h1 (show KX 16 from by decide) (hd _ ((h9 a).mpr (Or.inl rfl))), ?_, h3, h4, h5, h6, h7, h8, h9⟩
  cases w with
  | false => exact hc.2.2.1 _ _ _ h2
  | true => exact hc.2.2.2.2 _ _ h2 (show KX 104 from by decide) (hd _ ((h9 arr).mpr (Or.inr ⟨rfl, rfl⟩)))
theorem ALh.low {G : GL} {h : AH} {a cap : Nat} {vs : List Value} {F : Nat → Prop} (hp : ALh G h a cap vs F) (hw : WFh h) : ∀ x, F x → x < h.2.1 := by
  obtain ⟨arr, mc, w, sl, h1, h2, h3, h4, h5, h6, h7, h8, h9⟩ := hp
  intro x hx
  rcases (h9 x).mp hx with rfl | ⟨rfl, -⟩
  · exact hw _ _ h1
  · exact hw _ _ h2
theorem ALh.has {G : GL} {h : AH} {a cap : Nat} {vs : List Value} {F : Nat → Prop} {ks : List Nat} (hp : ALh G h a cap vs F) (hk : 16 ∈ ks) : hasKs h a ks := by
  obtain ⟨arr, mc, w, sl, h1, -⟩ := hp
  exact hasKs_of h1 hk
theorem ALh.hk {G : GL} {h : AH} {a cap : Nat} {vs : List Value} {F : Nat → Prop} (hp : ALh G h a cap vs F) : hasK h a 16 := by
  obtain ⟨arr, mc, w, sl, h1, -⟩ := hp
  exact ⟨_, _, h1⟩
theorem ALh.self {G : GL} {h : AH} {a cap : Nat} {vs : List Value} {F : Nat → Prop} (hp : ALh G h a cap vs F) : F a := by
  obtain ⟨arr, mc, w, sl, h1, h2, h3, h4, h5, h6, h7, h8, h9⟩ := hp
  exact (h9 a).mpr (Or.inl rfl)
section
variable {G : GL} {d : Nat} {h : AH} {a cap : Nat} {vs : List Value} {F : Nat → Prop} {Qx : Nat → AH → Prop}
theorem s_alInit {n : Nat} {K : AH → Prop} (h0n : 0 < n) (hn : n ≤ 100) (ha : h.1 a = some (16, true, [.int 0, .null, .int 0])) (hroom : n + 4 ≤ h.2.2) (HK : ∀ h' F', ALh G h' a n [] F' → Chg (n + 4) (fun q => q = a) h h' → (∀ x, F' x → x = a ∨ h.2.1 ≤ x) → K h') : MF G (d + 3) mi_ArrayList_init 0 [.ref a, .int (i32 n)] [] h (cV K Qx) := by
  refine MF.wfh fun hw => b_ArrayList_init_0 (b_AbstractList_init_0 (b_AbstractCollection_init_0 (cV_mk (pF_of ha (by simp) (by simp) (cV_mk ⟨fun hle => absurd ((i32_le (b := 0) (by omega) (by omega)).mp hle) (by omega), fun _ => ?_⟩)))))
  have ha1 := AH.put_self (fs' := [.int 0, .null, .int 0]) ha
  have hne : a ≠ h.2.1 := by have := hw _ _ ha; omega
  have ha2 : ((h.put a [.int 0, .null, .int 0]).new 104 (List.replicate n .null) (n + 4)).1 a = some (16, true, [.int 0, .null, .int 0]) := by rw [AH.new_ne (by exact hne)]; exact ha1
  refine ⟨_, _, rfl, rfl, i32_nn (by omega), by rw [i32_nat (by omega)]; omega, by rw [i32_nat (by omega)]; exact hroom, ?_⟩
  rw [i32_nat (by omega)]
  have c1 := Chg.put (F := fun q => q = a) (fs' := [.int 0, .null, .int 0]) ha (by decide) rfl
  have c2 := Chg.new (h := h.put a [.int 0, .null, .int 0]) (kd := 104) (fs := List.replicate n .null) (cost := n + 4) hw.put hroom
  have c3 := Chg.put (F := fun q => q = a) (fs' := [.int 0, .ref h.2.1, .int 0]) ha2 (by decide) rfl
  refine pF_of ha2 (by simp) (by simp) (cV_mk (HK _ (fun x => x = a ∨ (x = h.2.1 ∧ true = true)) ⟨h.2.1, 0, true, List.replicate n .null, AH.put_self ha2, ?_, by simp, hn, Nat.zero_le _, fun i v hv => by simp at hv, fun _ => h0n, (fun e => by cases e), fun x => Iff.rfl⟩ ?_ fun x hx => ?_))
  · show ((_ : AH).put a _).1 _ = _
    rw [AH.put_ne (Ne.symm hne)]
    exact AH.new_self
  · exact ((c1.trans0 c2).same c3).mono (by omega) fun _ h9 => h9
  · rcases hx with h9 | ⟨h9, -⟩
    · exact Or.inl h9
    · exact Or.inr (by omega)
/-- the array that all empty lists share -/
def EmpA (G : GL) (h : AH) : Prop := ∃ q, G.sta 22 = .ref q ∧ h.1 q = some (104, false, [])
theorem EmpA.chg {h' : AH} {c : Nat} (he : EmpA G h) (hc : Chg c F h h') : EmpA G h' := by
  obtain ⟨q, e1, e2⟩ := he
  exact ⟨q, e1, hc.2.2.1 _ _ _ e2⟩
theorem s_alInit0 {K : AH → Prop} (he : EmpA G h) (ha : h.1 a = some (16, true, [.int 0, .null, .int 0])) (HK : ∀ h', ALh G h' a 0 [] (fun x => x = a) → Chg 0 (fun q => q = a) h h' → K h') : MF G (d + 3) mi_ArrayList_init_2 0 [.ref a] [] h (cV K Qx) := by
  obtain ⟨q, e1, e2⟩ := he
  have ha1 := AH.put_self (fs' := [.int 0, .null, .int 0]) ha
  have c1 := Chg.put (F := fun q => q = a) (fs' := [.int 0, .null, .int 0]) ha (by decide) rfl
  have c3 := Chg.put (F := fun q => q = a) (fs' := [.int 0, .ref q, .int 0]) ha1 (by decide) rfl
  refine b_ArrayList_init_2_0 (b_AbstractList_init_0 (b_AbstractCollection_init_0 (cV_mk (pF_of ha (by simp) (by simp) (cV_mk ⟨by rw [e1]; rfl, ?_⟩)))))
  rw [e1]
  refine pF_of ha1 (by simp) (by simp) (cV_mk (HK _ ⟨q, 0, false, [], AH.put_self ha1, (c1.same c3).2.2.1 _ _ _ e2, rfl, by omega, Nat.le_refl _, fun i v hv => by simp at hv, (fun e => by cases e), fun _ => ⟨rfl, e1⟩, fun x => by simp⟩ (c1.same c3)))
theorem s_alSize {K : Int32 → AH → Prop} (hp : ALh G h a cap vs F) (HK : K (i32 vs.length) h) : MF G d mi_ArrayList_size 0 [.ref a] [] h (cI K Qx) := by
  obtain ⟨arr, mc, w, sl, h1, -⟩ := hp
  exact b_ArrayList_size_0 (gI_of h1 (by simp) rfl (cI_mk HK))
theorem s_alGet {i : Nat} {v : Value} {K : Value → AH → Prop} (hp : ALh G h a cap vs F) (hi : vs[i]? = some v) (hv : v.isRef = true) (HK : K v h) : MF G (d + 3) mi_ArrayList_get 0 [.ref a, .int (i32 i)] [] h (cR K Qx) := by
  obtain ⟨arr, mc, w, sl, h1, h2, h3, h4, h5, h6, -⟩ := hp
  have hl := (List.getElem?_eq_some_iff.mp hi).1
  refine b_ArrayList_get_0 (gI_of h1 (by simp) rfl (b_Objects_checkIndex_0 (b_Preconditions_checkIndex_0 rfl ⟨fun h9 => absurd h9 (i32_nn (by omega)), fun _ => ⟨fun _ => cI_mk (cI_mk ⟨hasKs_of h1 (by simp), b_ArrayList_elementData_0 (gR_of h1 (by simp) rfl rfl (dR_of (aR_of h2 (i32_nn (by omega)) (by rw [i32_nat (by omega)]; exact h6 i v hi) hv (cR_mk hv (cR_mk hv HK)))))⟩), fun h9 => absurd ((i32_lt (by omega) (by omega)).mpr hl) h9⟩⟩)))
theorem s_alAdd {q : Nat} {K : Int32 → AH → Prop} (hp : ALh G h a cap vs F) (ho : isO h q) (h60 : vs.length ≤ 60) (hE : vs.length = cap → ∀ v, v ∈ vs → ∃ r, v = .ref r ∧ isO h r) (hroom : 110 ≤ h.2.2) (HK : ∀ h' cap' F', ALh G h' a cap' (vs ++ [.ref q]) F' → Chg 110 F h h' → Fgr h F F' → (vs.length < cap → cap' = cap) → K 1 h') : MF G (d + 6) mi_ArrayList_add 0 [.ref a, .ref q] [] h (cI K Qx) := by
  obtain ⟨arr, mc, w, sl, h1, h2, h3, h4, h5, h6, h7, h8, h9⟩ := hp
  have hF : F a := (h9 a).mpr (Or.inl rfl)
  have hne : arr ≠ a := fun e => by subst e; rw [h1] at h2; cases h2
  have i1 := AH.put_self (fs' := [.int (mc + 1), .ref arr, .int (i32 vs.length)]) h1
  have c1 := Chg.put (F := F) (fs' := [.int (mc + 1), .ref arr, .int (i32 vs.length)]) h1 (by decide) hF
  have i2 : (h.put a [.int (mc + 1), .ref arr, .int (i32 vs.length)]).1 arr = some (104, w, sl) := by rw [AH.put_ne hne]; exact h2
  have ho1 := ho.put (a := a) (fs' := [.int (mc + 1), .ref arr, .int (i32 vs.length)])
  have hE1 : vs.length = cap → ∀ v, v ∈ vs → ∃ r, v = .ref r ∧ isO (h.put a [.int (mc + 1), .ref arr, .int (i32 vs.length)]) r := fun e v hv => by
    obtain ⟨r, e1, e2⟩ := hE e v hv
    exact ⟨r, e1, e2.put⟩
  refine MF.wfh fun hw => b_ArrayList_add_0 rfl (gI_of h1 (by simp) rfl (pF_of h1 (by simp) (by simp) (gR_of i1 (by simp) rfl rfl (gI_of i1 (by simp) rfl ⟨hasKs_of i1 (by simp), b_ArrayList_add_2_0 rfl rfl (dR_of (aL_of i2 ⟨fun hlt => dR_of ?_, fun heq => ?_⟩))⟩))))
  · have hlt' : vs.length < cap := by
      have : ¬ vs.length = sl.length := fun e => hlt (by rw [e]; rfl)
      omega
    have hw1 : w = true := by
      cases w with
      | true => rfl
      | false => have := (h8 rfl).1; omega
    subst hw1
    refine ⟨ho1.isC, pA_of i2 (i32_nn (by omega)) (by rw [i32_nat (by omega)]; omega) ?_⟩
    rw [i32_nat (by omega)]
    have c2 := Chg.put (F := F) (fs' := sl.set vs.length (.ref q)) i2 (by decide) ((h9 arr).mpr (Or.inr ⟨rfl, rfl⟩))
    have j1 : ((h.put a [.int (mc + 1), .ref arr, .int (i32 vs.length)]).put arr (sl.set vs.length (.ref q))).1 a = some (16, true, [.int (mc + 1), .ref arr, .int (i32 vs.length)]) := by rw [AH.put_ne (Ne.symm hne)]; exact i1
    have c3 := Chg.put (F := F) (fs' := [.int (mc + 1), .ref arr, .int (i32 (vs.length + 1))]) j1 (by decide) hF
    refine pF_of j1 (by simp) (by simp) (cV_mk (cI_mk ?_))
    rw [i32_succ]
    refine HK _ cap F ⟨arr, mc + 1, true, sl.set vs.length (.ref q), ?_, ?_, by rw [List.length_set]; exact h3, h4, by rw [List.length_append, List.length_singleton]; omega, fun i v hv => ?_, h7, (fun e => by cases e), h9⟩ (((c1.same c2).same c3).mono (by omega) fun _ h9 => h9) (fun x hx => Or.inl hx) fun _ => rfl
    · rw [List.length_append, List.length_singleton]
      exact AH.put_self j1
    · show ((_ : AH).put a _).1 arr = _
      rw [AH.put_ne hne]
      exact AH.put_self i2
    · by_cases e : i = vs.length
      · subst e
        rw [List.getElem?_append_right (Nat.le_refl _), Nat.sub_self] at hv
        cases hv
        rw [List.getElem?_set_self (by omega)]
      · have hl := (List.getElem?_eq_some_iff.mp hv).1
        rw [List.length_append, List.length_singleton] at hl
        rw [List.getElem?_append_left (by omega)] at hv
        rw [List.getElem?_set_ne (Ne.symm e)]
        exact h6 i v hv
  · have heq' : vs.length = cap := by
      have := (i32_eq (a := vs.length) (b := sl.length) (by omega) (by omega)).mp heq
      omega
    -- behind grow: a new array n at which the old slots stand
    have fin : ∀ (h7' : AH) (n : Nat) (sl' : List Value), Chg 104 F (h.put a [.int (mc + 1), .ref arr, .int (i32 vs.length)]) h7' → n ≠ a → h.2.1 ≤ n → h7'.1 n = some (104, true, sl') → h7'.1 a = some (16, true, [.int (mc + 1), .ref n, .int (i32 vs.length)]) → vs.length < sl'.length → sl'.length ≤ 100 → (∀ (i : Nat) (v : Value), vs[i]? = some v → sl'[i]? = some v) → isO h7' q → (isC h7' q "java/lang/Object" ∧ pA h7' n 104 (i32 vs.length) (.ref q) fun h9 => pF h9 a [16] 2 (.int (i32 (vs.length + 1))) fun h11 => cV (fun h5 => cI K Qx (.inl (some (.int 1))) h5) (fun q9 h9 => cI K Qx (.inr q9) h9) (.inl none) h11) := by
      intro h7' n sl' cg hna hn hn1 hn2 hl hl2 hs hoc
      refine ⟨hoc.isC, pA_of hn1 (i32_nn (by omega)) (by rw [i32_nat (by omega)]; omega) ?_⟩
      rw [i32_nat (by omega)]
      have c2 := Chg.put (F := fun x => x = n) (fs' := sl'.set vs.length (.ref q)) hn1 (by decide) rfl
      have j1 : (h7'.put n (sl'.set vs.length (.ref q))).1 a = some (16, true, [.int (mc + 1), .ref n, .int (i32 vs.length)]) := by rw [AH.put_ne (Ne.symm hna)]; exact hn2
      have c3 := Chg.put (F := F) (fs' := [.int (mc + 1), .ref n, .int (i32 (vs.length + 1))]) j1 (by decide) hF
      refine pF_of j1 (by simp) (by simp) (cV_mk (cI_mk ?_))
      have c12 := (c1.same cg).trans c2 (F := F) fun x y e h9' => by have := hw _ _ e; omega
      refine HK _ sl'.length (fun x => x = a ∨ (x = n ∧ true = true)) ⟨n, mc + 1, true, sl'.set vs.length (.ref q), ?_, ?_, by rw [List.length_set], hl2, by rw [List.length_append, List.length_singleton]; omega, fun i v hv => ?_, fun _ => by omega, (fun e => by cases e), fun x => Iff.rfl⟩ ((c12.same c3).mono (by omega) fun _ h9 => h9) (fun x hx => ?_) fun h9' => absurd h9' (by omega)
      · rw [List.length_append, List.length_singleton]
        exact AH.put_self j1
      · show ((_ : AH).put a _).1 n = _
        rw [AH.put_ne hna]
        exact AH.put_self hn1
      · by_cases e : i = vs.length
        · subst e
          rw [List.getElem?_append_right (Nat.le_refl _), Nat.sub_self] at hv
          cases hv
          rw [List.getElem?_set_self (by omega)]
        · have hl3 := (List.getElem?_eq_some_iff.mp hv).1
          rw [List.length_append, List.length_singleton] at hl3
          rw [List.getElem?_append_left (by omega)] at hv
          rw [List.getElem?_set_ne (Ne.symm e)]
          exact hs i v hv
      · rcases hx with h9' | ⟨h9', -⟩
        · exact Or.inl ((h9 x).mpr (Or.inl h9'))
        · exact Or.inr (by omega)
    have hal : a < h.2.1 := hw _ _ h1
    have harl : arr < h.2.1 := hw _ _ h2
    refine ⟨hasKs_of i1 (by simp), b_ArrayList_grow_0 (gI_of i1 (by simp) rfl ⟨hasKs_of i1 (by simp), b_ArrayList_grow_2_0 (gR_of i1 (by simp) rfl rfl (dR_of (aL_of i2 ⟨fun hpos => ?_, fun hzero => ?_⟩)))⟩)⟩
    · have hpos' : 0 < sl.length := (i32_lt (a := 0) (b := sl.length) (by omega) (by omega)).mp hpos
      rw [i32_succ]
      refine b_ArrayList_grow_2_20 ?_
      have e1 : i32 (vs.length + 1) - Int32.ofNat sl.length = i32 1 := by
        show i32 (vs.length + 1) - i32 sl.length = i32 1
        rw [i32_sub (by omega)]; congr 1; omega
      have e2 : (Int32.ofNat sl.length : Int32) >>> (1 &&& 31) = i32 (sl.length / 2) := by
        show (i32 sl.length) >>> (1 &&& 31) = _
        exact i32_sar1 _ (by omega)
      rw [e1, e2]
      refine s_newLength (by omega) (by omega) (by omega) (by omega) (gR_of i1 (by simp) rfl rfl (s_copyOfO i2 (by omega) (by omega) (fun v hv => ?_) (by show _ ≤ h.2.2; omega) fun h2' g1 g2 g3 g4 => ?_))
      · obtain ⟨i, hi⟩ := List.mem_iff_getElem?.mp hv
        have hil := (List.getElem?_eq_some_iff.mp hi).1
        have hvi := List.getElem?_eq_getElem (l := vs) (i := i) (by omega)
        have hsi := h6 i _ hvi
        rw [hi] at hsi
        cases hsi
        obtain ⟨r, e3, e4⟩ := hE1 heq' _ (List.mem_of_getElem? hvi)
        rw [e3]
        exact ⟨rfl, fun q4 h9 => by cases h9; exact ⟨_, rfl, e4.isC⟩⟩
      · have g1' : h2'.1 h.2.1 = some (104, true, sl ++ List.replicate (sl.length + max 1 (sl.length / 2) - sl.length) .null) := g1
        have i1' : h2'.1 a = some (16, true, [.int (mc + 1), .ref arr, .int (i32 vs.length)]) := g2.2.2.2.2 _ _ i1 (show KX 16 from by decide) fun h9 => h9
        refine pF_of i1' (by simp) (by simp) (cR_mk rfl (cR_mk rfl (dR_of (dR_of ?_))))
        have c4 := Chg.put (F := F) (fs' := [.int (mc + 1), .ref h.2.1, .int (i32 vs.length)]) i1' (by decide) hF
        refine fin _ h.2.1 (sl ++ List.replicate (sl.length + max 1 (sl.length / 2) - sl.length) .null) (((g2.mono (F' := F) (Nat.le_refl _) fun _ h9 => h9.elim).same c4).mono (by omega) fun _ h9 => h9) (by omega) (Nat.le_refl _) ?_ (AH.put_self i1') ?_ ?_ (fun i v hv => ?_) ?_
        · show ((_ : AH).put a _).1 _ = _
          rw [AH.put_ne (by omega)]
          exact g1'
        · rw [List.length_append, List.length_replicate]; omega
        · rw [List.length_append, List.length_replicate]; omega
        · have := (List.getElem?_eq_some_iff.mp hv).1
          rw [List.getElem?_append_left (by omega)]
          exact h6 i v hv
        · exact (ho1.chg g2 fun h9 => h9).put
    · have h0 : sl.length = 0 := by
        have : ¬ 0 < sl.length := fun e => hzero ((i32_lt (a := 0) (b := sl.length) (by omega) (by omega)).mpr e)
        omega
      have hwf : w = false := by
        cases w with
        | false => rfl
        | true => have := h7 rfl; omega
      obtain ⟨-, e22⟩ := h8 hwf
      have hv0 : vs = [] := List.eq_nil_of_length_eq_zero (by omega)
      refine gR_of i1 (by simp) rfl rfl ⟨by rw [e22]; rfl, fun _ => ?_, fun hn => absurd e22.symm hn⟩
      have e10 : (if (10 : Int32) < i32 vs.length + 1 then i32 vs.length + 1 else 10) = i32 10 := by
        subst hv0; decide
      rw [e10, i32_succ]
      refine ⟨_, _, rfl, rfl, i32_nn (by omega), by rw [i32_nat (by omega)]; omega, by rw [i32_nat (by omega)]; show 10 + 4 ≤ h.2.2; omega, ?_⟩
      rw [i32_nat (by omega)]
      have hne2 : a ≠ h.2.1 := by omega
      have cn := Chg.new (h := h.put a [.int (mc + 1), .ref arr, .int (i32 vs.length)]) (kd := 104) (fs := List.replicate 10 .null) (cost := 10 + 4) hw.put (by show 10 + 4 ≤ h.2.2; omega)
      have i1' : ((h.put a [.int (mc + 1), .ref arr, .int (i32 vs.length)]).new 104 (List.replicate 10 .null) (10 + 4)).1 a = some (16, true, [.int (mc + 1), .ref arr, .int (i32 vs.length)]) := by rw [AH.new_ne (by exact hne2)]; exact i1
      refine pF_of i1' (by simp) (by simp) (cR_mk rfl (cR_mk rfl (dR_of (dR_of ?_))))
      have c4 := Chg.put (F := F) (fs' := [.int (mc + 1), .ref h.2.1, .int (i32 vs.length)]) i1' (by decide) hF
      refine fin _ h.2.1 (List.replicate 10 .null) (((cn.mono (F' := F) (Nat.le_refl _) fun _ h9 => h9.elim).same c4).mono (by omega) fun _ h9 => h9) (by omega) (Nat.le_refl _) ?_ (AH.put_self i1') (by rw [List.length_replicate]; omega) (by rw [List.length_replicate]; omega) (fun i v hv => ?_) ?_
      · show ((_ : AH).put a _).1 _ = _
        rw [AH.put_ne (by omega)]
        exact AH.new_self
      · subst hv0; simp at hv
      · exact (ho1.chg cn fun h9 => h9).put
end
/-- an iterator over an array list stands ahead of element cur -/
def ItA (h : AH) (it a cur : Nat) : Prop := ∃ (lr mc : Int32) (w : Bool) (v1 v2 : Value), h.1 it = some (17, true, [.int (i32 cur), .int lr, .int mc, .ref a]) ∧ h.1 a = some (16, w, [.int mc, v1, v2])
theorem ItA.chg {h h' : AH} {it a cur c : Nat} {F : Nat → Prop} (hi : ItA h it a cur) (hc : Chg c F h h') (h1 : ¬ F it) (h2 : ¬ F a) : ItA h' it a cur := by
  obtain ⟨lr, mc, w, v1, v2, e1, e2⟩ := hi
  exact ⟨lr, mc, w, v1, v2, hc.2.2.2.2 _ _ e1 (show KX 17 from by decide) h1, hc.2.2.2.2 _ _ e2 (show KX 16 from by decide) h2⟩
theorem ItA.hk {h : AH} {it a cur : Nat} (hi : ItA h it a cur) : hasK h it 17 := by
  obtain ⟨lr, mc, w, v1, v2, e1, e2⟩ := hi
  exact ⟨_, _, e1⟩
section
variable {G : GL} {d : Nat} {h : AH} {a cap : Nat} {vs : List Value} {F : Nat → Prop} {Qx : Nat → AH → Prop}
theorem s_alIter {K : Value → AH → Prop} (hp : ALh G h a cap vs F) (hroom : 8 ≤ h.2.2) (HK : ∀ h', ItA h' h.2.1 a 0 → Chg 8 F0s h h' → h'.2.1 = h.2.1 + 1 → K (.ref h.2.1) h') : MF G (d + 2) mi_ArrayList_iterator 0 [.ref a] [] h (cR K Qx) := by
  obtain ⟨arr, mc, w, sl, h1, h2, -⟩ := hp
  refine MF.wfh fun hw => b_ArrayList_iterator_0 ⟨_, _, rfl, rfl, hroom, b_ArrayListItr_init_0 rfl ?_⟩
  have hne : a ≠ h.2.1 := by have := hw _ _ h1; omega
  have hi0 : (h.new 17 [.int 0, .int 0, .int 0, .null] 8).1 h.2.1 = some (17, true, [.int 0, .int 0, .int 0, .null]) := AH.new_self
  have hi1 := AH.put_self (fs' := [.int 0, .int 0, .int 0, .ref a]) hi0
  have hi2 := AH.put_self (fs' := [.int 0, .int (-1), .int 0, .ref a]) hi1
  have hi3 := AH.put_self (fs' := [.int 0, .int (-1), .int mc, .ref a]) hi2
  have ha2 : (((h.new 17 [.int 0, .int 0, .int 0, .null] 8).put h.2.1 [.int 0, .int 0, .int 0, .ref a]).put h.2.1 [.int 0, .int (-1), .int 0, .ref a]).1 a = some (16, true, [.int mc, .ref arr, .int (i32 vs.length)]) := by
    rw [AH.put_ne hne, AH.put_ne hne, AH.new_ne hne]; exact h1
  refine pF_of hi0 (by simp) (by simp) (pF_of hi1 (by simp) (by simp) (gR_of hi2 (by simp) rfl rfl (dR_of (gI_of ha2 (by simp) rfl (pF_of hi2 (by simp) (by simp) (cV_mk (cR_mk rfl (HK _ ⟨-1, mc, true, .ref arr, .int (i32 vs.length), hi3, ?_⟩ ?_ rfl))))))))
  · rw [AH.put_ne hne]; exact ha2
  · have c1 := Chg.new (kd := 17) (fs := [.int 0, .int 0, .int 0, .null]) hw hroom
    have p1 := Chg.put (F := fun q => q = h.2.1) (fs' := [.int 0, .int 0, .int 0, .ref a]) hi0 (by decide) rfl
    have p2 := Chg.put (F := fun q => q = h.2.1) (fs' := [.int 0, .int (-1), .int 0, .ref a]) hi1 (by decide) rfl
    have p3 := Chg.put (F := fun q => q = h.2.1) (fs' := [.int 0, .int (-1), .int mc, .ref a]) hi2 (by decide) rfl
    exact c1.trans ((p1.same p2).same p3) fun q x e h9 => by have := hw _ _ e; omega
theorem s_alHas {it cur : Nat} {K : Int32 → AH → Prop} (hp : ALh G h a cap vs F) (hi : ItA h it a cur) (hc : cur ≤ vs.length) (HK : K (b01 (decide (cur < vs.length))) h) : MF G d mi_ArrayListItr_hasNext 0 [.ref it] [] h (cI K Qx) := by
  obtain ⟨arr, mc, w, sl, h1, h2, h3, h4, h5, -⟩ := hp
  obtain ⟨lr, mc2, w2, v1, v2, e1, e2⟩ := hi
  refine b_ArrayListItr_hasNext_0 (gI_of e1 (by simp) rfl (gR_of e1 (by simp) rfl rfl (dR_of (gI_of h1 (by simp) rfl ⟨fun he => cI_mk ?_, fun hn => cI_mk ?_⟩))))
  · rw [decide_eq_false (fun h9 => by have := (i32_eq (by omega) (by omega)).mp he; omega)] at HK; exact HK
  · rw [decide_eq_true (by have : ¬ cur = vs.length := fun h9 => hn (by rw [h9]); omega)] at HK; exact HK
theorem s_alNext {it cur : Nat} {v : Value} {K : Value → AH → Prop} (hp : ALh G h a cap vs F) (hi : ItA h it a cur) (hx : vs[cur]? = some v) (hv : v.isRef = true) (HK : ∀ h', ItA h' it a (cur + 1) → Chg 0 (fun q => q = it) h h' → h'.2.1 = h.2.1 → K v h') : MF G (d + 2) mi_ArrayListItr_next 0 [.ref it, .retAddr 0, .retAddr 0] [] h (cR K Qx) := by
  obtain ⟨arr, mc, w, sl, h1, h2, h3, h4, h5, h6, -⟩ := hp
  obtain ⟨lr, mc2, w2, v1, v2, e1, e2⟩ := hi
  rw [h1] at e2
  cases e2
  have hcl := (List.getElem?_eq_some_iff.mp hx).1
  have hna : a ≠ it := fun e => by subst e; rw [h1] at e1; cases e1
  have hnr : arr ≠ it := fun e => by subst e; rw [h2] at e1; cases e1
  have j1 := AH.put_self (fs' := [.int (i32 (cur + 1)), .int lr, .int mc, .ref a]) e1
  have j2 := AH.put_self (fs' := [.int (i32 (cur + 1)), .int (i32 cur), .int mc, .ref a]) j1
  refine b_ArrayListItr_next_0 ⟨hasKs_of e1 (by simp), b_ArrayListItr_checkForComodification_0 (gR_of e1 (by simp) rfl rfl (dR_of (gI_of h1 (by simp) rfl (gI_of e1 (by simp) rfl ⟨fun _ => cV_mk ?_, fun hn => absurd rfl hn⟩))))⟩
  refine gI_of e1 (by simp) rfl (gR_of e1 (by simp) rfl rfl (dR_of (gI_of h1 (by simp) rfl ⟨fun _ => gR_of e1 (by simp) rfl rfl (dR_of (gR_of h1 (by simp) rfl rfl (dR_of (aL_of h2 ⟨fun _ => pF_of e1 (by simp) (by simp) ?_, fun hn => absurd ((i32_lt (b := sl.length) (by omega) (by omega)).mpr (by omega)) hn⟩)))), fun hn => absurd ((i32_lt (by omega) (by omega)).mpr hcl) hn⟩)))
  rw [i32_succ]
  refine pF_of j1 (by simp) (by simp) (aR_of (w := w) (fs := sl) ?_ (i32_nn (by omega)) (by rw [i32_nat (by omega)]; exact h6 _ _ hx) hv (cR_mk hv (HK _ ⟨i32 cur, mc, true, .ref arr, .int (i32 vs.length), j2, ?_⟩ ?_ rfl)))
  · rw [AH.put_ne hnr, AH.put_ne hnr]; exact h2
  · rw [AH.put_ne hna, AH.put_ne hna]; exact h1
  · exact (Chg.put (F := fun q => q = it) (fs' := [.int (i32 (cur + 1)), .int lr, .int mc, .ref a]) e1 (by decide) rfl).same (Chg.put (F := fun q => q = it) (fs' := [.int (i32 (cur + 1)), .int (i32 cur), .int mc, .ref a]) j1 (by decide) rfl)
end
/-- the iteration over a list; I goes along -/
def AlP (I : AH → Nat → Prop) (a base it : Nat) (h : AH) (i : Nat) : Prop := ItA h it a i ∧ base ≤ it ∧ I h i
def AlR (I : AH → Nat → Prop) (a base : Nat) (vs : List Value) (it : Nat) (h : AH) (i : Nat) (v : Value) : Prop := ItA h it a (i + 1) ∧ base ≤ it ∧ I h i ∧ vs[i]? = some v
theorem al_iter {G : GL} {d a base : Nat} {vs : List Value} {I : AH → Nat → Prop} (hA : ∀ h i, I h i → ∃ cap F, ALh G h a cap vs F) (hI : ∀ h h' i q, I h i → base ≤ q → Chg 0 (fun x => x = q) h h' → I h' i) (hr : ∀ v, v ∈ vs → v.isRef = true) : IterOK G (d + 2) vs.length (AlP I a base) (AlR I a base vs) := by
  refine ⟨fun it h i K X hP hi HK => ?_, fun it h i K X hP hi HK => ?_⟩
  · obtain ⟨p1, p2, p3⟩ := hP
    obtain ⟨cap, F, hp⟩ := hA h i p3
    exact ⟨17, mi_ArrayListItr_hasNext, p1.hk, rfl, s_alHas hp p1 hi HK⟩
  · obtain ⟨p1, p2, p3⟩ := hP
    obtain ⟨cap, F, hp⟩ := hA h i p3
    have hx := List.getElem?_eq_getElem hi
    have hv := hr _ (List.mem_of_getElem? hx)
    exact ⟨17, mi_ArrayListItr_next, p1.hk, rfl, s_alNext (d := d) hp p1 hx hv fun h' q1 q2 q3 => HK _ h' hv ⟨q1, p2, hI _ _ _ _ p3 p2 q2, hx⟩⟩
theorem al_begin {G : GL} {d : Nat} {h : AH} {a cap base : Nat} {vs : List Value} {F : Nat → Prop} {I : AH → Nat → Prop} (hp : ALh G h a cap vs F) (hroom : 8 ≤ h.2.2) (hb : base ≤ h.2.1) (hI : ∀ h', Chg 8 F0s h h' → I h' 0) : ∀ K' X', (∀ it h', AlP I a base it h' 0 → K' (.ref it) h') → vL G (d + 2) h a dsp_Iterable_iterator [.ref a] (cR K' X') := by
  intro K' X' HK
  exact ⟨16, mi_ArrayList_iterator, hp.hk, rfl, s_alIter hp hroom fun h' i1 c1 _ => HK _ h' ⟨i1, hb, hI h' c1⟩⟩
