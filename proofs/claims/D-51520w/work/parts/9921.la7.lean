/-! string builders -/
set_option maxRecDepth 100000
theorem Chg.putN {h h1 : AH} {c a kd : Nat} {F : Nat → Prop} {fs fs' : List Value} (hw : WFh h) (hc : Chg c F h h1) (ha : h.2.1 ≤ a) (hcell : h1.1 a = some (kd, true, fs)) : Chg c F h (h1.put a fs') := by
  refine ⟨hc.1, by rw [AH.put_2]; exact hc.2.1, fun q k f e => ?_, ⟨fun q bs e => ?_, fun q f e hq => ?_⟩, fun q x e hx hq => ?_⟩
  · rw [AH.put_ne (by have := hw _ _ e; omega)]; exact hc.2.2.1 _ _ _ e
  · have hs := hc.2.2.2.1.1 _ _ e
    obtain ⟨w0, a0, x0, y0, e0, -⟩ := e
    obtain ⟨w, b, x, y, h1, h2, h3⟩ := hs
    refine ⟨w, b, x, y, by rw [AH.put_ne (by have := hw _ _ e0; omega)]; exact h1, ?_, h3⟩
    rw [AH.put_ne (fun e9 => by subst e9; rw [hcell] at h2; cases h2)]; exact h2
  · obtain ⟨f', e1, v1, v2, v3, v4⟩ := hc.2.2.2.1.2 q f e hq
    have nf : ∀ {p k : Nat} {g : List Value}, h1.1 p = some (k, false, g) → (h1.put a fs').1 p = some (k, false, g) := fun e9 => by
      rw [AH.put_ne (fun e8 => by subst e8; rw [hcell] at e9; cases e9)]; exact e9
    refine ⟨f', by rw [AH.put_ne (by have := hw _ _ e; omega)]; exact e1, v1, v2, ?_, ?_⟩
    · rcases v3 with e3 | ⟨p, e3, e4⟩
      · exact Or.inl e3
      · exact Or.inr ⟨p, e3, nf e4⟩
    · rcases v4 with e3 | ⟨p, e3, e4⟩
      · exact Or.inl e3
      · exact Or.inr ⟨p, e3, nf e4⟩
  · rw [AH.put_ne (by have := hw _ _ e; omega)]; exact hc.2.2.2.2 _ _ e hx hq
theorem shr0 (z : Int32) : z >>> ((0 : Int32) &&& 31) = z := by
  rw [show ((0 : Int32) &&& 31) = 0 from by decide]
  exact Int32.shiftRight_zero
theorem shl0 (z : Int32) : z <<< ((0 : Int32) &&& 31) = z := by
  rw [show ((0 : Int32) &&& 31) = 0 from by decide]
  exact Int32.shiftLeft_zero
theorem sby_chr : ∀ k, k < 256 → narrow .byte (.int (Int8.toInt32 (Int32.toInt8 (i32 k)))) = .int (sby k) := by decide +kernel
/-- a string builder at a of cap places says bs -/
def SBh (h : AH) (a cap : Nat) (bs : List Int32) (F : Nat → Prop) : Prop := ∃ (arr : Nat) (ml : Int32) (sl : List Value), h.1 a = some (15, true, [.ref arr, .int 0, .int ml, .int (i32 bs.length)]) ∧ h.1 arr = some (101, true, sl) ∧ sl.length = cap ∧ 16 ≤ cap ∧ cap ≤ 5000 ∧ bs.length ≤ cap ∧ (∀ (i : Nat) (b : Int32), bs[i]? = some b → sl[i]? = some (.int b)) ∧ (∀ v, v ∈ sl → BytV v) ∧ (∀ b, b ∈ bs → Byt b) ∧ ∀ x, F x ↔ (x = a ∨ x = arr)
theorem SBh.chg {h h' : AH} {a cap c : Nat} {bs : List Int32} {F F' : Nat → Prop} (hp : SBh h a cap bs F) (hc : Chg c F' h h') (hd : ∀ x, F x → ¬ F' x) : SBh h' a cap bs F := by
  obtain ⟨arr, ml, sl, h1, h2, h3, h4, h5, h6, h7, h8, h9, h10⟩ := hp
  exact ⟨arr, ml, sl, hc.2.2.2.2 _ _ h1 (show KX 15 from by decide) (hd _ ((h10 a).mpr (Or.inl rfl))), hc.2.2.2.2 _ _ h2 (show KX 101 from by decide) (hd _ ((h10 arr).mpr (Or.inr rfl))), h3, h4, h5, h6, h7, h8, h9, h10⟩
theorem SBh.low {h : AH} {a cap : Nat} {bs : List Int32} {F : Nat → Prop} (hp : SBh h a cap bs F) (hw : WFh h) : ∀ x, F x → x < h.2.1 := by
  obtain ⟨arr, ml, sl, h1, h2, h3, h4, h5, h6, h7, h8, h9, h10⟩ := hp
  intro x hx
  rcases (h10 x).mp hx with rfl | rfl
  · exact hw _ _ h1
  · exact hw _ _ h2
theorem SBh.has {h : AH} {a cap : Nat} {bs : List Int32} {F : Nat → Prop} (hp : SBh h a cap bs F) : hasKs h a [15] := by
  obtain ⟨arr, ml, sl, h1, -⟩ := hp
  exact hasKs_of h1 (by simp)
theorem SBh.hasO {h : AH} {a cap : Nat} {bs : List Int32} {F : Nat → Prop} (hp : SBh h a cap bs F) : hasO h a := by
  obtain ⟨arr, ml, sl, h1, -⟩ := hp
  exact ⟨15, by decide, _, _, h1⟩
section
variable {G : GL} {d : Nat} {h : AH} {a cap : Nat} {bs : List Int32} {F : Nat → Prop} {Qx : Nat → AH → Prop}
theorem s_sbInit {K : AH → Prop} (hK : SK G) (ha : h.1 a = some (15, true, [.null, .int 0, .int 0, .int 0])) (hroom : 20 ≤ h.2.2) (HK : ∀ h' F', SBh h' a 16 [] F' → Chg 20 (fun x => x = a) h h' → (∀ x, F' x → x = a ∨ h.2.1 ≤ x) → K h') : MF G (d + 2) mi_StringBuilder_init 0 [.ref a] [] h (cV K Qx) := by
  refine MF.wfh fun hw => b_StringBuilder_init_0 (b_AbstractStringBuilder_init_0 ⟨1, hK.1, fun e => absurd e (by decide), fun _ => ⟨_, _, rfl, rfl, by decide, by decide, hroom, ?_⟩⟩)
  have hne : a ≠ h.2.1 := by have := hw _ _ ha; omega
  have e16 : (16 : Int32).toNatClampNeg = 16 := rfl
  have a1 : (h.new 101 (List.replicate 16 (.int 0)) 20).1 a = some (15, true, [.null, .int 0, .int 0, .int 0]) := by rw [AH.new_ne (by exact hne)]; exact ha
  have a2 := AH.put_self (fs' := [.ref h.2.1, .int 0, .int 0, .int 0]) a1
  have a3 := AH.put_self (fs' := [.ref h.2.1, .int 0, .int 0, .int 0]) a2
  have c1 := Chg.new (kd := 101) (fs := List.replicate 16 (.int 0)) hw hroom
  have c2 := Chg.put (F := fun q => q = a) (fs' := [.ref h.2.1, .int 0, .int 0, .int 0]) a1 (by decide) rfl
  have c3 := Chg.put (F := fun q => q = a) (fs' := [.ref h.2.1, .int 0, .int 0, .int 0]) a2 (by decide) rfl
  refine pF_of a1 (by simp) (by simp) ⟨by decide, rfl, pF_of a2 (by simp) (by simp) (cV_mk (cV_mk (HK _ (fun x => x = a ∨ x = h.2.1) ⟨h.2.1, 0, List.replicate 16 (.int 0), a3, ?_, by simp, by omega, by omega, by simp, fun i b hb => by simp at hb, fun v hv => (by rw [List.eq_of_mem_replicate hv]; exact BytV.zero), fun b hb => (List.not_mem_nil hb).elim, fun x => Iff.rfl⟩ ?_ fun x hx => ?_)))⟩
  · show ((_ : AH).put a _).1 _ = _
    rw [AH.put_ne (Ne.symm hne), AH.put_ne (Ne.symm hne)]
    exact AH.new_self
  · exact ((c1.mono (F' := fun q => q = a) (Nat.le_refl _) fun _ h9 => h9.elim).same c2).same c3
  · rcases hx with h9 | h9
    · exact Or.inl h9
    · exact Or.inr (by omega)
/-- bytes copied into a longer array -/
theorem s_copyOfB {q n : Nat} {w : Bool} {sl : List Value} {K : Value → AH → Prop} (hq : h.1 q = some (101, w, sl)) (hn : sl.length < n) (hn2 : n < 1000000) (hok : ∀ v, v ∈ sl → BytV v) (hroom : n + 4 ≤ h.2.2) (HK : ∀ h', h'.1 h.2.1 = some (101, true, sl ++ List.replicate (n - sl.length) (.int 0)) → Chg (n + 4) F0s h h' → h'.2.1 = h.2.1 + 1 → K (.ref h.2.1) h') : MF G (d + 1) mi_Arrays_copyOf 0 [.ref q, .int (i32 n), .retAddr 0] [] h (cR K Qx) := by
  refine MF.wfh fun hw => b_Arrays_copyOf_0 rfl (dR_of (aL_of hq ⟨fun _ => ?_, fun he => absurd ((i32_eq (a := n) (b := sl.length) (by omega) (by omega)).mp he) (by omega)⟩))
  have hqn : q ≠ h.2.1 := by have := hw _ _ hq; omega
  refine ⟨_, _, rfl, rfl, i32_nn (by omega), by rw [i32_nat (by omega)]; omega, by rw [i32_nat (by omega)]; exact hroom, ?_⟩
  rw [i32_nat (by omega)]
  have c1 := Chg.new (kd := 101) (fs := List.replicate n (.int 0)) hw hroom
  have hq1 : (h.new 101 (List.replicate n (.int 0)) (n + 4)).1 q = some (101, w, sl) := by rw [AH.new_ne hqn]; exact hq
  refine aL_of hq1 ?_
  have e : (if i32 n < Int32.ofNat sl.length then i32 n else Int32.ofNat sl.length) = i32 sl.length := by
    show (if i32 n < i32 sl.length then i32 n else i32 sl.length) = i32 sl.length
    rw [if_neg (fun h9 => absurd ((i32_lt (by omega) (by omega)).mp h9) (by omega))]
  rw [e]
  refine ⟨w, sl, List.replicate n (.int 0), _, hq1, AH.new_self, by decide, by decide, i32_nn (by omega), ?_, ?_, ?_, rfl, ?_⟩
  · rw [i32_nat (by omega)]; show 0 + sl.length ≤ sl.length; omega
  · rw [i32_nat (by omega), List.length_replicate]; show 0 + sl.length ≤ n; omega
  · intro i hi
    rw [i32_nat (by omega)] at hi
    have hm : sl.getD (0 + i) .null ∈ sl := List.mem_of_getElem? (getD_at (by omega))
    exact ⟨(hok _ hm).fits, fun q9 h9 => absurd h9 ((hok _ hm).noref q9)⟩
  · have hcp : cpyL sl (List.replicate n (.int 0)) (0 : Int32).toNatClampNeg (0 : Int32).toNatClampNeg (i32 sl.length).toNatClampNeg = sl ++ List.replicate (n - sl.length) (.int 0) := by
      rw [i32_nat (by omega)]
      apply List.ext_getElem?
      intro j
      by_cases hj : j < n
      · rw [cpyL_at (by rw [List.length_replicate]; exact hj)]
        by_cases hj2 : j < sl.length
        · rw [if_pos ⟨Nat.zero_le _, by show j < 0 + sl.length; omega⟩, List.getElem?_append_left hj2]
          rw [show (0 : Int32).toNatClampNeg + (j - (0 : Int32).toNatClampNeg) = j from by show 0 + (j - 0) = j; omega]
          exact (getD_at hj2).symm
        · rw [if_neg (fun h9 => hj2 (by have := h9.2; have e0 : (0 : Int32).toNatClampNeg = 0 := rfl; omega)), List.getElem?_append_right (by omega), List.getElem?_replicate, if_pos (by omega)]
          rw [List.getD_eq_getElem?_getD, List.getElem?_replicate, if_pos hj]; rfl
      · rw [List.getElem?_eq_none (by rw [cpyL_len, List.length_replicate]; omega), List.getElem?_eq_none (by rw [List.length_append, List.length_replicate]; omega)]
    rw [hcp]
    refine cR_mk rfl (HK _ (AH.put_self AH.new_self) ?_ rfl)
    exact c1.trans (Chg.put (F := fun a => a = h.2.1) AH.new_self (by decide) rfl) fun a x e h9 => by have := hw _ _ e; omega
theorem s_sbEns {n : Nat} {K : AH → Prop} (hp : SBh h a cap bs F) (hn : n ≤ 2 * cap + 2) (hc5 : 2 * cap + 2 ≤ 5000) (hroom : 2 * cap + 6 ≤ h.2.2) (HK : ∀ h' cap' c F', SBh h' a cap' bs F' → Chg c F h h' → c + 3 * cap ≤ 3 * cap' → cap' ≤ max cap (2 * n) → cap ≤ cap' → n ≤ cap' → Fgr h F F' → K h') : MF G (d + 3) mi_AbstractStringBuilder_ensureCapacityInternal 0 [.ref a, .int (i32 n), .retAddr 0] [] h (cV K Qx) := by
  have hp0 := hp
  obtain ⟨arr, ml, sl, h1, h2, h3, h4, h5, h6, h7, h8, h9, h10⟩ := hp
  refine MF.wfh fun hw => b_AbstractStringBuilder_ensureCapacityInternal_0 (gR_of h1 (by simp) rfl rfl (dR_of (aL_of h2 (gI_of h1 (by simp) rfl ?_))))
  rw [shr0]
  have esl : Int32.ofNat sl.length = i32 cap := by rw [h3]; rfl
  rw [esl]
  by_cases hle : n ≤ cap
  · refine ⟨fun _ => cV_mk (HK h cap 0 F hp0 Chg.refl (by omega) (by omega) (Nat.le_refl _) hle fun x hx => Or.inl hx), fun hn9 => absurd ?_ hn9⟩
    rw [Int32.le_iff_toInt_le]
    have e1 := i32_toInt (n := n) (by omega)
    have e2 := i32_toInt (n := cap) (by omega)
    rw [Int32.toInt_sub, e1, e2]
    show Int.bmod ((n : Int) - cap) 4294967296 ≤ 0
    rw [Int.bmod_def]
    split <;> omega
  · have esub : i32 n - i32 cap = i32 (n - cap) := i32_sub (by omega)
    rw [esub]
    refine ⟨fun h9' => absurd ((i32_le (b := 0) (by omega) (by omega)).mp h9') (by omega), fun _ => gR_of h1 (by simp) rfl rfl ⟨hp0.hasO, b_AbstractStringBuilder_newCapacity_0 (gR_of h1 (by simp) rfl rfl (dR_of (aL_of h2 (gI_of h1 (by simp) rfl (gI_of h1 (by simp) rfl ?_)))))⟩⟩
    rw [shl0, shl0, esl, esub, show i32 cap + 2 = i32 (cap + 2) from i32_add cap 2]
    refine s_newLength (by omega) (by omega) (by omega) (by omega) ⟨fun _ => gI_of h1 (by simp) rfl ?_, fun he => absurd ((i32_eq (b := 2147483647) (by omega) (by omega)).mp he) (by omega)⟩
    rw [shr0]
    refine cI_mk (gI_of h1 (by simp) rfl ?_)
    rw [shl0]
    have emax : max (n - cap) (cap + 2) = cap + 2 := by omega
    rw [emax]
    refine s_copyOfB (d := d + 1) h2 (by omega) (by omega) h8 (by omega) fun h' g1 g2 g3 => ?_
    have hal : a < h.2.1 := hw _ _ h1
    have harl : arr < h.2.1 := hw _ _ h2
    have a1 : h'.1 a = some (15, true, [.ref arr, .int 0, .int ml, .int (i32 bs.length)]) := g2.2.2.2.2 _ _ h1 (show KX 15 from by decide) fun h9 => h9
    have c2 := Chg.put (F := F) (fs' := [.ref h.2.1, .int 0, .int ml, .int (i32 bs.length)]) a1 (by decide) ((h10 a).mpr (Or.inl rfl))
    refine pF_of a1 (by simp) (by simp) (cV_mk (HK _ (cap + (cap + 2)) (cap + (cap + 2) + 4) (fun x => x = a ∨ x = h.2.1) ⟨h.2.1, ml, sl ++ List.replicate (cap + (cap + 2) - sl.length) (.int 0), AH.put_self a1, ?_, ?_, by omega, by omega, by omega, fun i b hb => ?_, fun v hv => ?_, h9, fun x => Iff.rfl⟩ (((g2.mono (F' := F) (Nat.le_refl _) fun _ h9 => h9.elim).same c2).mono (by omega) fun _ h9 => h9) (by omega) (by omega) (by omega) (by omega) fun x hx => ?_))
    · show ((_ : AH).put a _).1 _ = _
      rw [AH.put_ne (by omega)]
      exact g1
    · rw [List.length_append, List.length_replicate]; omega
    · have := (List.getElem?_eq_some_iff.mp hb).1
      rw [List.getElem?_append_left (by omega)]
      exact h7 i b hb
    · rcases List.mem_append.mp hv with hv | hv
      · exact h8 v hv
      · rw [List.eq_of_mem_replicate hv]; exact BytV.zero
    · rcases hx with h9' | h9'
      · exact Or.inl ((h10 x).mpr (Or.inl h9'))
      · exact Or.inr (by omega)
theorem s_sbChar {k : Nat} {K : Value → AH → Prop} (hK : SK G) (hp : SBh h a cap bs F) (hk : k < 256) (hc5 : 2 * cap + 2 ≤ 5000) (hroom : 2 * cap + 6 ≤ h.2.2) (HK : ∀ h' cap' c F', SBh h' a cap' (bs ++ [sby k]) F' → Chg c F h h' → c + 3 * cap ≤ 3 * cap' → cap' ≤ max cap (2 * (bs.length + 1)) → cap ≤ cap' → Fgr h F F' → K (.ref a) h') : MF G (d + 5) mi_StringBuilder_append_3 0 [.ref a, .int (i32 k)] [] h (cR K Qx) := by
  have hp0 := hp
  obtain ⟨arr, ml, sl, h1, h2, h3, h4, h5, h6, h7, h8, h9, h10⟩ := hp
  refine MF.wfh fun hw => b_StringBuilder_append_3_0 ⟨hp0.hasO, b_AbstractStringBuilder_append_3_0 (gI_of h1 (by simp) rfl ⟨hp0.hasO, ?_⟩)⟩
  rw [i32_succ]
  refine s_sbEns (d := d) hp0 (by omega) hc5 hroom fun h' cap' c F' hp1 c1 d1 d2 d3 d4 d5 => ?_
  have hp10 := hp1
  obtain ⟨arr', ml', sl', g1, g2, g3, g4, g5, g6, g7, g8, g9, g10⟩ := hp1
  have hne : arr' ≠ a := fun e => by subst e; rw [g1] at g2; cases g2
  refine ⟨hp10.has, b_AbstractStringBuilder_isLatin1_0 ⟨1, hK.1, fun e => absurd e (by decide), fun _ => gI_of g1 (by simp) rfl ⟨fun hn => absurd rfl hn, fun _ => cI_mk ⟨fun e => absurd e (by decide), fun _ => b_StringLatin1_canEncode_0 ⟨fun hlt => absurd ((i32_lt (a := 255) (by omega) (by omega)).mp hlt) (by omega), fun _ => cI_mk ⟨fun e => absurd e (by decide), fun _ => gR_of g1 (by simp) rfl rfl (gI_of g1 (by simp) rfl (pF_of g1 (by simp) (by simp) (dR_of ?_)))⟩⟩⟩⟩⟩⟩
  rw [sby_chr k hk, i32_succ]
  have a1 := AH.put_self (fs' := [.ref arr', .int 0, .int ml', .int (i32 (bs.length + 1))]) g1
  have r1 : (h'.put a [.ref arr', .int 0, .int ml', .int (i32 (bs.length + 1))]).1 arr' = some (101, true, sl') := by rw [AH.put_ne hne]; exact g2
  have p1 := Chg.put (F := F') (fs' := [.ref arr', .int 0, .int ml', .int (i32 (bs.length + 1))]) g1 (by decide) ((g10 a).mpr (Or.inl rfl))
  have p2 := Chg.put (F := F') (fs' := sl'.set bs.length (.int (sby k))) r1 (by decide) ((g10 arr').mpr (Or.inr rfl))
  refine pA_of r1 (i32_nn (by omega)) (by rw [i32_nat (by omega)]; omega) (cR_mk rfl (cR_mk rfl ?_))
  rw [i32_nat (by omega)]
  refine HK _ cap' c F' ⟨arr', ml', sl'.set bs.length (.int (sby k)), ?_, AH.put_self r1, by rw [List.length_set]; exact g3, g4, g5, by rw [List.length_append, List.length_singleton]; omega, fun i b hb => ?_, fun v hv => ?_, fun b hb => ?_, g10⟩ ?_ d1 (by omega) d3 d5
  · rw [List.length_append, List.length_singleton, AH.put_ne (Ne.symm hne)]
    exact a1
  · by_cases e : i = bs.length
    · subst e
      rw [List.getElem?_append_right (Nat.le_refl _), Nat.sub_self] at hb
      cases hb
      rw [List.getElem?_set_self (by omega)]
    · have hl3 := (List.getElem?_eq_some_iff.mp hb).1
      rw [List.length_append, List.length_singleton] at hl3
      rw [List.getElem?_append_left (by omega)] at hb
      rw [List.getElem?_set_ne (Ne.symm e)]
      exact g7 i b hb
  · rcases List.mem_or_eq_of_mem_set hv with hv | rfl
    · exact g8 v hv
    · exact ⟨k, hk, rfl⟩
  · rcases List.mem_append.mp hb with hb | hb
    · exact h9 b hb
    · rw [List.mem_singleton] at hb
      exact ⟨k, hk, hb⟩
  · refine (c1.trans (p1.same p2) (F := F) fun x y e9 h9' => ?_).mono (by omega) fun _ h9 => h9
    rcases d5 x h9' with h8' | h8'
    · exact h8'
    · have := hw _ _ e9; omega
/-- the text of a builder -/
theorem s_sbStr {K : Value → AH → Prop} (hK : SK G) (hp : SBh h a cap bs F) (hroom : cap + 12 ≤ h.2.2) (HK : ∀ h', StrO h' h.2.1 bs → Chg (cap + 12) F0s h h' → h.2.1 < h'.2.1 → K (.ref h.2.1) h') : MF G (d + 6) mi_StringBuilder_toString 0 [.ref a] [] h (cR K Qx) := by
  have hp0 := hp
  obtain ⟨arr, ml, sl, h1, h2, h3, h4, h5, h6, h7, h8, h9, h10⟩ := hp
  refine MF.wfh fun hw => MF.post (b_StringBuilder_toString_0 ⟨_, _, rfl, rfl, by omega, b_String_init_0 rfl (b_String_init_2_0 rfl rfl (dR_of ?_))⟩)
  have c0 := Chg.new (kd := 14) (fs := [.null, .int 0, .int 0, .int 0]) (cost := 8) hw (by omega)
  have hpn : SBh (h.new 14 [.null, .int 0, .int 0, .int 0] 8) a cap bs F := hp0.chg c0 fun _ _ h9 => h9
  have n1 : (h.new 14 [.null, .int 0, .int 0, .int 0] 8).1 a = some (15, true, [.ref arr, .int 0, .int ml, .int (i32 bs.length)]) := c0.2.2.2.2 _ _ h1 (show KX 15 from by decide) fun h9 => h9
  have n2 : (h.new 14 [.null, .int 0, .int 0, .int 0] 8).1 arr = some (101, true, sl) := c0.2.2.2.2 _ _ h2 (show KX 101 from by decide) fun h9 => h9
  have q0 : (h.new 14 [.null, .int 0, .int 0, .int 0] 8).1 h.2.1 = some (14, true, [.null, .int 0, .int 0, .int 0]) := AH.new_self
  have hal : a < h.2.1 := hw _ _ h1
  have harl : arr < h.2.1 := hw _ _ h2
  refine ⟨hpn.has, b_AbstractStringBuilder_getValue_0 (gR_of n1 (by simp) rfl rfl (cR_mk rfl ⟨15, mi_StringBuilder_length, ⟨_, _, n1⟩, rfl, ?_⟩))⟩
  refine b_StringBuilder_length_0 ⟨hpn.hasO, b_AbstractStringBuilder_length_0 (gI_of n1 (by simp) rfl (cI_mk (cI_mk ⟨hpn.has, b_AbstractStringBuilder_isLatin1_0 ⟨1, hK.1, fun e => absurd e (by decide), fun _ => gI_of n1 (by simp) rfl ⟨fun hn => absurd rfl hn, fun _ => cI_mk ⟨fun e => absurd e (by decide), fun _ => ⟨by decide, rfl, pF_of q0 (by simp) (by simp) ?_⟩⟩⟩⟩⟩)))⟩
  have q1 := AH.put_self (fs' := [.null, .int 0, .int 0, .int 0]) q0
  have c1 := c0.putN (fs' := [.null, .int 0, .int 0, .int 0]) hw (Nat.le_refl _) q0
  have r1 : ((h.new 14 [.null, .int 0, .int 0, .int 0] 8).put h.2.1 [.null, .int 0, .int 0, .int 0]).1 arr = some (101, true, sl) := by rw [AH.put_ne (by omega)]; exact n2
  have hw1 : WFh ((h.new 14 [.null, .int 0, .int 0, .int 0] 8).put h.2.1 [.null, .int 0, .int 0, .int 0]) := hw.new.put
  generalize hM : (h.new 14 [.null, .int 0, .int 0, .int 0] 8).put h.2.1 [.null, .int 0, .int 0, .int 0] = M at q1 c1 r1 hw1
  have hM' : (h.new 14 [.null, .int 0, .int 0, .int 0] 8).put h.2.1 ([.null, .int 0, .int 0, .int 0].set 1 (.int 0)) = M := hM
  rw [hM']
  have hM2 : M.2.1 = h.2.1 + 1 := by rw [← hM]; rfl
  have hM3 : M.2.2 = h.2.2 - 8 := by rw [← hM]; rfl
  -- behind the copy: a fresh array with the letters
  have fin : ∀ (h' : AH) (n : Nat) (sl' : List Value), h'.1 n = some (101, true, sl') → sl' = bs.map Value.int → M.2.1 ≤ n → (∀ q k w fs, M.1 q = some (k, w, fs) → h'.1 q = some (k, w, fs)) → Chg (cap + 12) F0s h h' → M.2.1 ≤ h'.2.1 → cR (fun v16 h16 => pF h16 h.2.1 [14] 0 (v16) fun h17 => cV (fun h1 => cV (fun h2 => ∃ h1, Less h1 h2 ∧ cR K Qx (.inl (some (.ref h.2.1))) h1) (fun q9 h9 => ∃ h1, Less h1 h9 ∧ cR K Qx (.inr q9) h1) (.inl none) h1) (fun q9 h9 => cV (fun h2 => ∃ h1, Less h1 h2 ∧ cR K Qx (.inl (some (.ref h.2.1))) h1) (fun q9 h9 => ∃ h1, Less h1 h9 ∧ cR K Qx (.inr q9) h1) (.inr q9) h9) (.inl none) h17) (fun q9 h9 => cV (fun h1 => cV (fun h2 => ∃ h1, Less h1 h2 ∧ cR K Qx (.inl (some (.ref h.2.1))) h1) (fun q9 h9 => ∃ h1, Less h1 h9 ∧ cR K Qx (.inr q9) h1) (.inl none) h1) (fun q9 h9 => cV (fun h2 => ∃ h1, Less h1 h2 ∧ cR K Qx (.inl (some (.ref h.2.1))) h1) (fun q9 h9 => ∃ h1, Less h1 h9 ∧ cR K Qx (.inr q9) h1) (.inr q9) h9) (.inr q9) h9) (.inl (some (.ref n))) h' := by
    intro h' n sl' hn1 hn2 hn3 hk hc hlt
    subst hn2
    have q2 := hk _ _ _ _ q1
    have c2 := hc.putN (fs' := [.ref n, .int 0, .int 0, .int 0]) hw (Nat.le_refl _) q2
    have n3 : (h'.put h.2.1 [.ref n, .int 0, .int 0, .int 0]).1 n = some (101, true, bs.map Value.int) := by rw [AH.put_ne (by omega)]; exact hn1
    have c3 := Chg.frz (F := fun x => x = n) n3 (by decide) rfl
    refine cR_mk rfl (pF_of q2 (by simp) (by simp) (cV_mk (cV_mk ⟨_, frz_less (q := n), cR_mk rfl (HK _ ⟨true, n, 0, 0, ?_, frz_self n3, h9, (fun e => by cases e), (fun e => absurd rfl e), fun _ e => absurd rfl e⟩ ?_ ?_)⟩)))
    · rw [frz_ne (by omega)]
      exact AH.put_self q2
    · exact (c2.trans c3 (F := F0s) fun x y e9 h9 => by have := hw _ _ e9; omega).mono (by omega) fun _ h9 => h9
    · show h.2.1 < h'.2.1; omega
  by_cases hfull : bs.length = cap
  · refine b_copyRangeAll (dR_of (aL_of r1 ⟨by rw [hfull, ← h3]; rfl, true, sl, _, _, r1, fun v hv => ?_, by omega, rfl, rfl, ⟨true, sl, AH.new_self⟩, ?_⟩))
    · exact (h8 v hv).fits
    · have cN := Chg.new (h := M) (kd := 101) (fs := sl) (cost := sl.length + 4) hw1 (by omega)
      refine fin _ M.2.1 sl AH.new_self ?_ (Nat.le_refl _) (fun q k w fs e => ?_) ((c1.trans0 cN).mono (by omega) fun _ h9 => h9) (Nat.le_succ _)
      · apply List.ext_getElem?
        intro i
        by_cases hi : i < bs.length
        · have hb := List.getElem?_eq_getElem hi
          rw [h7 i _ hb, List.getElem?_map, hb]; rfl
        · rw [List.getElem?_eq_none (by omega), List.getElem?_eq_none (by rw [List.length_map]; omega)]
      · rw [AH.new_ne (by have := hw1 _ _ e; omega)]; exact e
  · refine b_Arrays_copyOfRange_0 rfl ⟨fun hn => absurd rfl hn, fun _ => dR_of (aL_of r1 ⟨fun he => absurd ((i32_eq (a := bs.length) (b := sl.length) (by omega) (by omega)).mp he) (by omega), fun _ => b_Arrays_copyOfRange_10 rfl (b_Arrays_copyOfRangeByte_0 rfl (b_Arrays_checkLength_0 ⟨fun _ => cV_mk ?_, fun hn => absurd ((i32_le (a := 0) (b := bs.length) (by omega) (by omega)).mpr (Nat.zero_le _)) hn⟩))⟩)⟩
    have e0 : i32 bs.length - 0 = i32 bs.length := Int32.sub_zero _
    have e1 : Int32.ofNat sl.length - 0 = i32 sl.length := Int32.sub_zero _
    rw [e0]
    refine ⟨_, _, rfl, rfl, i32_nn (by omega), by rw [i32_nat (by omega)]; omega, by rw [i32_nat (by omega)]; omega, ?_⟩
    rw [i32_nat (by omega)]
    have cN := Chg.new (h := M) (kd := 101) (fs := List.replicate bs.length (.int 0)) (cost := bs.length + 4) hw1 (by omega)
    have r2 : (M.new 101 (List.replicate bs.length (.int 0)) (bs.length + 4)).1 arr = some (101, true, sl) := by rw [AH.new_ne (by omega)]; exact r1
    refine dR_of (aL_of r2 ?_)
    rw [e1, if_pos ((i32_lt (by omega) (by omega)).mpr (by omega))]
    refine ⟨true, sl, List.replicate bs.length (.int 0), _, r2, AH.new_self, by decide, by decide, i32_nn (by omega), ?_, ?_, ?_, rfl, cR_mk rfl (fin _ M.2.1 _ (AH.put_self AH.new_self) ?_ (Nat.le_refl _) (fun q k w fs e => ?_) ?_ (Nat.le_succ _))⟩
    · rw [i32_nat (by omega)]; show 0 + bs.length ≤ sl.length; omega
    · rw [i32_nat (by omega), List.length_replicate]; show 0 + bs.length ≤ bs.length; omega
    · intro i hi
      rw [i32_nat (by omega)] at hi
      have hm : sl.getD (0 + i) .null ∈ sl := List.mem_of_getElem? (getD_at (by omega))
      exact ⟨(h8 _ hm).fits, fun q9 h9 => absurd h9 ((h8 _ hm).noref q9)⟩
    · rw [i32_nat (by omega)]
      apply List.ext_getElem?
      intro j
      by_cases hj : j < bs.length
      · have hb := List.getElem?_eq_getElem hj
        rw [cpyL_at (by rw [List.length_replicate]; exact hj), if_pos ⟨Nat.zero_le _, by show j < 0 + bs.length; omega⟩]
        rw [show (0 : Int32).toNatClampNeg + (j - (0 : Int32).toNatClampNeg) = j from by show 0 + (j - 0) = j; omega]
        rw [List.getD_eq_getElem?_getD, h7 j _ hb, List.getElem?_map, hb]; rfl
      · rw [List.getElem?_eq_none (by rw [cpyL_len, List.length_replicate]; omega), List.getElem?_eq_none (by rw [List.length_map]; omega)]
    · rw [AH.put_ne (by have := hw1 _ _ e; omega), AH.new_ne (by have := hw1 _ _ e; omega)]; exact e
    · have cN2 := cN.trans (Chg.put (F := fun x => x = M.2.1) (fs' := cpyL sl (List.replicate bs.length (.int 0)) (0 : Int32).toNatClampNeg (0 : Int32).toNatClampNeg (i32 bs.length).toNatClampNeg) AH.new_self (by decide) rfl) (F := F0s) fun x y e9 h9 => by have := hw1 _ _ e9; omega
      exact (c1.trans0 cN2).mono (by omega) fun _ h9 => h9
theorem s_sbLen {K : Int32 → AH → Prop} (hp : SBh h a cap bs F) (HK : K (i32 bs.length) h) : MF G (d + 1) mi_StringBuilder_length 0 [.ref a] [] h (cI K Qx) := by
  have hp0 := hp
  obtain ⟨arr, ml, sl, h1, -⟩ := hp
  exact b_StringBuilder_length_0 ⟨hp0.hasO, b_AbstractStringBuilder_length_0 (gI_of h1 (by simp) rfl (cI_mk (cI_mk HK)))⟩
end
