/-! texts: hash, equality, letters -/
set_option maxRecDepth 100000
theorem sby_255 : ∀ k, k < 256 → (sby k) &&& 255 = i32 k := by decide +kernel
theorem sby_fits : ∀ k, k < 256 → fits .byte (.int (sby k)) = true := by decide +kernel
/-- a byte as an array holds it -/
def BytV (v : Value) : Prop := ∃ k, k < 256 ∧ v = .int (sby k)
theorem BytV.fits {v : Value} (h : BytV v) : fits .byte v = true := by obtain ⟨k, hk, rfl⟩ := h; exact sby_fits k hk
theorem BytV.noref {v : Value} (h : BytV v) (q : Nat) : ¬ v = .ref q := by obtain ⟨k, hk, rfl⟩ := h; intro e; cases e
theorem BytV.zero : BytV (.int 0) := ⟨0, by decide, by decide⟩
theorem sby_narrow : ∀ k, k < 256 → narrow .byte (.int (sby k)) = .int (sby k) := by decide +kernel
theorem map_int_inj : ∀ {l l' : List Int32}, l.map Value.int = l'.map Value.int → l = l'
  | [], [], _ => rfl
  | [], _ :: _, h => by cases h
  | _ :: _, [], h => by cases h
  | a :: l, b :: l', h => by
    rw [List.map_cons, List.map_cons] at h
    injection h with h1 h2
    injection h1 with h3
    rw [h3, map_int_inj h2]
section
variable {G : GL} {d : Nat} {h : AH} {q : Nat} {bs : List Int32} {Qx : Nat → AH → Prop}
theorem StrO.inj {bs' : List Int32} (h1 : StrO h q bs) (h2 : StrO h q bs') : bs = bs' := by
  obtain ⟨w, a, x, y, a1, a2, -⟩ := h1
  obtain ⟨w', a', x', y', b1, b2, -⟩ := h2
  rw [a1] at b1
  cases b1
  rw [a2] at b2
  injection b2 with b2
  injection b2 with _ b2
  injection b2 with _ b2
  exact map_int_inj b2
theorem StrO.has (hs : StrO h q bs) : hasKs h q [14] := by
  obtain ⟨w, a, x, y, a1, -⟩ := hs
  exact hasKs_of a1 (by simp)
theorem StrO.hk (hs : StrO h q bs) : hasK h q 14 := by
  obtain ⟨w, a, x, y, a1, -⟩ := hs
  exact ⟨_, _, a1⟩
theorem StrO.isC (hs : StrO h q bs) : isC h q "java/lang/String" := by
  obtain ⟨w, a, x, y, a1, -⟩ := hs
  exact ⟨14, w, _, a1, ck_14⟩
theorem StrO.chg {h' : AH} {c : Nat} {F : Nat → Prop} (hs : StrO h q bs) (hc : Chg c F h h') : StrO h' q bs := hc.2.2.2.1.1 _ _ hs
/-- the hash of a text told -/
theorem Chg.hash {a : Nat} {x y : Int32} (hs : StrO h q bs) (hc : h.1 q = some (14, true, [.ref a, .int 0, .int 0, .int 0])) (hx : ¬ x = 0 → x = hsh bs) (hy : x = 0 → ¬ y = 0 → hsh bs = 0) : Chg 0 F0s h (h.put q [.ref a, .int 0, .int x, .int y]) := by
  refine ⟨Nat.le_refl _, by rw [AH.put_2]; omega, fun p k fs e => ?_, ⟨fun p bs' e => ?_, fun p fs e _ => ⟨fs, by rw [AH.put_ne (fun e9 => by subst e9; rw [hc] at e; cases e)]; exact e, VwR.refl⟩⟩, fun p x e hx14 _ => ?_⟩
  · rw [AH.put_ne (fun e9 => by subst e9; rw [hc] at e; cases e)]; exact e
  · by_cases e9 : p = q
    · subst e9
      have := hs.inj e
      subst this
      obtain ⟨w, b, x', y', a1, a2, a3, a4⟩ := hs
      rw [hc] at a1
      cases a1
      refine ⟨true, a, x, y, AH.put_self hc, ?_, a3, (fun e8 => by cases e8), hx, hy⟩
      rw [AH.put_ne (fun e8 => by subst e8; rw [hc] at a2; cases a2)]
      exact a2
    · obtain ⟨w, b, x', y', a1, a2, a3⟩ := e
      refine ⟨w, b, x', y', by rw [AH.put_ne e9]; exact a1, ?_, a3⟩
      rw [AH.put_ne (fun e8 => by subst e8; rw [hc] at a2; cases a2)]
      exact a2
  · rw [AH.put_ne (fun e9 => by subst e9; rw [hc] at e; cases e; exact hx14.1 rfl)]; exact e
theorem s_soLen {K : Int32 → AH → Prop} (hK : SK G) (hs : StrO h q bs) (HK : K (i32 bs.length) h) : MF G (d + 1) mi_String_length 0 [.ref q] [] h (cI K Qx) := by
  obtain ⟨w, a, x, y, h1, h2, -⟩ := hs
  have e0 : ∀ z : Int32, z >>> ((0 : Int32) &&& 31) = z := fun z => by
    rw [show ((0 : Int32) &&& 31) = 0 from by decide]
    exact Int32.shiftRight_zero
  refine b_String_length_0 (gR_of h1 (by simp) rfl rfl (dR_of (aL_of h2 ⟨hasKs_of h1 (by simp), b_String_coder_0 ⟨1, hK.1, fun e => absurd e (by decide), fun _ => gI_of h1 (by simp) rfl ⟨rfl, cI_mk (cI_mk ?_)⟩⟩⟩)))
  rw [e0, List.length_map]
  exact HK
theorem hsh_take {i : Nat} {b : Int32} (hb : bs[i]? = some b) : hsh (bs.take (i + 1)) = 31 * hsh (bs.take i) + (b &&& 255) := by
  obtain ⟨h1, h2⟩ := List.getElem?_eq_some_iff.mp hb
  rw [List.take_succ_eq_append_getElem h1, h2]
  unfold hsh
  rw [List.foldl_append]; rfl
theorem s_signedHash {a : Nat} {w : Bool} {K : Int32 → AH → Prop} (ha : h.1 a = some (101, w, bs.map Value.int)) (hl : bs.length < 1000000) (HK : K (hsh bs) h) : MF G d mi_ArraysSupport_signedHashCode 0 [.int 0, .ref a, .int 0, .int (i32 bs.length), .retAddr 0, .retAddr 0] [] h (cI K Qx) := by
  have loop : ∀ r i, r + i = bs.length → MF G d mi_ArraysSupport_signedHashCode 8 [.int (hsh (bs.take i)), .ref a, .int 0, .int (i32 bs.length), .int (i32 bs.length), .int (i32 i)] [] h (cI K Qx) := by
    intro r
    induction r with
    | zero =>
      intro i hi
      have : i = bs.length := by omega
      subst this
      refine b_ArraysSupport_signedHashCode_8 rfl ⟨fun _ => ?_, fun hn => absurd ((i32_le (by omega) (by omega)).mpr (Nat.le_refl _)) hn⟩
      rw [List.take_length]
      exact cI_mk HK
    | succ r ih =>
      intro i hi
      have hb := List.getElem?_eq_getElem (l := bs) (i := i) (by omega)
      refine b_ArraysSupport_signedHashCode_8 rfl ⟨fun hle => absurd ((i32_le (by omega) (by omega)).mp hle) (by omega), fun _ => dR_of (aI_of ha (i32_nn (by omega)) (by rw [i32_nat (by omega), List.getElem?_map, hb]; rfl) ?_)⟩
      rw [i32_succ, ← hsh_take hb]
      exact ih (i + 1) (by omega)
  refine b_ArraysSupport_signedHashCode_0 rfl ?_
  have e : (0 : Int32) + i32 bs.length = i32 bs.length := Int32.zero_add _
  rw [e]
  exact loop bs.length 0 rfl
theorem s_hash {K : Int32 → AH → Prop} (hK : SK G) (hs : StrO h q bs) (hl : bs.length < 1000000) (HK : ∀ h', Chg 0 F0s h h' → h'.2 = h.2 → K (hsh bs) h') : MF G (d + 3) mi_String_hashCode 0 [.ref q, .retAddr 0] [] h (cI K Qx) := by
  have hs0 := hs
  obtain ⟨w, a, x, y, h1, h2, h3, h4, h5, h6⟩ := hs
  refine b_String_hashCode_0 (gI_of h1 (by simp) rfl ⟨fun hx => cI_mk ?_, fun hx => gI_of h1 (by simp) rfl ⟨fun hy => cI_mk ?_, fun hy => ?_⟩⟩)
  · rw [h5 hx]; exact HK h Chg.refl rfl
  · have := HK h Chg.refl rfl
    rw [h6 hx hy] at this
    rw [hx]; exact this
  · have hw : w = true := by
      cases w with
      | true => rfl
      | false => exact absurd ⟨hx, hy⟩ (h4 rfl)
    subst hw; subst hx; subst hy
    have fin : ∀ z, z = hsh bs → ((¬ z = 0 → pF h q [14] 2 (.int z) fun h15 => cI K Qx (.inl (some (.int z))) h15) ∧ (z = 0 → (narrow .boolean (.int 1) = .int 1 ∧ fits .boolean (.int 1) = true ∧ pF h q [14] 3 (.int 1) fun h16 => cI K Qx (.inl (some (.int z))) h16))) := by
      intro z hz
      subst hz
      refine ⟨fun hn => pF_of h1 (by simp) (by simp) (cI_mk (HK _ (Chg.hash hs0 h1 (fun _ => rfl) (fun e => absurd e hn)) rfl)), fun he => ⟨by decide, rfl, pF_of h1 (by simp) (by simp) (cI_mk (HK _ (Chg.hash hs0 h1 (fun hn => absurd rfl hn) fun _ _ => he) rfl))⟩⟩
    refine ⟨hasKs_of h1 (by simp), b_String_isLatin1_0 ⟨1, hK.1, fun e => absurd e (by decide), fun _ => gI_of h1 (by simp) rfl ⟨fun hn => absurd rfl hn, fun _ => cI_mk ⟨fun e => absurd e (by decide), fun _ => gR_of h1 (by simp) rfl rfl ?_⟩⟩⟩⟩
    refine b_StringLatin1_hashCode_0 rfl (dR_of (aL_of h2 ?_))
    rw [List.length_map]
    refine ⟨fun e => cI_mk (fin 0 ?_), fun e => ?_, fun hn => aL_of h2 ?_⟩
    · have : bs.length = 0 := (i32_eq (a := bs.length) (b := 0) (by omega) (by omega)).mp e
      rw [List.eq_nil_of_length_eq_zero this]; rfl
    · have : bs.length = 1 := (i32_eq (a := bs.length) (b := 1) (by omega) (by omega)).mp e
      obtain ⟨b, rfl⟩ := List.length_eq_one_iff.mp this
      refine aI_of h2 (by decide) rfl (cI_mk (fin _ ?_))
      show b &&& 255 = 31 * 0 + (b &&& 255)
      rw [Int32.mul_zero, Int32.zero_add]
    · rw [List.length_map]
      exact b_vhash4 h2 (s_signedHash h2 hl (cI_mk (cI_mk (fin _ rfl))))
theorem s_strEq {q2 : Nat} {bs2 : List Int32} {K : Int32 → AH → Prop} (hK : SK G) (h1 : StrO h q bs) (h2 : StrO h q2 bs2) (hl : bs.length < 1000000) (hl2 : bs2.length < 1000000) (HK : K (b01 (decide (bs = bs2))) h) : MF G (d + 1) mi_String_equals 0 [.ref q, .ref q2, .retAddr 0] [] h (cI K Qx) := by
  have h10 := h1
  have h20 := h2
  obtain ⟨w, a, x, y, a1, a2, -⟩ := h1
  obtain ⟨w2, c, x2, y2, c1, c2, -⟩ := h2
  refine b_String_equals_0 rfl ⟨fun hne => ⟨1, Or.inr (Or.inl ⟨q2, rfl, h20.isC, rfl⟩), fun e => absurd e (by decide), fun _ => ⟨fun q9 e9 => (by cases e9; exact h20.isC), 1, hK.1, fun e => absurd e (by decide), fun _ => gI_of a1 (by simp) rfl (dR_of (gI_of c1 (by simp) rfl ⟨fun hn => absurd rfl hn, fun _ => ?_⟩))⟩⟩, fun he => cI_mk ?_⟩
  · refine b_String_equals_36 rfl rfl (gR_of a1 (by simp) rfl rfl (dR_of (gR_of c1 (by simp) rfl rfl ?_)))
    have fin : ∀ b : Bool, b = decide (bs = bs2) → cI (fun y4 h4 => ((y4 = 0 → cI K Qx (.inl (some (.int 0))) h4) ∧ (¬ y4 = 0 → cI K Qx (.inl (some (.int 1))) h4))) (fun q9 h9 => cI K Qx (.inr q9) h9) (.inl (some (.int (b01 b)))) h := by
      intro b hb
      subst hb
      refine cI_mk ⟨fun e => cI_mk ?_, fun e => cI_mk ?_⟩
      · rw [b01_0 e] at HK; exact HK
      · rw [b01_1 e] at HK; exact HK
    refine b_StringLatin1_equals_0 rfl rfl (dR_of (aL_of a2 (dR_of (aL_of c2 ?_))))
    rw [List.length_map, List.length_map]
    refine ⟨fun hn => fin false ?_, fun he => ?_⟩
    · exact (decide_eq_false (fun e => hn (by rw [e]))).symm
    · have hle : bs.length = bs2.length := (i32_eq (by omega) (by omega)).mp he
      have loop : ∀ r i, r + i = bs.length → bs.take i = bs2.take i → MF G d mi_StringLatin1_equals 9 [.ref a, .ref c, .int (i32 i)] [] h (cI (fun y4 h4 => ((y4 = 0 → cI K Qx (.inl (some (.int 0))) h4) ∧ (¬ y4 = 0 → cI K Qx (.inl (some (.int 1))) h4))) (fun q9 h9 => cI K Qx (.inr q9) h9)) := by
        intro r
        induction r with
        | zero =>
          intro i hi hpre
          refine b_StringLatin1_equals_9 rfl rfl (dR_of (aL_of a2 ?_))
          rw [List.length_map]
          refine ⟨fun _ => fin true ?_, fun hn => absurd ((i32_le (by omega) (by omega)).mpr (by omega)) hn⟩
          rw [List.take_of_length_le (by omega), List.take_of_length_le (by omega)] at hpre
          exact (decide_eq_true hpre).symm
        | succ r ih =>
          intro i hi hpre
          have hb := List.getElem?_eq_getElem (l := bs) (i := i) (by omega)
          have hb2 := List.getElem?_eq_getElem (l := bs2) (i := i) (by omega)
          refine b_StringLatin1_equals_9 rfl rfl (dR_of (aL_of a2 ?_))
          rw [List.length_map]
          refine ⟨fun hn => absurd ((i32_le (by omega) (by omega)).mp hn) (by omega), fun _ => aI_of a2 (i32_nn (by omega)) (by rw [i32_nat (by omega), List.getElem?_map, hb]; rfl) (dR_of (aI_of c2 (i32_nn (by omega)) (by rw [i32_nat (by omega), List.getElem?_map, hb2]; rfl) ⟨fun e => ?_, fun hn => fin false ?_⟩))⟩
          · rw [i32_succ]
            refine ih (i + 1) (by omega) ?_
            rw [List.take_succ_eq_append_getElem (by omega), List.take_succ_eq_append_getElem (by omega), hpre, e]
          · refine (decide_eq_false (fun e => hn ?_)).symm
            subst e; rfl
      exact loop bs.length 0 rfl rfl
  · have e9 : q = q2 := by cases he; rfl
    subst e9
    have := h10.inj h20
    rw [decide_eq_true this] at HK
    exact HK
theorem s_soChar {i : Nat} {b : Int32} {K : Int32 → AH → Prop} (hK : SK G) (hs : StrO h q bs) (hl : bs.length < 1000000) (hb : bs[i]? = some b) (HK : K (b &&& 255) h) : MF G (d + 4) mi_String_charAt 0 [.ref q, .int (i32 i)] [] h (cI K Qx) := by
  obtain ⟨w, a, x, y, h1, h2, h3, -⟩ := hs
  have hi := (List.getElem?_eq_some_iff.mp hb).1
  obtain ⟨k, hk, rfl⟩ := h3 b (List.mem_of_getElem? hb)
  have ech : UInt32.toInt32 (Int32.toUInt32 (sby k &&& 255) % 65536) = sby k &&& 255 := by
    rw [sby_255 k hk]
    exact (show ∀ k, k < 256 → UInt32.toInt32 (Int32.toUInt32 (i32 k) % 65536) = i32 k from by decide +kernel) k hk
  have ech2 : narrow .char (.int (sby k &&& 255)) = .int (sby k &&& 255) := by
    rw [sby_255 k hk]
    exact (show ∀ k, k < 256 → narrow .char (.int (i32 k)) = .int (i32 k) from by decide +kernel) k hk
  refine b_String_charAt_0 ⟨hasKs_of h1 (by simp), b_String_isLatin1_0 ⟨1, hK.1, fun e => absurd e (by decide), fun _ => gI_of h1 (by simp) rfl ⟨fun hn => absurd rfl hn, fun _ => cI_mk ⟨fun e => absurd e (by decide), fun _ => gR_of h1 (by simp) rfl rfl ?_⟩⟩⟩⟩
  refine b_StringLatin1_charAt_0 rfl (dR_of (aL_of h2 ?_))
  rw [List.length_map]
  refine b_String_checkIndex_0 ⟨hK.2, b_Preconditions_checkIndex_0 hK.2 ⟨fun h9 => absurd h9 (i32_nn (by omega)), fun _ => ⟨fun _ => cI_mk (cV_mk (aI_of h2 (i32_nn (by omega)) (by rw [i32_nat (by omega), List.getElem?_map, hb]; rfl) ?_)), fun hn => absurd ((i32_lt (by omega) (by omega)).mpr hi) hn⟩⟩⟩
  rw [ech]
  exact ⟨ech2, cI_mk ⟨ech2, cI_mk HK⟩⟩
end
