/-! arrays of objects grown; priority queues -/
set_option maxRecDepth 100000
theorem isC.new {h : AH} {q kd cost : Nat} {fs : List Value} {nm : String} (hi : isC h q nm) (hw : WFh h) : isC (h.new kd fs cost) q nm := by
  obtain ⟨k, w, f, h1, h2⟩ := hi
  exact ⟨k, w, f, by rw [AH.new_ne (by have := hw _ _ h1; omega)]; exact h1, h2⟩
section
variable {G : GL} {d : Nat} {h : AH} {Qx : Nat → AH → Prop}
theorem s_newLength {a b c : Nat} {K : Int32 → AH → Prop} (ha : a < 10000000) (hb : b < 10000000) (hc : c < 10000000) (h0 : 0 < a + max b c) (HK : K (i32 (a + max b c)) h) : MF G (d + 1) mi_ArraysSupport_newLength 0 [.int (i32 a), .int (i32 b), .int (i32 c), .retAddr 0] [] h (cI K Qx) := by
  have e : (if i32 b < i32 c then i32 c else i32 b) = i32 (max b c) := by
    by_cases hlt : b < c
    · rw [if_pos ((i32_lt (by omega) (by omega)).mpr hlt), Nat.max_eq_right (by omega)]
    · rw [if_neg (fun h9 => hlt ((i32_lt (by omega) (by omega)).mp h9)), Nat.max_eq_left (by omega)]
  have hm : max b c < 10000000 := by omega
  refine b_ArraysSupport_newLength_0 ?_
  rw [e, i32_add]
  refine ⟨fun hle => absurd ((i32_le (b := 0) (by omega) (by omega)).mp hle) (by omega), fun _ => ⟨fun hlt => absurd ((i32_lt (a := 2147483639) (by omega) (by omega)).mp hlt) (by omega), fun _ => cI_mk HK⟩⟩
/-- an array of objects copied into a longer one -/
theorem s_copyOfO {q n : Nat} {w : Bool} {sl : List Value} {K : Value → AH → Prop} (hq : h.1 q = some (104, w, sl)) (hn : sl.length ≤ n) (hn2 : n < 1000000) (hok : ∀ v, v ∈ sl → CopyOK h (.object "java/lang/Object") v) (hroom : n + 4 ≤ h.2.2) (HK : ∀ h', h'.1 h.2.1 = some (104, true, sl ++ List.replicate (n - sl.length) .null) → Chg (n + 4) F0s h h' → WFh h' → h'.2.1 = h.2.1 + 1 → K (.ref h.2.1) h') : MF G (d + 2) mi_Arrays_copyOf_2 0 [.ref q, .int (i32 n)] [] h (cR K Qx) := by
  refine MF.wfh fun hw => b_Arrays_copyOf_2_0 rfl (dR_of ⟨⟨w, sl, hq⟩, b_Arrays_copyOf_3_0 rfl rfl ⟨fun hn => absurd rfl hn, fun _ => ?_⟩⟩)
  have hqn : q ≠ h.2.1 := by have := hw _ _ hq; omega
  refine ⟨_, _, rfl, rfl, i32_nn (by omega), by rw [i32_nat (by omega)]; omega, by rw [i32_nat (by omega)]; exact hroom, ?_⟩
  rw [i32_nat (by omega)]
  have c1 := Chg.new (kd := 104) (fs := List.replicate n .null) hw hroom
  have hq1 : (h.new 104 (List.replicate n .null) (n + 4)).1 q = some (104, w, sl) := by rw [AH.new_ne hqn]; exact hq
  refine dR_of (aL_of hq1 ?_)
  have e : (if i32 n < Int32.ofNat sl.length then i32 n else Int32.ofNat sl.length) = i32 sl.length := by
    show (if i32 n < i32 sl.length then i32 n else i32 sl.length) = i32 sl.length
    rw [if_neg (fun h9 => absurd ((i32_lt (by omega) (by omega)).mp h9) (by omega))]
  rw [e]
  refine ⟨w, sl, List.replicate n .null, _, hq1, AH.new_self, by decide, by decide, i32_nn (by omega), ?_, ?_, ?_, rfl, cR_mk rfl ?_⟩
  · rw [i32_nat (by omega)]; show 0 + sl.length ≤ sl.length; omega
  · rw [i32_nat (by omega), List.length_replicate]; show 0 + sl.length ≤ n; omega
  · intro i hi
    rw [i32_nat (by omega)] at hi
    have hm : sl.getD (0 + i) .null ∈ sl := List.mem_of_getElem? (getD_at (by omega))
    exact ⟨(hok _ hm).1, fun q9 h9 => by
      obtain ⟨C, e1, e2⟩ := (hok _ hm).2 q9 h9
      exact ⟨C, e1, e2.new hw⟩⟩
  · have hcp : cpyL sl (List.replicate n .null) (0 : Int32).toNatClampNeg (0 : Int32).toNatClampNeg (i32 sl.length).toNatClampNeg = sl ++ List.replicate (n - sl.length) .null := by
      rw [i32_nat (by omega)]
      apply List.ext_getElem?
      intro j
      by_cases hj : j < n
      · rw [cpyL_at (by rw [List.length_replicate]; exact hj)]
        by_cases hj2 : j < sl.length
        · rw [if_pos ⟨Nat.zero_le _, by show j < 0 + sl.length; omega⟩, List.getElem?_append_left hj2]
          rw [show (0 : Int32).toNatClampNeg + (j - (0 : Int32).toNatClampNeg) = j from by show 0 + (j - 0) = j; omega]
          exact (getD_at hj2).symm
        · rw [if_neg (fun h9 => hj2 (by have := h9.2; have e0 : (0 : Int32).toNatClampNeg = 0 := rfl; omega)), List.getElem?_append_right (by omega), List.getElem?_replicate, if_pos (by omega)]
          rw [List.getD_eq_getElem?_getD, List.getElem?_replicate, if_pos hj]; rfl
      · rw [List.getElem?_eq_none (by rw [cpyL_len, List.length_replicate]; omega), List.getElem?_eq_none (by rw [List.length_append, List.length_replicate]; omega)]
    rw [hcp]
    refine cR_mk rfl (HK _ (AH.put_self AH.new_self) ?_ hw.new.put rfl)
    exact c1.trans (Chg.put (F := fun a => a = h.2.1) AH.new_self (by decide) rfl) fun a x e h9 => by have := hw _ _ e; omega
end
