/-! THE TWIN's OBJECT: a pure picture of it (ints by field number; arrays by field number) -/
set_option maxRecDepth 100000
def i32 (n : Nat) : Int32 := Int32.ofNat n
theorem i32_add (a b : Nat) : i32 a + i32 b = i32 (a + b) := (Int32.ofNat_add a b).symm
theorem i32_mul (a b : Nat) : i32 a * i32 b = i32 (a * b) := (Int32.ofNat_mul a b).symm
theorem i32_toInt {n : Nat} (h : n < 2147483648) : (i32 n).toInt = (n : Int) := by
  exact Int32.toInt_ofNat_of_lt h
theorem i32_nat {n : Nat} (h : n < 2147483648) : (i32 n).toNatClampNeg = n := by
  show (i32 n).toInt.toNat = n
  rw [i32_toInt h]
  omega
theorem i32_nn {n : Nat} (h : n < 2147483648) : ¬ i32 n < 0 := by
  rw [Int32.lt_iff_toInt_lt, i32_toInt h]
  have : (0 : Int32).toInt = 0 := rfl
  omega
theorem i32_le {a b : Nat} (ha : a < 2147483648) (hb : b < 2147483648) : i32 a ≤ i32 b ↔ a ≤ b := by
  rw [Int32.le_iff_toInt_le, i32_toInt ha, i32_toInt hb]; omega
theorem i32_lt {a b : Nat} (ha : a < 2147483648) (hb : b < 2147483648) : i32 a < i32 b ↔ a < b := by
  rw [Int32.lt_iff_toInt_lt, i32_toInt ha, i32_toInt hb]; omega
theorem i32_eq {a b : Nat} (ha : a < 2147483648) (hb : b < 2147483648) : i32 a = i32 b ↔ a = b := by
  rw [← Int32.toInt_inj, i32_toInt ha, i32_toInt hb]; omega
theorem i32_succ (a : Nat) : i32 a + 1 = i32 (a + 1) := i32_add a 1
theorem i32_pred {a : Nat} : i32 (a + 1) - 1 = i32 a := by
  rw [← i32_add]
  show i32 a + 1 - 1 = i32 a
  rw [Int32.add_sub_cancel]
theorem ix3 (b k j : Nat) : (i32 b + i32 3 * i32 k) + i32 j = i32 (b + 3 * k + j) := by rw [i32_mul, i32_add, i32_add]
theorem ix4 (b k j : Nat) : (i32 b + i32 4 * i32 k) + i32 j = i32 (b + 4 * k + j) := by rw [i32_mul, i32_add, i32_add]
abbrev TS : Type := (Nat → Int32) × (Nat → List Int32)
def isA (k : Nat) : Bool := [0, 1, 2, 3, 4, 5, 9, 17, 18, 19, 20, 21, 26, 27].contains k
def setF (S : TS) (k : Nat) (x : Int32) : TS := (fun j => if j = k then x else S.1 j, S.2)
def setR (S : TS) (k : Nat) (l : List Int32) : TS := (S.1, fun j => if j = k then l else S.2 j)
def tFs (A : Nat → Nat) (S : TS) : List Value := (List.range 29).map fun k => if isA k then .ref (A k) else .int (S.1 k)
def TF (m : Nat) (A : Nat → Nat) (q : Nat) : Prop := q = m ∨ ∃ k, isA k = true ∧ q = A k
/-- kind of array k -/
def tK (k : Nat) : Nat := if k = 5 then 103 else 100
/-- the twin stands at m, its arrays at A; nothing else changed since h0 -/
def TWX (h0 h : AH) (m : Nat) (A : Nat → Nat) (S : TS) : Prop := h.1 m = some (12, true, tFs A S) ∧ (∀ k, isA k = true → h.1 (A k) = some (tK k, true, (S.2 k).map Value.int)) ∧ (∀ k j, isA k = true → isA j = true → A k = A j → k = j) ∧ (∀ k, isA k = true → A k ≠ m) ∧ h.2 = h0.2 ∧ ∀ q, ¬ TF m A q → h.1 q = h0.1 q
theorem tFs_at {A : Nat → Nat} {S : TS} {k : Nat} (hk : k < 29) : (tFs A S)[k]? = some (if isA k then .ref (A k) else .int (S.1 k)) := by
  unfold tFs
  rw [List.getElem?_map, List.getElem?_range hk]
  rfl
theorem tFs_len {A : Nat → Nat} {S : TS} : (tFs A S).length = 29 := by simp [tFs]
theorem tFs_set {A : Nat → Nat} {S : TS} {k : Nat} {x : Int32} (hk : k < 29) (ha : isA k = false) : (tFs A S).set k (.int x) = tFs A (setF S k x) := by
  apply List.ext_getElem?
  intro j
  by_cases hj : j < 29
  · rw [tFs_at hj, List.getElem?_set]
    by_cases e : k = j
    · subst e
      simp [tFs_len, hk, ha, setF]
    · rw [if_neg e, tFs_at hj]
      simp [setF, Ne.symm e]
  · rw [List.getElem?_eq_none (by simp [tFs_len]; omega), List.getElem?_eq_none (by simp [tFs_len]; omega)]
section
variable {h0 h : AH} {m : Nat} {A : Nat → Nat} {S : TS}
theorem TWX.self (H : TWX h0 h m A S) : TWX h h m A S := ⟨H.1, H.2.1, H.2.2.1, H.2.2.2.1, rfl, fun _ _ => rfl⟩
theorem TWX.trans {h1 : AH} {S1 : TS} (H : TWX h0 h m A S) (H1 : TWX h h1 m A S1) : TWX h0 h1 m A S1 := ⟨H1.1, H1.2.1, H1.2.2.1, H1.2.2.2.1, H1.2.2.2.2.1.trans H.2.2.2.2.1, fun q hq => (H1.2.2.2.2.2 q hq).trans (H.2.2.2.2.2 q hq)⟩
theorem tw_K (H : TWX h0 h m A S) : hasKs h m [12] := ⟨12, by simp, true, _, H.1⟩
theorem tw_I (H : TWX h0 h m A S) {k : Nat} {K : Int32 → Prop} (hk : k < 29) (ha : isA k = false) (HK : K (S.1 k)) : gI h m [12] k K :=
  gI_of H.1 (by simp) (by rw [tFs_at hk, ha]; rfl) HK
theorem tw_R (H : TWX h0 h m A S) {k : Nat} {K : Value → Prop} (hk : k < 29) (ha : isA k = true) (HK : K (.ref (A k))) : gR h m [12] k K :=
  gR_of H.1 (by simp) (by rw [tFs_at hk, ha]; rfl) rfl HK
theorem tw_RR (H : TWX h0 h m A S) {k : Nat} {K : Nat → Prop} (hk : k < 29) (ha : isA k = true) (HK : K (A k)) : gR h m [12] k fun v => dR v K := tw_R H hk ha (dR_of HK)
theorem map_int_at {l : List Int32} {n : Nat} {x : Int32} (hx : l[n]? = some x) : (l.map Value.int)[n]? = some (.int x) := by simp [hx]
theorem tw_aI (H : TWX h0 h m A S) {k n : Nat} {e x : Int32} {K : Int32 → Prop} (ha : isA k = true) (h5 : k ≠ 5) (he : e = i32 n) (hn : n < 2147483648) (hx : (S.2 k)[n]? = some x) (HK : K x) : aI h (A k) 100 e K := by
  subst he
  have hc := H.2.1 k ha
  rw [show tK k = 100 from if_neg h5] at hc
  exact aI_of hc (i32_nn hn) (by rw [i32_nat hn]; exact map_int_at hx) HK
theorem tw_aZ (H : TWX h0 h m A S) {n : Nat} {e x : Int32} {K : Int32 → Prop} (he : e = i32 n) (hn : n < 2147483648) (hx : (S.2 5)[n]? = some x) (HK : K x) : aI h (A 5) 103 e K := by
  subst he
  exact aI_of (H.2.1 5 rfl) (i32_nn hn) (by rw [i32_nat hn]; exact map_int_at hx) HK
/-- read array k at e -/
theorem tw_g (H : TWX h0 h m A S) {k n : Nat} {e x : Int32} {K : Int32 → Prop} (hk : k < 29) (ha : isA k = true) (h5 : k ≠ 5) (he : e = i32 n) (hn : n < 2147483648) (hx : (S.2 k)[n]? = some x) (HK : K x) : gR h m [12] k fun v1 => dR v1 fun q2 => aI h q2 100 e K :=
  tw_RR H hk ha (tw_aI H ha h5 he hn hx HK)
theorem tw_put (H : TWX h0 h m A S) {k : Nat} {x : Int32} (hk : k < 29) (ha : isA k = false) : TWX h0 (h.put m ((tFs A S).set k (.int x))) m A (setF S k x) := by
  obtain ⟨H1, H2, H3, H4, H5, H6⟩ := H
  refine ⟨by rw [AH.put_self H1, tFs_set hk ha], fun j hj => ?_, H3, H4, H5, fun q hq => ?_⟩
  · rw [AH.put_ne (H4 j hj)]; exact H2 j hj
  · rw [AH.put_ne (fun e => hq (Or.inl e))]; exact H6 q hq
theorem tw_F (H : TWX h0 h m A S) {k : Nat} {x : Int32} {K : AH → Prop} (hk : k < 29) (ha : isA k = false) (HK : ∀ h', TWX h0 h' m A (setF S k x) → K h') : pF h m [12] k (.int x) K :=
  pF_of H.1 (by simp) (by rw [tFs_len]; exact hk) (HK _ (tw_put H hk ha))
theorem tw_putA (H : TWX h0 h m A S) {k n : Nat} {x : Int32} (ha : isA k = true) : TWX h0 (h.put (A k) (((S.2 k).map Value.int).set n (.int x))) m A (setR S k ((S.2 k).set n x)) := by
  obtain ⟨H1, H2, H3, H4, H5, H6⟩ := H
  refine ⟨?_, fun j hj => ?_, H3, H4, H5, fun q hq => ?_⟩
  · rw [AH.put_ne (fun e => H4 k ha e.symm)]; exact H1
  · by_cases e : j = k
    · subst e
      rw [AH.put_self (H2 j ha)]
      simp [setR]
    · rw [AH.put_ne (fun e9 => e (H3 j k hj ha e9)), H2 j hj]
      simp [setR, e]
  · rw [AH.put_ne (fun e => hq (Or.inr ⟨k, ha, e⟩))]; exact H6 q hq
theorem tw_pA (H : TWX h0 h m A S) {k n : Nat} {e x : Int32} {K : AH → Prop} (ha : isA k = true) (h5 : k ≠ 5) (he : e = i32 n) (hn : n < 2147483648) (hl : n < (S.2 k).length) (HK : ∀ h', TWX h0 h' m A (setR S k ((S.2 k).set n x)) → K h') : pA h (A k) 100 e (.int x) K := by
  subst he
  have hc := H.2.1 k ha
  rw [show tK k = 100 from if_neg h5] at hc
  refine pA_of hc (i32_nn hn) (by rw [i32_nat hn]; simpa using hl) ?_
  rw [i32_nat hn]
  exact HK _ (tw_putA H ha)
theorem tw_pZ (H : TWX h0 h m A S) {n : Nat} {e x : Int32} {K : AH → Prop} (he : e = i32 n) (hn : n < 2147483648) (hl : n < (S.2 5).length) (hx : narrow .boolean (.int x) = .int x) (HK : ∀ h', TWX h0 h' m A (setR S 5 ((S.2 5).set n x)) → K h') : pA h (A 5) 103 e (narrow .boolean (.int x)) K := by
  subst he
  rw [hx]
  refine pA_of (H.2.1 5 rfl) (i32_nn hn) (by rw [i32_nat hn]; simpa using hl) ?_
  rw [i32_nat hn]
  exact HK _ (tw_putA H rfl)
end
theorem setF_1 {S : TS} {k : Nat} {x : Int32} : (setF S k x).1 k = x := by simp [setF]
theorem setF_n {S : TS} {k j : Nat} {x : Int32} (h : j ≠ k) : (setF S k x).1 j = S.1 j := by simp [setF, h]
theorem setF_2 {S : TS} {k : Nat} {x : Int32} : (setF S k x).2 = S.2 := rfl
theorem setR_1 {S : TS} {k : Nat} {l : List Int32} : (setR S k l).1 = S.1 := rfl
theorem setR_k {S : TS} {k : Nat} {l : List Int32} : (setR S k l).2 k = l := by simp [setR]
theorem setR_n {S : TS} {k j : Nat} {l : List Int32} (h : j ≠ k) : (setR S k l).2 j = S.2 j := by simp [setR, h]
