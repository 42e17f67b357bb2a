/-! heaps in the machine: going up, going down -/
set_option maxRecDepth 100000
/-- an element and its rank -/
abbrev VI : Type := Value × Int
def rkV (x : VI) : Int := x.2
theorem shr1 {k : Nat} (hk : k < 2147483648) : ((i32 k).toUInt32 >>> (Int32.toUInt32 1 &&& Int32.toUInt32 31)).toInt32 = i32 (k / 2) := by
  rw [show (Int32.toUInt32 1 &&& Int32.toUInt32 31) = 1 from by decide]
  unfold i32
  rw [← Int32.toBitVec_inj]
  apply BitVec.eq_of_toNat_eq
  simp [Nat.shiftRight_eq_div_pow]
  omega
/-- elements that can be compared: they stay so when cells of F change -/
def CmpS (G : GL) (d cc : Nat) (F : Nat → Prop) (Eh : AH → Value → Int → Prop) : Prop :=
  (∀ h h' c v n, Eh h v n → Chg c F h h' → Eh h' v n) ∧
  (∀ h v n, Eh h v n → ∃ q kd w fs, v = .ref q ∧ h.1 q = some (kd, w, fs) ∧ (kd = 5 ∨ kd = 6 ∨ kd = 13)) ∧
  (∀ h q u n1 n2 K Qx, Eh h (.ref q) n1 → Eh h u n2 → cc ≤ h.2.2 → (∀ h' r, Chg cc F0s h h' → (r < 0 ↔ n1 < n2) → (0 < r ↔ n2 < n1) → K r h') → vL G d h q dsp_Comparable_compareTo [.ref q, u] (cI K Qx))
section
variable {G : GL} {d cc : Nat} {F : Nat → Prop} {Eh : AH → Value → Int → Prop}
theorem CmpS.obj (hC : CmpS G d cc F Eh) {h : AH} {v : Value} {n : Int} (hv : Eh h v n) : ∃ q, v = .ref q ∧ isC h q "java/lang/Object" ∧ isC h q "java/lang/Comparable" := by
  obtain ⟨q, kd, w, fs, e, h1, hk⟩ := hC.2.1 h v n hv
  refine ⟨q, e, ⟨kd, w, fs, h1, ?_⟩, ⟨kd, w, fs, h1, ?_⟩⟩
  · rcases hk with rfl | rfl | rfl
    · exact ck_5_Object
    · exact ck_6_Object
    · exact ck_13_Object
  · rcases hk with rfl | rfl | rfl
    · exact ck_5_Comparable
    · exact ck_6_Comparable
    · exact ck_13_Comparable
theorem CmpS.ref (hC : CmpS G d cc F Eh) {h : AH} {v : Value} {n : Int} (hv : Eh h v n) : v.isRef = true := by
  obtain ⟨q, e, -⟩ := hC.obj hv
  rw [e]; rfl
/-- slots of an array hold the elements but for place k -/
def SlX (sl : List Value) (l : List VI) (k : Nat) : Prop := ∀ (i : Nat) (x : VI), i ≠ k → l[i]? = some x → sl[i]? = some x.1
def SlA (sl : List Value) (l : List VI) : Prop := ∀ (i : Nat) (x : VI), l[i]? = some x → sl[i]? = some x.1
theorem SlX.put {sl : List Value} {l : List VI} {k : Nat} {x : VI} (h : SlX sl l k) (hl : l.length ≤ sl.length) : SlA (sl.set k x.1) (l.set k x) := by
  intro i y hy
  rcases set_at hy with ⟨e, rfl⟩ | ⟨e, k1⟩
  · subst e
    have := (List.getElem?_eq_some_iff.mp hy).1
    rw [List.length_set] at this
    rw [List.getElem?_set_self (by omega)]
  · rw [List.getElem?_set_ne (Ne.symm e)]
    exact h i y e k1
theorem SlA.x {sl : List Value} {l : List VI} {k : Nat} (h : SlA sl l) : SlX sl l k := fun i x _ hx => h i x hx
theorem getD_mem {l : List VI} {i : Nat} {x : VI} (h : i < l.length) : l.getD i x ∈ l := List.mem_of_getElem? (getD_at h)
/-- all elements but one at place k can be compared -/
def EhX (Eh : AH → Value → Int → Prop) (h : AH) (l : List VI) (k : Nat) : Prop := ∀ (i : Nat) (x : VI), i ≠ k → l[i]? = some x → Eh h x.1 x.2
theorem s_siftUpC (hC : CmpS G d cc F Eh) {arr : Nat} (hF : F arr) {K : AH → Prop} {Qx : Nat → AH → Prop} : ∀ r (l : List VI) k x h sl u4 u5, k ≤ r → k < l.length → l.length ≤ sl.length → sl.length < 1000000 → h.1 arr = some (104, true, sl) → SlX sl l k → EhX Eh h l k → Eh h x.1 x.2 → r * cc ≤ h.2.2 → (∀ h' sl', h'.1 arr = some (104, true, sl') → sl'.length = sl.length → SlA sl' (pqUp rkV r l k x) → (∀ i, l.length ≤ i → sl'[i]? = sl[i]?) → Chg (r * cc) (fun q => q = arr) h h' → K h') → MF G (d + 1) mi_PriorityQueue_siftUpComparable 5 [.int (i32 k), x.1, .ref arr, x.1, u4, u5] [] h (cV K Qx) := by
  intro r
  induction r with
  | zero =>
    intro l k x h sl u4 u5 hkr hk hl hs hc hX hE hx hroom HK
    obtain ⟨q, hq, o1, o2⟩ := hC.obj hx
    have : k = 0 := by omega
    subst this
    refine b_PriorityQueue_siftUpComparable_5 (hC.ref hx) rfl (hC.ref hx) ⟨fun _ => dR_of ?_, fun hn => absurd (by decide) hn⟩
    rw [hq]
    refine dR_of ⟨o1, pA_of hc (i32_nn (by omega)) (by rw [i32_nat (by omega)]; omega) (cV_mk ?_)⟩
    rw [i32_nat (by omega), ← hq]
    refine HK _ _ (AH.put_self hc) List.length_set (hX.put hl) (fun i hi => List.getElem?_set_ne (by omega)) ?_
    exact (Chg.put (F := fun q => q = arr) hc (by decide) rfl).mono (by omega) fun _ h9 => h9
  | succ r ih =>
    intro l k x h sl u4 u5 hkr hk hl hs hc hX hE hx hroom HK
    obtain ⟨q, hq, o1, o2⟩ := hC.obj hx
    have hroom2 : cc ≤ h.2.2 := by rw [Nat.succ_mul] at hroom; omega
    by_cases h0 : k = 0
    · subst h0
      refine b_PriorityQueue_siftUpComparable_5 (hC.ref hx) rfl (hC.ref hx) ⟨fun _ => dR_of ?_, fun hn => absurd (by decide) hn⟩
      rw [hq]
      refine dR_of ⟨o1, pA_of hc (i32_nn (by omega)) (by rw [i32_nat (by omega)]; omega) (cV_mk ?_)⟩
      rw [i32_nat (by omega), ← hq]
      refine HK _ _ (AH.put_self hc) List.length_set (hX.put hl) (fun i hi => List.getElem?_set_ne (by omega)) ?_
      exact (Chg.put (F := fun q => q = arr) hc (by decide) rfl).mono (by omega) fun _ h9 => h9
    · obtain ⟨k', rfl⟩ : ∃ k', k = k' + 1 := ⟨k - 1, by omega⟩
      have hp : k' / 2 < l.length := by omega
      have hpe := getD_at (l := l) (x := x) hp
      have hEe := hE (k' / 2) _ (by omega) hpe
      have hsl := hX (k' / 2) _ (by omega) hpe
      have hUp : pqUp rkV (r + 1) l (k' + 1) x = if rkV x < rkV (l.getD (k' / 2) x) then pqUp rkV r (l.set (k' + 1) (l.getD (k' / 2) x)) (k' / 2) x else l.set (k' + 1) x := if_neg h0
      rw [hUp] at HK
      generalize l.getD (k' / 2) x = e at *
      obtain ⟨qe, hqe, oe1, oe2⟩ := hC.obj hEe
      refine b_PriorityQueue_siftUpComparable_5 (hC.ref hx) rfl (hC.ref hx) ⟨fun hn => absurd ((i32_le (b := 0) (by omega) (by omega)).mp hn) (by omega), fun _ => dR_of ?_⟩
      rw [i32_pred, shr1 (by omega)]
      refine aR_of hc (i32_nn (by omega)) (by rw [i32_nat (by omega)]; exact hsl) (hC.ref hEe) ?_
      rw [hq]
      refine dR_of (hC.2.2 h q e.1 x.2 e.2 _ _ (hq ▸ hx) hEe hroom2 fun h1 rr c1 r1 r2 => ⟨fun hlt => ?_, fun hge => ?_⟩)
      · have hlt' : rkV x < rkV e := r1.mp hlt
        rw [if_pos hlt'] at HK
        have hc1 : h1.1 arr = some (104, true, sl) := c1.2.2.2.2 _ _ hc (show KX 104 from by decide) (fun h9 => h9)
        have cF := c1.mono (c' := cc) (F' := F) (Nat.le_refl _) fun _ h9 => h9.elim
        have hx1 := hC.1 _ _ _ _ _ hx cF
        have hEe1 := hC.1 _ _ _ _ _ hEe cF
        obtain ⟨qe2, hqe2, oe3, -⟩ := hC.obj hEe1
        rw [hqe] at hqe2
        cases hqe2
        rw [hqe]
        refine dR_of ⟨oe3, pA_of hc1 (i32_nn (by omega)) (by rw [i32_nat (by omega)]; omega) ?_⟩
        rw [i32_nat (by omega), ← hq, ← hqe]
        have c2 := Chg.put (F := fun q => q = arr) (fs' := sl.set (k' + 1) e.1) hc1 (by decide) rfl
        have c2F := c2.mono (c' := 0) (F' := F) (Nat.le_refl _) fun q h9 => by rw [h9]; exact hF
        refine ih (l.set (k' + 1) e) (k' / 2) x _ (sl.set (k' + 1) e.1) _ _ (by omega) (by rw [List.length_set]; exact hp) (by rw [List.length_set, List.length_set]; exact hl) (by rw [List.length_set]; exact hs) (AH.put_self hc1) (hX.put hl).x (fun i y hi hy => ?_) (hC.1 _ _ _ _ _ hx1 c2F) ?_ fun h' sl' a1 a2 a3 a4 a5 => HK h' sl' a1 (a2.trans List.length_set) a3 (fun i hi => (a4 i (by rw [List.length_set]; exact hi)).trans (List.getElem?_set_ne (by omega))) ?_
        · rcases set_at hy with ⟨e9, rfl⟩ | ⟨e9, k1⟩
          · exact hC.1 _ _ _ _ _ hEe1 c2F
          · exact hC.1 _ _ _ _ _ (hC.1 _ _ _ _ _ (hE i y e9 k1) cF) c2F
        · rw [Nat.succ_mul] at hroom
          have := c1.2.1
          rw [AH.put_2]
          omega
        · have c3 := (c1.mono (c' := cc) (F' := fun q => q = arr) (Nat.le_refl _) fun _ h9 => h9.elim).same (c2.same a5)
          exact c3.mono (by rw [Nat.succ_mul]; omega) fun _ h9 => h9
      · have hge' : ¬ rkV x < rkV e := fun h9 => hge (r1.mpr h9)
        rw [if_neg hge'] at HK
        have hc1 : h1.1 arr = some (104, true, sl) := c1.2.2.2.2 _ _ hc (show KX 104 from by decide) (fun h9 => h9)
        have cF := c1.mono (c' := cc) (F' := F) (Nat.le_refl _) fun _ h9 => h9.elim
        have hx1 := hC.1 _ _ _ _ _ hx cF
        obtain ⟨q2, hq2, o3, -⟩ := hC.obj hx1
        rw [hq] at hq2
        cases hq2
        refine ⟨o3, pA_of hc1 (i32_nn (by omega)) (by rw [i32_nat (by omega)]; omega) (cV_mk ?_)⟩
        rw [i32_nat (by omega), ← hq]
        refine HK _ _ (AH.put_self hc1) List.length_set (hX.put hl) (fun i hi => List.getElem?_set_ne (by omega)) ?_
        have c2 := Chg.put (F := fun q => q = arr) (fs' := sl.set (k' + 1) x.1) hc1 (by decide) rfl
        exact ((c1.mono (c' := cc) (F' := fun q => q = arr) (Nat.le_refl _) fun _ h9 => h9.elim).same c2).mono (by rw [Nat.succ_mul]; omega) fun _ h9 => h9
end
