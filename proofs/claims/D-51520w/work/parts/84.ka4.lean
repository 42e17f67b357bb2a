/-! heaps in the machine: going down -/
set_option maxRecDepth 100000
theorem shl1 {k : Nat} (hk : k < 1000000000) : (i32 k <<< ((1 : Int32) &&& 31)) + 1 = i32 (2 * k + 1) := by
  have : i32 k <<< ((1 : Int32) &&& 31) = i32 (2 * k) := by
    rw [show ((1 : Int32) &&& 31) = 1 from by decide]
    unfold i32
    rw [← Int32.toBitVec_inj]
    apply BitVec.eq_of_toNat_eq
    simp [Nat.shiftLeft_eq]
    omega
  rw [this, i32_succ]
section
variable {G : GL} {d cc : Nat} {F : Nat → Prop} {Eh : AH → Value → Int → Prop}
theorem s_siftDnC (hC : CmpS G d cc F Eh) {arr : Nat} (hF : F arr) {K : AH → Prop} {Qx : Nat → AH → Prop} : ∀ r (l : List VI) k x h sl u6 u7 u8, l.length ≤ k + r → k < l.length → l.length ≤ sl.length → sl.length < 1000000 → h.1 arr = some (104, true, sl) → SlX sl l k → EhX Eh h l k → Eh h x.1 x.2 → r * (2 * cc) ≤ h.2.2 → (∀ h' sl', h'.1 arr = some (104, true, sl') → sl'.length = sl.length → SlA sl' (pqDn rkV r l k x) → (∀ i, l.length ≤ i → sl'[i]? = sl[i]?) → Chg (r * (2 * cc)) (fun q => q = arr) h h' → K h') → MF G (d + 1) mi_PriorityQueue_siftDownComparable 11 [.int (i32 k), x.1, .ref arr, .int (i32 l.length), x.1, .int (i32 (l.length / 2)), u6, u7, u8] [] h (cV K Qx) := by
  intro r
  induction r with
  | zero => intro l k x h sl u6 u7 u8 hr hk; omega
  | succ r ih =>
    intro l k x h sl u6 u7 u8 hr hk hl hs hc hX hE hx hroom HK
    obtain ⟨q, hq, o1, o2⟩ := hC.obj hx
    have e9 : (r + 1) * (2 * cc) = r * (2 * cc) + 2 * cc := Nat.succ_mul _ _
    rw [e9] at hroom
    have place : ∀ h1, Chg (2 * cc) F0s h h1 → pqDn rkV (r + 1) l k x = l.set k x → ∀ qx, x.1 = .ref qx → isC h1 qx "java/lang/Object" ∧ pA h1 arr 104 (i32 k) (.ref qx) fun h3 => cV K Qx (.inl none) h3 := by
      intro h1 c1 eD qx hqx
      have cF := c1.mono (c' := 2 * cc) (F' := F) (Nat.le_refl _) fun _ h9 => h9.elim
      have hx1 := hC.1 _ _ _ _ _ hx cF
      obtain ⟨q2, hq2, o3, -⟩ := hC.obj hx1
      rw [hqx] at hq2
      cases hq2
      have hc1 : h1.1 arr = some (104, true, sl) := c1.2.2.2.2 _ _ hc (show KX 104 from by decide) (fun h9 => h9)
      refine ⟨o3, pA_of hc1 (i32_nn (by omega)) (by rw [i32_nat (by omega)]; omega) (cV_mk ?_)⟩
      rw [i32_nat (by omega), ← hqx]
      rw [eD] at HK
      refine HK _ _ (AH.put_self hc1) List.length_set (hX.put hl) (fun i hi => List.getElem?_set_ne (by omega)) ?_
      have c2 := Chg.put (F := fun q => q = arr) (fs' := sl.set k x.1) hc1 (by decide) rfl
      exact ((c1.mono (c' := 2 * cc) (F' := fun q => q = arr) (Nat.le_refl _) fun _ h9 => h9.elim).same c2).mono (by have e9 : (r + 1) * (2 * cc) = r * (2 * cc) + 2 * cc := Nat.succ_mul _ _; omega) fun _ h9 => h9
    by_cases hh : l.length / 2 ≤ k
    · refine b_PriorityQueue_siftDownComparable_11 (hC.ref hx) rfl (hC.ref hx) ⟨fun _ => dR_of ?_, fun hn => absurd ((i32_le (by omega) (by omega)).mpr hh) hn⟩
      rw [hq]
      exact dR_of (place h (Chg.refl.mono (by omega) fun _ h9 => h9) (if_pos hh) q hq)
    · obtain ⟨c1', c2', -⟩ := pqC_ok (key := rkV) (x := x) hh
      have hDn : pqDn rkV (r + 1) l k x = if rkV (l.getD (pqC rkV l k x) x) < rkV x then pqDn rkV r (l.set k (l.getD (pqC rkV l k x) x)) (pqC rkV l k x) x else l.set k x := if_neg hh
      -- the child is found: compare with it
      have second : ∀ c e h1, c = pqC rkV l k x → e = l.getD (pqC rkV l k x) x → Chg cc F0s h h1 → ∀ u8, MF G (d + 1) mi_PriorityQueue_siftDownComparable 68 [.int (i32 k), x.1, .ref arr, .int (i32 l.length), x.1, .int (i32 (l.length / 2)), .int (i32 c), e.1, .int u8] [] h1 (cV K Qx) := by
        intro c e h1 hce hee c1 u8
        rw [← hee, ← hce] at hDn
        rw [← hce] at c1' c2'
        have hce2 : l[c]? = some e := by rw [hce, hee]; exact getD_at (by rw [← hce]; exact c2')
        have hck : c ≠ k := by omega
        have cF := c1.mono (c' := cc) (F' := F) (Nat.le_refl _) fun _ h9 => h9.elim
        have hx1 := hC.1 _ _ _ _ _ hx cF
        have hEe1 := hC.1 _ _ _ _ _ (hE c e hck hce2) cF
        have hroom1 : cc ≤ h1.2.2 := by have := c1.2.1; omega
        refine b_PriorityQueue_siftDownComparable_68 (hC.ref hx) rfl (hC.ref hx) (hC.ref hEe1) ?_
        rw [hq]
        refine dR_of (hC.2.2 h1 q e.1 x.2 e.2 _ _ (hq ▸ hx1) hEe1 hroom1 fun h2 rr c2 r1 r2 => ⟨fun hlt => dR_of ?_, fun hge => dR_of ?_⟩)
        · have hlt' : rkV e < rkV x := r2.mp hlt
          rw [if_pos hlt'] at hDn
          have c12 := (c1.trans0 c2).mono (c' := 2 * cc) (F' := F0s) (by omega) fun _ h9 => h9
          have cF2 := c12.mono (c' := 2 * cc) (F' := F) (Nat.le_refl _) fun _ h9 => h9.elim
          have hc2 : h2.1 arr = some (104, true, sl) := c12.2.2.2.2 _ _ hc (show KX 104 from by decide) (fun h9 => h9)
          have hEe2 := hC.1 _ _ _ _ _ (hE c e hck hce2) cF2
          obtain ⟨qe, hqe, oe, -⟩ := hC.obj hEe2
          rw [hqe]
          refine dR_of ⟨oe, pA_of hc2 (i32_nn (by omega)) (by rw [i32_nat (by omega)]; omega) ?_⟩
          rw [i32_nat (by omega), ← hqe, ← hq]
          have c3 := Chg.put (F := fun q => q = arr) (fs' := sl.set k e.1) hc2 (by decide) rfl
          have c3F := c3.mono (c' := 0) (F' := F) (Nat.le_refl _) fun q h9 => by rw [h9]; exact hF
          have hlen : (l.set k e).length = l.length := List.length_set
          have := ih (l.set k e) c x (h2.put arr (sl.set k e.1)) (sl.set k e.1) (.int (i32 c)) e.1 (.int u8) (by omega) (by omega) (by rw [hlen, List.length_set]; exact hl) (by rw [List.length_set]; exact hs) (AH.put_self hc2) (hX.put hl).x (fun i y hi hy => by
            rcases set_at hy with ⟨e9, rfl⟩ | ⟨e9, k1⟩
            · exact hC.1 _ _ _ _ _ hEe2 c3F
            · exact hC.1 _ _ _ _ _ (hC.1 _ _ _ _ _ (hE i y e9 k1) cF2) c3F) (hC.1 _ _ _ _ _ (hC.1 _ _ _ _ _ hx cF2) c3F) (by
            have := c12.2.1
            rw [AH.put_2]
            omega) fun h' sl' a1 a2 a3 a4 a5 => HK h' sl' a1 (a2.trans List.length_set) (by rw [hDn]; exact a3) (fun i hi => (a4 i (by rw [hlen]; exact hi)).trans (List.getElem?_set_ne (by omega))) (by
            have c4 := (c12.mono (c' := 2 * cc) (F' := fun q => q = arr) (Nat.le_refl _) fun _ h9 => h9.elim).same (c3.same a5)
            exact c4.mono (by have e9 : (r + 1) * (2 * cc) = r * (2 * cc) + 2 * cc := Nat.succ_mul _ _; omega) fun _ h9 => h9)
          rw [hlen] at this
          exact this
        · have hge' : ¬ rkV e < rkV x := fun h9 => hge (r2.mpr h9)
          rw [if_neg hge'] at hDn
          exact place h2 ((c1.trans0 c2).mono (by omega) fun _ h9 => h9) hDn q hq
      have h0 : 2 * k + 1 < l.length := by omega
      have he0 := getD_at (l := l) (x := x) h0
      have hE0 := hE (2 * k + 1) _ (by omega) he0
      have hs0 := hX (2 * k + 1) _ (by omega) he0
      refine b_PriorityQueue_siftDownComparable_11 (hC.ref hx) rfl (hC.ref hx) ⟨fun hn => absurd ((i32_le (by omega) (by omega)).mp hn) hh, fun _ => dR_of ?_⟩
      rw [shl1 (by omega), i32_succ]
      refine aR_of hc (i32_nn (by omega)) (by rw [i32_nat (by omega)]; exact hs0) (hC.ref hE0) ⟨fun hle => ?_, fun hgt => ?_⟩
      · have hle' := (i32_le (by omega) (by omega)).mp hle
        have hpc : pqC rkV l k x = 2 * k + 1 := if_pos hle'
        exact second (2 * k + 1) _ h hpc.symm (by rw [hpc]) (Chg.refl.mono (by omega) fun _ h9 => h9) _
      · have hgt' : ¬ l.length ≤ 2 * k + 1 + 1 := fun h9 => hgt ((i32_le (by omega) (by omega)).mpr h9)
        have he1 := getD_at (l := l) (x := x) (by omega : 2 * k + 1 + 1 < l.length)
        have hE1 := hE (2 * k + 1 + 1) _ (by omega) he1
        have hs1 := hX (2 * k + 1 + 1) _ (by omega) he1
        obtain ⟨q0, hq0, p1, p2⟩ := hC.obj hE0
        have hpc : pqC rkV l k x = if rkV (l.getD (2 * k + 1 + 1) x) < rkV (l.getD (2 * k + 1) x) then 2 * k + 1 + 1 else 2 * k + 1 := if_neg hgt'
        refine ⟨fun q9 h9 => by rw [hq0] at h9; cases h9; exact p2, aR_of hc (i32_nn (by omega)) (by rw [i32_nat (by omega)]; exact hs1) (hC.ref hE1) ?_⟩
        rw [hq0]
        refine dR_of (hC.2.2 h q0 _ _ _ _ _ (hq0 ▸ hE0) hE1 (by omega) fun h1 rr c1 r1 r2 => ⟨fun hle => ?_, fun hgt2 => ?_⟩)
        · have hnl : ¬ rkV (l.getD (2 * k + 1 + 1) x) < rkV (l.getD (2 * k + 1) x) := fun h9 => absurd hle (Int32.not_le.mpr (r2.mpr h9))
          rw [if_neg hnl] at hpc
          rw [← hq0]
          exact second (2 * k + 1) _ h1 hpc.symm (by rw [hpc]) c1 _
        · have hl2 : rkV (l.getD (2 * k + 1 + 1) x) < rkV (l.getD (2 * k + 1) x) := r2.mp (Int32.not_le.mp hgt2)
          rw [if_pos hl2] at hpc
          have hc1 : h1.1 arr = some (104, true, sl) := c1.2.2.2.2 _ _ hc (show KX 104 from by decide) (fun h9 => h9)
          refine aR_of hc1 (i32_nn (by omega)) (by rw [i32_nat (by omega)]; exact hs1) (hC.ref hE1) ?_
          exact second (2 * k + 1 + 1) _ h1 hpc.symm (by rw [hpc]) c1 _
end
