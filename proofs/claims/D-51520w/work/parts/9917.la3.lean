/-! block lemmas of signedHashCode (printed by gen/one.py) -/
set_option maxRecDepth 100000
theorem d_ArraysSupport_signedHashCode_0 : decode prog_100_method_5_code 0 = .ok (.iload_n 2, 1) := by decide +kernel
theorem d_ArraysSupport_signedHashCode_1 : decode prog_100_method_5_code 1 = .ok (.iload_n 3, 1) := by decide +kernel
theorem d_ArraysSupport_signedHashCode_2 : decode prog_100_method_5_code 2 = .ok (.iadd, 1) := by decide +kernel
theorem d_ArraysSupport_signedHashCode_3 : decode prog_100_method_5_code 3 = .ok (.istore 4, 2) := by decide +kernel
theorem d_ArraysSupport_signedHashCode_5 : decode prog_100_method_5_code 5 = .ok (.iload_n 2, 1) := by decide +kernel
theorem d_ArraysSupport_signedHashCode_6 : decode prog_100_method_5_code 6 = .ok (.istore 5, 2) := by decide +kernel
theorem d_ArraysSupport_signedHashCode_8 : decode prog_100_method_5_code 8 = .ok (.iload 5, 2) := by decide +kernel
theorem d_ArraysSupport_signedHashCode_10 : decode prog_100_method_5_code 10 = .ok (.iload 4, 2) := by decide +kernel
theorem d_ArraysSupport_signedHashCode_12 : decode prog_100_method_5_code 12 = .ok (.if_icmp .ge 23, 3) := by decide +kernel
theorem d_ArraysSupport_signedHashCode_35 : decode prog_100_method_5_code 35 = .ok (.iload_n 0, 1) := by decide +kernel
theorem d_ArraysSupport_signedHashCode_36 : decode prog_100_method_5_code 36 = .ok (.ireturn, 1) := by decide +kernel
theorem d_ArraysSupport_signedHashCode_15 : decode prog_100_method_5_code 15 = .ok (.bipush 31, 2) := by decide +kernel
theorem d_ArraysSupport_signedHashCode_17 : decode prog_100_method_5_code 17 = .ok (.iload_n 0, 1) := by decide +kernel
theorem d_ArraysSupport_signedHashCode_18 : decode prog_100_method_5_code 18 = .ok (.imul, 1) := by decide +kernel
theorem d_ArraysSupport_signedHashCode_19 : decode prog_100_method_5_code 19 = .ok (.aload_n 1, 1) := by decide +kernel
theorem d_ArraysSupport_signedHashCode_20 : decode prog_100_method_5_code 20 = .ok (.iload 5, 2) := by decide +kernel
theorem d_ArraysSupport_signedHashCode_22 : decode prog_100_method_5_code 22 = .ok (.baload, 1) := by decide +kernel
theorem d_ArraysSupport_signedHashCode_23 : decode prog_100_method_5_code 23 = .ok (.sipush 255, 3) := by decide +kernel
theorem d_ArraysSupport_signedHashCode_26 : decode prog_100_method_5_code 26 = .ok (.iand, 1) := by decide +kernel
theorem d_ArraysSupport_signedHashCode_27 : decode prog_100_method_5_code 27 = .ok (.iadd, 1) := by decide +kernel
theorem d_ArraysSupport_signedHashCode_28 : decode prog_100_method_5_code 28 = .ok (.istore_n 0, 1) := by decide +kernel
theorem d_ArraysSupport_signedHashCode_29 : decode prog_100_method_5_code 29 = .ok (.iinc 5 1, 3) := by decide +kernel
theorem d_ArraysSupport_signedHashCode_32 : decode prog_100_method_5_code 32 = .ok (.goto (-24), 3) := by decide +kernel
theorem b_ArraysSupport_signedHashCode_0 {G : GL} {d : Nat} {h : AH} {Q : Out → AH → Prop} {x0 : Int32} {r1 : Value} {x2 : Int32} {x3 : Int32} (g1 : r1.isRef = true) (H : MF G d mi_ArraysSupport_signedHashCode 8 [.int x0, r1, .int x2, .int x3, .int (x2 + x3), .int x2] [] h Q) : MF G d mi_ArraysSupport_signedHashCode 0 [.int x0, r1, .int x2, .int x3, .retAddr 0, .retAddr 0] [] h Q := by
  refine r_iload_n d_ArraysSupport_signedHashCode_0 rfl rfl ?_
  refine r_iload_n d_ArraysSupport_signedHashCode_1 rfl rfl ?_
  refine r_iadd d_ArraysSupport_signedHashCode_2 ?_
  refine r_istore d_ArraysSupport_signedHashCode_3 (Nat.lt_of_lt_of_le (Nat.lt_succ_self _) (Nat.le_of_ble_eq_true rfl)) rfl ?_
  refine r_iload_n d_ArraysSupport_signedHashCode_5 rfl rfl ?_
  refine r_istore d_ArraysSupport_signedHashCode_6 (Nat.lt_of_lt_of_le (Nat.lt_succ_self _) (Nat.le_of_ble_eq_true rfl)) rfl ?_
  exact H
theorem b_ArraysSupport_signedHashCode_8 {G : GL} {d : Nat} {h : AH} {Q : Out → AH → Prop} {x0 : Int32} {r1 : Value} {x2 : Int32} {x3 : Int32} {x4 : Int32} {x5 : Int32} (g1 : r1.isRef = true) (H : ((x4 ≤ x5 → Q (.inl (some (.int x0))) h) ∧ (¬ x4 ≤ x5 → dR r1 fun q2 => aI h q2 101 x5 fun y3 => MF G d mi_ArraysSupport_signedHashCode 8 [.int ((31 * x0) + (y3 &&& 255)), .ref q2, .int x2, .int x3, .int x4, .int (x5 + 1)] [] h Q))) : MF G d mi_ArraysSupport_signedHashCode 8 [.int x0, r1, .int x2, .int x3, .int x4, .int x5] [] h Q := by
  refine r_iload d_ArraysSupport_signedHashCode_8 rfl ?_
  refine r_iload d_ArraysSupport_signedHashCode_10 rfl ?_
  refine r_icmp_ge (tgt := 35) d_ArraysSupport_signedHashCode_12 (by decide) (fun c1 => ?_) (fun c1 => ?_)
  · replace H := H.1 c1
    refine r_iload_n d_ArraysSupport_signedHashCode_35 rfl rfl ?_
    exact r_ireturn d_ArraysSupport_signedHashCode_36 rfl rfl H
  · replace H := H.2 c1
    refine r_bipush (v := 31) d_ArraysSupport_signedHashCode_15 (by decide) ?_
    refine r_iload_n d_ArraysSupport_signedHashCode_17 rfl rfl ?_
    refine r_imul d_ArraysSupport_signedHashCode_18 ?_
    refine r_aload_n d_ArraysSupport_signedHashCode_19 rfl rfl g1 ?_
    refine r_iload d_ArraysSupport_signedHashCode_20 rfl ?_
    obtain ⟨q2, rfl, H⟩ := H
    obtain ⟨w3, fs3, y3, hc3, hi3, hv3, H⟩ := H
    refine r_baload d_ArraysSupport_signedHashCode_22 hc3 hi3 hv3 ?_
    refine r_sipush (v := 255) d_ArraysSupport_signedHashCode_23 (by decide) ?_
    refine r_iand d_ArraysSupport_signedHashCode_26 ?_
    refine r_iadd d_ArraysSupport_signedHashCode_27 ?_
    refine r_istore_n d_ArraysSupport_signedHashCode_28 rfl (Nat.lt_of_lt_of_le (Nat.lt_succ_self _) (Nat.le_of_ble_eq_true rfl)) rfl ?_
    refine r_iinc (v := (x5 + 1)) d_ArraysSupport_signedHashCode_29 rfl (iincE (by decide)) rfl ?_
    refine r_goto (tgt := 8) d_ArraysSupport_signedHashCode_32 (by decide) ?_
    exact H
section
variable {G : GL} {d pc : Nat} {y : MI} {L st : List Value} {h : AH} {Q : Out → AH → Prop}
/-- an array of bytes is cast to its own class -/
theorem r_castB {index a : Nat} {w : Bool} {fs : List Value} (hdg : decode y.2.1 pc = .ok (.checkcast index, 3)) (hc : h.1 a = some (101, w, fs)) (hw : Cond.classLink y.1.cls index "[B" ∈ lw_tbl) (kk : MF G d y (pc + 3) L (.ref a :: st) h Q) : MF G d y pc L (.ref a :: st) h Q := by
  intro p l e R s m as below meth c H locs cells slots ls hx hl hr hL
  have hK := hx.2.2.2.2.2.2.2.2.1
  obtain ⟨cell, g1, g2, g3, g4⟩ := rep_arr hr hc (by omega) (by omega)
  have hRA := (hK.2.2.1 1 _ rfl).2
  have hnm : s.vm.findClass "[B" = some cell.cls := by rw [g2]; exact hRA
  have kw := kk p l e R s m as below meth c H locs cells slots ls hx hl hr hL
  intro T hT X
  obtain ⟨vm', X', hst⟩ := X.checkcastYes hx.1 hx.2.2.2.2.2.2.2.1 (hK.1 _ hw rfl as) (by rw [hT]; exact g1) (by rw [g3]; rfl) hnm (va_asg _ _) (g := F0 m pc ls (.ref a :: st)) rfl rfl (by rw [hx.2.1]; exact hdg)
  obtain ⟨t, a1, b1⟩ := kw (T.setVm vm') hT X'
  exact ⟨t, hst t a1, b1⟩
theorem b_vhash4 {q : Nat} {w : Bool} {fs : List Value} {x1 x2 x3 : Int32} (hc : h.1 q = some (101, w, fs)) (H : MF G d mi_ArraysSupport_signedHashCode 0 [.int x3, .ref q, .int x1, .int x2, .retAddr 0, .retAddr 0] [] h (cI (fun y4 h4 => Q (.inl (some (.int y4))) h4) (fun q9 h9 => Q (.inr q9) h9))) : MF G (d + 1) mi_ArraysSupport_vectorizedHashCode 0 [.ref q, .int x1, .int x2, .int x3, .int 4] [] h Q := by
  refine r_iload d_ArraysSupport_vectorizedHashCode_0 rfl ?_
  have k2 : MF G (d + 1) mi_ArraysSupport_vectorizedHashCode 44 [.ref q, .int x1, .int x2, .int x3, .int 4] [] h Q := by
    refine r_iload_n d_ArraysSupport_vectorizedHashCode_44 rfl rfl ?_
    refine r_aload_n d_ArraysSupport_vectorizedHashCode_45 rfl rfl rfl ?_
    refine r_castB d_ArraysSupport_vectorizedHashCode_46 hc w841 ?_
    refine r_iload_n d_ArraysSupport_vectorizedHashCode_49 rfl rfl ?_
    refine r_iload_n d_ArraysSupport_vectorizedHashCode_50 rfl rfl ?_
    have K4 := H
    clear H
    refine r_callS (rest := []) (As := [.int x3, .ref q, .int x1, .int x2]) (L0 := [.int x3, .ref q, .int x1, .int x2]) (Lz := [.int x3, .ref q, .int x1, .int x2, .retAddr 0, .retAddr 0]) d_ArraysSupport_vectorizedHashCode_51 ce_ArraysSupport_signedHashCode ml_ArraysSupport_62 w843 rfl ⟨rfl, rfl, Nat.le_of_ble_eq_true rfl, (ent_i (ent_r (ent_i (ent_i ent_0)))), rfl, Nat.le_of_ble_eq_true rfl⟩ K4 (fun v9 h4 H => ?_) (fun q9 h9 H => t_out0 rfl H)
    obtain ⟨y4, rfl, H⟩ := H
    refine r_goto (tgt := 157) d_ArraysSupport_vectorizedHashCode_54 (by decide) ?_
    exact r_ireturn d_ArraysSupport_vectorizedHashCode_157 rfl rfl H
  have e4 : (4 : Int32).toInt = 4 := rfl
  refine r_tswitch (td := 129) d_ArraysSupport_vectorizedHashCode_2 (by decide) (fun n9 e9 e8 => ?_) (fun c30 => ?_)
  · match n9, e9 with
    | 0, e9 => exact ⟨_, 44, rfl, by decide, k2⟩
    | n8 + 1, e9 => exact absurd e9 (by rw [e4]; omega)
  · rw [e4] at c30
    omega
theorem b_copyRangeAll {q : Nat} {x2 : Int32} (H : dR (.ref q) fun q2 => aL h q2 101 fun y3 => (x2 = y3 ∧ cB h q2 fun q5 h5 => (hasK h5 q5 101 ∧ Q (.inl (some (.ref q5))) h5))) : MF G (d + 1) mi_Arrays_copyOfRange 0 [.ref q, .int 0, .int x2] [] h Q := by
  refine r_iload_n d_Arrays_copyOfRange_0 rfl rfl ?_
  refine r_if_ne (tgt := 10) d_Arrays_copyOfRange_1 (by decide) (fun c1 => absurd rfl c1) (fun c1 => ?_)
  refine r_iload_n d_Arrays_copyOfRange_4 rfl rfl ?_
  refine r_aload_n d_Arrays_copyOfRange_5 rfl rfl rfl ?_
  obtain ⟨q2, e2, H⟩ := H
  cases e2
  obtain ⟨w3, fs3, hc3, H⟩ := H
  generalize hg3 : Int32.ofNat fs3.length = y3 at H
  refine r_alen (kd := 1) d_Arrays_copyOfRange_6 hc3 rfl hg3 ?_
  refine r_icmp_eq (tgt := 17) d_Arrays_copyOfRange_7 (by decide) (fun c4 => ?_) (fun c4 => absurd H.1 c4)
  replace H := H.2
  refine r_aload_n d_Arrays_copyOfRange_17 rfl rfl rfl ?_
  obtain ⟨w5, fs5, q5, h5, hc5, hf5, hl5, eq5, eh5, H⟩ := H
  subst eq5; subst eh5
  refine r_cloneB d_Arrays_copyOfRange_18 hc5 w357 w358 w359 w360 w361 w362 hf5 hl5 rfl (Nat.le_of_ble_eq_true rfl) ?_
  obtain ⟨⟨wx6, fx6, hx6⟩, H⟩ := H
  refine r_castB d_Arrays_copyOfRange_21 hx6 w363 ?_
  exact r_areturn d_Arrays_copyOfRange_24 rfl rfl rfl H
end
