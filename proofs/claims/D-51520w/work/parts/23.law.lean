/-! block lemmas (printed by gall.py) -/
set_option maxRecDepth 100000
theorem d_Law_size_0 : decode method_3_code 0 = .ok (.aload_n 2, 1) := by decide +kernel
theorem d_Law_size_1 : decode method_3_code 1 = .ok (.iconst 0, 1) := by decide +kernel
theorem d_Law_size_2 : decode method_3_code 2 = .ok (.aload_n 0, 1) := by decide +kernel
theorem d_Law_size_3 : decode method_3_code 3 = .ok (.iload_n 1, 1) := by decide +kernel
theorem d_Law_size_4 : decode method_3_code 4 = .ok (.invokevirtual 7, 3) := by decide +kernel
theorem w3128 : (Jvm.Cond.methodLink "QuarryCrownsLaw" (7 : Nat) ({ cls := "QuarryCrowns", name := "size", desc := "(I)I" } : Jvm.MethodName)) ∈ lw_tbl := lw_at lw_m13 119 rfl
theorem ml_Law_7 : MLink "QuarryCrownsLaw" 7 (⟨"QuarryCrowns", "size", "(I)I"⟩ : MethodName) := Or.inl w3128
theorem w3129 : (Jvm.Cond.instanceMethod ({ cls := "QuarryCrowns", name := "size", desc := "(I)I" } : Jvm.MethodName)) ∈ lw_tbl := lw_at lw_m13 120 rfl
theorem w3130 : (Jvm.Cond.selects "QuarryCrowns" ({ cls := "QuarryCrowns", name := "size", desc := "(I)I" } : Jvm.MethodName) ({ cls := "QuarryCrowns", name := "size", desc := "(I)I" } : Jvm.MethodName)) ∈ lw_tbl := lw_at lw_m13 121 rfl
theorem dx_Law_7 : ∀ kd ∈ ([0] : List Nat), DspX "QuarryCrownsLaw" 7 kd mi_Q_size := fun kd hk => by obtain rfl := List.mem_singleton.mp hk; exact ⟨_, rfl, ml_Law_7, w3129, w3130⟩
theorem w3131 : (Jvm.Cond.code ({ cls := "QuarryCrowns", name := "size", desc := "(I)I" } : Jvm.MethodName) prog_1_method_23_code (2 : Nat) (Option.some Jvm.ClassFile.FieldType.int)) ∈ lw_tbl := lw_at lw_m13 122 rfl
theorem ce_Q_size : Callee mi_Q_size 1 := ⟨w3131, plainFor_of_name pn_Q, w130, ⟨by decide, by decide⟩, by decide +kernel, Nat.le_of_ble_eq_true rfl⟩
theorem d_Law_size_7 : decode method_3_code 7 = .ok (.i2l, 1) := by decide +kernel
theorem d_Law_size_8 : decode method_3_code 8 = .ok (.lastore, 1) := by decide +kernel
theorem d_Law_size_9 : decode method_3_code 9 = .ok (.goto 6, 3) := by decide +kernel
theorem d_Law_size_15 : decode method_3_code 15 = .ok (.iconst 0, 1) := by decide +kernel
theorem d_Law_size_16 : decode method_3_code 16 = .ok (.ireturn, 1) := by decide +kernel
theorem d_Law_size_12 : decode method_3_code 12 = .ok (.astore_n 3, 1) := by decide +kernel
theorem d_Law_size_13 : decode method_3_code 13 = .ok (.iconst 1, 1) := by decide +kernel
theorem d_Law_size_14 : decode method_3_code 14 = .ok (.ireturn, 1) := by decide +kernel
theorem d_Law_player_0 : decode method_4_code 0 = .ok (.aload_n 3, 1) := by decide +kernel
theorem d_Law_player_1 : decode method_4_code 1 = .ok (.iconst 0, 1) := by decide +kernel
theorem d_Law_player_2 : decode method_4_code 2 = .ok (.aload_n 0, 1) := by decide +kernel
theorem d_Law_player_3 : decode method_4_code 3 = .ok (.iload_n 1, 1) := by decide +kernel
theorem d_Law_player_4 : decode method_4_code 4 = .ok (.iload_n 2, 1) := by decide +kernel
theorem d_Law_player_5 : decode method_4_code 5 = .ok (.invokevirtual 15, 3) := by decide +kernel
theorem w3147 : (Jvm.Cond.methodLink "QuarryCrownsLaw" (15 : Nat) ({ cls := "QuarryCrowns", name := "player", desc := "(II)I" } : Jvm.MethodName)) ∈ lw_tbl := lw_at lw_m13 138 rfl
theorem ml_Law_15 : MLink "QuarryCrownsLaw" 15 (⟨"QuarryCrowns", "player", "(II)I"⟩ : MethodName) := Or.inl w3147
theorem w3148 : (Jvm.Cond.instanceMethod ({ cls := "QuarryCrowns", name := "player", desc := "(II)I" } : Jvm.MethodName)) ∈ lw_tbl := lw_at lw_m13 139 rfl
theorem w3149 : (Jvm.Cond.selects "QuarryCrowns" ({ cls := "QuarryCrowns", name := "player", desc := "(II)I" } : Jvm.MethodName) ({ cls := "QuarryCrowns", name := "player", desc := "(II)I" } : Jvm.MethodName)) ∈ lw_tbl := lw_at lw_m13 140 rfl
theorem dx_Law_15 : ∀ kd ∈ ([0] : List Nat), DspX "QuarryCrownsLaw" 15 kd mi_Q_player := fun kd hk => by obtain rfl := List.mem_singleton.mp hk; exact ⟨_, rfl, ml_Law_15, w3148, w3149⟩
theorem w3150 : (Jvm.Cond.code ({ cls := "QuarryCrowns", name := "player", desc := "(II)I" } : Jvm.MethodName) prog_1_method_24_code (4 : Nat) (Option.some Jvm.ClassFile.FieldType.int)) ∈ lw_tbl := lw_at lw_m13 141 rfl
theorem ce_Q_player : Callee mi_Q_player 2 := ⟨w3150, plainFor_of_name pn_Q, w130, ⟨by decide, by decide⟩, by decide +kernel, Nat.le_of_ble_eq_true rfl⟩
theorem d_Law_player_8 : decode method_4_code 8 = .ok (.i2l, 1) := by decide +kernel
theorem d_Law_player_9 : decode method_4_code 9 = .ok (.lastore, 1) := by decide +kernel
theorem d_Law_player_10 : decode method_4_code 10 = .ok (.goto 7, 3) := by decide +kernel
theorem d_Law_player_17 : decode method_4_code 17 = .ok (.iconst 0, 1) := by decide +kernel
theorem d_Law_player_18 : decode method_4_code 18 = .ok (.ireturn, 1) := by decide +kernel
theorem d_Law_player_13 : decode method_4_code 13 = .ok (.astore 4, 2) := by decide +kernel
theorem d_Law_player_15 : decode method_4_code 15 = .ok (.iconst 1, 1) := by decide +kernel
theorem d_Law_player_16 : decode method_4_code 16 = .ok (.ireturn, 1) := by decide +kernel
theorem d_Law_has_0 : decode method_5_code 0 = .ok (.aload 4, 2) := by decide +kernel
theorem d_Law_has_2 : decode method_5_code 2 = .ok (.iconst 0, 1) := by decide +kernel
theorem d_Law_has_3 : decode method_5_code 3 = .ok (.aload_n 0, 1) := by decide +kernel
theorem d_Law_has_4 : decode method_5_code 4 = .ok (.iload_n 1, 1) := by decide +kernel
theorem d_Law_has_5 : decode method_5_code 5 = .ok (.iload_n 2, 1) := by decide +kernel
theorem d_Law_has_6 : decode method_5_code 6 = .ok (.iload_n 3, 1) := by decide +kernel
theorem d_Law_has_7 : decode method_5_code 7 = .ok (.invokevirtual 19, 3) := by decide +kernel
theorem w3187 : (Jvm.Cond.methodLink "QuarryCrownsLaw" (19 : Nat) ({ cls := "QuarryCrowns", name := "has", desc := "(III)I" } : Jvm.MethodName)) ∈ lw_tbl := lw_at lw_m13 178 rfl
theorem ml_Law_19 : MLink "QuarryCrownsLaw" 19 (⟨"QuarryCrowns", "has", "(III)I"⟩ : MethodName) := Or.inl w3187
theorem w3188 : (Jvm.Cond.instanceMethod ({ cls := "QuarryCrowns", name := "has", desc := "(III)I" } : Jvm.MethodName)) ∈ lw_tbl := lw_at lw_m13 179 rfl
theorem w3189 : (Jvm.Cond.selects "QuarryCrowns" ({ cls := "QuarryCrowns", name := "has", desc := "(III)I" } : Jvm.MethodName) ({ cls := "QuarryCrowns", name := "has", desc := "(III)I" } : Jvm.MethodName)) ∈ lw_tbl := lw_at lw_m13 180 rfl
theorem dx_Law_19 : ∀ kd ∈ ([0] : List Nat), DspX "QuarryCrownsLaw" 19 kd mi_Q_has := fun kd hk => by obtain rfl := List.mem_singleton.mp hk; exact ⟨_, rfl, ml_Law_19, w3188, w3189⟩
theorem w3190 : (Jvm.Cond.code ({ cls := "QuarryCrowns", name := "has", desc := "(III)I" } : Jvm.MethodName) prog_1_method_25_code (5 : Nat) (Option.some Jvm.ClassFile.FieldType.int)) ∈ lw_tbl := lw_at lw_m13 181 rfl
theorem ce_Q_has : Callee mi_Q_has 3 := ⟨w3190, plainFor_of_name pn_Q, w130, ⟨by decide, by decide⟩, by decide +kernel, Nat.le_of_ble_eq_true rfl⟩
theorem d_Law_has_10 : decode method_5_code 10 = .ok (.i2l, 1) := by decide +kernel
theorem d_Law_has_11 : decode method_5_code 11 = .ok (.lastore, 1) := by decide +kernel
theorem d_Law_has_12 : decode method_5_code 12 = .ok (.goto 7, 3) := by decide +kernel
theorem d_Law_has_19 : decode method_5_code 19 = .ok (.iconst 0, 1) := by decide +kernel
theorem d_Law_has_20 : decode method_5_code 20 = .ok (.ireturn, 1) := by decide +kernel
theorem d_Law_has_15 : decode method_5_code 15 = .ok (.astore 5, 2) := by decide +kernel
theorem d_Law_has_17 : decode method_5_code 17 = .ok (.iconst 1, 1) := by decide +kernel
theorem d_Law_has_18 : decode method_5_code 18 = .ok (.ireturn, 1) := by decide +kernel
theorem d_Law_row_0 : decode method_6_code 0 = .ok (.aload 4, 2) := by decide +kernel
theorem d_Law_row_2 : decode method_6_code 2 = .ok (.iconst 0, 1) := by decide +kernel
theorem d_Law_row_3 : decode method_6_code 3 = .ok (.aload_n 0, 1) := by decide +kernel
theorem d_Law_row_4 : decode method_6_code 4 = .ok (.iload_n 1, 1) := by decide +kernel
theorem d_Law_row_5 : decode method_6_code 5 = .ok (.iload_n 2, 1) := by decide +kernel
theorem d_Law_row_6 : decode method_6_code 6 = .ok (.iload_n 3, 1) := by decide +kernel
theorem d_Law_row_7 : decode method_6_code 7 = .ok (.invokevirtual 23, 3) := by decide +kernel
theorem w3201 : (Jvm.Cond.methodLink "QuarryCrownsLaw" (23 : Nat) ({ cls := "QuarryCrowns", name := "row", desc := "(III)I" } : Jvm.MethodName)) ∈ lw_tbl := lw_at lw_m13 192 rfl
theorem ml_Law_23 : MLink "QuarryCrownsLaw" 23 (⟨"QuarryCrowns", "row", "(III)I"⟩ : MethodName) := Or.inl w3201
theorem w3202 : (Jvm.Cond.instanceMethod ({ cls := "QuarryCrowns", name := "row", desc := "(III)I" } : Jvm.MethodName)) ∈ lw_tbl := lw_at lw_m13 193 rfl
theorem w3203 : (Jvm.Cond.selects "QuarryCrowns" ({ cls := "QuarryCrowns", name := "row", desc := "(III)I" } : Jvm.MethodName) ({ cls := "QuarryCrowns", name := "row", desc := "(III)I" } : Jvm.MethodName)) ∈ lw_tbl := lw_at lw_m13 194 rfl
theorem dx_Law_23 : ∀ kd ∈ ([0] : List Nat), DspX "QuarryCrownsLaw" 23 kd mi_Q_row := fun kd hk => by obtain rfl := List.mem_singleton.mp hk; exact ⟨_, rfl, ml_Law_23, w3202, w3203⟩
theorem w3204 : (Jvm.Cond.code ({ cls := "QuarryCrowns", name := "row", desc := "(III)I" } : Jvm.MethodName) prog_1_method_27_code (5 : Nat) (Option.some Jvm.ClassFile.FieldType.int)) ∈ lw_tbl := lw_at lw_m13 195 rfl
theorem ce_Q_row : Callee mi_Q_row 3 := ⟨w3204, plainFor_of_name pn_Q, w130, ⟨by decide, by decide⟩, by decide +kernel, Nat.le_of_ble_eq_true rfl⟩
theorem d_Law_row_10 : decode method_6_code 10 = .ok (.i2l, 1) := by decide +kernel
theorem d_Law_row_11 : decode method_6_code 11 = .ok (.lastore, 1) := by decide +kernel
theorem d_Law_row_12 : decode method_6_code 12 = .ok (.goto 7, 3) := by decide +kernel
theorem d_Law_row_19 : decode method_6_code 19 = .ok (.iconst 0, 1) := by decide +kernel
theorem d_Law_row_20 : decode method_6_code 20 = .ok (.ireturn, 1) := by decide +kernel
theorem d_Law_row_15 : decode method_6_code 15 = .ok (.astore 5, 2) := by decide +kernel
theorem d_Law_row_17 : decode method_6_code 17 = .ok (.iconst 1, 1) := by decide +kernel
theorem d_Law_row_18 : decode method_6_code 18 = .ok (.ireturn, 1) := by decide +kernel
theorem d_Law_stone_0 : decode method_7_code 0 = .ok (.aload_n 3, 1) := by decide +kernel
theorem d_Law_stone_1 : decode method_7_code 1 = .ok (.iconst 0, 1) := by decide +kernel
theorem d_Law_stone_2 : decode method_7_code 2 = .ok (.aload_n 0, 1) := by decide +kernel
theorem d_Law_stone_3 : decode method_7_code 3 = .ok (.iload_n 1, 1) := by decide +kernel
theorem d_Law_stone_4 : decode method_7_code 4 = .ok (.iload_n 2, 1) := by decide +kernel
theorem d_Law_stone_5 : decode method_7_code 5 = .ok (.invokevirtual 26, 3) := by decide +kernel
theorem w3225 : (Jvm.Cond.methodLink "QuarryCrownsLaw" (26 : Nat) ({ cls := "QuarryCrowns", name := "stone", desc := "(II)I" } : Jvm.MethodName)) ∈ lw_tbl := lw_at lw_m13 216 rfl
theorem ml_Law_26 : MLink "QuarryCrownsLaw" 26 (⟨"QuarryCrowns", "stone", "(II)I"⟩ : MethodName) := Or.inl w3225
theorem w3226 : (Jvm.Cond.instanceMethod ({ cls := "QuarryCrowns", name := "stone", desc := "(II)I" } : Jvm.MethodName)) ∈ lw_tbl := lw_at lw_m13 217 rfl
theorem w3227 : (Jvm.Cond.selects "QuarryCrowns" ({ cls := "QuarryCrowns", name := "stone", desc := "(II)I" } : Jvm.MethodName) ({ cls := "QuarryCrowns", name := "stone", desc := "(II)I" } : Jvm.MethodName)) ∈ lw_tbl := lw_at lw_m13 218 rfl
theorem dx_Law_26 : ∀ kd ∈ ([0] : List Nat), DspX "QuarryCrownsLaw" 26 kd mi_Q_stone := fun kd hk => by obtain rfl := List.mem_singleton.mp hk; exact ⟨_, rfl, ml_Law_26, w3226, w3227⟩
theorem w3228 : (Jvm.Cond.code ({ cls := "QuarryCrowns", name := "stone", desc := "(II)I" } : Jvm.MethodName) prog_1_method_28_code (4 : Nat) (Option.some Jvm.ClassFile.FieldType.int)) ∈ lw_tbl := lw_at lw_m13 219 rfl
theorem ce_Q_stone : Callee mi_Q_stone 2 := ⟨w3228, plainFor_of_name pn_Q, w130, ⟨by decide, by decide⟩, by decide +kernel, Nat.le_of_ble_eq_true rfl⟩
theorem d_Law_stone_8 : decode method_7_code 8 = .ok (.i2l, 1) := by decide +kernel
theorem d_Law_stone_9 : decode method_7_code 9 = .ok (.lastore, 1) := by decide +kernel
theorem d_Law_stone_10 : decode method_7_code 10 = .ok (.goto 7, 3) := by decide +kernel
theorem d_Law_stone_17 : decode method_7_code 17 = .ok (.iconst 0, 1) := by decide +kernel
theorem d_Law_stone_18 : decode method_7_code 18 = .ok (.ireturn, 1) := by decide +kernel
theorem d_Law_stone_13 : decode method_7_code 13 = .ok (.astore 4, 2) := by decide +kernel
theorem d_Law_stone_15 : decode method_7_code 15 = .ok (.iconst 1, 1) := by decide +kernel
theorem d_Law_stone_16 : decode method_7_code 16 = .ok (.ireturn, 1) := by decide +kernel
theorem d_Law_owned_0 : decode method_8_code 0 = .ok (.aload 4, 2) := by decide +kernel
theorem d_Law_owned_2 : decode method_8_code 2 = .ok (.iconst 0, 1) := by decide +kernel
theorem d_Law_owned_3 : decode method_8_code 3 = .ok (.aload_n 0, 1) := by decide +kernel
theorem d_Law_owned_4 : decode method_8_code 4 = .ok (.iload_n 1, 1) := by decide +kernel
theorem d_Law_owned_5 : decode method_8_code 5 = .ok (.iload_n 2, 1) := by decide +kernel
theorem d_Law_owned_6 : decode method_8_code 6 = .ok (.iload_n 3, 1) := by decide +kernel
theorem d_Law_owned_7 : decode method_8_code 7 = .ok (.invokevirtual 29, 3) := by decide +kernel
theorem w3234 : (Jvm.Cond.methodLink "QuarryCrownsLaw" (29 : Nat) ({ cls := "QuarryCrowns", name := "owned", desc := "(III)I" } : Jvm.MethodName)) ∈ lw_tbl := lw_at lw_m13 225 rfl
theorem ml_Law_29 : MLink "QuarryCrownsLaw" 29 (⟨"QuarryCrowns", "owned", "(III)I"⟩ : MethodName) := Or.inl w3234
theorem w3235 : (Jvm.Cond.instanceMethod ({ cls := "QuarryCrowns", name := "owned", desc := "(III)I" } : Jvm.MethodName)) ∈ lw_tbl := lw_at lw_m13 226 rfl
theorem w3236 : (Jvm.Cond.selects "QuarryCrowns" ({ cls := "QuarryCrowns", name := "owned", desc := "(III)I" } : Jvm.MethodName) ({ cls := "QuarryCrowns", name := "owned", desc := "(III)I" } : Jvm.MethodName)) ∈ lw_tbl := lw_at lw_m13 227 rfl
theorem dx_Law_29 : ∀ kd ∈ ([0] : List Nat), DspX "QuarryCrownsLaw" 29 kd mi_Q_owned := fun kd hk => by obtain rfl := List.mem_singleton.mp hk; exact ⟨_, rfl, ml_Law_29, w3235, w3236⟩
theorem w3237 : (Jvm.Cond.code ({ cls := "QuarryCrowns", name := "owned", desc := "(III)I" } : Jvm.MethodName) prog_1_method_29_code (9 : Nat) (Option.some Jvm.ClassFile.FieldType.int)) ∈ lw_tbl := lw_at lw_m13 228 rfl
theorem ce_Q_owned : Callee mi_Q_owned 3 := ⟨w3237, plainFor_of_name pn_Q, w130, ⟨by decide, by decide⟩, by decide +kernel, Nat.le_of_ble_eq_true rfl⟩
theorem d_Law_owned_10 : decode method_8_code 10 = .ok (.i2l, 1) := by decide +kernel
theorem d_Law_owned_11 : decode method_8_code 11 = .ok (.lastore, 1) := by decide +kernel
theorem d_Law_owned_12 : decode method_8_code 12 = .ok (.goto 7, 3) := by decide +kernel
theorem d_Law_owned_19 : decode method_8_code 19 = .ok (.iconst 0, 1) := by decide +kernel
theorem d_Law_owned_20 : decode method_8_code 20 = .ok (.ireturn, 1) := by decide +kernel
theorem d_Law_owned_15 : decode method_8_code 15 = .ok (.astore 5, 2) := by decide +kernel
theorem d_Law_owned_17 : decode method_8_code 17 = .ok (.iconst 1, 1) := by decide +kernel
theorem d_Law_owned_18 : decode method_8_code 18 = .ok (.ireturn, 1) := by decide +kernel
theorem d_Law_letter_0 : decode method_9_code 0 = .ok (.aload_n 3, 1) := by decide +kernel
theorem d_Law_letter_1 : decode method_9_code 1 = .ok (.iconst 0, 1) := by decide +kernel
theorem d_Law_letter_2 : decode method_9_code 2 = .ok (.aload_n 0, 1) := by decide +kernel
theorem d_Law_letter_3 : decode method_9_code 3 = .ok (.iload_n 1, 1) := by decide +kernel
theorem d_Law_letter_4 : decode method_9_code 4 = .ok (.iload_n 2, 1) := by decide +kernel
theorem d_Law_letter_5 : decode method_9_code 5 = .ok (.invokevirtual 32, 3) := by decide +kernel
theorem w3251 : (Jvm.Cond.methodLink "QuarryCrownsLaw" (32 : Nat) ({ cls := "QuarryCrowns", name := "letter", desc := "(II)I" } : Jvm.MethodName)) ∈ lw_tbl := lw_at lw_m14 2 rfl
theorem ml_Law_32 : MLink "QuarryCrownsLaw" 32 (⟨"QuarryCrowns", "letter", "(II)I"⟩ : MethodName) := Or.inl w3251
theorem w3252 : (Jvm.Cond.instanceMethod ({ cls := "QuarryCrowns", name := "letter", desc := "(II)I" } : Jvm.MethodName)) ∈ lw_tbl := lw_at lw_m14 3 rfl
theorem w3253 : (Jvm.Cond.selects "QuarryCrowns" ({ cls := "QuarryCrowns", name := "letter", desc := "(II)I" } : Jvm.MethodName) ({ cls := "QuarryCrowns", name := "letter", desc := "(II)I" } : Jvm.MethodName)) ∈ lw_tbl := lw_at lw_m14 4 rfl
theorem dx_Law_32 : ∀ kd ∈ ([0] : List Nat), DspX "QuarryCrownsLaw" 32 kd mi_Q_letter := fun kd hk => by obtain rfl := List.mem_singleton.mp hk; exact ⟨_, rfl, ml_Law_32, w3252, w3253⟩
theorem w3254 : (Jvm.Cond.code ({ cls := "QuarryCrowns", name := "letter", desc := "(II)I" } : Jvm.MethodName) prog_1_method_30_code (4 : Nat) (Option.some Jvm.ClassFile.FieldType.int)) ∈ lw_tbl := lw_at lw_m14 5 rfl
theorem ce_Q_letter : Callee mi_Q_letter 2 := ⟨w3254, plainFor_of_name pn_Q, w130, ⟨by decide, by decide⟩, by decide +kernel, Nat.le_of_ble_eq_true rfl⟩
theorem d_Law_letter_8 : decode method_9_code 8 = .ok (.i2l, 1) := by decide +kernel
theorem d_Law_letter_9 : decode method_9_code 9 = .ok (.lastore, 1) := by decide +kernel
theorem d_Law_letter_10 : decode method_9_code 10 = .ok (.goto 7, 3) := by decide +kernel
theorem d_Law_letter_17 : decode method_9_code 17 = .ok (.iconst 0, 1) := by decide +kernel
theorem d_Law_letter_18 : decode method_9_code 18 = .ok (.ireturn, 1) := by decide +kernel
theorem d_Law_letter_13 : decode method_9_code 13 = .ok (.astore 4, 2) := by decide +kernel
theorem d_Law_letter_15 : decode method_9_code 15 = .ok (.iconst 1, 1) := by decide +kernel
theorem d_Law_letter_16 : decode method_9_code 16 = .ok (.ireturn, 1) := by decide +kernel
theorem d_Law_why_0 : decode method_10_code 0 = .ok (.aload_n 3, 1) := by decide +kernel
theorem d_Law_why_1 : decode method_10_code 1 = .ok (.iconst 0, 1) := by decide +kernel
theorem d_Law_why_2 : decode method_10_code 2 = .ok (.aload_n 0, 1) := by decide +kernel
theorem d_Law_why_3 : decode method_10_code 3 = .ok (.iload_n 1, 1) := by decide +kernel
theorem d_Law_why_4 : decode method_10_code 4 = .ok (.iload_n 2, 1) := by decide +kernel
theorem d_Law_why_5 : decode method_10_code 5 = .ok (.invokevirtual 35, 3) := by decide +kernel
theorem w3258 : (Jvm.Cond.methodLink "QuarryCrownsLaw" (35 : Nat) ({ cls := "QuarryCrowns", name := "why", desc := "(II)I" } : Jvm.MethodName)) ∈ lw_tbl := lw_at lw_m14 9 rfl
theorem ml_Law_35 : MLink "QuarryCrownsLaw" 35 (⟨"QuarryCrowns", "why", "(II)I"⟩ : MethodName) := Or.inl w3258
theorem w3259 : (Jvm.Cond.instanceMethod ({ cls := "QuarryCrowns", name := "why", desc := "(II)I" } : Jvm.MethodName)) ∈ lw_tbl := lw_at lw_m14 10 rfl
theorem w3260 : (Jvm.Cond.selects "QuarryCrowns" ({ cls := "QuarryCrowns", name := "why", desc := "(II)I" } : Jvm.MethodName) ({ cls := "QuarryCrowns", name := "why", desc := "(II)I" } : Jvm.MethodName)) ∈ lw_tbl := lw_at lw_m14 11 rfl
theorem dx_Law_35 : ∀ kd ∈ ([0] : List Nat), DspX "QuarryCrownsLaw" 35 kd mi_Q_why := fun kd hk => by obtain rfl := List.mem_singleton.mp hk; exact ⟨_, rfl, ml_Law_35, w3259, w3260⟩
theorem w3261 : (Jvm.Cond.code ({ cls := "QuarryCrowns", name := "why", desc := "(II)I" } : Jvm.MethodName) prog_1_method_32_code (4 : Nat) (Option.some Jvm.ClassFile.FieldType.int)) ∈ lw_tbl := lw_at lw_m14 12 rfl
theorem ce_Q_why : Callee mi_Q_why 2 := ⟨w3261, plainFor_of_name pn_Q, w130, ⟨by decide, by decide⟩, by decide +kernel, Nat.le_of_ble_eq_true rfl⟩
theorem d_Law_why_8 : decode method_10_code 8 = .ok (.i2l, 1) := by decide +kernel
theorem d_Law_why_9 : decode method_10_code 9 = .ok (.lastore, 1) := by decide +kernel
theorem d_Law_why_10 : decode method_10_code 10 = .ok (.goto 7, 3) := by decide +kernel
theorem d_Law_why_17 : decode method_10_code 17 = .ok (.iconst 0, 1) := by decide +kernel
theorem d_Law_why_18 : decode method_10_code 18 = .ok (.ireturn, 1) := by decide +kernel
theorem d_Law_why_13 : decode method_10_code 13 = .ok (.astore 4, 2) := by decide +kernel
theorem d_Law_why_15 : decode method_10_code 15 = .ok (.iconst 1, 1) := by decide +kernel
theorem d_Law_why_16 : decode method_10_code 16 = .ok (.ireturn, 1) := by decide +kernel
theorem d_Law_account_0 : decode method_11_code 0 = .ok (.aload_n 2, 1) := by decide +kernel
theorem d_Law_account_1 : decode method_11_code 1 = .ok (.iconst 0, 1) := by decide +kernel
theorem d_Law_account_2 : decode method_11_code 2 = .ok (.aload_n 0, 1) := by decide +kernel
theorem d_Law_account_3 : decode method_11_code 3 = .ok (.iload_n 1, 1) := by decide +kernel
theorem d_Law_account_4 : decode method_11_code 4 = .ok (.invokevirtual 38, 3) := by decide +kernel
theorem w3275 : (Jvm.Cond.methodLink "QuarryCrownsLaw" (38 : Nat) ({ cls := "QuarryCrowns", name := "account", desc := "(I)I" } : Jvm.MethodName)) ∈ lw_tbl := lw_at lw_m14 26 rfl
theorem ml_Law_38 : MLink "QuarryCrownsLaw" 38 (⟨"QuarryCrowns", "account", "(I)I"⟩ : MethodName) := Or.inl w3275
theorem w3276 : (Jvm.Cond.instanceMethod ({ cls := "QuarryCrowns", name := "account", desc := "(I)I" } : Jvm.MethodName)) ∈ lw_tbl := lw_at lw_m14 27 rfl
theorem w3277 : (Jvm.Cond.selects "QuarryCrowns" ({ cls := "QuarryCrowns", name := "account", desc := "(I)I" } : Jvm.MethodName) ({ cls := "QuarryCrowns", name := "account", desc := "(I)I" } : Jvm.MethodName)) ∈ lw_tbl := lw_at lw_m14 28 rfl
theorem dx_Law_38 : ∀ kd ∈ ([0] : List Nat), DspX "QuarryCrownsLaw" 38 kd mi_Q_account := fun kd hk => by obtain rfl := List.mem_singleton.mp hk; exact ⟨_, rfl, ml_Law_38, w3276, w3277⟩
theorem w3278 : (Jvm.Cond.code ({ cls := "QuarryCrowns", name := "account", desc := "(I)I" } : Jvm.MethodName) prog_1_method_33_code (2 : Nat) (Option.some Jvm.ClassFile.FieldType.int)) ∈ lw_tbl := lw_at lw_m14 29 rfl
theorem ce_Q_account : Callee mi_Q_account 1 := ⟨w3278, plainFor_of_name pn_Q, w130, ⟨by decide, by decide⟩, by decide +kernel, Nat.le_of_ble_eq_true rfl⟩
theorem d_Law_account_7 : decode method_11_code 7 = .ok (.i2l, 1) := by decide +kernel
theorem d_Law_account_8 : decode method_11_code 8 = .ok (.lastore, 1) := by decide +kernel
theorem d_Law_account_9 : decode method_11_code 9 = .ok (.goto 6, 3) := by decide +kernel
theorem d_Law_account_15 : decode method_11_code 15 = .ok (.iconst 0, 1) := by decide +kernel
theorem d_Law_account_16 : decode method_11_code 16 = .ok (.ireturn, 1) := by decide +kernel
theorem d_Law_account_12 : decode method_11_code 12 = .ok (.astore_n 3, 1) := by decide +kernel
theorem d_Law_account_13 : decode method_11_code 13 = .ok (.iconst 1, 1) := by decide +kernel
theorem d_Law_account_14 : decode method_11_code 14 = .ok (.ireturn, 1) := by decide +kernel
theorem d_Law_shareBits_0 : decode method_12_code 0 = .ok (.aload_n 2, 1) := by decide +kernel
theorem d_Law_shareBits_1 : decode method_12_code 1 = .ok (.iconst 0, 1) := by decide +kernel
theorem d_Law_shareBits_2 : decode method_12_code 2 = .ok (.aload_n 0, 1) := by decide +kernel
theorem d_Law_shareBits_3 : decode method_12_code 3 = .ok (.iload_n 1, 1) := by decide +kernel
theorem d_Law_shareBits_4 : decode method_12_code 4 = .ok (.invokevirtual 41, 3) := by decide +kernel
theorem w3283 : (Jvm.Cond.methodLink "QuarryCrownsLaw" (41 : Nat) ({ cls := "QuarryCrowns", name := "shareBits", desc := "(I)I" } : Jvm.MethodName)) ∈ lw_tbl := lw_at lw_m14 34 rfl
theorem ml_Law_41 : MLink "QuarryCrownsLaw" 41 (⟨"QuarryCrowns", "shareBits", "(I)I"⟩ : MethodName) := Or.inl w3283
theorem w3284 : (Jvm.Cond.instanceMethod ({ cls := "QuarryCrowns", name := "shareBits", desc := "(I)I" } : Jvm.MethodName)) ∈ lw_tbl := lw_at lw_m14 35 rfl
theorem w3285 : (Jvm.Cond.selects "QuarryCrowns" ({ cls := "QuarryCrowns", name := "shareBits", desc := "(I)I" } : Jvm.MethodName) ({ cls := "QuarryCrowns", name := "shareBits", desc := "(I)I" } : Jvm.MethodName)) ∈ lw_tbl := lw_at lw_m14 36 rfl
theorem dx_Law_41 : ∀ kd ∈ ([0] : List Nat), DspX "QuarryCrownsLaw" 41 kd mi_Q_shareBits := fun kd hk => by obtain rfl := List.mem_singleton.mp hk; exact ⟨_, rfl, ml_Law_41, w3284, w3285⟩
theorem w3286 : (Jvm.Cond.code ({ cls := "QuarryCrowns", name := "shareBits", desc := "(I)I" } : Jvm.MethodName) prog_1_method_36_code (5 : Nat) (Option.some Jvm.ClassFile.FieldType.int)) ∈ lw_tbl := lw_at lw_m14 37 rfl
theorem ce_Q_shareBits : Callee mi_Q_shareBits 1 := ⟨w3286, plainFor_of_name pn_Q, w130, ⟨by decide, by decide⟩, by decide +kernel, Nat.le_of_ble_eq_true rfl⟩
theorem d_Law_shareBits_7 : decode method_12_code 7 = .ok (.i2l, 1) := by decide +kernel
theorem d_Law_shareBits_8 : decode method_12_code 8 = .ok (.lastore, 1) := by decide +kernel
theorem d_Law_shareBits_9 : decode method_12_code 9 = .ok (.goto 6, 3) := by decide +kernel
theorem d_Law_shareBits_15 : decode method_12_code 15 = .ok (.iconst 0, 1) := by decide +kernel
theorem d_Law_shareBits_16 : decode method_12_code 16 = .ok (.ireturn, 1) := by decide +kernel
theorem d_Law_shareBits_12 : decode method_12_code 12 = .ok (.astore_n 3, 1) := by decide +kernel
theorem d_Law_shareBits_13 : decode method_12_code 13 = .ok (.iconst 1, 1) := by decide +kernel
theorem d_Law_shareBits_14 : decode method_12_code 14 = .ok (.ireturn, 1) := by decide +kernel
theorem d_Law_worth_0 : decode method_13_code 0 = .ok (.aload 4, 2) := by decide +kernel
theorem d_Law_worth_2 : decode method_13_code 2 = .ok (.iconst 0, 1) := by decide +kernel
theorem d_Law_worth_3 : decode method_13_code 3 = .ok (.aload_n 0, 1) := by decide +kernel
theorem d_Law_worth_4 : decode method_13_code 4 = .ok (.iload_n 1, 1) := by decide +kernel
theorem d_Law_worth_5 : decode method_13_code 5 = .ok (.iload_n 2, 1) := by decide +kernel
theorem d_Law_worth_6 : decode method_13_code 6 = .ok (.iload_n 3, 1) := by decide +kernel
theorem d_Law_worth_7 : decode method_13_code 7 = .ok (.invokevirtual 44, 3) := by decide +kernel
theorem w3302 : (Jvm.Cond.methodLink "QuarryCrownsLaw" (44 : Nat) ({ cls := "QuarryCrowns", name := "worth", desc := "(III)I" } : Jvm.MethodName)) ∈ lw_tbl := lw_at lw_m14 53 rfl
theorem ml_Law_44 : MLink "QuarryCrownsLaw" 44 (⟨"QuarryCrowns", "worth", "(III)I"⟩ : MethodName) := Or.inl w3302
theorem w3303 : (Jvm.Cond.instanceMethod ({ cls := "QuarryCrowns", name := "worth", desc := "(III)I" } : Jvm.MethodName)) ∈ lw_tbl := lw_at lw_m14 54 rfl
theorem w3304 : (Jvm.Cond.selects "QuarryCrowns" ({ cls := "QuarryCrowns", name := "worth", desc := "(III)I" } : Jvm.MethodName) ({ cls := "QuarryCrowns", name := "worth", desc := "(III)I" } : Jvm.MethodName)) ∈ lw_tbl := lw_at lw_m14 55 rfl
theorem dx_Law_44 : ∀ kd ∈ ([0] : List Nat), DspX "QuarryCrownsLaw" 44 kd mi_Q_worth := fun kd hk => by obtain rfl := List.mem_singleton.mp hk; exact ⟨_, rfl, ml_Law_44, w3303, w3304⟩
theorem w3305 : (Jvm.Cond.code ({ cls := "QuarryCrowns", name := "worth", desc := "(III)I" } : Jvm.MethodName) prog_1_method_37_code (5 : Nat) (Option.some Jvm.ClassFile.FieldType.int)) ∈ lw_tbl := lw_at lw_m14 56 rfl
theorem ce_Q_worth : Callee mi_Q_worth 3 := ⟨w3305, plainFor_of_name pn_Q, w130, ⟨by decide, by decide⟩, by decide +kernel, Nat.le_of_ble_eq_true rfl⟩
theorem d_Law_worth_10 : decode method_13_code 10 = .ok (.i2l, 1) := by decide +kernel
theorem d_Law_worth_11 : decode method_13_code 11 = .ok (.lastore, 1) := by decide +kernel
theorem d_Law_worth_12 : decode method_13_code 12 = .ok (.goto 7, 3) := by decide +kernel
theorem d_Law_worth_19 : decode method_13_code 19 = .ok (.iconst 0, 1) := by decide +kernel
theorem d_Law_worth_20 : decode method_13_code 20 = .ok (.ireturn, 1) := by decide +kernel
theorem d_Law_worth_15 : decode method_13_code 15 = .ok (.astore 5, 2) := by decide +kernel
theorem d_Law_worth_17 : decode method_13_code 17 = .ok (.iconst 1, 1) := by decide +kernel
theorem d_Law_worth_18 : decode method_13_code 18 = .ok (.ireturn, 1) := by decide +kernel
theorem d_Law_fairBid_0 : decode method_14_code 0 = .ok (.aload_n 2, 1) := by decide +kernel
theorem d_Law_fairBid_1 : decode method_14_code 1 = .ok (.iconst 0, 1) := by decide +kernel
theorem d_Law_fairBid_2 : decode method_14_code 2 = .ok (.aload_n 0, 1) := by decide +kernel
theorem d_Law_fairBid_3 : decode method_14_code 3 = .ok (.iload_n 1, 1) := by decide +kernel
theorem d_Law_fairBid_4 : decode method_14_code 4 = .ok (.invokevirtual 47, 3) := by decide +kernel
theorem w3313 : (Jvm.Cond.methodLink "QuarryCrownsLaw" (47 : Nat) ({ cls := "QuarryCrowns", name := "fairBid", desc := "(I)I" } : Jvm.MethodName)) ∈ lw_tbl := lw_at lw_m14 64 rfl
theorem ml_Law_47 : MLink "QuarryCrownsLaw" 47 (⟨"QuarryCrowns", "fairBid", "(I)I"⟩ : MethodName) := Or.inl w3313
theorem w3314 : (Jvm.Cond.instanceMethod ({ cls := "QuarryCrowns", name := "fairBid", desc := "(I)I" } : Jvm.MethodName)) ∈ lw_tbl := lw_at lw_m14 65 rfl
theorem w3315 : (Jvm.Cond.selects "QuarryCrowns" ({ cls := "QuarryCrowns", name := "fairBid", desc := "(I)I" } : Jvm.MethodName) ({ cls := "QuarryCrowns", name := "fairBid", desc := "(I)I" } : Jvm.MethodName)) ∈ lw_tbl := lw_at lw_m14 66 rfl
theorem dx_Law_47 : ∀ kd ∈ ([0] : List Nat), DspX "QuarryCrownsLaw" 47 kd mi_Q_fairBid := fun kd hk => by obtain rfl := List.mem_singleton.mp hk; exact ⟨_, rfl, ml_Law_47, w3314, w3315⟩
theorem w3316 : (Jvm.Cond.code ({ cls := "QuarryCrowns", name := "fairBid", desc := "(I)I" } : Jvm.MethodName) prog_1_method_38_code (3 : Nat) (Option.some Jvm.ClassFile.FieldType.int)) ∈ lw_tbl := lw_at lw_m14 67 rfl
theorem ce_Q_fairBid : Callee mi_Q_fairBid 1 := ⟨w3316, plainFor_of_name pn_Q, w130, ⟨by decide, by decide⟩, by decide +kernel, Nat.le_of_ble_eq_true rfl⟩
theorem d_Law_fairBid_7 : decode method_14_code 7 = .ok (.i2l, 1) := by decide +kernel
theorem d_Law_fairBid_8 : decode method_14_code 8 = .ok (.lastore, 1) := by decide +kernel
theorem d_Law_fairBid_9 : decode method_14_code 9 = .ok (.goto 6, 3) := by decide +kernel
theorem d_Law_fairBid_15 : decode method_14_code 15 = .ok (.iconst 0, 1) := by decide +kernel
theorem d_Law_fairBid_16 : decode method_14_code 16 = .ok (.ireturn, 1) := by decide +kernel
theorem d_Law_fairBid_12 : decode method_14_code 12 = .ok (.astore_n 3, 1) := by decide +kernel
theorem d_Law_fairBid_13 : decode method_14_code 13 = .ok (.iconst 1, 1) := by decide +kernel
theorem d_Law_fairBid_14 : decode method_14_code 14 = .ok (.ireturn, 1) := by decide +kernel
theorem d_Law_winningBid_0 : decode method_15_code 0 = .ok (.aload_n 2, 1) := by decide +kernel
theorem d_Law_winningBid_1 : decode method_15_code 1 = .ok (.iconst 0, 1) := by decide +kernel
theorem d_Law_winningBid_2 : decode method_15_code 2 = .ok (.aload_n 0, 1) := by decide +kernel
theorem d_Law_winningBid_3 : decode method_15_code 3 = .ok (.iload_n 1, 1) := by decide +kernel
theorem d_Law_winningBid_4 : decode method_15_code 4 = .ok (.invokevirtual 50, 3) := by decide +kernel
theorem w3329 : (Jvm.Cond.methodLink "QuarryCrownsLaw" (50 : Nat) ({ cls := "QuarryCrowns", name := "winningBid", desc := "(I)I" } : Jvm.MethodName)) ∈ lw_tbl := lw_at lw_m14 80 rfl
theorem ml_Law_50 : MLink "QuarryCrownsLaw" 50 (⟨"QuarryCrowns", "winningBid", "(I)I"⟩ : MethodName) := Or.inl w3329
theorem w3330 : (Jvm.Cond.instanceMethod ({ cls := "QuarryCrowns", name := "winningBid", desc := "(I)I" } : Jvm.MethodName)) ∈ lw_tbl := lw_at lw_m14 81 rfl
theorem w3331 : (Jvm.Cond.selects "QuarryCrowns" ({ cls := "QuarryCrowns", name := "winningBid", desc := "(I)I" } : Jvm.MethodName) ({ cls := "QuarryCrowns", name := "winningBid", desc := "(I)I" } : Jvm.MethodName)) ∈ lw_tbl := lw_at lw_m14 82 rfl
theorem dx_Law_50 : ∀ kd ∈ ([0] : List Nat), DspX "QuarryCrownsLaw" 50 kd mi_Q_winningBid := fun kd hk => by obtain rfl := List.mem_singleton.mp hk; exact ⟨_, rfl, ml_Law_50, w3330, w3331⟩
theorem w3332 : (Jvm.Cond.code ({ cls := "QuarryCrowns", name := "winningBid", desc := "(I)I" } : Jvm.MethodName) prog_1_method_39_code (3 : Nat) (Option.some Jvm.ClassFile.FieldType.int)) ∈ lw_tbl := lw_at lw_m14 83 rfl
theorem ce_Q_winningBid : Callee mi_Q_winningBid 1 := ⟨w3332, plainFor_of_name pn_Q, w130, ⟨by decide, by decide⟩, by decide +kernel, Nat.le_of_ble_eq_true rfl⟩
theorem d_Law_winningBid_7 : decode method_15_code 7 = .ok (.i2l, 1) := by decide +kernel
theorem d_Law_winningBid_8 : decode method_15_code 8 = .ok (.lastore, 1) := by decide +kernel
theorem d_Law_winningBid_9 : decode method_15_code 9 = .ok (.goto 6, 3) := by decide +kernel
theorem d_Law_winningBid_15 : decode method_15_code 15 = .ok (.iconst 0, 1) := by decide +kernel
theorem d_Law_winningBid_16 : decode method_15_code 16 = .ok (.ireturn, 1) := by decide +kernel
theorem d_Law_winningBid_12 : decode method_15_code 12 = .ok (.astore_n 3, 1) := by decide +kernel
theorem d_Law_winningBid_13 : decode method_15_code 13 = .ok (.iconst 1, 1) := by decide +kernel
theorem d_Law_winningBid_14 : decode method_15_code 14 = .ok (.ireturn, 1) := by decide +kernel
theorem d_Law_bestStone_0 : decode method_16_code 0 = .ok (.aload_n 2, 1) := by decide +kernel
theorem d_Law_bestStone_1 : decode method_16_code 1 = .ok (.iconst 0, 1) := by decide +kernel
theorem d_Law_bestStone_2 : decode method_16_code 2 = .ok (.aload_n 0, 1) := by decide +kernel
theorem d_Law_bestStone_3 : decode method_16_code 3 = .ok (.iload_n 1, 1) := by decide +kernel
theorem d_Law_bestStone_4 : decode method_16_code 4 = .ok (.invokevirtual 53, 3) := by decide +kernel
theorem w3341 : (Jvm.Cond.methodLink "QuarryCrownsLaw" (53 : Nat) ({ cls := "QuarryCrowns", name := "bestStone", desc := "(I)I" } : Jvm.MethodName)) ∈ lw_tbl := lw_at lw_m14 92 rfl
theorem ml_Law_53 : MLink "QuarryCrownsLaw" 53 (⟨"QuarryCrowns", "bestStone", "(I)I"⟩ : MethodName) := Or.inl w3341
theorem w3342 : (Jvm.Cond.instanceMethod ({ cls := "QuarryCrowns", name := "bestStone", desc := "(I)I" } : Jvm.MethodName)) ∈ lw_tbl := lw_at lw_m14 93 rfl
theorem w3343 : (Jvm.Cond.selects "QuarryCrowns" ({ cls := "QuarryCrowns", name := "bestStone", desc := "(I)I" } : Jvm.MethodName) ({ cls := "QuarryCrowns", name := "bestStone", desc := "(I)I" } : Jvm.MethodName)) ∈ lw_tbl := lw_at lw_m14 94 rfl
theorem dx_Law_53 : ∀ kd ∈ ([0] : List Nat), DspX "QuarryCrownsLaw" 53 kd mi_Q_bestStone := fun kd hk => by obtain rfl := List.mem_singleton.mp hk; exact ⟨_, rfl, ml_Law_53, w3342, w3343⟩
theorem w3344 : (Jvm.Cond.code ({ cls := "QuarryCrowns", name := "bestStone", desc := "(I)I" } : Jvm.MethodName) prog_1_method_40_code (3 : Nat) (Option.some Jvm.ClassFile.FieldType.int)) ∈ lw_tbl := lw_at lw_m14 95 rfl
theorem ce_Q_bestStone : Callee mi_Q_bestStone 1 := ⟨w3344, plainFor_of_name pn_Q, w130, ⟨by decide, by decide⟩, by decide +kernel, Nat.le_of_ble_eq_true rfl⟩
theorem d_Law_bestStone_7 : decode method_16_code 7 = .ok (.i2l, 1) := by decide +kernel
theorem d_Law_bestStone_8 : decode method_16_code 8 = .ok (.lastore, 1) := by decide +kernel
theorem d_Law_bestStone_9 : decode method_16_code 9 = .ok (.goto 6, 3) := by decide +kernel
theorem d_Law_bestStone_15 : decode method_16_code 15 = .ok (.iconst 0, 1) := by decide +kernel
theorem d_Law_bestStone_16 : decode method_16_code 16 = .ok (.ireturn, 1) := by decide +kernel
theorem d_Law_bestStone_12 : decode method_16_code 12 = .ok (.astore_n 3, 1) := by decide +kernel
theorem d_Law_bestStone_13 : decode method_16_code 13 = .ok (.iconst 1, 1) := by decide +kernel
theorem d_Law_bestStone_14 : decode method_16_code 14 = .ok (.ireturn, 1) := by decide +kernel
theorem d_Law_ifSold_0 : decode method_17_code 0 = .ok (.aload 4, 2) := by decide +kernel
theorem d_Law_ifSold_2 : decode method_17_code 2 = .ok (.iconst 0, 1) := by decide +kernel
theorem d_Law_ifSold_3 : decode method_17_code 3 = .ok (.aload_n 0, 1) := by decide +kernel
theorem d_Law_ifSold_4 : decode method_17_code 4 = .ok (.iload_n 1, 1) := by decide +kernel
theorem d_Law_ifSold_5 : decode method_17_code 5 = .ok (.iload_n 2, 1) := by decide +kernel
theorem d_Law_ifSold_6 : decode method_17_code 6 = .ok (.iload_n 3, 1) := by decide +kernel
theorem d_Law_ifSold_7 : decode method_17_code 7 = .ok (.invokevirtual 56, 3) := by decide +kernel
theorem w3352 : (Jvm.Cond.methodLink "QuarryCrownsLaw" (56 : Nat) ({ cls := "QuarryCrowns", name := "ifSold", desc := "(III)I" } : Jvm.MethodName)) ∈ lw_tbl := lw_at lw_m14 103 rfl
theorem ml_Law_56 : MLink "QuarryCrownsLaw" 56 (⟨"QuarryCrowns", "ifSold", "(III)I"⟩ : MethodName) := Or.inl w3352
theorem w3353 : (Jvm.Cond.instanceMethod ({ cls := "QuarryCrowns", name := "ifSold", desc := "(III)I" } : Jvm.MethodName)) ∈ lw_tbl := lw_at lw_m14 104 rfl
theorem w3354 : (Jvm.Cond.selects "QuarryCrowns" ({ cls := "QuarryCrowns", name := "ifSold", desc := "(III)I" } : Jvm.MethodName) ({ cls := "QuarryCrowns", name := "ifSold", desc := "(III)I" } : Jvm.MethodName)) ∈ lw_tbl := lw_at lw_m14 105 rfl
theorem dx_Law_56 : ∀ kd ∈ ([0] : List Nat), DspX "QuarryCrownsLaw" 56 kd mi_Q_ifSold := fun kd hk => by obtain rfl := List.mem_singleton.mp hk; exact ⟨_, rfl, ml_Law_56, w3353, w3354⟩
theorem w3355 : (Jvm.Cond.code ({ cls := "QuarryCrowns", name := "ifSold", desc := "(III)I" } : Jvm.MethodName) prog_1_method_41_code (5 : Nat) (Option.some Jvm.ClassFile.FieldType.int)) ∈ lw_tbl := lw_at lw_m14 106 rfl
theorem ce_Q_ifSold : Callee mi_Q_ifSold 3 := ⟨w3355, plainFor_of_name pn_Q, w130, ⟨by decide, by decide⟩, by decide +kernel, Nat.le_of_ble_eq_true rfl⟩
theorem d_Law_ifSold_10 : decode method_17_code 10 = .ok (.i2l, 1) := by decide +kernel
theorem d_Law_ifSold_11 : decode method_17_code 11 = .ok (.lastore, 1) := by decide +kernel
theorem d_Law_ifSold_12 : decode method_17_code 12 = .ok (.goto 7, 3) := by decide +kernel
theorem d_Law_ifSold_19 : decode method_17_code 19 = .ok (.iconst 0, 1) := by decide +kernel
theorem d_Law_ifSold_20 : decode method_17_code 20 = .ok (.ireturn, 1) := by decide +kernel
theorem d_Law_ifSold_15 : decode method_17_code 15 = .ok (.astore 5, 2) := by decide +kernel
theorem d_Law_ifSold_17 : decode method_17_code 17 = .ok (.iconst 1, 1) := by decide +kernel
theorem d_Law_ifSold_18 : decode method_17_code 18 = .ok (.ireturn, 1) := by decide +kernel
theorem d_Law_bid_0 : decode method_18_code 0 = .ok (.aload_n 3, 1) := by decide +kernel
theorem d_Law_bid_1 : decode method_18_code 1 = .ok (.iconst 0, 1) := by decide +kernel
theorem d_Law_bid_2 : decode method_18_code 2 = .ok (.aload_n 0, 1) := by decide +kernel
theorem d_Law_bid_3 : decode method_18_code 3 = .ok (.iload_n 1, 1) := by decide +kernel
theorem d_Law_bid_4 : decode method_18_code 4 = .ok (.iload_n 2, 1) := by decide +kernel
theorem d_Law_bid_5 : decode method_18_code 5 = .ok (.invokevirtual 59, 3) := by decide +kernel
theorem w3365 : (Jvm.Cond.methodLink "QuarryCrownsLaw" (59 : Nat) ({ cls := "QuarryCrowns", name := "bid", desc := "(II)I" } : Jvm.MethodName)) ∈ lw_tbl := lw_at lw_m14 116 rfl
theorem ml_Law_59 : MLink "QuarryCrownsLaw" 59 (⟨"QuarryCrowns", "bid", "(II)I"⟩ : MethodName) := Or.inl w3365
theorem w3366 : (Jvm.Cond.instanceMethod ({ cls := "QuarryCrowns", name := "bid", desc := "(II)I" } : Jvm.MethodName)) ∈ lw_tbl := lw_at lw_m14 117 rfl
theorem w3367 : (Jvm.Cond.selects "QuarryCrowns" ({ cls := "QuarryCrowns", name := "bid", desc := "(II)I" } : Jvm.MethodName) ({ cls := "QuarryCrowns", name := "bid", desc := "(II)I" } : Jvm.MethodName)) ∈ lw_tbl := lw_at lw_m14 118 rfl
theorem dx_Law_59 : ∀ kd ∈ ([0] : List Nat), DspX "QuarryCrownsLaw" 59 kd mi_Q_bid := fun kd hk => by obtain rfl := List.mem_singleton.mp hk; exact ⟨_, rfl, ml_Law_59, w3366, w3367⟩
theorem w3368 : (Jvm.Cond.code ({ cls := "QuarryCrowns", name := "bid", desc := "(II)I" } : Jvm.MethodName) prog_1_method_44_code (4 : Nat) (Option.some Jvm.ClassFile.FieldType.int)) ∈ lw_tbl := lw_at lw_m14 119 rfl
theorem ce_Q_bid : Callee mi_Q_bid 2 := ⟨w3368, plainFor_of_name pn_Q, w130, ⟨by decide, by decide⟩, by decide +kernel, Nat.le_of_ble_eq_true rfl⟩
theorem d_Law_bid_8 : decode method_18_code 8 = .ok (.i2l, 1) := by decide +kernel
theorem d_Law_bid_9 : decode method_18_code 9 = .ok (.lastore, 1) := by decide +kernel
theorem d_Law_bid_10 : decode method_18_code 10 = .ok (.goto 7, 3) := by decide +kernel
theorem d_Law_bid_17 : decode method_18_code 17 = .ok (.iconst 0, 1) := by decide +kernel
theorem d_Law_bid_18 : decode method_18_code 18 = .ok (.ireturn, 1) := by decide +kernel
theorem d_Law_bid_13 : decode method_18_code 13 = .ok (.astore 4, 2) := by decide +kernel
theorem d_Law_bid_15 : decode method_18_code 15 = .ok (.iconst 1, 1) := by decide +kernel
theorem d_Law_bid_16 : decode method_18_code 16 = .ok (.ireturn, 1) := by decide +kernel
theorem d_Law_sell_0 : decode method_19_code 0 = .ok (.aload 4, 2) := by decide +kernel
theorem d_Law_sell_2 : decode method_19_code 2 = .ok (.iconst 0, 1) := by decide +kernel
theorem d_Law_sell_3 : decode method_19_code 3 = .ok (.aload_n 0, 1) := by decide +kernel
theorem d_Law_sell_4 : decode method_19_code 4 = .ok (.iload_n 1, 1) := by decide +kernel
theorem d_Law_sell_5 : decode method_19_code 5 = .ok (.iload_n 2, 1) := by decide +kernel
theorem d_Law_sell_6 : decode method_19_code 6 = .ok (.iload_n 3, 1) := by decide +kernel
theorem d_Law_sell_7 : decode method_19_code 7 = .ok (.invokevirtual 62, 3) := by decide +kernel
theorem w3376 : (Jvm.Cond.methodLink "QuarryCrownsLaw" (62 : Nat) ({ cls := "QuarryCrowns", name := "sell", desc := "(III)I" } : Jvm.MethodName)) ∈ lw_tbl := lw_at lw_m14 127 rfl
theorem ml_Law_62 : MLink "QuarryCrownsLaw" 62 (⟨"QuarryCrowns", "sell", "(III)I"⟩ : MethodName) := Or.inl w3376
theorem w3377 : (Jvm.Cond.instanceMethod ({ cls := "QuarryCrowns", name := "sell", desc := "(III)I" } : Jvm.MethodName)) ∈ lw_tbl := lw_at lw_m14 128 rfl
theorem w3378 : (Jvm.Cond.selects "QuarryCrowns" ({ cls := "QuarryCrowns", name := "sell", desc := "(III)I" } : Jvm.MethodName) ({ cls := "QuarryCrowns", name := "sell", desc := "(III)I" } : Jvm.MethodName)) ∈ lw_tbl := lw_at lw_m14 129 rfl
theorem dx_Law_62 : ∀ kd ∈ ([0] : List Nat), DspX "QuarryCrownsLaw" 62 kd mi_Q_sell := fun kd hk => by obtain rfl := List.mem_singleton.mp hk; exact ⟨_, rfl, ml_Law_62, w3377, w3378⟩
theorem w3379 : (Jvm.Cond.code ({ cls := "QuarryCrowns", name := "sell", desc := "(III)I" } : Jvm.MethodName) prog_1_method_46_code (6 : Nat) (Option.some Jvm.ClassFile.FieldType.int)) ∈ lw_tbl := lw_at lw_m14 130 rfl
theorem ce_Q_sell : Callee mi_Q_sell 3 := ⟨w3379, plainFor_of_name pn_Q, w130, ⟨by decide, by decide⟩, by decide +kernel, Nat.le_of_ble_eq_true rfl⟩
theorem d_Law_sell_10 : decode method_19_code 10 = .ok (.i2l, 1) := by decide +kernel
theorem d_Law_sell_11 : decode method_19_code 11 = .ok (.lastore, 1) := by decide +kernel
theorem d_Law_sell_12 : decode method_19_code 12 = .ok (.goto 7, 3) := by decide +kernel
theorem d_Law_sell_19 : decode method_19_code 19 = .ok (.iconst 0, 1) := by decide +kernel
theorem d_Law_sell_20 : decode method_19_code 20 = .ok (.ireturn, 1) := by decide +kernel
theorem d_Law_sell_15 : decode method_19_code 15 = .ok (.astore 5, 2) := by decide +kernel
theorem d_Law_sell_17 : decode method_19_code 17 = .ok (.iconst 1, 1) := by decide +kernel
theorem d_Law_sell_18 : decode method_19_code 18 = .ok (.ireturn, 1) := by decide +kernel
theorem d_Law_swap_0 : decode method_20_code 0 = .ok (.aload 5, 2) := by decide +kernel
theorem d_Law_swap_2 : decode method_20_code 2 = .ok (.iconst 0, 1) := by decide +kernel
theorem d_Law_swap_3 : decode method_20_code 3 = .ok (.aload_n 0, 1) := by decide +kernel
theorem d_Law_swap_4 : decode method_20_code 4 = .ok (.iload_n 1, 1) := by decide +kernel
theorem d_Law_swap_5 : decode method_20_code 5 = .ok (.iload_n 2, 1) := by decide +kernel
theorem d_Law_swap_6 : decode method_20_code 6 = .ok (.iload_n 3, 1) := by decide +kernel
theorem d_Law_swap_7 : decode method_20_code 7 = .ok (.iload 4, 2) := by decide +kernel
theorem d_Law_swap_9 : decode method_20_code 9 = .ok (.invokevirtual 65, 3) := by decide +kernel
theorem w3386 : (Jvm.Cond.methodLink "QuarryCrownsLaw" (65 : Nat) ({ cls := "QuarryCrowns", name := "swap", desc := "(IIII)I" } : Jvm.MethodName)) ∈ lw_tbl := lw_at lw_m14 137 rfl
theorem ml_Law_65 : MLink "QuarryCrownsLaw" 65 (⟨"QuarryCrowns", "swap", "(IIII)I"⟩ : MethodName) := Or.inl w3386
theorem w3387 : (Jvm.Cond.instanceMethod ({ cls := "QuarryCrowns", name := "swap", desc := "(IIII)I" } : Jvm.MethodName)) ∈ lw_tbl := lw_at lw_m14 138 rfl
theorem w3388 : (Jvm.Cond.selects "QuarryCrowns" ({ cls := "QuarryCrowns", name := "swap", desc := "(IIII)I" } : Jvm.MethodName) ({ cls := "QuarryCrowns", name := "swap", desc := "(IIII)I" } : Jvm.MethodName)) ∈ lw_tbl := lw_at lw_m14 139 rfl
theorem dx_Law_65 : ∀ kd ∈ ([0] : List Nat), DspX "QuarryCrownsLaw" 65 kd mi_Q_swap := fun kd hk => by obtain rfl := List.mem_singleton.mp hk; exact ⟨_, rfl, ml_Law_65, w3387, w3388⟩
theorem w3389 : (Jvm.Cond.code ({ cls := "QuarryCrowns", name := "swap", desc := "(IIII)I" } : Jvm.MethodName) prog_1_method_47_code (7 : Nat) (Option.some Jvm.ClassFile.FieldType.int)) ∈ lw_tbl := lw_at lw_m14 140 rfl
theorem ce_Q_swap : Callee mi_Q_swap 4 := ⟨w3389, plainFor_of_name pn_Q, w130, ⟨by decide, by decide⟩, by decide +kernel, Nat.le_of_ble_eq_true rfl⟩
theorem d_Law_swap_12 : decode method_20_code 12 = .ok (.i2l, 1) := by decide +kernel
theorem d_Law_swap_13 : decode method_20_code 13 = .ok (.lastore, 1) := by decide +kernel
theorem d_Law_swap_14 : decode method_20_code 14 = .ok (.goto 7, 3) := by decide +kernel
theorem d_Law_swap_21 : decode method_20_code 21 = .ok (.iconst 0, 1) := by decide +kernel
theorem d_Law_swap_22 : decode method_20_code 22 = .ok (.ireturn, 1) := by decide +kernel
theorem d_Law_swap_17 : decode method_20_code 17 = .ok (.astore 6, 2) := by decide +kernel
theorem d_Law_swap_19 : decode method_20_code 19 = .ok (.iconst 1, 1) := by decide +kernel
theorem d_Law_swap_20 : decode method_20_code 20 = .ok (.ireturn, 1) := by decide +kernel
theorem d_Law_save_0 : decode method_21_code 0 = .ok (.aload_n 2, 1) := by decide +kernel
theorem d_Law_save_1 : decode method_21_code 1 = .ok (.iconst 0, 1) := by decide +kernel
theorem d_Law_save_2 : decode method_21_code 2 = .ok (.aload_n 0, 1) := by decide +kernel
theorem d_Law_save_3 : decode method_21_code 3 = .ok (.iload_n 1, 1) := by decide +kernel
theorem d_Law_save_4 : decode method_21_code 4 = .ok (.invokevirtual 69, 3) := by decide +kernel
theorem w3396 : (Jvm.Cond.methodLink "QuarryCrownsLaw" (69 : Nat) ({ cls := "QuarryCrowns", name := "save", desc := "(I)I" } : Jvm.MethodName)) ∈ lw_tbl := lw_at lw_m14 147 rfl
theorem ml_Law_69 : MLink "QuarryCrownsLaw" 69 (⟨"QuarryCrowns", "save", "(I)I"⟩ : MethodName) := Or.inl w3396
theorem w3397 : (Jvm.Cond.instanceMethod ({ cls := "QuarryCrowns", name := "save", desc := "(I)I" } : Jvm.MethodName)) ∈ lw_tbl := lw_at lw_m14 148 rfl
theorem w3398 : (Jvm.Cond.selects "QuarryCrowns" ({ cls := "QuarryCrowns", name := "save", desc := "(I)I" } : Jvm.MethodName) ({ cls := "QuarryCrowns", name := "save", desc := "(I)I" } : Jvm.MethodName)) ∈ lw_tbl := lw_at lw_m14 149 rfl
theorem dx_Law_69 : ∀ kd ∈ ([0] : List Nat), DspX "QuarryCrownsLaw" 69 kd mi_Q_save := fun kd hk => by obtain rfl := List.mem_singleton.mp hk; exact ⟨_, rfl, ml_Law_69, w3397, w3398⟩
theorem w3399 : (Jvm.Cond.code ({ cls := "QuarryCrowns", name := "save", desc := "(I)I" } : Jvm.MethodName) prog_1_method_52_code (2 : Nat) (Option.some Jvm.ClassFile.FieldType.int)) ∈ lw_tbl := lw_at lw_m14 150 rfl
theorem ce_Q_save : Callee mi_Q_save 1 := ⟨w3399, plainFor_of_name pn_Q, w130, ⟨by decide, by decide⟩, by decide +kernel, Nat.le_of_ble_eq_true rfl⟩
theorem d_Law_save_7 : decode method_21_code 7 = .ok (.i2l, 1) := by decide +kernel
theorem d_Law_save_8 : decode method_21_code 8 = .ok (.lastore, 1) := by decide +kernel
theorem d_Law_save_9 : decode method_21_code 9 = .ok (.goto 6, 3) := by decide +kernel
theorem d_Law_save_15 : decode method_21_code 15 = .ok (.iconst 0, 1) := by decide +kernel
theorem d_Law_save_16 : decode method_21_code 16 = .ok (.ireturn, 1) := by decide +kernel
theorem d_Law_save_12 : decode method_21_code 12 = .ok (.astore_n 3, 1) := by decide +kernel
theorem d_Law_save_13 : decode method_21_code 13 = .ok (.iconst 1, 1) := by decide +kernel
theorem d_Law_save_14 : decode method_21_code 14 = .ok (.ireturn, 1) := by decide +kernel
theorem d_Law_restore_0 : decode method_22_code 0 = .ok (.aload_n 2, 1) := by decide +kernel
theorem d_Law_restore_1 : decode method_22_code 1 = .ok (.iconst 0, 1) := by decide +kernel
theorem d_Law_restore_2 : decode method_22_code 2 = .ok (.aload_n 0, 1) := by decide +kernel
theorem d_Law_restore_3 : decode method_22_code 3 = .ok (.iload_n 1, 1) := by decide +kernel
theorem d_Law_restore_4 : decode method_22_code 4 = .ok (.invokevirtual 72, 3) := by decide +kernel
theorem w3407 : (Jvm.Cond.methodLink "QuarryCrownsLaw" (72 : Nat) ({ cls := "QuarryCrowns", name := "restore", desc := "(I)I" } : Jvm.MethodName)) ∈ lw_tbl := lw_at lw_m14 158 rfl
theorem ml_Law_72 : MLink "QuarryCrownsLaw" 72 (⟨"QuarryCrowns", "restore", "(I)I"⟩ : MethodName) := Or.inl w3407
theorem w3408 : (Jvm.Cond.instanceMethod ({ cls := "QuarryCrowns", name := "restore", desc := "(I)I" } : Jvm.MethodName)) ∈ lw_tbl := lw_at lw_m14 159 rfl
theorem w3409 : (Jvm.Cond.selects "QuarryCrowns" ({ cls := "QuarryCrowns", name := "restore", desc := "(I)I" } : Jvm.MethodName) ({ cls := "QuarryCrowns", name := "restore", desc := "(I)I" } : Jvm.MethodName)) ∈ lw_tbl := lw_at lw_m14 160 rfl
theorem dx_Law_72 : ∀ kd ∈ ([0] : List Nat), DspX "QuarryCrownsLaw" 72 kd mi_Q_restore := fun kd hk => by obtain rfl := List.mem_singleton.mp hk; exact ⟨_, rfl, ml_Law_72, w3408, w3409⟩
theorem w3410 : (Jvm.Cond.code ({ cls := "QuarryCrowns", name := "restore", desc := "(I)I" } : Jvm.MethodName) prog_1_method_53_code (2 : Nat) (Option.some Jvm.ClassFile.FieldType.int)) ∈ lw_tbl := lw_at lw_m14 161 rfl
theorem ce_Q_restore : Callee mi_Q_restore 1 := ⟨w3410, plainFor_of_name pn_Q, w130, ⟨by decide, by decide⟩, by decide +kernel, Nat.le_of_ble_eq_true rfl⟩
theorem d_Law_restore_7 : decode method_22_code 7 = .ok (.i2l, 1) := by decide +kernel
theorem d_Law_restore_8 : decode method_22_code 8 = .ok (.lastore, 1) := by decide +kernel
theorem d_Law_restore_9 : decode method_22_code 9 = .ok (.goto 9, 3) := by decide +kernel
theorem d_Law_restore_18 : decode method_22_code 18 = .ok (.iconst 0, 1) := by decide +kernel
theorem d_Law_restore_19 : decode method_22_code 19 = .ok (.ireturn, 1) := by decide +kernel
theorem d_Law_restore_12 : decode method_22_code 12 = .ok (.astore_n 3, 1) := by decide +kernel
theorem d_Law_restore_13 : decode method_22_code 13 = .ok (.iconst 1, 1) := by decide +kernel
theorem d_Law_restore_14 : decode method_22_code 14 = .ok (.ireturn, 1) := by decide +kernel
theorem d_Law_restore_15 : decode method_22_code 15 = .ok (.astore_n 3, 1) := by decide +kernel
theorem d_Law_restore_16 : decode method_22_code 16 = .ok (.iconst 2, 1) := by decide +kernel
theorem d_Law_restore_17 : decode method_22_code 17 = .ok (.ireturn, 1) := by decide +kernel
theorem b_Law_size_0 {G : GL} {d : Nat} {h : AH} {Q : Out → AH → Prop} {r0 : Value} {x1 : Int32} {r2 : Value} (g0 : r0.isRef = true) (g2 : r2.isRef = true) (H : dR r0 fun q1 => (hasKs h q1 [0] ∧ MF G d mi_Q_size 0 [.ref q1, .int x1] [] h (cI (fun y2 h2 => dR r2 fun q3 => pA h2 q3 102 0 (.long (Int32.toInt64 y2)) fun h4 => Q (.inl (some (.int 0))) h4) (fun q9 h9 => MT G (d + 1) mi_Law_size 4 [.ref q1, .int x1, r2, .retAddr 0] [.int 0, r2] h9 q9 Q)))) : MF G (d + 1) mi_Law_size 0 [r0, .int x1, r2, .retAddr 0] [] h Q := by
  refine r_aload_n d_Law_size_0 rfl rfl g2 ?_
  refine r_iconst (v := 0) d_Law_size_1 (by decide) ?_
  refine r_aload_n d_Law_size_2 rfl rfl g0 ?_
  refine r_iload_n d_Law_size_3 rfl rfl ?_
  obtain ⟨q1, rfl, H⟩ := H
  obtain ⟨⟨kd2, hk2, hh2⟩, K2⟩ := H
  refine r_callX (rest := [.int 0, r2]) (As := [.int x1]) (L0 := [.ref q1, .int x1]) (Lz := [.ref q1, .int x1]) d_Law_size_4 ce_Q_size (dx_Law_7 _ hk2) hh2 rfl ⟨rfl, rfl, Nat.le_of_ble_eq_true rfl, (ent_r (ent_i ent_0)), rfl, Nat.le_of_ble_eq_true rfl⟩ K2 (fun v9 h2 H => ?_) (fun q9 h9 H => H)
  obtain ⟨y2, rfl, H⟩ := H
  refine r_i2l (v := (Int32.toInt64 y2)) d_Law_size_7 rfl ?_
  obtain ⟨q3, rfl, H⟩ := H
  obtain ⟨fs4, h4, hc4, hi4, hl4, eh4, H⟩ := H
  refine r_lastoreE d_Law_size_8 hc4 hi4 hl4 eh4 ?_
  refine r_goto (tgt := 15) d_Law_size_9 (by decide) ?_
  refine r_iconst (v := 0) d_Law_size_15 (by decide) ?_
  exact r_ireturn d_Law_size_16 rfl rfl H
theorem b_Law_size_12 {G : GL} {d : Nat} {h : AH} {Q : Out → AH → Prop} {r0 : Value} {x1 : Int32} {r2 : Value} {u3 : Value} {rs0 : Value} (g0 : r0.isRef = true) (g2 : r2.isRef = true) (gs0 : rs0.isRef = true) (H : Q (.inl (some (.int 1))) h) : MF G (d + 1) mi_Law_size 12 [r0, .int x1, r2, u3] [rs0] h Q := by
  refine r_astore_n d_Law_size_12 rfl gs0 (Nat.lt_of_lt_of_le (Nat.lt_succ_self _) (Nat.le_of_ble_eq_true rfl)) rfl ?_
  refine r_iconst (v := 1) d_Law_size_13 (by decide) ?_
  exact r_ireturn d_Law_size_14 rfl rfl H
theorem b_Law_player_0 {G : GL} {d : Nat} {h : AH} {Q : Out → AH → Prop} {r0 : Value} {x1 : Int32} {x2 : Int32} {r3 : Value} (g0 : r0.isRef = true) (g3 : r3.isRef = true) (H : dR r0 fun q1 => (hasKs h q1 [0] ∧ MF G d mi_Q_player 0 [.ref q1, .int x1, .int x2, .retAddr 0] [] h (cI (fun y2 h2 => dR r3 fun q3 => pA h2 q3 102 0 (.long (Int32.toInt64 y2)) fun h4 => Q (.inl (some (.int 0))) h4) (fun q9 h9 => MT G (d + 1) mi_Law_player 5 [.ref q1, .int x1, .int x2, r3, .retAddr 0] [.int 0, r3] h9 q9 Q)))) : MF G (d + 1) mi_Law_player 0 [r0, .int x1, .int x2, r3, .retAddr 0] [] h Q := by
  refine r_aload_n d_Law_player_0 rfl rfl g3 ?_
  refine r_iconst (v := 0) d_Law_player_1 (by decide) ?_
  refine r_aload_n d_Law_player_2 rfl rfl g0 ?_
  refine r_iload_n d_Law_player_3 rfl rfl ?_
  refine r_iload_n d_Law_player_4 rfl rfl ?_
  obtain ⟨q1, rfl, H⟩ := H
  obtain ⟨⟨kd2, hk2, hh2⟩, K2⟩ := H
  refine r_callX (rest := [.int 0, r3]) (As := [.int x1, .int x2]) (L0 := [.ref q1, .int x1, .int x2]) (Lz := [.ref q1, .int x1, .int x2, .retAddr 0]) d_Law_player_5 ce_Q_player (dx_Law_15 _ hk2) hh2 rfl ⟨rfl, rfl, Nat.le_of_ble_eq_true rfl, (ent_r (ent_i (ent_i ent_0))), rfl, Nat.le_of_ble_eq_true rfl⟩ K2 (fun v9 h2 H => ?_) (fun q9 h9 H => H)
  obtain ⟨y2, rfl, H⟩ := H
  refine r_i2l (v := (Int32.toInt64 y2)) d_Law_player_8 rfl ?_
  obtain ⟨q3, rfl, H⟩ := H
  obtain ⟨fs4, h4, hc4, hi4, hl4, eh4, H⟩ := H
  refine r_lastoreE d_Law_player_9 hc4 hi4 hl4 eh4 ?_
  refine r_goto (tgt := 17) d_Law_player_10 (by decide) ?_
  refine r_iconst (v := 0) d_Law_player_17 (by decide) ?_
  exact r_ireturn d_Law_player_18 rfl rfl H
theorem b_Law_player_13 {G : GL} {d : Nat} {h : AH} {Q : Out → AH → Prop} {r0 : Value} {x1 : Int32} {x2 : Int32} {r3 : Value} {u4 : Value} {rs0 : Value} (g0 : r0.isRef = true) (g3 : r3.isRef = true) (gs0 : rs0.isRef = true) (H : Q (.inl (some (.int 1))) h) : MF G (d + 1) mi_Law_player 13 [r0, .int x1, .int x2, r3, u4] [rs0] h Q := by
  refine r_astore d_Law_player_13 gs0 (Nat.lt_of_lt_of_le (Nat.lt_succ_self _) (Nat.le_of_ble_eq_true rfl)) rfl ?_
  refine r_iconst (v := 1) d_Law_player_15 (by decide) ?_
  exact r_ireturn d_Law_player_16 rfl rfl H
theorem b_Law_has_0 {G : GL} {d : Nat} {h : AH} {Q : Out → AH → Prop} {r0 : Value} {x1 : Int32} {x2 : Int32} {x3 : Int32} {r4 : Value} (g0 : r0.isRef = true) (g4 : r4.isRef = true) (H : dR r0 fun q1 => (hasKs h q1 [0] ∧ MF G d mi_Q_has 0 [.ref q1, .int x1, .int x2, .int x3, .retAddr 0] [] h (cI (fun y2 h2 => dR r4 fun q3 => pA h2 q3 102 0 (.long (Int32.toInt64 y2)) fun h4 => Q (.inl (some (.int 0))) h4) (fun q9 h9 => MT G (d + 1) mi_Law_has 7 [.ref q1, .int x1, .int x2, .int x3, r4, .retAddr 0] [.int 0, r4] h9 q9 Q)))) : MF G (d + 1) mi_Law_has 0 [r0, .int x1, .int x2, .int x3, r4, .retAddr 0] [] h Q := by
  refine r_aload d_Law_has_0 rfl g4 ?_
  refine r_iconst (v := 0) d_Law_has_2 (by decide) ?_
  refine r_aload_n d_Law_has_3 rfl rfl g0 ?_
  refine r_iload_n d_Law_has_4 rfl rfl ?_
  refine r_iload_n d_Law_has_5 rfl rfl ?_
  refine r_iload_n d_Law_has_6 rfl rfl ?_
  obtain ⟨q1, rfl, H⟩ := H
  obtain ⟨⟨kd2, hk2, hh2⟩, K2⟩ := H
  refine r_callX (rest := [.int 0, r4]) (As := [.int x1, .int x2, .int x3]) (L0 := [.ref q1, .int x1, .int x2, .int x3]) (Lz := [.ref q1, .int x1, .int x2, .int x3, .retAddr 0]) d_Law_has_7 ce_Q_has (dx_Law_19 _ hk2) hh2 rfl ⟨rfl, rfl, Nat.le_of_ble_eq_true rfl, (ent_r (ent_i (ent_i (ent_i ent_0)))), rfl, Nat.le_of_ble_eq_true rfl⟩ K2 (fun v9 h2 H => ?_) (fun q9 h9 H => H)
  obtain ⟨y2, rfl, H⟩ := H
  refine r_i2l (v := (Int32.toInt64 y2)) d_Law_has_10 rfl ?_
  obtain ⟨q3, rfl, H⟩ := H
  obtain ⟨fs4, h4, hc4, hi4, hl4, eh4, H⟩ := H
  refine r_lastoreE d_Law_has_11 hc4 hi4 hl4 eh4 ?_
  refine r_goto (tgt := 19) d_Law_has_12 (by decide) ?_
  refine r_iconst (v := 0) d_Law_has_19 (by decide) ?_
  exact r_ireturn d_Law_has_20 rfl rfl H
theorem b_Law_has_15 {G : GL} {d : Nat} {h : AH} {Q : Out → AH → Prop} {r0 : Value} {x1 : Int32} {x2 : Int32} {x3 : Int32} {r4 : Value} {u5 : Value} {rs0 : Value} (g0 : r0.isRef = true) (g4 : r4.isRef = true) (gs0 : rs0.isRef = true) (H : Q (.inl (some (.int 1))) h) : MF G (d + 1) mi_Law_has 15 [r0, .int x1, .int x2, .int x3, r4, u5] [rs0] h Q := by
  refine r_astore d_Law_has_15 gs0 (Nat.lt_of_lt_of_le (Nat.lt_succ_self _) (Nat.le_of_ble_eq_true rfl)) rfl ?_
  refine r_iconst (v := 1) d_Law_has_17 (by decide) ?_
  exact r_ireturn d_Law_has_18 rfl rfl H
theorem b_Law_row_0 {G : GL} {d : Nat} {h : AH} {Q : Out → AH → Prop} {r0 : Value} {x1 : Int32} {x2 : Int32} {x3 : Int32} {r4 : Value} (g0 : r0.isRef = true) (g4 : r4.isRef = true) (H : dR r0 fun q1 => (hasKs h q1 [0] ∧ MF G d mi_Q_row 0 [.ref q1, .int x1, .int x2, .int x3, .retAddr 0] [] h (cI (fun y2 h2 => dR r4 fun q3 => pA h2 q3 102 0 (.long (Int32.toInt64 y2)) fun h4 => Q (.inl (some (.int 0))) h4) (fun q9 h9 => MT G (d + 1) mi_Law_row 7 [.ref q1, .int x1, .int x2, .int x3, r4, .retAddr 0] [.int 0, r4] h9 q9 Q)))) : MF G (d + 1) mi_Law_row 0 [r0, .int x1, .int x2, .int x3, r4, .retAddr 0] [] h Q := by
  refine r_aload d_Law_row_0 rfl g4 ?_
  refine r_iconst (v := 0) d_Law_row_2 (by decide) ?_
  refine r_aload_n d_Law_row_3 rfl rfl g0 ?_
  refine r_iload_n d_Law_row_4 rfl rfl ?_
  refine r_iload_n d_Law_row_5 rfl rfl ?_
  refine r_iload_n d_Law_row_6 rfl rfl ?_
  obtain ⟨q1, rfl, H⟩ := H
  obtain ⟨⟨kd2, hk2, hh2⟩, K2⟩ := H
  refine r_callX (rest := [.int 0, r4]) (As := [.int x1, .int x2, .int x3]) (L0 := [.ref q1, .int x1, .int x2, .int x3]) (Lz := [.ref q1, .int x1, .int x2, .int x3, .retAddr 0]) d_Law_row_7 ce_Q_row (dx_Law_23 _ hk2) hh2 rfl ⟨rfl, rfl, Nat.le_of_ble_eq_true rfl, (ent_r (ent_i (ent_i (ent_i ent_0)))), rfl, Nat.le_of_ble_eq_true rfl⟩ K2 (fun v9 h2 H => ?_) (fun q9 h9 H => H)
  obtain ⟨y2, rfl, H⟩ := H
  refine r_i2l (v := (Int32.toInt64 y2)) d_Law_row_10 rfl ?_
  obtain ⟨q3, rfl, H⟩ := H
  obtain ⟨fs4, h4, hc4, hi4, hl4, eh4, H⟩ := H
  refine r_lastoreE d_Law_row_11 hc4 hi4 hl4 eh4 ?_
  refine r_goto (tgt := 19) d_Law_row_12 (by decide) ?_
  refine r_iconst (v := 0) d_Law_row_19 (by decide) ?_
  exact r_ireturn d_Law_row_20 rfl rfl H
theorem b_Law_row_15 {G : GL} {d : Nat} {h : AH} {Q : Out → AH → Prop} {r0 : Value} {x1 : Int32} {x2 : Int32} {x3 : Int32} {r4 : Value} {u5 : Value} {rs0 : Value} (g0 : r0.isRef = true) (g4 : r4.isRef = true) (gs0 : rs0.isRef = true) (H : Q (.inl (some (.int 1))) h) : MF G (d + 1) mi_Law_row 15 [r0, .int x1, .int x2, .int x3, r4, u5] [rs0] h Q := by
  refine r_astore d_Law_row_15 gs0 (Nat.lt_of_lt_of_le (Nat.lt_succ_self _) (Nat.le_of_ble_eq_true rfl)) rfl ?_
  refine r_iconst (v := 1) d_Law_row_17 (by decide) ?_
  exact r_ireturn d_Law_row_18 rfl rfl H
theorem b_Law_stone_0 {G : GL} {d : Nat} {h : AH} {Q : Out → AH → Prop} {r0 : Value} {x1 : Int32} {x2 : Int32} {r3 : Value} (g0 : r0.isRef = true) (g3 : r3.isRef = true) (H : dR r0 fun q1 => (hasKs h q1 [0] ∧ MF G d mi_Q_stone 0 [.ref q1, .int x1, .int x2, .retAddr 0] [] h (cI (fun y2 h2 => dR r3 fun q3 => pA h2 q3 102 0 (.long (Int32.toInt64 y2)) fun h4 => Q (.inl (some (.int 0))) h4) (fun q9 h9 => MT G (d + 1) mi_Law_stone 5 [.ref q1, .int x1, .int x2, r3, .retAddr 0] [.int 0, r3] h9 q9 Q)))) : MF G (d + 1) mi_Law_stone 0 [r0, .int x1, .int x2, r3, .retAddr 0] [] h Q := by
  refine r_aload_n d_Law_stone_0 rfl rfl g3 ?_
  refine r_iconst (v := 0) d_Law_stone_1 (by decide) ?_
  refine r_aload_n d_Law_stone_2 rfl rfl g0 ?_
  refine r_iload_n d_Law_stone_3 rfl rfl ?_
  refine r_iload_n d_Law_stone_4 rfl rfl ?_
  obtain ⟨q1, rfl, H⟩ := H
  obtain ⟨⟨kd2, hk2, hh2⟩, K2⟩ := H
  refine r_callX (rest := [.int 0, r3]) (As := [.int x1, .int x2]) (L0 := [.ref q1, .int x1, .int x2]) (Lz := [.ref q1, .int x1, .int x2, .retAddr 0]) d_Law_stone_5 ce_Q_stone (dx_Law_26 _ hk2) hh2 rfl ⟨rfl, rfl, Nat.le_of_ble_eq_true rfl, (ent_r (ent_i (ent_i ent_0))), rfl, Nat.le_of_ble_eq_true rfl⟩ K2 (fun v9 h2 H => ?_) (fun q9 h9 H => H)
  obtain ⟨y2, rfl, H⟩ := H
  refine r_i2l (v := (Int32.toInt64 y2)) d_Law_stone_8 rfl ?_
  obtain ⟨q3, rfl, H⟩ := H
  obtain ⟨fs4, h4, hc4, hi4, hl4, eh4, H⟩ := H
  refine r_lastoreE d_Law_stone_9 hc4 hi4 hl4 eh4 ?_
  refine r_goto (tgt := 17) d_Law_stone_10 (by decide) ?_
  refine r_iconst (v := 0) d_Law_stone_17 (by decide) ?_
  exact r_ireturn d_Law_stone_18 rfl rfl H
theorem b_Law_stone_13 {G : GL} {d : Nat} {h : AH} {Q : Out → AH → Prop} {r0 : Value} {x1 : Int32} {x2 : Int32} {r3 : Value} {u4 : Value} {rs0 : Value} (g0 : r0.isRef = true) (g3 : r3.isRef = true) (gs0 : rs0.isRef = true) (H : Q (.inl (some (.int 1))) h) : MF G (d + 1) mi_Law_stone 13 [r0, .int x1, .int x2, r3, u4] [rs0] h Q := by
  refine r_astore d_Law_stone_13 gs0 (Nat.lt_of_lt_of_le (Nat.lt_succ_self _) (Nat.le_of_ble_eq_true rfl)) rfl ?_
  refine r_iconst (v := 1) d_Law_stone_15 (by decide) ?_
  exact r_ireturn d_Law_stone_16 rfl rfl H
theorem b_Law_owned_0 {G : GL} {d : Nat} {h : AH} {Q : Out → AH → Prop} {r0 : Value} {x1 : Int32} {x2 : Int32} {x3 : Int32} {r4 : Value} (g0 : r0.isRef = true) (g4 : r4.isRef = true) (H : dR r0 fun q1 => (hasKs h q1 [0] ∧ MF G d mi_Q_owned 0 [.ref q1, .int x1, .int x2, .int x3, .retAddr 0, .retAddr 0, .retAddr 0, .retAddr 0, .retAddr 0] [] h (cI (fun y2 h2 => dR r4 fun q3 => pA h2 q3 102 0 (.long (Int32.toInt64 y2)) fun h4 => Q (.inl (some (.int 0))) h4) (fun q9 h9 => MT G (d + 1) mi_Law_owned 7 [.ref q1, .int x1, .int x2, .int x3, r4, .retAddr 0] [.int 0, r4] h9 q9 Q)))) : MF G (d + 1) mi_Law_owned 0 [r0, .int x1, .int x2, .int x3, r4, .retAddr 0] [] h Q := by
  refine r_aload d_Law_owned_0 rfl g4 ?_
  refine r_iconst (v := 0) d_Law_owned_2 (by decide) ?_
  refine r_aload_n d_Law_owned_3 rfl rfl g0 ?_
  refine r_iload_n d_Law_owned_4 rfl rfl ?_
  refine r_iload_n d_Law_owned_5 rfl rfl ?_
  refine r_iload_n d_Law_owned_6 rfl rfl ?_
  obtain ⟨q1, rfl, H⟩ := H
  obtain ⟨⟨kd2, hk2, hh2⟩, K2⟩ := H
  refine r_callX (rest := [.int 0, r4]) (As := [.int x1, .int x2, .int x3]) (L0 := [.ref q1, .int x1, .int x2, .int x3]) (Lz := [.ref q1, .int x1, .int x2, .int x3, .retAddr 0, .retAddr 0, .retAddr 0, .retAddr 0, .retAddr 0]) d_Law_owned_7 ce_Q_owned (dx_Law_29 _ hk2) hh2 rfl ⟨rfl, rfl, Nat.le_of_ble_eq_true rfl, (ent_r (ent_i (ent_i (ent_i ent_0)))), rfl, Nat.le_of_ble_eq_true rfl⟩ K2 (fun v9 h2 H => ?_) (fun q9 h9 H => H)
  obtain ⟨y2, rfl, H⟩ := H
  refine r_i2l (v := (Int32.toInt64 y2)) d_Law_owned_10 rfl ?_
  obtain ⟨q3, rfl, H⟩ := H
  obtain ⟨fs4, h4, hc4, hi4, hl4, eh4, H⟩ := H
  refine r_lastoreE d_Law_owned_11 hc4 hi4 hl4 eh4 ?_
  refine r_goto (tgt := 19) d_Law_owned_12 (by decide) ?_
  refine r_iconst (v := 0) d_Law_owned_19 (by decide) ?_
  exact r_ireturn d_Law_owned_20 rfl rfl H
theorem b_Law_owned_15 {G : GL} {d : Nat} {h : AH} {Q : Out → AH → Prop} {r0 : Value} {x1 : Int32} {x2 : Int32} {x3 : Int32} {r4 : Value} {u5 : Value} {rs0 : Value} (g0 : r0.isRef = true) (g4 : r4.isRef = true) (gs0 : rs0.isRef = true) (H : Q (.inl (some (.int 1))) h) : MF G (d + 1) mi_Law_owned 15 [r0, .int x1, .int x2, .int x3, r4, u5] [rs0] h Q := by
  refine r_astore d_Law_owned_15 gs0 (Nat.lt_of_lt_of_le (Nat.lt_succ_self _) (Nat.le_of_ble_eq_true rfl)) rfl ?_
  refine r_iconst (v := 1) d_Law_owned_17 (by decide) ?_
  exact r_ireturn d_Law_owned_18 rfl rfl H
theorem b_Law_letter_0 {G : GL} {d : Nat} {h : AH} {Q : Out → AH → Prop} {r0 : Value} {x1 : Int32} {x2 : Int32} {r3 : Value} (g0 : r0.isRef = true) (g3 : r3.isRef = true) (H : dR r0 fun q1 => (hasKs h q1 [0] ∧ MF G d mi_Q_letter 0 [.ref q1, .int x1, .int x2, .retAddr 0] [] h (cI (fun y2 h2 => dR r3 fun q3 => pA h2 q3 102 0 (.long (Int32.toInt64 y2)) fun h4 => Q (.inl (some (.int 0))) h4) (fun q9 h9 => MT G (d + 1) mi_Law_letter 5 [.ref q1, .int x1, .int x2, r3, .retAddr 0] [.int 0, r3] h9 q9 Q)))) : MF G (d + 1) mi_Law_letter 0 [r0, .int x1, .int x2, r3, .retAddr 0] [] h Q := by
  refine r_aload_n d_Law_letter_0 rfl rfl g3 ?_
  refine r_iconst (v := 0) d_Law_letter_1 (by decide) ?_
  refine r_aload_n d_Law_letter_2 rfl rfl g0 ?_
  refine r_iload_n d_Law_letter_3 rfl rfl ?_
  refine r_iload_n d_Law_letter_4 rfl rfl ?_
  obtain ⟨q1, rfl, H⟩ := H
  obtain ⟨⟨kd2, hk2, hh2⟩, K2⟩ := H
  refine r_callX (rest := [.int 0, r3]) (As := [.int x1, .int x2]) (L0 := [.ref q1, .int x1, .int x2]) (Lz := [.ref q1, .int x1, .int x2, .retAddr 0]) d_Law_letter_5 ce_Q_letter (dx_Law_32 _ hk2) hh2 rfl ⟨rfl, rfl, Nat.le_of_ble_eq_true rfl, (ent_r (ent_i (ent_i ent_0))), rfl, Nat.le_of_ble_eq_true rfl⟩ K2 (fun v9 h2 H => ?_) (fun q9 h9 H => H)
  obtain ⟨y2, rfl, H⟩ := H
  refine r_i2l (v := (Int32.toInt64 y2)) d_Law_letter_8 rfl ?_
  obtain ⟨q3, rfl, H⟩ := H
  obtain ⟨fs4, h4, hc4, hi4, hl4, eh4, H⟩ := H
  refine r_lastoreE d_Law_letter_9 hc4 hi4 hl4 eh4 ?_
  refine r_goto (tgt := 17) d_Law_letter_10 (by decide) ?_
  refine r_iconst (v := 0) d_Law_letter_17 (by decide) ?_
  exact r_ireturn d_Law_letter_18 rfl rfl H
theorem b_Law_letter_13 {G : GL} {d : Nat} {h : AH} {Q : Out → AH → Prop} {r0 : Value} {x1 : Int32} {x2 : Int32} {r3 : Value} {u4 : Value} {rs0 : Value} (g0 : r0.isRef = true) (g3 : r3.isRef = true) (gs0 : rs0.isRef = true) (H : Q (.inl (some (.int 1))) h) : MF G (d + 1) mi_Law_letter 13 [r0, .int x1, .int x2, r3, u4] [rs0] h Q := by
  refine r_astore d_Law_letter_13 gs0 (Nat.lt_of_lt_of_le (Nat.lt_succ_self _) (Nat.le_of_ble_eq_true rfl)) rfl ?_
  refine r_iconst (v := 1) d_Law_letter_15 (by decide) ?_
  exact r_ireturn d_Law_letter_16 rfl rfl H
theorem b_Law_why_0 {G : GL} {d : Nat} {h : AH} {Q : Out → AH → Prop} {r0 : Value} {x1 : Int32} {x2 : Int32} {r3 : Value} (g0 : r0.isRef = true) (g3 : r3.isRef = true) (H : dR r0 fun q1 => (hasKs h q1 [0] ∧ MF G d mi_Q_why 0 [.ref q1, .int x1, .int x2, .retAddr 0] [] h (cI (fun y2 h2 => dR r3 fun q3 => pA h2 q3 102 0 (.long (Int32.toInt64 y2)) fun h4 => Q (.inl (some (.int 0))) h4) (fun q9 h9 => MT G (d + 1) mi_Law_why 5 [.ref q1, .int x1, .int x2, r3, .retAddr 0] [.int 0, r3] h9 q9 Q)))) : MF G (d + 1) mi_Law_why 0 [r0, .int x1, .int x2, r3, .retAddr 0] [] h Q := by
  refine r_aload_n d_Law_why_0 rfl rfl g3 ?_
  refine r_iconst (v := 0) d_Law_why_1 (by decide) ?_
  refine r_aload_n d_Law_why_2 rfl rfl g0 ?_
  refine r_iload_n d_Law_why_3 rfl rfl ?_
  refine r_iload_n d_Law_why_4 rfl rfl ?_
  obtain ⟨q1, rfl, H⟩ := H
  obtain ⟨⟨kd2, hk2, hh2⟩, K2⟩ := H
  refine r_callX (rest := [.int 0, r3]) (As := [.int x1, .int x2]) (L0 := [.ref q1, .int x1, .int x2]) (Lz := [.ref q1, .int x1, .int x2, .retAddr 0]) d_Law_why_5 ce_Q_why (dx_Law_35 _ hk2) hh2 rfl ⟨rfl, rfl, Nat.le_of_ble_eq_true rfl, (ent_r (ent_i (ent_i ent_0))), rfl, Nat.le_of_ble_eq_true rfl⟩ K2 (fun v9 h2 H => ?_) (fun q9 h9 H => H)
  obtain ⟨y2, rfl, H⟩ := H
  refine r_i2l (v := (Int32.toInt64 y2)) d_Law_why_8 rfl ?_
  obtain ⟨q3, rfl, H⟩ := H
  obtain ⟨fs4, h4, hc4, hi4, hl4, eh4, H⟩ := H
  refine r_lastoreE d_Law_why_9 hc4 hi4 hl4 eh4 ?_
  refine r_goto (tgt := 17) d_Law_why_10 (by decide) ?_
  refine r_iconst (v := 0) d_Law_why_17 (by decide) ?_
  exact r_ireturn d_Law_why_18 rfl rfl H
theorem b_Law_why_13 {G : GL} {d : Nat} {h : AH} {Q : Out → AH → Prop} {r0 : Value} {x1 : Int32} {x2 : Int32} {r3 : Value} {u4 : Value} {rs0 : Value} (g0 : r0.isRef = true) (g3 : r3.isRef = true) (gs0 : rs0.isRef = true) (H : Q (.inl (some (.int 1))) h) : MF G (d + 1) mi_Law_why 13 [r0, .int x1, .int x2, r3, u4] [rs0] h Q := by
  refine r_astore d_Law_why_13 gs0 (Nat.lt_of_lt_of_le (Nat.lt_succ_self _) (Nat.le_of_ble_eq_true rfl)) rfl ?_
  refine r_iconst (v := 1) d_Law_why_15 (by decide) ?_
  exact r_ireturn d_Law_why_16 rfl rfl H
theorem b_Law_account_0 {G : GL} {d : Nat} {h : AH} {Q : Out → AH → Prop} {r0 : Value} {x1 : Int32} {r2 : Value} (g0 : r0.isRef = true) (g2 : r2.isRef = true) (H : dR r0 fun q1 => (hasKs h q1 [0] ∧ MF G d mi_Q_account 0 [.ref q1, .int x1] [] h (cI (fun y2 h2 => dR r2 fun q3 => pA h2 q3 102 0 (.long (Int32.toInt64 y2)) fun h4 => Q (.inl (some (.int 0))) h4) (fun q9 h9 => MT G (d + 1) mi_Law_account 4 [.ref q1, .int x1, r2, .retAddr 0] [.int 0, r2] h9 q9 Q)))) : MF G (d + 1) mi_Law_account 0 [r0, .int x1, r2, .retAddr 0] [] h Q := by
  refine r_aload_n d_Law_account_0 rfl rfl g2 ?_
  refine r_iconst (v := 0) d_Law_account_1 (by decide) ?_
  refine r_aload_n d_Law_account_2 rfl rfl g0 ?_
  refine r_iload_n d_Law_account_3 rfl rfl ?_
  obtain ⟨q1, rfl, H⟩ := H
  obtain ⟨⟨kd2, hk2, hh2⟩, K2⟩ := H
  refine r_callX (rest := [.int 0, r2]) (As := [.int x1]) (L0 := [.ref q1, .int x1]) (Lz := [.ref q1, .int x1]) d_Law_account_4 ce_Q_account (dx_Law_38 _ hk2) hh2 rfl ⟨rfl, rfl, Nat.le_of_ble_eq_true rfl, (ent_r (ent_i ent_0)), rfl, Nat.le_of_ble_eq_true rfl⟩ K2 (fun v9 h2 H => ?_) (fun q9 h9 H => H)
  obtain ⟨y2, rfl, H⟩ := H
  refine r_i2l (v := (Int32.toInt64 y2)) d_Law_account_7 rfl ?_
  obtain ⟨q3, rfl, H⟩ := H
  obtain ⟨fs4, h4, hc4, hi4, hl4, eh4, H⟩ := H
  refine r_lastoreE d_Law_account_8 hc4 hi4 hl4 eh4 ?_
  refine r_goto (tgt := 15) d_Law_account_9 (by decide) ?_
  refine r_iconst (v := 0) d_Law_account_15 (by decide) ?_
  exact r_ireturn d_Law_account_16 rfl rfl H
theorem b_Law_account_12 {G : GL} {d : Nat} {h : AH} {Q : Out → AH → Prop} {r0 : Value} {x1 : Int32} {r2 : Value} {u3 : Value} {rs0 : Value} (g0 : r0.isRef = true) (g2 : r2.isRef = true) (gs0 : rs0.isRef = true) (H : Q (.inl (some (.int 1))) h) : MF G (d + 1) mi_Law_account 12 [r0, .int x1, r2, u3] [rs0] h Q := by
  refine r_astore_n d_Law_account_12 rfl gs0 (Nat.lt_of_lt_of_le (Nat.lt_succ_self _) (Nat.le_of_ble_eq_true rfl)) rfl ?_
  refine r_iconst (v := 1) d_Law_account_13 (by decide) ?_
  exact r_ireturn d_Law_account_14 rfl rfl H
theorem b_Law_shareBits_0 {G : GL} {d : Nat} {h : AH} {Q : Out → AH → Prop} {r0 : Value} {x1 : Int32} {r2 : Value} (g0 : r0.isRef = true) (g2 : r2.isRef = true) (H : dR r0 fun q1 => (hasKs h q1 [0] ∧ MF G d mi_Q_shareBits 0 [.ref q1, .int x1, .retAddr 0, .retAddr 0, .retAddr 0] [] h (cI (fun y2 h2 => dR r2 fun q3 => pA h2 q3 102 0 (.long (Int32.toInt64 y2)) fun h4 => Q (.inl (some (.int 0))) h4) (fun q9 h9 => MT G (d + 1) mi_Law_shareBits 4 [.ref q1, .int x1, r2, .retAddr 0] [.int 0, r2] h9 q9 Q)))) : MF G (d + 1) mi_Law_shareBits 0 [r0, .int x1, r2, .retAddr 0] [] h Q := by
  refine r_aload_n d_Law_shareBits_0 rfl rfl g2 ?_
  refine r_iconst (v := 0) d_Law_shareBits_1 (by decide) ?_
  refine r_aload_n d_Law_shareBits_2 rfl rfl g0 ?_
  refine r_iload_n d_Law_shareBits_3 rfl rfl ?_
  obtain ⟨q1, rfl, H⟩ := H
  obtain ⟨⟨kd2, hk2, hh2⟩, K2⟩ := H
  refine r_callX (rest := [.int 0, r2]) (As := [.int x1]) (L0 := [.ref q1, .int x1]) (Lz := [.ref q1, .int x1, .retAddr 0, .retAddr 0, .retAddr 0]) d_Law_shareBits_4 ce_Q_shareBits (dx_Law_41 _ hk2) hh2 rfl ⟨rfl, rfl, Nat.le_of_ble_eq_true rfl, (ent_r (ent_i ent_0)), rfl, Nat.le_of_ble_eq_true rfl⟩ K2 (fun v9 h2 H => ?_) (fun q9 h9 H => H)
  obtain ⟨y2, rfl, H⟩ := H
  refine r_i2l (v := (Int32.toInt64 y2)) d_Law_shareBits_7 rfl ?_
  obtain ⟨q3, rfl, H⟩ := H
  obtain ⟨fs4, h4, hc4, hi4, hl4, eh4, H⟩ := H
  refine r_lastoreE d_Law_shareBits_8 hc4 hi4 hl4 eh4 ?_
  refine r_goto (tgt := 15) d_Law_shareBits_9 (by decide) ?_
  refine r_iconst (v := 0) d_Law_shareBits_15 (by decide) ?_
  exact r_ireturn d_Law_shareBits_16 rfl rfl H
theorem b_Law_shareBits_12 {G : GL} {d : Nat} {h : AH} {Q : Out → AH → Prop} {r0 : Value} {x1 : Int32} {r2 : Value} {u3 : Value} {rs0 : Value} (g0 : r0.isRef = true) (g2 : r2.isRef = true) (gs0 : rs0.isRef = true) (H : Q (.inl (some (.int 1))) h) : MF G (d + 1) mi_Law_shareBits 12 [r0, .int x1, r2, u3] [rs0] h Q := by
  refine r_astore_n d_Law_shareBits_12 rfl gs0 (Nat.lt_of_lt_of_le (Nat.lt_succ_self _) (Nat.le_of_ble_eq_true rfl)) rfl ?_
  refine r_iconst (v := 1) d_Law_shareBits_13 (by decide) ?_
  exact r_ireturn d_Law_shareBits_14 rfl rfl H
theorem b_Law_worth_0 {G : GL} {d : Nat} {h : AH} {Q : Out → AH → Prop} {r0 : Value} {x1 : Int32} {x2 : Int32} {x3 : Int32} {r4 : Value} (g0 : r0.isRef = true) (g4 : r4.isRef = true) (H : dR r0 fun q1 => (hasKs h q1 [0] ∧ MF G d mi_Q_worth 0 [.ref q1, .int x1, .int x2, .int x3, .retAddr 0] [] h (cI (fun y2 h2 => dR r4 fun q3 => pA h2 q3 102 0 (.long (Int32.toInt64 y2)) fun h4 => Q (.inl (some (.int 0))) h4) (fun q9 h9 => MT G (d + 1) mi_Law_worth 7 [.ref q1, .int x1, .int x2, .int x3, r4, .retAddr 0] [.int 0, r4] h9 q9 Q)))) : MF G (d + 1) mi_Law_worth 0 [r0, .int x1, .int x2, .int x3, r4, .retAddr 0] [] h Q := by
  refine r_aload d_Law_worth_0 rfl g4 ?_
  refine r_iconst (v := 0) d_Law_worth_2 (by decide) ?_
  refine r_aload_n d_Law_worth_3 rfl rfl g0 ?_
  refine r_iload_n d_Law_worth_4 rfl rfl ?_
  refine r_iload_n d_Law_worth_5 rfl rfl ?_
  refine r_iload_n d_Law_worth_6 rfl rfl ?_
  obtain ⟨q1, rfl, H⟩ := H
  obtain ⟨⟨kd2, hk2, hh2⟩, K2⟩ := H
  refine r_callX (rest := [.int 0, r4]) (As := [.int x1, .int x2, .int x3]) (L0 := [.ref q1, .int x1, .int x2, .int x3]) (Lz := [.ref q1, .int x1, .int x2, .int x3, .retAddr 0]) d_Law_worth_7 ce_Q_worth (dx_Law_44 _ hk2) hh2 rfl ⟨rfl, rfl, Nat.le_of_ble_eq_true rfl, (ent_r (ent_i (ent_i (ent_i ent_0)))), rfl, Nat.le_of_ble_eq_true rfl⟩ K2 (fun v9 h2 H => ?_) (fun q9 h9 H => H)
  obtain ⟨y2, rfl, H⟩ := H
  refine r_i2l (v := (Int32.toInt64 y2)) d_Law_worth_10 rfl ?_
  obtain ⟨q3, rfl, H⟩ := H
  obtain ⟨fs4, h4, hc4, hi4, hl4, eh4, H⟩ := H
  refine r_lastoreE d_Law_worth_11 hc4 hi4 hl4 eh4 ?_
  refine r_goto (tgt := 19) d_Law_worth_12 (by decide) ?_
  refine r_iconst (v := 0) d_Law_worth_19 (by decide) ?_
  exact r_ireturn d_Law_worth_20 rfl rfl H
theorem b_Law_worth_15 {G : GL} {d : Nat} {h : AH} {Q : Out → AH → Prop} {r0 : Value} {x1 : Int32} {x2 : Int32} {x3 : Int32} {r4 : Value} {u5 : Value} {rs0 : Value} (g0 : r0.isRef = true) (g4 : r4.isRef = true) (gs0 : rs0.isRef = true) (H : Q (.inl (some (.int 1))) h) : MF G (d + 1) mi_Law_worth 15 [r0, .int x1, .int x2, .int x3, r4, u5] [rs0] h Q := by
  refine r_astore d_Law_worth_15 gs0 (Nat.lt_of_lt_of_le (Nat.lt_succ_self _) (Nat.le_of_ble_eq_true rfl)) rfl ?_
  refine r_iconst (v := 1) d_Law_worth_17 (by decide) ?_
  exact r_ireturn d_Law_worth_18 rfl rfl H
theorem b_Law_fairBid_0 {G : GL} {d : Nat} {h : AH} {Q : Out → AH → Prop} {r0 : Value} {x1 : Int32} {r2 : Value} (g0 : r0.isRef = true) (g2 : r2.isRef = true) (H : dR r0 fun q1 => (hasKs h q1 [0] ∧ MF G d mi_Q_fairBid 0 [.ref q1, .int x1, .retAddr 0] [] h (cI (fun y2 h2 => dR r2 fun q3 => pA h2 q3 102 0 (.long (Int32.toInt64 y2)) fun h4 => Q (.inl (some (.int 0))) h4) (fun q9 h9 => MT G (d + 1) mi_Law_fairBid 4 [.ref q1, .int x1, r2, .retAddr 0] [.int 0, r2] h9 q9 Q)))) : MF G (d + 1) mi_Law_fairBid 0 [r0, .int x1, r2, .retAddr 0] [] h Q := by
  refine r_aload_n d_Law_fairBid_0 rfl rfl g2 ?_
  refine r_iconst (v := 0) d_Law_fairBid_1 (by decide) ?_
  refine r_aload_n d_Law_fairBid_2 rfl rfl g0 ?_
  refine r_iload_n d_Law_fairBid_3 rfl rfl ?_
  obtain ⟨q1, rfl, H⟩ := H
  obtain ⟨⟨kd2, hk2, hh2⟩, K2⟩ := H
  refine r_callX (rest := [.int 0, r2]) (As := [.int x1]) (L0 := [.ref q1, .int x1]) (Lz := [.ref q1, .int x1, .retAddr 0]) d_Law_fairBid_4 ce_Q_fairBid (dx_Law_47 _ hk2) hh2 rfl ⟨rfl, rfl, Nat.le_of_ble_eq_true rfl, (ent_r (ent_i ent_0)), rfl, Nat.le_of_ble_eq_true rfl⟩ K2 (fun v9 h2 H => ?_) (fun q9 h9 H => H)
  obtain ⟨y2, rfl, H⟩ := H
  refine r_i2l (v := (Int32.toInt64 y2)) d_Law_fairBid_7 rfl ?_
  obtain ⟨q3, rfl, H⟩ := H
  obtain ⟨fs4, h4, hc4, hi4, hl4, eh4, H⟩ := H
  refine r_lastoreE d_Law_fairBid_8 hc4 hi4 hl4 eh4 ?_
  refine r_goto (tgt := 15) d_Law_fairBid_9 (by decide) ?_
  refine r_iconst (v := 0) d_Law_fairBid_15 (by decide) ?_
  exact r_ireturn d_Law_fairBid_16 rfl rfl H
theorem b_Law_fairBid_12 {G : GL} {d : Nat} {h : AH} {Q : Out → AH → Prop} {r0 : Value} {x1 : Int32} {r2 : Value} {u3 : Value} {rs0 : Value} (g0 : r0.isRef = true) (g2 : r2.isRef = true) (gs0 : rs0.isRef = true) (H : Q (.inl (some (.int 1))) h) : MF G (d + 1) mi_Law_fairBid 12 [r0, .int x1, r2, u3] [rs0] h Q := by
  refine r_astore_n d_Law_fairBid_12 rfl gs0 (Nat.lt_of_lt_of_le (Nat.lt_succ_self _) (Nat.le_of_ble_eq_true rfl)) rfl ?_
  refine r_iconst (v := 1) d_Law_fairBid_13 (by decide) ?_
  exact r_ireturn d_Law_fairBid_14 rfl rfl H
theorem b_Law_winningBid_0 {G : GL} {d : Nat} {h : AH} {Q : Out → AH → Prop} {r0 : Value} {x1 : Int32} {r2 : Value} (g0 : r0.isRef = true) (g2 : r2.isRef = true) (H : dR r0 fun q1 => (hasKs h q1 [0] ∧ MF G d mi_Q_winningBid 0 [.ref q1, .int x1, .retAddr 0] [] h (cI (fun y2 h2 => dR r2 fun q3 => pA h2 q3 102 0 (.long (Int32.toInt64 y2)) fun h4 => Q (.inl (some (.int 0))) h4) (fun q9 h9 => MT G (d + 1) mi_Law_winningBid 4 [.ref q1, .int x1, r2, .retAddr 0] [.int 0, r2] h9 q9 Q)))) : MF G (d + 1) mi_Law_winningBid 0 [r0, .int x1, r2, .retAddr 0] [] h Q := by
  refine r_aload_n d_Law_winningBid_0 rfl rfl g2 ?_
  refine r_iconst (v := 0) d_Law_winningBid_1 (by decide) ?_
  refine r_aload_n d_Law_winningBid_2 rfl rfl g0 ?_
  refine r_iload_n d_Law_winningBid_3 rfl rfl ?_
  obtain ⟨q1, rfl, H⟩ := H
  obtain ⟨⟨kd2, hk2, hh2⟩, K2⟩ := H
  refine r_callX (rest := [.int 0, r2]) (As := [.int x1]) (L0 := [.ref q1, .int x1]) (Lz := [.ref q1, .int x1, .retAddr 0]) d_Law_winningBid_4 ce_Q_winningBid (dx_Law_50 _ hk2) hh2 rfl ⟨rfl, rfl, Nat.le_of_ble_eq_true rfl, (ent_r (ent_i ent_0)), rfl, Nat.le_of_ble_eq_true rfl⟩ K2 (fun v9 h2 H => ?_) (fun q9 h9 H => H)
  obtain ⟨y2, rfl, H⟩ := H
  refine r_i2l (v := (Int32.toInt64 y2)) d_Law_winningBid_7 rfl ?_
  obtain ⟨q3, rfl, H⟩ := H
  obtain ⟨fs4, h4, hc4, hi4, hl4, eh4, H⟩ := H
  refine r_lastoreE d_Law_winningBid_8 hc4 hi4 hl4 eh4 ?_
  refine r_goto (tgt := 15) d_Law_winningBid_9 (by decide) ?_
  refine r_iconst (v := 0) d_Law_winningBid_15 (by decide) ?_
  exact r_ireturn d_Law_winningBid_16 rfl rfl H
theorem b_Law_winningBid_12 {G : GL} {d : Nat} {h : AH} {Q : Out → AH → Prop} {r0 : Value} {x1 : Int32} {r2 : Value} {u3 : Value} {rs0 : Value} (g0 : r0.isRef = true) (g2 : r2.isRef = true) (gs0 : rs0.isRef = true) (H : Q (.inl (some (.int 1))) h) : MF G (d + 1) mi_Law_winningBid 12 [r0, .int x1, r2, u3] [rs0] h Q := by
  refine r_astore_n d_Law_winningBid_12 rfl gs0 (Nat.lt_of_lt_of_le (Nat.lt_succ_self _) (Nat.le_of_ble_eq_true rfl)) rfl ?_
  refine r_iconst (v := 1) d_Law_winningBid_13 (by decide) ?_
  exact r_ireturn d_Law_winningBid_14 rfl rfl H
theorem b_Law_bestStone_0 {G : GL} {d : Nat} {h : AH} {Q : Out → AH → Prop} {r0 : Value} {x1 : Int32} {r2 : Value} (g0 : r0.isRef = true) (g2 : r2.isRef = true) (H : dR r0 fun q1 => (hasKs h q1 [0] ∧ MF G d mi_Q_bestStone 0 [.ref q1, .int x1, .retAddr 0] [] h (cI (fun y2 h2 => dR r2 fun q3 => pA h2 q3 102 0 (.long (Int32.toInt64 y2)) fun h4 => Q (.inl (some (.int 0))) h4) (fun q9 h9 => MT G (d + 1) mi_Law_bestStone 4 [.ref q1, .int x1, r2, .retAddr 0] [.int 0, r2] h9 q9 Q)))) : MF G (d + 1) mi_Law_bestStone 0 [r0, .int x1, r2, .retAddr 0] [] h Q := by
  refine r_aload_n d_Law_bestStone_0 rfl rfl g2 ?_
  refine r_iconst (v := 0) d_Law_bestStone_1 (by decide) ?_
  refine r_aload_n d_Law_bestStone_2 rfl rfl g0 ?_
  refine r_iload_n d_Law_bestStone_3 rfl rfl ?_
  obtain ⟨q1, rfl, H⟩ := H
  obtain ⟨⟨kd2, hk2, hh2⟩, K2⟩ := H
  refine r_callX (rest := [.int 0, r2]) (As := [.int x1]) (L0 := [.ref q1, .int x1]) (Lz := [.ref q1, .int x1, .retAddr 0]) d_Law_bestStone_4 ce_Q_bestStone (dx_Law_53 _ hk2) hh2 rfl ⟨rfl, rfl, Nat.le_of_ble_eq_true rfl, (ent_r (ent_i ent_0)), rfl, Nat.le_of_ble_eq_true rfl⟩ K2 (fun v9 h2 H => ?_) (fun q9 h9 H => H)
  obtain ⟨y2, rfl, H⟩ := H
  refine r_i2l (v := (Int32.toInt64 y2)) d_Law_bestStone_7 rfl ?_
  obtain ⟨q3, rfl, H⟩ := H
  obtain ⟨fs4, h4, hc4, hi4, hl4, eh4, H⟩ := H
  refine r_lastoreE d_Law_bestStone_8 hc4 hi4 hl4 eh4 ?_
  refine r_goto (tgt := 15) d_Law_bestStone_9 (by decide) ?_
  refine r_iconst (v := 0) d_Law_bestStone_15 (by decide) ?_
  exact r_ireturn d_Law_bestStone_16 rfl rfl H
theorem b_Law_bestStone_12 {G : GL} {d : Nat} {h : AH} {Q : Out → AH → Prop} {r0 : Value} {x1 : Int32} {r2 : Value} {u3 : Value} {rs0 : Value} (g0 : r0.isRef = true) (g2 : r2.isRef = true) (gs0 : rs0.isRef = true) (H : Q (.inl (some (.int 1))) h) : MF G (d + 1) mi_Law_bestStone 12 [r0, .int x1, r2, u3] [rs0] h Q := by
  refine r_astore_n d_Law_bestStone_12 rfl gs0 (Nat.lt_of_lt_of_le (Nat.lt_succ_self _) (Nat.le_of_ble_eq_true rfl)) rfl ?_
  refine r_iconst (v := 1) d_Law_bestStone_13 (by decide) ?_
  exact r_ireturn d_Law_bestStone_14 rfl rfl H
theorem b_Law_ifSold_0 {G : GL} {d : Nat} {h : AH} {Q : Out → AH → Prop} {r0 : Value} {x1 : Int32} {x2 : Int32} {x3 : Int32} {r4 : Value} (g0 : r0.isRef = true) (g4 : r4.isRef = true) (H : dR r0 fun q1 => (hasKs h q1 [0] ∧ MF G d mi_Q_ifSold 0 [.ref q1, .int x1, .int x2, .int x3, .retAddr 0] [] h (cI (fun y2 h2 => dR r4 fun q3 => pA h2 q3 102 0 (.long (Int32.toInt64 y2)) fun h4 => Q (.inl (some (.int 0))) h4) (fun q9 h9 => MT G (d + 1) mi_Law_ifSold 7 [.ref q1, .int x1, .int x2, .int x3, r4, .retAddr 0] [.int 0, r4] h9 q9 Q)))) : MF G (d + 1) mi_Law_ifSold 0 [r0, .int x1, .int x2, .int x3, r4, .retAddr 0] [] h Q := by
  refine r_aload d_Law_ifSold_0 rfl g4 ?_
  refine r_iconst (v := 0) d_Law_ifSold_2 (by decide) ?_
  refine r_aload_n d_Law_ifSold_3 rfl rfl g0 ?_
  refine r_iload_n d_Law_ifSold_4 rfl rfl ?_
  refine r_iload_n d_Law_ifSold_5 rfl rfl ?_
  refine r_iload_n d_Law_ifSold_6 rfl rfl ?_
  obtain ⟨q1, rfl, H⟩ := H
  obtain ⟨⟨kd2, hk2, hh2⟩, K2⟩ := H
  refine r_callX (rest := [.int 0, r4]) (As := [.int x1, .int x2, .int x3]) (L0 := [.ref q1, .int x1, .int x2, .int x3]) (Lz := [.ref q1, .int x1, .int x2, .int x3, .retAddr 0]) d_Law_ifSold_7 ce_Q_ifSold (dx_Law_56 _ hk2) hh2 rfl ⟨rfl, rfl, Nat.le_of_ble_eq_true rfl, (ent_r (ent_i (ent_i (ent_i ent_0)))), rfl, Nat.le_of_ble_eq_true rfl⟩ K2 (fun v9 h2 H => ?_) (fun q9 h9 H => H)
  obtain ⟨y2, rfl, H⟩ := H
  refine r_i2l (v := (Int32.toInt64 y2)) d_Law_ifSold_10 rfl ?_
  obtain ⟨q3, rfl, H⟩ := H
  obtain ⟨fs4, h4, hc4, hi4, hl4, eh4, H⟩ := H
  refine r_lastoreE d_Law_ifSold_11 hc4 hi4 hl4 eh4 ?_
  refine r_goto (tgt := 19) d_Law_ifSold_12 (by decide) ?_
  refine r_iconst (v := 0) d_Law_ifSold_19 (by decide) ?_
  exact r_ireturn d_Law_ifSold_20 rfl rfl H
theorem b_Law_ifSold_15 {G : GL} {d : Nat} {h : AH} {Q : Out → AH → Prop} {r0 : Value} {x1 : Int32} {x2 : Int32} {x3 : Int32} {r4 : Value} {u5 : Value} {rs0 : Value} (g0 : r0.isRef = true) (g4 : r4.isRef = true) (gs0 : rs0.isRef = true) (H : Q (.inl (some (.int 1))) h) : MF G (d + 1) mi_Law_ifSold 15 [r0, .int x1, .int x2, .int x3, r4, u5] [rs0] h Q := by
  refine r_astore d_Law_ifSold_15 gs0 (Nat.lt_of_lt_of_le (Nat.lt_succ_self _) (Nat.le_of_ble_eq_true rfl)) rfl ?_
  refine r_iconst (v := 1) d_Law_ifSold_17 (by decide) ?_
  exact r_ireturn d_Law_ifSold_18 rfl rfl H
theorem b_Law_bid_0 {G : GL} {d : Nat} {h : AH} {Q : Out → AH → Prop} {r0 : Value} {x1 : Int32} {x2 : Int32} {r3 : Value} (g0 : r0.isRef = true) (g3 : r3.isRef = true) (H : dR r0 fun q1 => (hasKs h q1 [0] ∧ MF G d mi_Q_bid 0 [.ref q1, .int x1, .int x2, .retAddr 0] [] h (cI (fun y2 h2 => dR r3 fun q3 => pA h2 q3 102 0 (.long (Int32.toInt64 y2)) fun h4 => Q (.inl (some (.int 0))) h4) (fun q9 h9 => MT G (d + 1) mi_Law_bid 5 [.ref q1, .int x1, .int x2, r3, .retAddr 0] [.int 0, r3] h9 q9 Q)))) : MF G (d + 1) mi_Law_bid 0 [r0, .int x1, .int x2, r3, .retAddr 0] [] h Q := by
  refine r_aload_n d_Law_bid_0 rfl rfl g3 ?_
  refine r_iconst (v := 0) d_Law_bid_1 (by decide) ?_
  refine r_aload_n d_Law_bid_2 rfl rfl g0 ?_
  refine r_iload_n d_Law_bid_3 rfl rfl ?_
  refine r_iload_n d_Law_bid_4 rfl rfl ?_
  obtain ⟨q1, rfl, H⟩ := H
  obtain ⟨⟨kd2, hk2, hh2⟩, K2⟩ := H
  refine r_callX (rest := [.int 0, r3]) (As := [.int x1, .int x2]) (L0 := [.ref q1, .int x1, .int x2]) (Lz := [.ref q1, .int x1, .int x2, .retAddr 0]) d_Law_bid_5 ce_Q_bid (dx_Law_59 _ hk2) hh2 rfl ⟨rfl, rfl, Nat.le_of_ble_eq_true rfl, (ent_r (ent_i (ent_i ent_0))), rfl, Nat.le_of_ble_eq_true rfl⟩ K2 (fun v9 h2 H => ?_) (fun q9 h9 H => H)
  obtain ⟨y2, rfl, H⟩ := H
  refine r_i2l (v := (Int32.toInt64 y2)) d_Law_bid_8 rfl ?_
  obtain ⟨q3, rfl, H⟩ := H
  obtain ⟨fs4, h4, hc4, hi4, hl4, eh4, H⟩ := H
  refine r_lastoreE d_Law_bid_9 hc4 hi4 hl4 eh4 ?_
  refine r_goto (tgt := 17) d_Law_bid_10 (by decide) ?_
  refine r_iconst (v := 0) d_Law_bid_17 (by decide) ?_
  exact r_ireturn d_Law_bid_18 rfl rfl H
theorem b_Law_bid_13 {G : GL} {d : Nat} {h : AH} {Q : Out → AH → Prop} {r0 : Value} {x1 : Int32} {x2 : Int32} {r3 : Value} {u4 : Value} {rs0 : Value} (g0 : r0.isRef = true) (g3 : r3.isRef = true) (gs0 : rs0.isRef = true) (H : Q (.inl (some (.int 1))) h) : MF G (d + 1) mi_Law_bid 13 [r0, .int x1, .int x2, r3, u4] [rs0] h Q := by
  refine r_astore d_Law_bid_13 gs0 (Nat.lt_of_lt_of_le (Nat.lt_succ_self _) (Nat.le_of_ble_eq_true rfl)) rfl ?_
  refine r_iconst (v := 1) d_Law_bid_15 (by decide) ?_
  exact r_ireturn d_Law_bid_16 rfl rfl H
theorem b_Law_sell_0 {G : GL} {d : Nat} {h : AH} {Q : Out → AH → Prop} {r0 : Value} {x1 : Int32} {x2 : Int32} {x3 : Int32} {r4 : Value} (g0 : r0.isRef = true) (g4 : r4.isRef = true) (H : dR r0 fun q1 => (hasKs h q1 [0] ∧ MF G d mi_Q_sell 0 [.ref q1, .int x1, .int x2, .int x3, .retAddr 0, .retAddr 0] [] h (cI (fun y2 h2 => dR r4 fun q3 => pA h2 q3 102 0 (.long (Int32.toInt64 y2)) fun h4 => Q (.inl (some (.int 0))) h4) (fun q9 h9 => MT G (d + 1) mi_Law_sell 7 [.ref q1, .int x1, .int x2, .int x3, r4, .retAddr 0] [.int 0, r4] h9 q9 Q)))) : MF G (d + 1) mi_Law_sell 0 [r0, .int x1, .int x2, .int x3, r4, .retAddr 0] [] h Q := by
  refine r_aload d_Law_sell_0 rfl g4 ?_
  refine r_iconst (v := 0) d_Law_sell_2 (by decide) ?_
  refine r_aload_n d_Law_sell_3 rfl rfl g0 ?_
  refine r_iload_n d_Law_sell_4 rfl rfl ?_
  refine r_iload_n d_Law_sell_5 rfl rfl ?_
  refine r_iload_n d_Law_sell_6 rfl rfl ?_
  obtain ⟨q1, rfl, H⟩ := H
  obtain ⟨⟨kd2, hk2, hh2⟩, K2⟩ := H
  refine r_callX (rest := [.int 0, r4]) (As := [.int x1, .int x2, .int x3]) (L0 := [.ref q1, .int x1, .int x2, .int x3]) (Lz := [.ref q1, .int x1, .int x2, .int x3, .retAddr 0, .retAddr 0]) d_Law_sell_7 ce_Q_sell (dx_Law_62 _ hk2) hh2 rfl ⟨rfl, rfl, Nat.le_of_ble_eq_true rfl, (ent_r (ent_i (ent_i (ent_i ent_0)))), rfl, Nat.le_of_ble_eq_true rfl⟩ K2 (fun v9 h2 H => ?_) (fun q9 h9 H => H)
  obtain ⟨y2, rfl, H⟩ := H
  refine r_i2l (v := (Int32.toInt64 y2)) d_Law_sell_10 rfl ?_
  obtain ⟨q3, rfl, H⟩ := H
  obtain ⟨fs4, h4, hc4, hi4, hl4, eh4, H⟩ := H
  refine r_lastoreE d_Law_sell_11 hc4 hi4 hl4 eh4 ?_
  refine r_goto (tgt := 19) d_Law_sell_12 (by decide) ?_
  refine r_iconst (v := 0) d_Law_sell_19 (by decide) ?_
  exact r_ireturn d_Law_sell_20 rfl rfl H
theorem b_Law_sell_15 {G : GL} {d : Nat} {h : AH} {Q : Out → AH → Prop} {r0 : Value} {x1 : Int32} {x2 : Int32} {x3 : Int32} {r4 : Value} {u5 : Value} {rs0 : Value} (g0 : r0.isRef = true) (g4 : r4.isRef = true) (gs0 : rs0.isRef = true) (H : Q (.inl (some (.int 1))) h) : MF G (d + 1) mi_Law_sell 15 [r0, .int x1, .int x2, .int x3, r4, u5] [rs0] h Q := by
  refine r_astore d_Law_sell_15 gs0 (Nat.lt_of_lt_of_le (Nat.lt_succ_self _) (Nat.le_of_ble_eq_true rfl)) rfl ?_
  refine r_iconst (v := 1) d_Law_sell_17 (by decide) ?_
  exact r_ireturn d_Law_sell_18 rfl rfl H
theorem b_Law_swap_0 {G : GL} {d : Nat} {h : AH} {Q : Out → AH → Prop} {r0 : Value} {x1 : Int32} {x2 : Int32} {x3 : Int32} {x4 : Int32} {r5 : Value} (g0 : r0.isRef = true) (g5 : r5.isRef = true) (H : dR r0 fun q1 => (hasKs h q1 [0] ∧ MF G d mi_Q_swap 0 [.ref q1, .int x1, .int x2, .int x3, .int x4, .retAddr 0, .retAddr 0] [] h (cI (fun y2 h2 => dR r5 fun q3 => pA h2 q3 102 0 (.long (Int32.toInt64 y2)) fun h4 => Q (.inl (some (.int 0))) h4) (fun q9 h9 => MT G (d + 1) mi_Law_swap 9 [.ref q1, .int x1, .int x2, .int x3, .int x4, r5, .retAddr 0] [.int 0, r5] h9 q9 Q)))) : MF G (d + 1) mi_Law_swap 0 [r0, .int x1, .int x2, .int x3, .int x4, r5, .retAddr 0] [] h Q := by
  refine r_aload d_Law_swap_0 rfl g5 ?_
  refine r_iconst (v := 0) d_Law_swap_2 (by decide) ?_
  refine r_aload_n d_Law_swap_3 rfl rfl g0 ?_
  refine r_iload_n d_Law_swap_4 rfl rfl ?_
  refine r_iload_n d_Law_swap_5 rfl rfl ?_
  refine r_iload_n d_Law_swap_6 rfl rfl ?_
  refine r_iload d_Law_swap_7 rfl ?_
  obtain ⟨q1, rfl, H⟩ := H
  obtain ⟨⟨kd2, hk2, hh2⟩, K2⟩ := H
  refine r_callX (rest := [.int 0, r5]) (As := [.int x1, .int x2, .int x3, .int x4]) (L0 := [.ref q1, .int x1, .int x2, .int x3, .int x4]) (Lz := [.ref q1, .int x1, .int x2, .int x3, .int x4, .retAddr 0, .retAddr 0]) d_Law_swap_9 ce_Q_swap (dx_Law_65 _ hk2) hh2 rfl ⟨rfl, rfl, Nat.le_of_ble_eq_true rfl, (ent_r (ent_i (ent_i (ent_i (ent_i ent_0))))), rfl, Nat.le_of_ble_eq_true rfl⟩ K2 (fun v9 h2 H => ?_) (fun q9 h9 H => H)
  obtain ⟨y2, rfl, H⟩ := H
  refine r_i2l (v := (Int32.toInt64 y2)) d_Law_swap_12 rfl ?_
  obtain ⟨q3, rfl, H⟩ := H
  obtain ⟨fs4, h4, hc4, hi4, hl4, eh4, H⟩ := H
  refine r_lastoreE d_Law_swap_13 hc4 hi4 hl4 eh4 ?_
  refine r_goto (tgt := 21) d_Law_swap_14 (by decide) ?_
  refine r_iconst (v := 0) d_Law_swap_21 (by decide) ?_
  exact r_ireturn d_Law_swap_22 rfl rfl H
theorem b_Law_swap_17 {G : GL} {d : Nat} {h : AH} {Q : Out → AH → Prop} {r0 : Value} {x1 : Int32} {x2 : Int32} {x3 : Int32} {x4 : Int32} {r5 : Value} {u6 : Value} {rs0 : Value} (g0 : r0.isRef = true) (g5 : r5.isRef = true) (gs0 : rs0.isRef = true) (H : Q (.inl (some (.int 1))) h) : MF G (d + 1) mi_Law_swap 17 [r0, .int x1, .int x2, .int x3, .int x4, r5, u6] [rs0] h Q := by
  refine r_astore d_Law_swap_17 gs0 (Nat.lt_of_lt_of_le (Nat.lt_succ_self _) (Nat.le_of_ble_eq_true rfl)) rfl ?_
  refine r_iconst (v := 1) d_Law_swap_19 (by decide) ?_
  exact r_ireturn d_Law_swap_20 rfl rfl H
theorem b_Law_save_0 {G : GL} {d : Nat} {h : AH} {Q : Out → AH → Prop} {r0 : Value} {x1 : Int32} {r2 : Value} (g0 : r0.isRef = true) (g2 : r2.isRef = true) (H : dR r0 fun q1 => (hasKs h q1 [0] ∧ MF G d mi_Q_save 0 [.ref q1, .int x1] [] h (cI (fun y2 h2 => dR r2 fun q3 => pA h2 q3 102 0 (.long (Int32.toInt64 y2)) fun h4 => Q (.inl (some (.int 0))) h4) (fun q9 h9 => MT G (d + 1) mi_Law_save 4 [.ref q1, .int x1, r2, .retAddr 0] [.int 0, r2] h9 q9 Q)))) : MF G (d + 1) mi_Law_save 0 [r0, .int x1, r2, .retAddr 0] [] h Q := by
  refine r_aload_n d_Law_save_0 rfl rfl g2 ?_
  refine r_iconst (v := 0) d_Law_save_1 (by decide) ?_
  refine r_aload_n d_Law_save_2 rfl rfl g0 ?_
  refine r_iload_n d_Law_save_3 rfl rfl ?_
  obtain ⟨q1, rfl, H⟩ := H
  obtain ⟨⟨kd2, hk2, hh2⟩, K2⟩ := H
  refine r_callX (rest := [.int 0, r2]) (As := [.int x1]) (L0 := [.ref q1, .int x1]) (Lz := [.ref q1, .int x1]) d_Law_save_4 ce_Q_save (dx_Law_69 _ hk2) hh2 rfl ⟨rfl, rfl, Nat.le_of_ble_eq_true rfl, (ent_r (ent_i ent_0)), rfl, Nat.le_of_ble_eq_true rfl⟩ K2 (fun v9 h2 H => ?_) (fun q9 h9 H => H)
  obtain ⟨y2, rfl, H⟩ := H
  refine r_i2l (v := (Int32.toInt64 y2)) d_Law_save_7 rfl ?_
  obtain ⟨q3, rfl, H⟩ := H
  obtain ⟨fs4, h4, hc4, hi4, hl4, eh4, H⟩ := H
  refine r_lastoreE d_Law_save_8 hc4 hi4 hl4 eh4 ?_
  refine r_goto (tgt := 15) d_Law_save_9 (by decide) ?_
  refine r_iconst (v := 0) d_Law_save_15 (by decide) ?_
  exact r_ireturn d_Law_save_16 rfl rfl H
theorem b_Law_save_12 {G : GL} {d : Nat} {h : AH} {Q : Out → AH → Prop} {r0 : Value} {x1 : Int32} {r2 : Value} {u3 : Value} {rs0 : Value} (g0 : r0.isRef = true) (g2 : r2.isRef = true) (gs0 : rs0.isRef = true) (H : Q (.inl (some (.int 1))) h) : MF G (d + 1) mi_Law_save 12 [r0, .int x1, r2, u3] [rs0] h Q := by
  refine r_astore_n d_Law_save_12 rfl gs0 (Nat.lt_of_lt_of_le (Nat.lt_succ_self _) (Nat.le_of_ble_eq_true rfl)) rfl ?_
  refine r_iconst (v := 1) d_Law_save_13 (by decide) ?_
  exact r_ireturn d_Law_save_14 rfl rfl H
theorem b_Law_restore_0 {G : GL} {d : Nat} {h : AH} {Q : Out → AH → Prop} {r0 : Value} {x1 : Int32} {r2 : Value} (g0 : r0.isRef = true) (g2 : r2.isRef = true) (H : dR r0 fun q1 => (hasKs h q1 [0] ∧ MF G d mi_Q_restore 0 [.ref q1, .int x1] [] h (cI (fun y2 h2 => dR r2 fun q3 => pA h2 q3 102 0 (.long (Int32.toInt64 y2)) fun h4 => Q (.inl (some (.int 0))) h4) (fun q9 h9 => MT G (d + 1) mi_Law_restore 4 [.ref q1, .int x1, r2, .retAddr 0] [.int 0, r2] h9 q9 Q)))) : MF G (d + 1) mi_Law_restore 0 [r0, .int x1, r2, .retAddr 0] [] h Q := by
  refine r_aload_n d_Law_restore_0 rfl rfl g2 ?_
  refine r_iconst (v := 0) d_Law_restore_1 (by decide) ?_
  refine r_aload_n d_Law_restore_2 rfl rfl g0 ?_
  refine r_iload_n d_Law_restore_3 rfl rfl ?_
  obtain ⟨q1, rfl, H⟩ := H
  obtain ⟨⟨kd2, hk2, hh2⟩, K2⟩ := H
  refine r_callX (rest := [.int 0, r2]) (As := [.int x1]) (L0 := [.ref q1, .int x1]) (Lz := [.ref q1, .int x1]) d_Law_restore_4 ce_Q_restore (dx_Law_72 _ hk2) hh2 rfl ⟨rfl, rfl, Nat.le_of_ble_eq_true rfl, (ent_r (ent_i ent_0)), rfl, Nat.le_of_ble_eq_true rfl⟩ K2 (fun v9 h2 H => ?_) (fun q9 h9 H => H)
  obtain ⟨y2, rfl, H⟩ := H
  refine r_i2l (v := (Int32.toInt64 y2)) d_Law_restore_7 rfl ?_
  obtain ⟨q3, rfl, H⟩ := H
  obtain ⟨fs4, h4, hc4, hi4, hl4, eh4, H⟩ := H
  refine r_lastoreE d_Law_restore_8 hc4 hi4 hl4 eh4 ?_
  refine r_goto (tgt := 18) d_Law_restore_9 (by decide) ?_
  refine r_iconst (v := 0) d_Law_restore_18 (by decide) ?_
  exact r_ireturn d_Law_restore_19 rfl rfl H
theorem b_Law_restore_12 {G : GL} {d : Nat} {h : AH} {Q : Out → AH → Prop} {r0 : Value} {x1 : Int32} {r2 : Value} {u3 : Value} {rs0 : Value} (g0 : r0.isRef = true) (g2 : r2.isRef = true) (gs0 : rs0.isRef = true) (H : Q (.inl (some (.int 1))) h) : MF G (d + 1) mi_Law_restore 12 [r0, .int x1, r2, u3] [rs0] h Q := by
  refine r_astore_n d_Law_restore_12 rfl gs0 (Nat.lt_of_lt_of_le (Nat.lt_succ_self _) (Nat.le_of_ble_eq_true rfl)) rfl ?_
  refine r_iconst (v := 1) d_Law_restore_13 (by decide) ?_
  exact r_ireturn d_Law_restore_14 rfl rfl H
theorem b_Law_restore_15 {G : GL} {d : Nat} {h : AH} {Q : Out → AH → Prop} {r0 : Value} {x1 : Int32} {r2 : Value} {u3 : Value} {rs0 : Value} (g0 : r0.isRef = true) (g2 : r2.isRef = true) (gs0 : rs0.isRef = true) (H : Q (.inl (some (.int 2))) h) : MF G (d + 1) mi_Law_restore 15 [r0, .int x1, r2, u3] [rs0] h Q := by
  refine r_astore_n d_Law_restore_15 rfl gs0 (Nat.lt_of_lt_of_le (Nat.lt_succ_self _) (Nat.le_of_ble_eq_true rfl)) rfl ?_
  refine r_iconst (v := 2) d_Law_restore_16 (by decide) ?_
  exact r_ireturn d_Law_restore_17 rfl rfl H
