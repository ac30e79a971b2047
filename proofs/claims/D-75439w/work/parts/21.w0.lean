set_option maxRecDepth 100000
set_option maxHeartbeats 8000000 in
theorem kw_J0_init {G : KG} {σ : KHp} {x0 : Nat} {Q : KHp → Prop} {X : String → Nat → KHp → Prop} (h : W_J0_init G σ x0 Q X) : kx_c G yJ0_init (ws_ yJ0_init cJ0_init 1 (Option.none : Option Jvm.ClassFile.FieldType)) 1 0 0 [.ref (x0)] σ (fun rv σ' => rv = none ∧ Q σ') X := by
  refine kx_mk3 (ini := true) (by decide) (Nat.le_of_ble_eq_true rfl) (fun _ => rfl) (fun Q1 X1 hQ hX => ?_)
  unfold W_J0_init at h
  refine kx_aload_n dJ0_init_0 rfl rfl ?_
  refine kx_oinit dJ0_init_1 q227 q206 q207 (Nat.le_of_ble_eq_true rfl) (Nat.le_of_ble_eq_true rfl) ?_
  exact kx_vret dJ0_init_4 rfl (hQ _ _ ⟨rfl, h⟩)
set_option maxHeartbeats 8000000 in
theorem kw_J1_init {G : KG} {σ : KHp} {x0 : Nat} {Q : KHp → Prop} {X : String → Nat → KHp → Prop} (h : W_J1_init G σ x0 Q X) : kx_c G yJ1_init (ws_ yJ1_init cJ1_init 1 (Option.none : Option Jvm.ClassFile.FieldType)) 2 0 0 [.ref (x0)] σ (fun rv σ' => rv = none ∧ Q σ') X := by
  refine kx_mk3 (ini := true) (by decide) (Nat.le_of_ble_eq_true rfl) (fun _ => rfl) (fun Q1 X1 hQ hX => ?_)
  unfold W_J1_init at h
  refine kx_aload_n dJ1_init_0 rfl rfl ?_
  refine kx_callI dJ1_init_1 lk_J1_1 (kw_J0_init h) rfl rfl (Nat.le_of_ble_eq_true rfl) (Nat.le_of_ble_eq_true rfl) (Nat.le_of_ble_eq_true rfl) (Nat.le_of_ble_eq_true rfl) (Nat.le_of_ble_eq_true rfl) (fun _ _ _ hx => kx_out rfl (hX _ _ _ hx)) (fun v_ σ2 hq => ?_)
  obtain ⟨rfl, h⟩ := hq
  refine kx_aload_n dJ1_init_4 rfl rfl ?_
  refine kx_iconst (v := 0) dJ1_init_5 (by decide) ?_
  refine kW_p dJ1_init_6 (kpc ⟨_, _, _, _, kc_J2, fl_J1_7_J2, Or.inl rfl, rfl, rfl⟩ (kp1 ⟨_, _, _, _, kc_J18, fl_J1_7_J18, Or.inl rfl, rfl, rfl⟩)) h (fun σ3 h => ?_)
  exact kx_vret dJ1_init_9 rfl (hQ _ _ ⟨rfl, h⟩)
set_option maxHeartbeats 8000000 in
theorem kw_J2_init {G : KG} {bc bs : Nat} {σ : KHp} {x0 : Nat} {x1 : Int32} {Q : KHp → Prop} {X : String → Nat → KHp → Prop} (h : W_J2_init G bc bs σ x0 x1 Q X) : kx_c G yJ2_init (ws_ yJ2_init cJ2_init 2 (Option.none : Option Jvm.ClassFile.FieldType)) 3 bc bs [.ref (x0), .int (x1)] σ (fun rv σ' => rv = none ∧ Q σ') X := by
  refine kx_mk3 (ini := true) (by decide) (Nat.le_of_ble_eq_true rfl) (fun _ => rfl) (fun Q1 X1 hQ hX => ?_)
  unfold W_J2_init at h
  refine kx_aload_n dJ2_init_0 rfl rfl ?_
  refine kx_callI dJ2_init_1 lk_J2_1 (kw_J1_init h) rfl rfl (Nat.le_of_ble_eq_true rfl) (Nat.le_of_ble_eq_true rfl) (Nat.le_of_ble_eq_true rfl) (Nat.le_of_ble_eq_true rfl) (Nat.le_of_ble_eq_true rfl) (fun _ _ _ hx => kx_out rfl (hX _ _ _ hx)) (fun v_ σ2 hq => ?_)
  obtain ⟨rfl, h⟩ := hq
  refine kx_iload_n dJ2_init_4 rfl rfl ?_
  refine kx_if_le (tgt := 19) dJ2_init_5 (by decide) (fun c => ?_) (fun c => ?_)
  · have h := w_ift c h
    refine kx_iload_n dJ2_init_19 rfl rfl ?_
    refine kW_jNa 23 [] h (fun σ5 bcv4 bsv4 h => ?_) (fun k3 jk3 h => ?_)
    · skip
      refine kx_aload_n dJ2_init_23 rfl rfl ?_
      refine kx_gets dJ2_init_24 kt_java_util_ArrayList_EMPTY_ELEMENTDATA q230 (Or.inl rfl) ?_
      refine kW_p dJ2_init_27 (kp1 ⟨_, _, _, _, kc_J2, fl_J2_9_J2, Or.inl rfl, rfl, rfl⟩) h (fun σ6 h => ?_)
      refine kx_goto (tgt := 60) dJ2_init_30 (by decide) ?_
      exact kx_vret dJ2_init_60 rfl (hQ _ _ ⟨rfl, h⟩)
    · skip
      refine kx_if_ne (tgt := 33) dJ2_init_20 (by decide) (fun c => ?_) (fun c => ?_)
      · have h := w_iff c h
        exact h.elim
      · have h := w_ift c h
        exact jk3 _ _ _ h
  · have h := w_iff c h
    refine kx_aload_n dJ2_init_8 rfl rfl ?_
    refine kx_iload_n dJ2_init_9 rfl rfl ?_
    refine kW_newq dJ2_init_10 q228 q229 h (fun n9 q7 σ8 h => ?_)
    refine kW_p dJ2_init_13 (kp1 ⟨_, _, _, _, kc_J2, fl_J2_9_J2, Or.inl rfl, rfl, rfl⟩) h (fun σ10 h => ?_)
    refine kx_goto (tgt := 60) dJ2_init_16 (by decide) ?_
    exact kx_vret dJ2_init_60 rfl (hQ _ _ ⟨rfl, h⟩)
set_option maxHeartbeats 8000000 in
theorem kw_J2_size {G : KG} {σ : KHp} {x0 : Nat} {Q : Int32 → KHp → Prop} {X : String → Nat → KHp → Prop} (h : W_J2_size G σ x0 Q X) : kx_c G yJ2_size (ws_ yJ2_size cJ2_size 1 (Option.some Jvm.ClassFile.FieldType.int)) 1 0 0 [.ref (x0)] σ (fun rv σ' => ∃ r, rv = some (.int (r)) ∧ Q r σ') X := by
  refine kx_mk3 (ini := false) (by decide) (Nat.le_of_ble_eq_true rfl) (fun h => by cases h) (fun Q1 X1 hQ hX => ?_)
  unfold W_J2_size at h
  refine kx_aload_n dJ2_size_0 rfl rfl ?_
  refine kW_gI dJ2_size_1 (kf1 fl_J2_48_J2) h (fun v1 h => ?_)
  exact kx_iret dJ2_size_4 rfl (hQ _ _ ⟨_, rfl, h⟩)
set_option maxHeartbeats 8000000 in
theorem kw_J2_elementData {G : KG} {σ : KHp} {x0 : Nat} {x1 : Int32} {Q : Option Nat → KHp → Prop} {X : String → Nat → KHp → Prop} (h : W_J2_elementData G σ x0 x1 Q X) : kx_c G yJ2_elementData (ws_ yJ2_elementData cJ2_elementData 2 (Option.some (Jvm.ClassFile.FieldType.object "java/lang/Object"))) 1 0 0 [.ref (x0), .int (x1)] σ (fun rv σ' => ∃ r, rv = some (va_rf (r)) ∧ Q r σ') X := by
  refine kx_mk3 (ini := false) (by decide) (Nat.le_of_ble_eq_true rfl) (fun h => by cases h) (fun Q1 X1 hQ hX => ?_)
  unfold W_J2_elementData at h
  refine kx_aload_n dJ2_elementData_0 rfl rfl ?_
  refine kW_gO dJ2_elementData_1 (kf1 fl_J2_9_J2) h (fun v1 h => ?_)
  refine kx_iload_n dJ2_elementData_4 rfl rfl ?_
  obtain ⟨a2, rfl, hUa2⟩ := h
  have h := hUa2
  refine kW_lO dJ2_elementData_5 h (fun v3 h => ?_)
  exact kx_aret dJ2_elementData_6 rfl (Or.inl ⟨_, rfl⟩) (va_rfs _) (hQ _ _ ⟨_, rfl, h⟩)
set_option maxHeartbeats 8000000 in
theorem kw_J2_rangeCheckForAdd {G : KG} {σ : KHp} {x0 : Nat} {x1 : Int32} {Q : KHp → Prop} {X : String → Nat → KHp → Prop} (h : W_J2_rangeCheckForAdd G σ x0 x1 Q X) : kx_c G yJ2_rangeCheckForAdd (ws_ yJ2_rangeCheckForAdd cJ2_rangeCheckForAdd 2 (Option.none : Option Jvm.ClassFile.FieldType)) 1 0 0 [.ref (x0), .int (x1)] σ (fun rv σ' => rv = none ∧ Q σ') X := by
  refine kx_mk3 (ini := false) (by decide) (Nat.le_of_ble_eq_true rfl) (fun h => by cases h) (fun Q1 X1 hQ hX => ?_)
  unfold W_J2_rangeCheckForAdd at h
  refine kx_iload_n dJ2_rangeCheckForAdd_0 rfl rfl ?_
  refine kx_aload_n dJ2_rangeCheckForAdd_1 rfl rfl ?_
  refine kW_gI dJ2_rangeCheckForAdd_2 (kf1 fl_J2_48_J2) h (fun v1 h => ?_)
  refine kW_jN 8 [] h (fun σ4 h => ?_) (fun k2 jk2 h => ?_)
  · skip
    refine kx_iload_n dJ2_rangeCheckForAdd_8 rfl rfl ?_
    refine kx_if_ge (tgt := 25) dJ2_rangeCheckForAdd_9 (by decide) (fun c => ?_) (fun c => ?_)
    · have h := w_ift c h
      exact kx_vret dJ2_rangeCheckForAdd_25 rfl (hQ _ _ ⟨rfl, h⟩)
    · have h := w_iff c h
      exact h.elim
  · skip
    refine kx_icmp_gt (tgt := 12) dJ2_rangeCheckForAdd_5 (by decide) (fun c => ?_) (fun c => ?_)
    · have h := w_ift c h
      exact h.elim
    · have h := w_iff c h
      exact jk2 _ h
set_option maxHeartbeats 8000000 in
theorem kw_J2_fastRemove {G : KG} {σ : KHp} {x0 : Nat} {x1 : Option Nat} {x2 : Int32} {Q : KHp → Prop} {X : String → Nat → KHp → Prop} (h : W_J2_fastRemove G σ x0 x1 x2 Q X) : kx_c G yJ2_fastRemove (ws_ yJ2_fastRemove cJ2_fastRemove 4 (Option.none : Option Jvm.ClassFile.FieldType)) 2 0 0 [.ref (x0), va_rf (x1), .int (x2)] σ (fun rv σ' => rv = none ∧ Q σ') X := by
  refine kx_mk3 (ini := false) (by decide) (by cases x1 <;> exact Nat.le_of_ble_eq_true rfl) (fun h => by cases h) (fun Q1 X1 hQ hX => ?_)
  unfold W_J2_fastRemove at h
  refine kx_lwF [(0, .ref x0), (1, va_rf (x1)), (2, .int (x2))] (by cases x1 <;> exact ⟨rfl, rfl, rfl, trivial⟩) ?_
  refine kx_aload_n dJ2_fastRemove_0 rfl rfl ?_
  refine kx_dup dJ2_fastRemove_1 rfl ?_
  refine kW_gI dJ2_fastRemove_2 (kfc fl_J2_63_J2 (kf1 fl_J2_63_J18)) h (fun v1 h => ?_)
  refine kx_iconst (v := 1) dJ2_fastRemove_5 (by decide) ?_
  refine kx_iadd dJ2_fastRemove_6 ?_
  refine kW_p dJ2_fastRemove_7 (kpc ⟨_, _, _, _, kc_J2, fl_J2_63_J2, Or.inl rfl, rfl, rfl⟩ (kp1 ⟨_, _, _, _, kc_J18, fl_J2_63_J18, Or.inl rfl, rfl, rfl⟩)) h (fun σ2 h => ?_)
  refine kx_aload_n dJ2_fastRemove_10 rfl rfl ?_
  refine kW_gI dJ2_fastRemove_11 (kf1 fl_J2_48_J2) h (fun v3 h => ?_)
  refine kx_iconst (v := 1) dJ2_fastRemove_14 (by decide) ?_
  refine kx_isub dJ2_fastRemove_15 ?_
  refine kx_dup dJ2_fastRemove_16 rfl ?_
  refine kx_istore_n dJ2_fastRemove_17 rfl (Nat.le_of_ble_eq_true rfl) ?_
  refine kx_iload_n dJ2_fastRemove_18 rfl rfl ?_
  refine kW_jN 34 [] h (fun σ8 h => ?_) (fun k4 jk4 h => ?_)
  · skip
    refine kx_aload_nO dJ2_fastRemove_34 rfl rfl ?_
    refine kx_aload_n dJ2_fastRemove_35 rfl rfl ?_
    refine kx_iload_n dJ2_fastRemove_36 rfl rfl ?_
    refine kx_dup_x1 dJ2_fastRemove_37 rfl rfl ?_
    refine kW_p dJ2_fastRemove_38 (kp1 ⟨_, _, _, _, kc_J2, fl_J2_48_J2, Or.inl rfl, rfl, rfl⟩) h (fun σ9 h => ?_)
    refine kx_null dJ2_fastRemove_41 ?_
    obtain ⟨a10, rfl, hUa10⟩ := h
    have h := hUa10
    refine kW_sO dJ2_fastRemove_42 h (fun σ11 h => ?_)
    exact kx_vret dJ2_fastRemove_43 rfl (hQ _ _ ⟨rfl, h⟩)
  · skip
    refine kx_icmp_le (tgt := 34) dJ2_fastRemove_19 (by decide) (fun c => ?_) (fun c => ?_)
    · have h := w_ift c h
      exact jk4 _ h
    · have h := w_iff c h
      refine kx_aload_nO dJ2_fastRemove_22 rfl rfl ?_
      refine kx_iload_n dJ2_fastRemove_23 rfl rfl ?_
      refine kx_iconst (v := 1) dJ2_fastRemove_24 (by decide) ?_
      refine kx_iadd dJ2_fastRemove_25 ?_
      refine kx_aload_nO dJ2_fastRemove_26 rfl rfl ?_
      refine kx_iload_n dJ2_fastRemove_27 rfl rfl ?_
      refine kx_iload_n dJ2_fastRemove_28 rfl rfl ?_
      refine kx_iload_n dJ2_fastRemove_29 rfl rfl ?_
      refine kx_isub dJ2_fastRemove_30 ?_
      obtain ⟨a5, rfl, hUa5⟩ := h
      have h := hUa5
      refine kW_cpy dJ2_fastRemove_31 ⟨q2510, q357, q356, q160⟩ (Nat.le_of_ble_eq_true rfl) (Nat.le_of_ble_eq_true rfl) h (fun σ6 h => ?_)
      exact jk4 _ h
set_option maxHeartbeats 8000000 in
theorem kw_J3_init_3 {G : KG} {σ : KHp} {x0 : Nat} {x1 : Option Nat} {x2 : Option Nat} {x3 : Int32} {x4 : Int32} {Q : KHp → Prop} {X : String → Nat → KHp → Prop} (h : W_J3_init_3 G σ x0 x1 x2 x3 x4 Q X) : kx_c G yJ3_init_3 (ws_ yJ3_init_3 cJ3_init_3 5 (Option.none : Option Jvm.ClassFile.FieldType)) 1 0 0 [.ref (x0), va_rf (x1), va_rf (x2), .int (x3), .int (x4)] σ (fun rv σ' => rv = none ∧ Q σ') X := by
  refine kx_mk3 (ini := true) (by decide) (by cases x1 <;> cases x2 <;> exact Nat.le_of_ble_eq_true rfl) (fun _ => rfl) (fun Q1 X1 hQ hX => ?_)
  unfold W_J3_init_3 at h
  refine kx_lwF [(0, .ref x0), (1, va_rf (x1)), (2, va_rf (x2)), (3, .int (x3)), (4, .int (x4))] (by cases x1 <;> cases x2 <;> exact ⟨rfl, rfl, rfl, rfl, rfl, trivial⟩) ?_
  refine kx_aload_n dJ3_init_3_0 rfl rfl ?_
  refine kx_oinit dJ3_init_3_1 q257 q206 q207 (Nat.le_of_ble_eq_true rfl) (Nat.le_of_ble_eq_true rfl) ?_
  refine kx_aload_n dJ3_init_3_4 rfl rfl ?_
  refine kx_aload_n dJ3_init_3_5 rfl rfl ?_
  refine kW_p dJ3_init_3_6 (kp1 ⟨_, _, _, _, kc_X8, fl_J3_7_X8, Or.inl rfl, rfl, rfl⟩) h (fun σ1 h => ?_)
  refine kx_aload_n dJ3_init_3_9 rfl rfl ?_
  refine kW_gets dJ3_init_3_10 kt_java_lang_Throwable_UNASSIGNED_STACK q258 (Or.inl rfl) h (fun v2 h => ?_)
  refine kW_p dJ3_init_3_13 (kp1 ⟨_, _, _, _, kc_X8, fl_J3_17_X8, Or.inl rfl, (by cases v2 <;> rfl), (by cases v2 <;> rfl)⟩) h (fun σ3 h => ?_)
  refine kx_aload_n dJ3_init_3_16 rfl rfl ?_
  refine kW_gets dJ3_init_3_17 kt_java_lang_Throwable_SUPPRESSED_SENTINEL q260 (Or.inl rfl) h (fun v4 h => ?_)
  refine kW_p dJ3_init_3_20 (kp1 ⟨_, _, _, _, kc_X8, fl_J3_24_X8, Or.inl rfl, (by cases v4 <;> rfl), (by cases v4 <;> rfl)⟩) h (fun σ5 h => ?_)
  refine kx_iload dJ3_init_3_23 rfl ?_
  refine kW_jN 41 [] h (fun σ9 h => ?_) (fun k6 jk6 h => ?_)
  · skip
    refine kx_aload_n dJ3_init_3_41 rfl rfl ?_
    refine kx_aload_nO dJ3_init_3_42 rfl rfl ?_
    refine kW_p dJ3_init_3_43 (kp1 ⟨_, _, _, _, kc_X8, fl_J3_31_X8, Or.inl rfl, (by cases x1 <;> rfl), (by cases x1 <;> rfl)⟩) h (fun σ10 h => ?_)
    refine kx_aload_n dJ3_init_3_46 rfl rfl ?_
    refine kx_aload_nO dJ3_init_3_47 rfl rfl ?_
    refine kW_p dJ3_init_3_48 (kp1 ⟨_, _, _, _, kc_X8, fl_J3_7_X8, Or.inl rfl, (by cases x2 <;> rfl), (by cases x2 <;> rfl)⟩) h (fun σ11 h => ?_)
    refine kx_iload_n dJ3_init_3_51 rfl rfl ?_
    refine kx_if_ne (tgt := 60) dJ3_init_3_52 (by decide) (fun c => ?_) (fun c => ?_)
    · have h := w_iff c h
      exact kx_vret dJ3_init_3_60 rfl (hQ _ _ ⟨rfl, h⟩)
    · have h := w_ift c h
      refine kx_aload_n dJ3_init_3_55 rfl rfl ?_
      refine kx_null dJ3_init_3_56 ?_
      refine kW_p dJ3_init_3_57 (kp1 ⟨_, _, _, _, kc_X8, fl_J3_24_X8, Or.inl rfl, rfl, rfl⟩) h (fun σ12 h => ?_)
      exact kx_vret dJ3_init_3_60 rfl (hQ _ _ ⟨rfl, h⟩)
  · skip
    refine kx_if_eq (tgt := 36) dJ3_init_3_25 (by decide) (fun c => ?_) (fun c => ?_)
    · have h := w_ift c h
      refine kx_aload_n dJ3_init_3_36 rfl rfl ?_
      refine kx_null dJ3_init_3_37 ?_
      refine kW_p dJ3_init_3_38 (kp1 ⟨_, _, _, _, kc_X8, fl_J3_17_X8, Or.inl rfl, rfl, rfl⟩) h (fun σ7 h => ?_)
      exact jk6 _ h
    · have h := w_iff c h
      refine kx_aload_n dJ3_init_3_28 rfl rfl ?_
      exact h.elim
set_option maxHeartbeats 8000000 in
theorem kw_J4_init_2 {G : KG} {σ : KHp} {x0 : Nat} {x1 : Option Nat} {x2 : Option Nat} {x3 : Int32} {x4 : Int32} {Q : KHp → Prop} {X : String → Nat → KHp → Prop} (h : W_J4_init_2 G σ x0 x1 x2 x3 x4 Q X) : kx_c G yJ4_init_2 (ws_ yJ4_init_2 cJ4_init_2 5 (Option.none : Option Jvm.ClassFile.FieldType)) 2 0 0 [.ref (x0), va_rf (x1), va_rf (x2), .int (x3), .int (x4)] σ (fun rv σ' => rv = none ∧ Q σ') X := by
  refine kx_mk3 (ini := true) (by decide) (by cases x1 <;> cases x2 <;> exact Nat.le_of_ble_eq_true rfl) (fun _ => rfl) (fun Q1 X1 hQ hX => ?_)
  unfold W_J4_init_2 at h
  refine kx_lwF [(0, .ref x0), (1, va_rf (x1)), (2, va_rf (x2)), (3, .int (x3)), (4, .int (x4))] (by cases x1 <;> cases x2 <;> exact ⟨rfl, rfl, rfl, rfl, rfl, trivial⟩) ?_
  refine kx_aload_n dJ4_init_2_0 rfl rfl ?_
  refine kx_aload_nO dJ4_init_2_1 rfl rfl ?_
  refine kx_aload_nO dJ4_init_2_2 rfl rfl ?_
  refine kx_iload_n dJ4_init_2_3 rfl rfl ?_
  refine kx_iload dJ4_init_2_4 rfl ?_
  refine kx_callI dJ4_init_2_6 lk_J4_16 (kw_J3_init_3 h) rfl rfl (Nat.le_of_ble_eq_true rfl) (Nat.le_of_ble_eq_true rfl) (Nat.le_of_ble_eq_true rfl) (Nat.le_of_ble_eq_true rfl) (Nat.le_of_ble_eq_true rfl) (fun _ _ _ hx => kx_out rfl (hX _ _ _ hx)) (fun v_ σ2 hq => ?_)
  obtain ⟨rfl, h⟩ := hq
  exact kx_vret dJ4_init_2_9 rfl (hQ _ _ ⟨rfl, h⟩)
set_option maxHeartbeats 8000000 in
theorem kw_J7_isLatin1 {G : KG} {σ : KHp} {x0 : Nat} {Q : Int32 → KHp → Prop} {X : String → Nat → KHp → Prop} (h : W_J7_isLatin1 G σ x0 Q X) : kx_c G yJ7_isLatin1 (ws_ yJ7_isLatin1 cJ7_isLatin1 1 (Option.some Jvm.ClassFile.FieldType.boolean)) 1 0 0 [.ref (x0)] σ (fun rv σ' => ∃ r, rv = some (.int (r)) ∧ Q r σ') X := by
  refine kx_mk3 (ini := false) (by decide) (Nat.le_of_ble_eq_true rfl) (fun h => by cases h) (fun Q1 X1 hQ hX => ?_)
  unfold W_J7_isLatin1 at h
  refine kx_gets dJ7_isLatin1_0 kt_java_lang_String_COMPACT_STRINGS q286 (Or.inl rfl) ?_
  refine kW_jI 18 [] h (fun v3 σ4 h => ?_) (fun k1 jk1 h => ?_)
  · skip
    exact kx_zret dJ7_isLatin1_18 rfl h.1 (hQ _ _ ⟨_, rfl, h.2⟩)
  · skip
    refine kx_if_eq (tgt := 17) dJ7_isLatin1_3 (by decide) (fun c => ?_) (fun c => ?_)
    · have h := w_ift c h
      refine kx_iconst (v := 0) dJ7_isLatin1_17 (by decide) ?_
      exact jk1 _ _ h
    · have h := w_iff c h
      refine kx_aload_n dJ7_isLatin1_6 rfl rfl ?_
      refine kW_gI dJ7_isLatin1_7 (kf1 fl_J7_22_J8) h (fun v2 h => ?_)
      refine kx_if_ne (tgt := 17) dJ7_isLatin1_10 (by decide) (fun c => ?_) (fun c => ?_)
      · have h := w_iff c h
        refine kx_iconst (v := 0) dJ7_isLatin1_17 (by decide) ?_
        exact jk1 _ _ h
      · have h := w_ift c h
        refine kx_iconst (v := 1) dJ7_isLatin1_13 (by decide) ?_
        refine kx_goto (tgt := 18) dJ7_isLatin1_14 (by decide) ?_
        exact jk1 _ _ h
set_option maxHeartbeats 8000000 in
theorem kw_J7_getValue {G : KG} {σ : KHp} {x0 : Nat} {Q : Option Nat → KHp → Prop} {X : String → Nat → KHp → Prop} (h : W_J7_getValue G σ x0 Q X) : kx_c G yJ7_getValue (ws_ yJ7_getValue cJ7_getValue 1 (Option.some (Jvm.ClassFile.FieldType.array Jvm.ClassFile.FieldType.byte))) 1 0 0 [.ref (x0)] σ (fun rv σ' => ∃ r, rv = some (va_rf (r)) ∧ Q r σ') X := by
  refine kx_mk3 (ini := false) (by decide) (Nat.le_of_ble_eq_true rfl) (fun h => by cases h) (fun Q1 X1 hQ hX => ?_)
  unfold W_J7_getValue at h
  refine kx_aload_n dJ7_getValue_0 rfl rfl ?_
  refine kW_gO dJ7_getValue_1 (kf1 fl_J7_15_J8) h (fun v1 h => ?_)
  exact kx_aret dJ7_getValue_4 rfl (Or.inr ⟨_, rfl⟩) (va_rfs _) (hQ _ _ ⟨_, rfl, h⟩)
set_option maxHeartbeats 8000000 in
theorem kw_J7_length {G : KG} {σ : KHp} {x0 : Nat} {Q : Int32 → KHp → Prop} {X : String → Nat → KHp → Prop} (h : W_J7_length G σ x0 Q X) : kx_c G yJ7_length (ws_ yJ7_length cJ7_length 1 (Option.some Jvm.ClassFile.FieldType.int)) 1 0 0 [.ref (x0)] σ (fun rv σ' => ∃ r, rv = some (.int (r)) ∧ Q r σ') X := by
  refine kx_mk3 (ini := false) (by decide) (Nat.le_of_ble_eq_true rfl) (fun h => by cases h) (fun Q1 X1 hQ hX => ?_)
  unfold W_J7_length at h
  refine kx_aload_n dJ7_length_0 rfl rfl ?_
  refine kW_gI dJ7_length_1 (kf1 fl_J7_79_J8) h (fun v1 h => ?_)
  exact kx_iret dJ7_length_4 rfl (hQ _ _ ⟨_, rfl, h⟩)
set_option maxHeartbeats 8000000 in
theorem kw_J8_length {G : KG} {σ : KHp} {x0 : Nat} {Q : Int32 → KHp → Prop} {X : String → Nat → KHp → Prop} (h : W_J8_length G σ x0 Q X) : kx_c G yJ8_length (ws_ yJ8_length cJ8_length 1 (Option.some Jvm.ClassFile.FieldType.int)) 2 0 0 [.ref (x0)] σ (fun rv σ' => ∃ r, rv = some (.int (r)) ∧ Q r σ') X := by
  refine kx_mk3 (ini := false) (by decide) (Nat.le_of_ble_eq_true rfl) (fun h => by cases h) (fun Q1 X1 hQ hX => ?_)
  unfold W_J8_length at h
  refine kx_aload_n dJ8_length_0 rfl rfl ?_
  obtain ⟨hr, h⟩ := h
  refine kx_callSU dJ8_length_1 lk_J8_343 (kw_J7_length h) rfl hr.choose_spec.choose_spec rfl rfl (Nat.le_of_ble_eq_true rfl) (Nat.le_of_ble_eq_true rfl) (Nat.le_of_ble_eq_true rfl) (Nat.le_of_ble_eq_true rfl) (Nat.le_of_ble_eq_true rfl) (fun _ _ _ hx => kx_out rfl (hX _ _ _ hx)) (fun v_ σ2 hq => ?_)
  obtain ⟨v1, rfl, h⟩ := hq
  exact kx_iret dJ8_length_4 rfl (hQ _ _ ⟨_, rfl, h⟩)
set_option maxHeartbeats 8000000 in
theorem kw_J9_coder {G : KG} {σ : KHp} {x0 : Nat} {Q : Int32 → KHp → Prop} {X : String → Nat → KHp → Prop} (h : W_J9_coder G σ x0 Q X) : kx_c G yJ9_coder (ws_ yJ9_coder cJ9_coder 1 (Option.some Jvm.ClassFile.FieldType.byte)) 1 0 0 [.ref (x0)] σ (fun rv σ' => ∃ r, rv = some (.int (r)) ∧ Q r σ') X := by
  refine kx_mk3 (ini := false) (by decide) (Nat.le_of_ble_eq_true rfl) (fun h => by cases h) (fun Q1 X1 hQ hX => ?_)
  unfold W_J9_coder at h
  refine kx_gets dJ9_coder_0 kt_java_lang_String_COMPACT_STRINGS q397 (Or.inl rfl) ?_
  refine kW_jI 14 [] h (fun v3 σ4 h => ?_) (fun k1 jk1 h => ?_)
  · skip
    exact kx_zret dJ9_coder_14 rfl h.1 (hQ _ _ ⟨_, rfl, h.2⟩)
  · skip
    refine kx_if_eq (tgt := 13) dJ9_coder_3 (by decide) (fun c => ?_) (fun c => ?_)
    · have h := w_ift c h
      refine kx_iconst (v := 1) dJ9_coder_13 (by decide) ?_
      exact jk1 _ _ h
    · have h := w_iff c h
      refine kx_aload_n dJ9_coder_6 rfl rfl ?_
      refine kW_gI dJ9_coder_7 (kf1 fl_J9_15_J9) h (fun v2 h => ?_)
      refine kx_goto (tgt := 14) dJ9_coder_10 (by decide) ?_
      exact jk1 _ _ h
set_option maxHeartbeats 8000000 in
theorem kw_J9_isLatin1 {G : KG} {σ : KHp} {x0 : Nat} {Q : Int32 → KHp → Prop} {X : String → Nat → KHp → Prop} (h : W_J9_isLatin1 G σ x0 Q X) : kx_c G yJ9_isLatin1 (ws_ yJ9_isLatin1 cJ9_isLatin1 1 (Option.some Jvm.ClassFile.FieldType.boolean)) 1 0 0 [.ref (x0)] σ (fun rv σ' => ∃ r, rv = some (.int (r)) ∧ Q r σ') X := by
  refine kx_mk3 (ini := false) (by decide) (Nat.le_of_ble_eq_true rfl) (fun h => by cases h) (fun Q1 X1 hQ hX => ?_)
  unfold W_J9_isLatin1 at h
  refine kx_gets dJ9_isLatin1_0 kt_java_lang_String_COMPACT_STRINGS q397 (Or.inl rfl) ?_
  refine kW_jI 18 [] h (fun v3 σ4 h => ?_) (fun k1 jk1 h => ?_)
  · skip
    exact kx_zret dJ9_isLatin1_18 rfl h.1 (hQ _ _ ⟨_, rfl, h.2⟩)
  · skip
    refine kx_if_eq (tgt := 17) dJ9_isLatin1_3 (by decide) (fun c => ?_) (fun c => ?_)
    · have h := w_ift c h
      refine kx_iconst (v := 0) dJ9_isLatin1_17 (by decide) ?_
      exact jk1 _ _ h
    · have h := w_iff c h
      refine kx_aload_n dJ9_isLatin1_6 rfl rfl ?_
      refine kW_gI dJ9_isLatin1_7 (kf1 fl_J9_15_J9) h (fun v2 h => ?_)
      refine kx_if_ne (tgt := 17) dJ9_isLatin1_10 (by decide) (fun c => ?_) (fun c => ?_)
      · have h := w_iff c h
        refine kx_iconst (v := 0) dJ9_isLatin1_17 (by decide) ?_
        exact jk1 _ _ h
      · have h := w_ift c h
        refine kx_iconst (v := 1) dJ9_isLatin1_13 (by decide) ?_
        refine kx_goto (tgt := 18) dJ9_isLatin1_14 (by decide) ?_
        exact jk1 _ _ h
set_option maxHeartbeats 8000000 in
theorem kw_J10_newBytesLength {G : KG} {σ : KHp} {x0 : Int32} {Q : Int32 → KHp → Prop} {X : String → Nat → KHp → Prop} (h : W_J10_newBytesLength G σ x0 Q X) : kx_c G yJ10_newBytesLength (ws_ yJ10_newBytesLength cJ10_newBytesLength 1 (Option.some Jvm.ClassFile.FieldType.int)) 1 0 0 [.int (x0)] σ (fun rv σ' => ∃ r, rv = some (.int (r)) ∧ Q r σ') X := by
  refine kx_mk3 (ini := false) (by decide) (Nat.le_of_ble_eq_true rfl) (fun h => by cases h) (fun Q1 X1 hQ hX => ?_)
  unfold W_J10_newBytesLength at h
  refine kx_iload_n dJ10_newBytesLength_0 rfl rfl ?_
  refine kx_if_ge (tgt := 12) dJ10_newBytesLength_1 (by decide) (fun c => ?_) (fun c => ?_)
  · have h := w_ift c h
    refine kx_iload_n dJ10_newBytesLength_12 rfl rfl ?_
    refine kx_ldci dJ10_newBytesLength_13 q294 ?_
    refine kx_icmp_lt (tgt := 55) dJ10_newBytesLength_15 (by decide) (fun c => ?_) (fun c => ?_)
    · have h := w_ift c h
      refine kx_iload_n dJ10_newBytesLength_55 rfl rfl ?_
      refine kx_iconst (v := 1) dJ10_newBytesLength_56 (by decide) ?_
      refine kx_ishl dJ10_newBytesLength_57 ?_
      exact kx_iret dJ10_newBytesLength_58 rfl (hQ _ _ ⟨_, rfl, h⟩)
    · have h := w_iff c h
      exact h.elim
  · have h := w_iff c h
    exact h.elim
set_option maxHeartbeats 8000000 in
theorem kw_J10_length {G : KG} {σ : KHp} {x0 : Option Nat} {Q : Int32 → KHp → Prop} {X : String → Nat → KHp → Prop} (h : W_J10_length G σ x0 Q X) : kx_c G yJ10_length (ws_ yJ10_length cJ10_length 1 (Option.some Jvm.ClassFile.FieldType.int)) 1 0 0 [va_rf (x0)] σ (fun rv σ' => ∃ r, rv = some (.int (r)) ∧ Q r σ') X := by
  refine kx_mk3 (ini := false) (by decide) (by cases x0 <;> exact Nat.le_of_ble_eq_true rfl) (fun h => by cases h) (fun Q1 X1 hQ hX => ?_)
  unfold W_J10_length at h
  refine kx_lwF [(0, va_rf (x0))] (by cases x0 <;> exact ⟨rfl, trivial⟩) ?_
  refine kx_aload_nO dJ10_length_0 rfl rfl ?_
  obtain ⟨a1, rfl, hUa1⟩ := h
  have h := hUa1
  refine kW_len dJ10_length_1 h (fun v2 h => ?_)
  refine kx_iconst (v := 1) dJ10_length_2 (by decide) ?_
  refine kx_ishr dJ10_length_3 ?_
  exact kx_iret dJ10_length_4 rfl (hQ _ _ ⟨_, rfl, h⟩)
set_option maxHeartbeats 8000000 in
theorem kw_J10_putChar {G : KG} {σ : KHp} {x0 : Option Nat} {x1 : Int32} {x2 : Int32} {Q : KHp → Prop} {X : String → Nat → KHp → Prop} (h : W_J10_putChar G σ x0 x1 x2 Q X) : kx_c G yJ10_putChar (ws_ yJ10_putChar cJ10_putChar 3 (Option.none : Option Jvm.ClassFile.FieldType)) 2 0 0 [va_rf (x0), .int (x1), .int (x2)] σ (fun rv σ' => rv = none ∧ Q σ') X := by
  refine kx_mk3 (ini := false) (by decide) (by cases x0 <;> exact Nat.le_of_ble_eq_true rfl) (fun h => by cases h) (fun Q1 X1 hQ hX => ?_)
  unfold W_J10_putChar at h
  refine kx_lwF [(0, va_rf (x0)), (1, .int (x1)), (2, .int (x2))] (by cases x0 <;> exact ⟨rfl, rfl, rfl, trivial⟩) ?_
  refine kx_gets dJ10_putChar_0 kt_java_lang_StringUTF16__assertionsDisabled q383 (Or.inl rfl) ?_
  refine kx_if_ne (tgt := 28) dJ10_putChar_3 (by decide) (fun c => ?_) (fun c => ?_)
  · have h := w_iff c h
    refine kx_iload_n dJ10_putChar_28 rfl rfl ?_
    refine kx_iconst (v := 1) dJ10_putChar_29 (by decide) ?_
    refine kx_ishl dJ10_putChar_30 ?_
    refine kx_istore_n dJ10_putChar_31 rfl (Nat.le_of_ble_eq_true rfl) ?_
    refine kx_lwF [(0, va_rf (x0)), (1, .int ((x1 <<< ((1 : Int32) &&& 31)))), (2, .int (x2))] (by cases x0 <;> exact ⟨rfl, rfl, rfl, trivial⟩) ?_
    refine kx_aload_nO dJ10_putChar_32 rfl rfl ?_
    refine kx_iload_n dJ10_putChar_33 rfl rfl ?_
    refine kx_iinc2 (v := 1) dJ10_putChar_34 rfl (by decide) ?_
    refine kx_lwF [(0, va_rf (x0)), (1, .int (((x1 <<< ((1 : Int32) &&& 31)) + (1 : Int32)))), (2, .int (x2))] (by cases x0 <;> exact ⟨rfl, rfl, rfl, trivial⟩) ?_
    refine kx_iload_n dJ10_putChar_37 rfl rfl ?_
    refine kx_gets dJ10_putChar_38 kt_java_lang_StringUTF16_HI_BYTE_SHIFT q385 (Or.inl rfl) ?_
    refine kx_ishr dJ10_putChar_41 ?_
    refine kx_i2b dJ10_putChar_42 rfl ?_
    obtain ⟨a1, rfl, hUa1⟩ := h
    have h := hUa1
    refine kW_sB dJ10_putChar_43 h (fun σ2 h => ?_)
    refine kx_aload_n dJ10_putChar_44 rfl rfl ?_
    refine kx_iload_n dJ10_putChar_45 rfl rfl ?_
    refine kx_iload_n dJ10_putChar_46 rfl rfl ?_
    refine kx_gets dJ10_putChar_47 kt_java_lang_StringUTF16_LO_BYTE_SHIFT q387 (Or.inl rfl) ?_
    refine kx_ishr dJ10_putChar_50 ?_
    refine kx_i2b dJ10_putChar_51 rfl ?_
    refine kW_sB dJ10_putChar_52 h (fun σ3 h => ?_)
    exact kx_vret dJ10_putChar_53 rfl (hQ _ _ ⟨rfl, h⟩)
  · have h := w_ift c h
    refine kx_iload_n dJ10_putChar_6 rfl rfl ?_
    refine kW_jN 10 [] h (fun σ6 h => ?_) (fun k4 jk4 h => ?_)
    · skip
      refine kx_iload_n dJ10_putChar_10 rfl rfl ?_
      refine kx_aload_nO dJ10_putChar_11 rfl rfl ?_
      refine kx_callS dJ10_putChar_12 lk_J10_48 (kw_J10_length h) rfl rfl (Nat.le_of_ble_eq_true rfl) (Nat.le_of_ble_eq_true rfl) (Nat.le_of_ble_eq_true rfl) (Nat.le_of_ble_eq_true rfl) (Nat.le_of_ble_eq_true rfl) (fun _ _ _ hx => kx_out rfl (hX _ _ _ hx)) (fun v_ σ8 hq => ?_)
      obtain ⟨v7, rfl, h⟩ := hq
      refine kx_icmp_lt (tgt := 28) dJ10_putChar_15 (by decide) (fun c => ?_) (fun c => ?_)
      · have h := w_ift c h
        refine kx_iload_n dJ10_putChar_28 rfl rfl ?_
        refine kx_iconst (v := 1) dJ10_putChar_29 (by decide) ?_
        refine kx_ishl dJ10_putChar_30 ?_
        refine kx_istore_n dJ10_putChar_31 rfl (Nat.le_of_ble_eq_true rfl) ?_
        refine kx_lwF [(0, va_rf (x0)), (1, .int ((x1 <<< ((1 : Int32) &&& 31)))), (2, .int (x2))] (by cases x0 <;> exact ⟨rfl, rfl, rfl, trivial⟩) ?_
        refine kx_aload_nO dJ10_putChar_32 rfl rfl ?_
        refine kx_iload_n dJ10_putChar_33 rfl rfl ?_
        refine kx_iinc2 (v := 1) dJ10_putChar_34 rfl (by decide) ?_
        refine kx_lwF [(0, va_rf (x0)), (1, .int (((x1 <<< ((1 : Int32) &&& 31)) + (1 : Int32)))), (2, .int (x2))] (by cases x0 <;> exact ⟨rfl, rfl, rfl, trivial⟩) ?_
        refine kx_iload_n dJ10_putChar_37 rfl rfl ?_
        refine kx_gets dJ10_putChar_38 kt_java_lang_StringUTF16_HI_BYTE_SHIFT q385 (Or.inl rfl) ?_
        refine kx_ishr dJ10_putChar_41 ?_
        refine kx_i2b dJ10_putChar_42 rfl ?_
        obtain ⟨a9, rfl, hUa9⟩ := h
        have h := hUa9
        refine kW_sB dJ10_putChar_43 h (fun σ10 h => ?_)
        refine kx_aload_n dJ10_putChar_44 rfl rfl ?_
        refine kx_iload_n dJ10_putChar_45 rfl rfl ?_
        refine kx_iload_n dJ10_putChar_46 rfl rfl ?_
        refine kx_gets dJ10_putChar_47 kt_java_lang_StringUTF16_LO_BYTE_SHIFT q387 (Or.inl rfl) ?_
        refine kx_ishr dJ10_putChar_50 ?_
        refine kx_i2b dJ10_putChar_51 rfl ?_
        refine kW_sB dJ10_putChar_52 h (fun σ11 h => ?_)
        exact kx_vret dJ10_putChar_53 rfl (hQ _ _ ⟨rfl, h⟩)
      · have h := w_iff c h
        exact h.elim
    · skip
      refine kx_if_lt (tgt := 18) dJ10_putChar_7 (by decide) (fun c => ?_) (fun c => ?_)
      · have h := w_ift c h
        exact h.elim
      · have h := w_iff c h
        exact jk4 _ h
set_option maxHeartbeats 8000000 in
theorem kw_J10_getChars_2 {G : KG} {σ : KHp} {x0 : Int32} {x1 : Int32} {x2 : Option Nat} {Q : Int32 → KHp → Prop} {X : String → Nat → KHp → Prop} (h : W_J10_getChars_2 G σ x0 x1 x2 Q X) : kx_c G yJ10_getChars_2 (ws_ yJ10_getChars_2 cJ10_getChars_2 7 (Option.some Jvm.ClassFile.FieldType.int)) 3 0 0 [.int (x0), .int (x1), va_rf (x2)] σ (fun rv σ' => ∃ r, rv = some (.int (r)) ∧ Q r σ') X := by
  refine kx_mk3 (ini := false) (by decide) (by cases x2 <;> exact Nat.le_of_ble_eq_true rfl) (fun h => by cases h) (fun Q1 X1 hQ hX => ?_)
  unfold W_J10_getChars_2 at h
  refine kx_lwF [(0, .int (x0)), (1, .int (x1)), (2, va_rf (x2))] (by cases x2 <;> exact ⟨rfl, rfl, rfl, trivial⟩) ?_
  refine kx_iload_n dJ10_getChars_2_0 rfl rfl ?_
  refine kx_istore dJ10_getChars_2_1 (Nat.le_of_ble_eq_true rfl) ?_
  refine kx_iload_n dJ10_getChars_2_3 rfl rfl ?_
  refine kW_jI 12 [] h (fun v2 σ3 h => ?_) (fun k1 jk1 h => ?_)
  · skip
    refine kx_istore dJ10_getChars_2_12 (Nat.le_of_ble_eq_true rfl) ?_
    refine kx_iload dJ10_getChars_2_14 rfl ?_
    refine kx_if_ne (tgt := 22) dJ10_getChars_2_16 (by decide) (fun c => ?_) (fun c => ?_)
    · have h := w_iff c h
      refine kx_lwF [(0, .int (x0)), (2, va_rf (x2)), (5, .int (x1)), (6, .int (v2))] ⟨rfl, rfl, rfl, rfl, trivial⟩ ?_
      refine loopW2_k (fun (σ : KHp) (l0 : Int32) (l5 : Int32) => kx G (yJ10_getChars_2.cls, cJ10_getChars_2, 7, (Option.some Jvm.ClassFile.FieldType.int), false, []) (3, 0, 0, Q1, X1) (0) (0) σ 22 (kF [(0, .int (l0)), (2, va_rf (x2)), (5, .int (l5)), (6, .int (v2))]) []) (fun kI22 hI22 σ l0 l5 h => ?_) 9000 σ3 x0 x1 h
      unfold WB_J10_getChars_2_22 at h
      refine kx_iload_n dJ10_getChars_2_22 rfl rfl ?_
      refine kx_bipush (v := -100) dJ10_getChars_2_23 (by decide) ?_
      refine kx_icmp_gt (tgt := 76) dJ10_getChars_2_25 (by decide) (fun c => ?_) (fun c => ?_)
      · have h := w_ift c h
        refine kx_aload_nO dJ10_getChars_2_76 rfl rfl ?_
        refine kx_iinc2 (v := -1) dJ10_getChars_2_77 rfl (by decide) ?_
        refine kx_iload dJ10_getChars_2_80 rfl ?_
        refine kx_gets dJ10_getChars_2_82 kt_java_lang_Integer_DigitOnes q455 (Or.inl rfl) ?_
        refine kx_iload_n dJ10_getChars_2_85 rfl rfl ?_
        refine kx_ineg dJ10_getChars_2_86 ?_
        refine kW_lB dJ10_getChars_2_87 h (fun v23001 h => ?_)
        refine kx_callS dJ10_getChars_2_88 lk_J10_111 (kw_J10_putChar h) rfl rfl (Nat.le_of_ble_eq_true rfl) (Nat.le_of_ble_eq_true rfl) (Nat.le_of_ble_eq_true rfl) (Nat.le_of_ble_eq_true rfl) (Nat.le_of_ble_eq_true rfl) (fun _ _ _ hx => kx_out rfl (hX _ _ _ hx)) (fun v_ σ23003 hq => ?_)
        obtain ⟨rfl, h⟩ := hq
        refine kx_iload_n dJ10_getChars_2_91 rfl rfl ?_
        refine kx_bipush (v := -9) dJ10_getChars_2_92 (by decide) ?_
        refine kx_icmp_ge (tgt := 112) dJ10_getChars_2_94 (by decide) (fun c => ?_) (fun c => ?_)
        · have h := w_ift c h
          refine kx_iload dJ10_getChars_2_112 rfl ?_
          refine kx_if_eq (tgt := 128) dJ10_getChars_2_114 (by decide) (fun c => ?_) (fun c => ?_)
          · have h := w_ift c h
            refine kx_iload dJ10_getChars_2_128 rfl ?_
            exact kx_iret dJ10_getChars_2_130 rfl (hQ _ _ ⟨_, rfl, h⟩)
          · have h := w_iff c h
            refine kx_aload_nO dJ10_getChars_2_117 rfl rfl ?_
            refine kx_iinc2 (v := -1) dJ10_getChars_2_118 rfl (by decide) ?_
            refine kx_iload dJ10_getChars_2_121 rfl ?_
            refine kx_bipush (v := 45) dJ10_getChars_2_123 (by decide) ?_
            refine kx_callS dJ10_getChars_2_125 lk_J10_111 (kw_J10_putChar h) rfl rfl (Nat.le_of_ble_eq_true rfl) (Nat.le_of_ble_eq_true rfl) (Nat.le_of_ble_eq_true rfl) (Nat.le_of_ble_eq_true rfl) (Nat.le_of_ble_eq_true rfl) (fun _ _ _ hx => kx_out rfl (hX _ _ _ hx)) (fun v_ σ23005 hq => ?_)
            obtain ⟨rfl, h⟩ := hq
            refine kx_iload dJ10_getChars_2_128 rfl ?_
            exact kx_iret dJ10_getChars_2_130 rfl (hQ _ _ ⟨_, rfl, h⟩)
        · have h := w_iff c h
          refine kx_aload_nO dJ10_getChars_2_97 rfl rfl ?_
          refine kx_iinc2 (v := -1) dJ10_getChars_2_98 rfl (by decide) ?_
          refine kx_iload dJ10_getChars_2_101 rfl ?_
          refine kx_gets dJ10_getChars_2_103 kt_java_lang_Integer_DigitTens q456 (Or.inl rfl) ?_
          refine kx_iload_n dJ10_getChars_2_106 rfl rfl ?_
          refine kx_ineg dJ10_getChars_2_107 ?_
          refine kW_lB dJ10_getChars_2_108 h (fun v23006 h => ?_)
          refine kx_callS dJ10_getChars_2_109 lk_J10_111 (kw_J10_putChar h) rfl rfl (Nat.le_of_ble_eq_true rfl) (Nat.le_of_ble_eq_true rfl) (Nat.le_of_ble_eq_true rfl) (Nat.le_of_ble_eq_true rfl) (Nat.le_of_ble_eq_true rfl) (fun _ _ _ hx => kx_out rfl (hX _ _ _ hx)) (fun v_ σ23008 hq => ?_)
          obtain ⟨rfl, h⟩ := hq
          refine kx_iload dJ10_getChars_2_112 rfl ?_
          refine kx_if_eq (tgt := 128) dJ10_getChars_2_114 (by decide) (fun c => ?_) (fun c => ?_)
          · have h := w_ift c h
            refine kx_iload dJ10_getChars_2_128 rfl ?_
            exact kx_iret dJ10_getChars_2_130 rfl (hQ _ _ ⟨_, rfl, h⟩)
          · have h := w_iff c h
            refine kx_aload_nO dJ10_getChars_2_117 rfl rfl ?_
            refine kx_iinc2 (v := -1) dJ10_getChars_2_118 rfl (by decide) ?_
            refine kx_iload dJ10_getChars_2_121 rfl ?_
            refine kx_bipush (v := 45) dJ10_getChars_2_123 (by decide) ?_
            refine kx_callS dJ10_getChars_2_125 lk_J10_111 (kw_J10_putChar h) rfl rfl (Nat.le_of_ble_eq_true rfl) (Nat.le_of_ble_eq_true rfl) (Nat.le_of_ble_eq_true rfl) (Nat.le_of_ble_eq_true rfl) (Nat.le_of_ble_eq_true rfl) (fun _ _ _ hx => kx_out rfl (hX _ _ _ hx)) (fun v_ σ23010 hq => ?_)
            obtain ⟨rfl, h⟩ := hq
            refine kx_iload dJ10_getChars_2_128 rfl ?_
            exact kx_iret dJ10_getChars_2_130 rfl (hQ _ _ ⟨_, rfl, h⟩)
      · have h := w_iff c h
        refine kx_iload_n dJ10_getChars_2_28 rfl rfl ?_
        refine kx_bipush (v := 100) dJ10_getChars_2_29 (by decide) ?_
        obtain ⟨hz, h⟩ := h
        refine kx_idiv dJ10_getChars_2_31 hz ?_
        refine kx_istore_n dJ10_getChars_2_32 rfl (Nat.le_of_ble_eq_true rfl) ?_
        refine kx_lwF [(0, .int (l0)), (2, va_rf (x2)), (3, .int ((l0 / (100 : Int32)))), (5, .int (l5)), (6, .int (v2))] (by cases x2 <;> exact ⟨rfl, rfl, rfl, rfl, rfl, trivial⟩) ?_
        refine kx_iload_n dJ10_getChars_2_33 rfl rfl ?_
        refine kx_bipush (v := 100) dJ10_getChars_2_34 (by decide) ?_
        refine kx_imul dJ10_getChars_2_36 ?_
        refine kx_iload_n dJ10_getChars_2_37 rfl rfl ?_
        refine kx_isub dJ10_getChars_2_38 ?_
        refine kx_istore dJ10_getChars_2_39 (Nat.le_of_ble_eq_true rfl) ?_
        refine kx_iload_n dJ10_getChars_2_41 rfl rfl ?_
        refine kx_istore_n dJ10_getChars_2_42 rfl (Nat.le_of_ble_eq_true rfl) ?_
        refine kx_aload_nO dJ10_getChars_2_43 rfl rfl ?_
        refine kx_iinc2 (v := -1) dJ10_getChars_2_44 rfl (by decide) ?_
        refine kx_iload dJ10_getChars_2_47 rfl ?_
        refine kx_gets dJ10_getChars_2_49 kt_java_lang_Integer_DigitOnes q455 (Or.inl rfl) ?_
        refine kx_iload dJ10_getChars_2_52 rfl ?_
        refine kW_lB dJ10_getChars_2_54 h (fun v23011 h => ?_)
        refine kx_callS dJ10_getChars_2_55 lk_J10_111 (kw_J10_putChar h) rfl rfl (Nat.le_of_ble_eq_true rfl) (Nat.le_of_ble_eq_true rfl) (Nat.le_of_ble_eq_true rfl) (Nat.le_of_ble_eq_true rfl) (Nat.le_of_ble_eq_true rfl) (fun _ _ _ hx => kx_out rfl (hX _ _ _ hx)) (fun v_ σ23013 hq => ?_)
        obtain ⟨rfl, h⟩ := hq
        refine kx_aload_nO dJ10_getChars_2_58 rfl rfl ?_
        refine kx_iinc2 (v := -1) dJ10_getChars_2_59 rfl (by decide) ?_
        refine kx_iload dJ10_getChars_2_62 rfl ?_
        refine kx_gets dJ10_getChars_2_64 kt_java_lang_Integer_DigitTens q456 (Or.inl rfl) ?_
        refine kx_iload dJ10_getChars_2_67 rfl ?_
        refine kW_lB dJ10_getChars_2_69 h (fun v23014 h => ?_)
        refine kx_callS dJ10_getChars_2_70 lk_J10_111 (kw_J10_putChar h) rfl rfl (Nat.le_of_ble_eq_true rfl) (Nat.le_of_ble_eq_true rfl) (Nat.le_of_ble_eq_true rfl) (Nat.le_of_ble_eq_true rfl) (Nat.le_of_ble_eq_true rfl) (fun _ _ _ hx => kx_out rfl (hX _ _ _ hx)) (fun v_ σ23016 hq => ?_)
        obtain ⟨rfl, h⟩ := hq
        refine kx_goto (tgt := 22) dJ10_getChars_2_73 (by decide) ?_
        exact kx_lwF [(0, .int ((l0 / (100 : Int32)))), (2, va_rf (x2)), (5, .int (((l5 + (-1 : Int32)) + (-1 : Int32)))), (6, .int (v2))] ⟨rfl, rfl, rfl, rfl, trivial⟩ (hI22 _ _ _ h)
    · have h := w_ift c h
      refine kx_iload_n dJ10_getChars_2_19 rfl rfl ?_
      refine kx_ineg dJ10_getChars_2_20 ?_
      refine kx_istore_n dJ10_getChars_2_21 rfl (Nat.le_of_ble_eq_true rfl) ?_
      refine kx_lwF [(0, .int ((-x0))), (2, va_rf (x2)), (5, .int (x1)), (6, .int (v2))] ⟨rfl, rfl, rfl, rfl, trivial⟩ ?_
      refine loopW2_k (fun (σ : KHp) (l0 : Int32) (l5 : Int32) => kx G (yJ10_getChars_2.cls, cJ10_getChars_2, 7, (Option.some Jvm.ClassFile.FieldType.int), false, []) (3, 0, 0, Q1, X1) (0) (0) σ 22 (kF [(0, .int (l0)), (2, va_rf (x2)), (5, .int (l5)), (6, .int (v2))]) []) (fun kI22 hI22 σ l0 l5 h => ?_) 9000 σ3 (-x0) x1 h
      unfold WB_J10_getChars_2_22 at h
      refine kx_iload_n dJ10_getChars_2_22 rfl rfl ?_
      refine kx_bipush (v := -100) dJ10_getChars_2_23 (by decide) ?_
      refine kx_icmp_gt (tgt := 76) dJ10_getChars_2_25 (by decide) (fun c => ?_) (fun c => ?_)
      · have h := w_ift c h
        refine kx_aload_nO dJ10_getChars_2_76 rfl rfl ?_
        refine kx_iinc2 (v := -1) dJ10_getChars_2_77 rfl (by decide) ?_
        refine kx_iload dJ10_getChars_2_80 rfl ?_
        refine kx_gets dJ10_getChars_2_82 kt_java_lang_Integer_DigitOnes q455 (Or.inl rfl) ?_
        refine kx_iload_n dJ10_getChars_2_85 rfl rfl ?_
        refine kx_ineg dJ10_getChars_2_86 ?_
        refine kW_lB dJ10_getChars_2_87 h (fun v23001 h => ?_)
        refine kx_callS dJ10_getChars_2_88 lk_J10_111 (kw_J10_putChar h) rfl rfl (Nat.le_of_ble_eq_true rfl) (Nat.le_of_ble_eq_true rfl) (Nat.le_of_ble_eq_true rfl) (Nat.le_of_ble_eq_true rfl) (Nat.le_of_ble_eq_true rfl) (fun _ _ _ hx => kx_out rfl (hX _ _ _ hx)) (fun v_ σ23003 hq => ?_)
        obtain ⟨rfl, h⟩ := hq
        refine kx_iload_n dJ10_getChars_2_91 rfl rfl ?_
        refine kx_bipush (v := -9) dJ10_getChars_2_92 (by decide) ?_
        refine kx_icmp_ge (tgt := 112) dJ10_getChars_2_94 (by decide) (fun c => ?_) (fun c => ?_)
        · have h := w_ift c h
          refine kx_iload dJ10_getChars_2_112 rfl ?_
          refine kx_if_eq (tgt := 128) dJ10_getChars_2_114 (by decide) (fun c => ?_) (fun c => ?_)
          · have h := w_ift c h
            refine kx_iload dJ10_getChars_2_128 rfl ?_
            exact kx_iret dJ10_getChars_2_130 rfl (hQ _ _ ⟨_, rfl, h⟩)
          · have h := w_iff c h
            refine kx_aload_nO dJ10_getChars_2_117 rfl rfl ?_
            refine kx_iinc2 (v := -1) dJ10_getChars_2_118 rfl (by decide) ?_
            refine kx_iload dJ10_getChars_2_121 rfl ?_
            refine kx_bipush (v := 45) dJ10_getChars_2_123 (by decide) ?_
            refine kx_callS dJ10_getChars_2_125 lk_J10_111 (kw_J10_putChar h) rfl rfl (Nat.le_of_ble_eq_true rfl) (Nat.le_of_ble_eq_true rfl) (Nat.le_of_ble_eq_true rfl) (Nat.le_of_ble_eq_true rfl) (Nat.le_of_ble_eq_true rfl) (fun _ _ _ hx => kx_out rfl (hX _ _ _ hx)) (fun v_ σ23005 hq => ?_)
            obtain ⟨rfl, h⟩ := hq
            refine kx_iload dJ10_getChars_2_128 rfl ?_
            exact kx_iret dJ10_getChars_2_130 rfl (hQ _ _ ⟨_, rfl, h⟩)
        · have h := w_iff c h
          refine kx_aload_nO dJ10_getChars_2_97 rfl rfl ?_
          refine kx_iinc2 (v := -1) dJ10_getChars_2_98 rfl (by decide) ?_
          refine kx_iload dJ10_getChars_2_101 rfl ?_
          refine kx_gets dJ10_getChars_2_103 kt_java_lang_Integer_DigitTens q456 (Or.inl rfl) ?_
          refine kx_iload_n dJ10_getChars_2_106 rfl rfl ?_
          refine kx_ineg dJ10_getChars_2_107 ?_
          refine kW_lB dJ10_getChars_2_108 h (fun v23006 h => ?_)
          refine kx_callS dJ10_getChars_2_109 lk_J10_111 (kw_J10_putChar h) rfl rfl (Nat.le_of_ble_eq_true rfl) (Nat.le_of_ble_eq_true rfl) (Nat.le_of_ble_eq_true rfl) (Nat.le_of_ble_eq_true rfl) (Nat.le_of_ble_eq_true rfl) (fun _ _ _ hx => kx_out rfl (hX _ _ _ hx)) (fun v_ σ23008 hq => ?_)
          obtain ⟨rfl, h⟩ := hq
          refine kx_iload dJ10_getChars_2_112 rfl ?_
          refine kx_if_eq (tgt := 128) dJ10_getChars_2_114 (by decide) (fun c => ?_) (fun c => ?_)
          · have h := w_ift c h
            refine kx_iload dJ10_getChars_2_128 rfl ?_
            exact kx_iret dJ10_getChars_2_130 rfl (hQ _ _ ⟨_, rfl, h⟩)
          · have h := w_iff c h
            refine kx_aload_nO dJ10_getChars_2_117 rfl rfl ?_
            refine kx_iinc2 (v := -1) dJ10_getChars_2_118 rfl (by decide) ?_
            refine kx_iload dJ10_getChars_2_121 rfl ?_
            refine kx_bipush (v := 45) dJ10_getChars_2_123 (by decide) ?_
            refine kx_callS dJ10_getChars_2_125 lk_J10_111 (kw_J10_putChar h) rfl rfl (Nat.le_of_ble_eq_true rfl) (Nat.le_of_ble_eq_true rfl) (Nat.le_of_ble_eq_true rfl) (Nat.le_of_ble_eq_true rfl) (Nat.le_of_ble_eq_true rfl) (fun _ _ _ hx => kx_out rfl (hX _ _ _ hx)) (fun v_ σ23010 hq => ?_)
            obtain ⟨rfl, h⟩ := hq
            refine kx_iload dJ10_getChars_2_128 rfl ?_
            exact kx_iret dJ10_getChars_2_130 rfl (hQ _ _ ⟨_, rfl, h⟩)
      · have h := w_iff c h
        refine kx_iload_n dJ10_getChars_2_28 rfl rfl ?_
        refine kx_bipush (v := 100) dJ10_getChars_2_29 (by decide) ?_
        obtain ⟨hz, h⟩ := h
        refine kx_idiv dJ10_getChars_2_31 hz ?_
        refine kx_istore_n dJ10_getChars_2_32 rfl (Nat.le_of_ble_eq_true rfl) ?_
        refine kx_lwF [(0, .int (l0)), (2, va_rf (x2)), (3, .int ((l0 / (100 : Int32)))), (5, .int (l5)), (6, .int (v2))] (by cases x2 <;> exact ⟨rfl, rfl, rfl, rfl, rfl, trivial⟩) ?_
        refine kx_iload_n dJ10_getChars_2_33 rfl rfl ?_
        refine kx_bipush (v := 100) dJ10_getChars_2_34 (by decide) ?_
        refine kx_imul dJ10_getChars_2_36 ?_
        refine kx_iload_n dJ10_getChars_2_37 rfl rfl ?_
        refine kx_isub dJ10_getChars_2_38 ?_
        refine kx_istore dJ10_getChars_2_39 (Nat.le_of_ble_eq_true rfl) ?_
        refine kx_iload_n dJ10_getChars_2_41 rfl rfl ?_
        refine kx_istore_n dJ10_getChars_2_42 rfl (Nat.le_of_ble_eq_true rfl) ?_
        refine kx_aload_nO dJ10_getChars_2_43 rfl rfl ?_
        refine kx_iinc2 (v := -1) dJ10_getChars_2_44 rfl (by decide) ?_
        refine kx_iload dJ10_getChars_2_47 rfl ?_
        refine kx_gets dJ10_getChars_2_49 kt_java_lang_Integer_DigitOnes q455 (Or.inl rfl) ?_
        refine kx_iload dJ10_getChars_2_52 rfl ?_
        refine kW_lB dJ10_getChars_2_54 h (fun v23011 h => ?_)
        refine kx_callS dJ10_getChars_2_55 lk_J10_111 (kw_J10_putChar h) rfl rfl (Nat.le_of_ble_eq_true rfl) (Nat.le_of_ble_eq_true rfl) (Nat.le_of_ble_eq_true rfl) (Nat.le_of_ble_eq_true rfl) (Nat.le_of_ble_eq_true rfl) (fun _ _ _ hx => kx_out rfl (hX _ _ _ hx)) (fun v_ σ23013 hq => ?_)
        obtain ⟨rfl, h⟩ := hq
        refine kx_aload_nO dJ10_getChars_2_58 rfl rfl ?_
        refine kx_iinc2 (v := -1) dJ10_getChars_2_59 rfl (by decide) ?_
        refine kx_iload dJ10_getChars_2_62 rfl ?_
        refine kx_gets dJ10_getChars_2_64 kt_java_lang_Integer_DigitTens q456 (Or.inl rfl) ?_
        refine kx_iload dJ10_getChars_2_67 rfl ?_
        refine kW_lB dJ10_getChars_2_69 h (fun v23014 h => ?_)
        refine kx_callS dJ10_getChars_2_70 lk_J10_111 (kw_J10_putChar h) rfl rfl (Nat.le_of_ble_eq_true rfl) (Nat.le_of_ble_eq_true rfl) (Nat.le_of_ble_eq_true rfl) (Nat.le_of_ble_eq_true rfl) (Nat.le_of_ble_eq_true rfl) (fun _ _ _ hx => kx_out rfl (hX _ _ _ hx)) (fun v_ σ23016 hq => ?_)
        obtain ⟨rfl, h⟩ := hq
        refine kx_goto (tgt := 22) dJ10_getChars_2_73 (by decide) ?_
        exact kx_lwF [(0, .int ((l0 / (100 : Int32)))), (2, va_rf (x2)), (5, .int (((l5 + (-1 : Int32)) + (-1 : Int32)))), (6, .int (v2))] ⟨rfl, rfl, rfl, rfl, trivial⟩ (hI22 _ _ _ h)
  · skip
    refine kx_if_ge (tgt := 11) dJ10_getChars_2_4 (by decide) (fun c => ?_) (fun c => ?_)
    · have h := w_ift c h
      refine kx_iconst (v := 0) dJ10_getChars_2_11 (by decide) ?_
      exact jk1 _ _ h
    · have h := w_iff c h
      refine kx_iconst (v := 1) dJ10_getChars_2_7 (by decide) ?_
      refine kx_goto (tgt := 12) dJ10_getChars_2_8 (by decide) ?_
      exact jk1 _ _ h
set_option maxHeartbeats 8000000 in
theorem kw_J10_getChar {G : KG} {σ : KHp} {x0 : Option Nat} {x1 : Int32} {Q : Int32 → KHp → Prop} {X : String → Nat → KHp → Prop} (h : W_J10_getChar G σ x0 x1 Q X) : kx_c G yJ10_getChar (ws_ yJ10_getChar cJ10_getChar 2 (Option.some Jvm.ClassFile.FieldType.char)) 2 0 0 [va_rf (x0), .int (x1)] σ (fun rv σ' => ∃ r, rv = some (.int (r)) ∧ Q r σ') X := by
  refine kx_mk3 (ini := false) (by decide) (by cases x0 <;> exact Nat.le_of_ble_eq_true rfl) (fun h => by cases h) (fun Q1 X1 hQ hX => ?_)
  unfold W_J10_getChar at h
  refine kx_lwF [(0, va_rf (x0)), (1, .int (x1))] (by cases x0 <;> exact ⟨rfl, rfl, trivial⟩) ?_
  refine kx_gets dJ10_getChar_0 kt_java_lang_StringUTF16__assertionsDisabled q383 (Or.inl rfl) ?_
  refine kx_if_ne (tgt := 28) dJ10_getChar_3 (by decide) (fun c => ?_) (fun c => ?_)
  · have h := w_iff c h
    refine kx_iload_n dJ10_getChar_28 rfl rfl ?_
    refine kx_iconst (v := 1) dJ10_getChar_29 (by decide) ?_
    refine kx_ishl dJ10_getChar_30 ?_
    refine kx_istore_n dJ10_getChar_31 rfl (Nat.le_of_ble_eq_true rfl) ?_
    refine kx_lwF [(0, va_rf (x0)), (1, .int ((x1 <<< ((1 : Int32) &&& 31))))] (by cases x0 <;> exact ⟨rfl, rfl, trivial⟩) ?_
    refine kx_aload_nO dJ10_getChar_32 rfl rfl ?_
    refine kx_iload_n dJ10_getChar_33 rfl rfl ?_
    refine kx_iinc2 (v := 1) dJ10_getChar_34 rfl (by decide) ?_
    refine kx_lwF [(0, va_rf (x0)), (1, .int (((x1 <<< ((1 : Int32) &&& 31)) + (1 : Int32))))] (by cases x0 <;> exact ⟨rfl, rfl, trivial⟩) ?_
    obtain ⟨a1, rfl, hUa1⟩ := h
    have h := hUa1
    refine kW_lB dJ10_getChar_37 h (fun v2 h => ?_)
    refine kx_sipush (v := 255) dJ10_getChar_38 (by decide) ?_
    refine kx_iand dJ10_getChar_41 ?_
    refine kx_gets dJ10_getChar_42 kt_java_lang_StringUTF16_HI_BYTE_SHIFT q385 (Or.inl rfl) ?_
    refine kx_ishl dJ10_getChar_45 ?_
    refine kx_aload_n dJ10_getChar_46 rfl rfl ?_
    refine kx_iload_n dJ10_getChar_47 rfl rfl ?_
    refine kW_lB dJ10_getChar_48 h (fun v3 h => ?_)
    refine kx_sipush (v := 255) dJ10_getChar_49 (by decide) ?_
    refine kx_iand dJ10_getChar_52 ?_
    refine kx_gets dJ10_getChar_53 kt_java_lang_StringUTF16_LO_BYTE_SHIFT q387 (Or.inl rfl) ?_
    refine kx_ishl dJ10_getChar_56 ?_
    refine kx_ior dJ10_getChar_57 ?_
    refine kx_i2c dJ10_getChar_58 rfl ?_
    exact kx_zret dJ10_getChar_59 rfl h.1 (hQ _ _ ⟨_, rfl, h.2⟩)
  · have h := w_ift c h
    refine kx_iload_n dJ10_getChar_6 rfl rfl ?_
    refine kW_jN 10 [] h (fun σ6 h => ?_) (fun k4 jk4 h => ?_)
    · skip
      refine kx_iload_n dJ10_getChar_10 rfl rfl ?_
      refine kx_aload_nO dJ10_getChar_11 rfl rfl ?_
      refine kx_callS dJ10_getChar_12 lk_J10_48 (kw_J10_length h) rfl rfl (Nat.le_of_ble_eq_true rfl) (Nat.le_of_ble_eq_true rfl) (Nat.le_of_ble_eq_true rfl) (Nat.le_of_ble_eq_true rfl) (Nat.le_of_ble_eq_true rfl) (fun _ _ _ hx => kx_out rfl (hX _ _ _ hx)) (fun v_ σ8 hq => ?_)
      obtain ⟨v7, rfl, h⟩ := hq
      refine kx_icmp_lt (tgt := 28) dJ10_getChar_15 (by decide) (fun c => ?_) (fun c => ?_)
      · have h := w_ift c h
        refine kx_iload_n dJ10_getChar_28 rfl rfl ?_
        refine kx_iconst (v := 1) dJ10_getChar_29 (by decide) ?_
        refine kx_ishl dJ10_getChar_30 ?_
        refine kx_istore_n dJ10_getChar_31 rfl (Nat.le_of_ble_eq_true rfl) ?_
        refine kx_lwF [(0, va_rf (x0)), (1, .int ((x1 <<< ((1 : Int32) &&& 31))))] (by cases x0 <;> exact ⟨rfl, rfl, trivial⟩) ?_
        refine kx_aload_nO dJ10_getChar_32 rfl rfl ?_
        refine kx_iload_n dJ10_getChar_33 rfl rfl ?_
        refine kx_iinc2 (v := 1) dJ10_getChar_34 rfl (by decide) ?_
        refine kx_lwF [(0, va_rf (x0)), (1, .int (((x1 <<< ((1 : Int32) &&& 31)) + (1 : Int32))))] (by cases x0 <;> exact ⟨rfl, rfl, trivial⟩) ?_
        obtain ⟨a9, rfl, hUa9⟩ := h
        have h := hUa9
        refine kW_lB dJ10_getChar_37 h (fun v10 h => ?_)
        refine kx_sipush (v := 255) dJ10_getChar_38 (by decide) ?_
        refine kx_iand dJ10_getChar_41 ?_
        refine kx_gets dJ10_getChar_42 kt_java_lang_StringUTF16_HI_BYTE_SHIFT q385 (Or.inl rfl) ?_
        refine kx_ishl dJ10_getChar_45 ?_
        refine kx_aload_n dJ10_getChar_46 rfl rfl ?_
        refine kx_iload_n dJ10_getChar_47 rfl rfl ?_
        refine kW_lB dJ10_getChar_48 h (fun v11 h => ?_)
        refine kx_sipush (v := 255) dJ10_getChar_49 (by decide) ?_
        refine kx_iand dJ10_getChar_52 ?_
        refine kx_gets dJ10_getChar_53 kt_java_lang_StringUTF16_LO_BYTE_SHIFT q387 (Or.inl rfl) ?_
        refine kx_ishl dJ10_getChar_56 ?_
        refine kx_ior dJ10_getChar_57 ?_
        refine kx_i2c dJ10_getChar_58 rfl ?_
        exact kx_zret dJ10_getChar_59 rfl h.1 (hQ _ _ ⟨_, rfl, h.2⟩)
      · have h := w_iff c h
        exact h.elim
    · skip
      refine kx_if_lt (tgt := 18) dJ10_getChar_7 (by decide) (fun c => ?_) (fun c => ?_)
      · have h := w_ift c h
        exact h.elim
      · have h := w_iff c h
        exact jk4 _ h
set_option maxHeartbeats 8000000 in
theorem kw_J10_coderFromArrayLen {G : KG} {σ : KHp} {x0 : Option Nat} {x1 : Int32} {Q : Int32 → KHp → Prop} {X : String → Nat → KHp → Prop} (h : W_J10_coderFromArrayLen G σ x0 x1 Q X) : kx_c G yJ10_coderFromArrayLen (ws_ yJ10_coderFromArrayLen cJ10_coderFromArrayLen 2 (Option.some Jvm.ClassFile.FieldType.byte)) 1 0 0 [va_rf (x0), .int (x1)] σ (fun rv σ' => ∃ r, rv = some (.int (r)) ∧ Q r σ') X := by
  refine kx_mk3 (ini := false) (by decide) (by cases x0 <;> exact Nat.le_of_ble_eq_true rfl) (fun h => by cases h) (fun Q1 X1 hQ hX => ?_)
  unfold W_J10_coderFromArrayLen at h
  refine kx_lwF [(0, va_rf (x0)), (1, .int (x1))] (by cases x0 <;> exact ⟨rfl, rfl, trivial⟩) ?_
  refine kx_iload_n dJ10_coderFromArrayLen_0 rfl rfl ?_
  refine kx_aload_nO dJ10_coderFromArrayLen_1 rfl rfl ?_
  obtain ⟨a1, rfl, hUa1⟩ := h
  have h := hUa1
  refine kW_len dJ10_coderFromArrayLen_2 h (fun v2 h => ?_)
  refine kx_isub dJ10_coderFromArrayLen_3 ?_
  refine kx_bipush (v := 31) dJ10_coderFromArrayLen_4 (by decide) ?_
  refine kx_iushr dJ10_coderFromArrayLen_6 rfl ?_
  refine kx_i2b dJ10_coderFromArrayLen_7 rfl ?_
  exact kx_zret dJ10_coderFromArrayLen_8 rfl h.1 (hQ _ _ ⟨_, rfl, h.2⟩)
set_option maxHeartbeats 8000000 in
theorem kw_J11_signedHashCode {G : KG} {σ : KHp} {x0 : Int32} {x1 : Option Nat} {x2 : Int32} {x3 : Int32} {Q : Int32 → KHp → Prop} {X : String → Nat → KHp → Prop} (h : W_J11_signedHashCode G σ x0 x1 x2 x3 Q X) : kx_c G yJ11_signedHashCode (ws_ yJ11_signedHashCode cJ11_signedHashCode 6 (Option.some Jvm.ClassFile.FieldType.int)) 1 0 0 [.int (x0), va_rf (x1), .int (x2), .int (x3)] σ (fun rv σ' => ∃ r, rv = some (.int (r)) ∧ Q r σ') X := by
  refine kx_mk3 (ini := false) (by decide) (by cases x1 <;> exact Nat.le_of_ble_eq_true rfl) (fun h => by cases h) (fun Q1 X1 hQ hX => ?_)
  unfold W_J11_signedHashCode at h
  refine kx_lwF [(0, .int (x0)), (1, va_rf (x1)), (2, .int (x2)), (3, .int (x3))] (by cases x1 <;> exact ⟨rfl, rfl, rfl, rfl, trivial⟩) ?_
  refine kx_iload_n dJ11_signedHashCode_0 rfl rfl ?_
  refine kx_iload_n dJ11_signedHashCode_1 rfl rfl ?_
  refine kx_iadd dJ11_signedHashCode_2 ?_
  refine kx_istore dJ11_signedHashCode_3 (Nat.le_of_ble_eq_true rfl) ?_
  refine kx_iload_n dJ11_signedHashCode_5 rfl rfl ?_
  refine kx_istore dJ11_signedHashCode_6 (Nat.le_of_ble_eq_true rfl) ?_
  refine kx_lwF [(0, .int (x0)), (1, va_rf (x1)), (4, .int ((x2 + x3))), (5, .int (x2))] ⟨rfl, rfl, rfl, rfl, trivial⟩ ?_
  refine loopW2_k (fun (σ : KHp) (l0 : Int32) (l5 : Int32) => kx G (yJ11_signedHashCode.cls, cJ11_signedHashCode, 6, (Option.some Jvm.ClassFile.FieldType.int), false, []) (1, 0, 0, Q1, X1) (0) (0) σ 8 (kF [(0, .int (l0)), (1, va_rf (x1)), (4, .int ((x2 + x3))), (5, .int (l5))]) []) (fun kI8 hI8 σ l0 l5 h => ?_) 9000 σ x0 x2 h
  unfold WB_J11_signedHashCode_8 at h
  refine kx_iload dJ11_signedHashCode_8 rfl ?_
  refine kx_iload dJ11_signedHashCode_10 rfl ?_
  refine kx_icmp_ge (tgt := 35) dJ11_signedHashCode_12 (by decide) (fun c => ?_) (fun c => ?_)
  · have h := w_ift c h
    refine kx_iload_n dJ11_signedHashCode_35 rfl rfl ?_
    exact kx_iret dJ11_signedHashCode_36 rfl (hQ _ _ ⟨_, rfl, h⟩)
  · have h := w_iff c h
    refine kx_bipush (v := 31) dJ11_signedHashCode_15 (by decide) ?_
    refine kx_iload_n dJ11_signedHashCode_17 rfl rfl ?_
    refine kx_imul dJ11_signedHashCode_18 ?_
    refine kx_aload_nO dJ11_signedHashCode_19 rfl rfl ?_
    refine kx_iload dJ11_signedHashCode_20 rfl ?_
    obtain ⟨a9001, rfl, hUa9001⟩ := h
    have h := hUa9001
    refine kW_lB dJ11_signedHashCode_22 h (fun v9002 h => ?_)
    refine kx_sipush (v := 255) dJ11_signedHashCode_23 (by decide) ?_
    refine kx_iand dJ11_signedHashCode_26 ?_
    refine kx_iadd dJ11_signedHashCode_27 ?_
    refine kx_istore_n dJ11_signedHashCode_28 rfl (Nat.le_of_ble_eq_true rfl) ?_
    refine kx_iinc2 (v := 1) dJ11_signedHashCode_29 rfl (by decide) ?_
    refine kx_goto (tgt := 8) dJ11_signedHashCode_32 (by decide) ?_
    exact kx_lwF [(0, .int ((((31 : Int32) * l0) + (v9002 &&& (255 : Int32))))), (1, .ref (a9001)), (4, .int ((x2 + x3))), (5, .int ((l5 + (1 : Int32))))] ⟨rfl, rfl, rfl, rfl, trivial⟩ (hI8 _ _ _ h)
set_option maxHeartbeats 8000000 in
theorem kw_J11_utf16hashCode {G : KG} {σ : KHp} {x0 : Int32} {x1 : Option Nat} {x2 : Int32} {x3 : Int32} {Q : Int32 → KHp → Prop} {X : String → Nat → KHp → Prop} (h : W_J11_utf16hashCode G σ x0 x1 x2 x3 Q X) : kx_c G yJ11_utf16hashCode (ws_ yJ11_utf16hashCode cJ11_utf16hashCode 6 (Option.some Jvm.ClassFile.FieldType.int)) 1 0 0 [.int (x0), va_rf (x1), .int (x2), .int (x3)] σ (fun rv σ' => ∃ r, rv = some (.int (r)) ∧ Q r σ') X := by
  refine kx_mk3 (ini := false) (by decide) (by cases x1 <;> exact Nat.le_of_ble_eq_true rfl) (fun h => by cases h) (fun Q1 X1 hQ hX => ?_)
  unfold W_J11_utf16hashCode at h
  refine kx_lwF [(0, .int (x0)), (1, va_rf (x1)), (2, .int (x2)), (3, .int (x3))] (by cases x1 <;> exact ⟨rfl, rfl, rfl, rfl, trivial⟩) ?_
  refine kx_iload_n dJ11_utf16hashCode_0 rfl rfl ?_
  refine kx_iload_n dJ11_utf16hashCode_1 rfl rfl ?_
  refine kx_iadd dJ11_utf16hashCode_2 ?_
  refine kx_istore dJ11_utf16hashCode_3 (Nat.le_of_ble_eq_true rfl) ?_
  refine kx_iload_n dJ11_utf16hashCode_5 rfl rfl ?_
  refine kx_istore dJ11_utf16hashCode_6 (Nat.le_of_ble_eq_true rfl) ?_
  refine kx_lwF [(0, .int (x0)), (1, va_rf (x1)), (4, .int ((x2 + x3))), (5, .int (x2))] ⟨rfl, rfl, rfl, rfl, trivial⟩ ?_
  refine loopW2_k (fun (σ : KHp) (l0 : Int32) (l5 : Int32) => kx G (yJ11_utf16hashCode.cls, cJ11_utf16hashCode, 6, (Option.some Jvm.ClassFile.FieldType.int), false, []) (1, 0, 0, Q1, X1) (0) (0) σ 8 (kF [(0, .int (l0)), (1, va_rf (x1)), (4, .int ((x2 + x3))), (5, .int (l5))]) []) (fun kI8 hI8 σ l0 l5 h => ?_) 9000 σ x0 x2 h
  unfold WB_J11_utf16hashCode_8 at h
  refine kx_iload dJ11_utf16hashCode_8 rfl ?_
  refine kx_iload dJ11_utf16hashCode_10 rfl ?_
  refine kx_icmp_ge (tgt := 38) dJ11_utf16hashCode_12 (by decide) (fun c => ?_) (fun c => ?_)
  · have h := w_ift c h
    refine kx_iload_n dJ11_utf16hashCode_38 rfl rfl ?_
    exact kx_iret dJ11_utf16hashCode_39 rfl (hQ _ _ ⟨_, rfl, h⟩)
  · have h := w_iff c h
    refine kx_bipush (v := 31) dJ11_utf16hashCode_15 (by decide) ?_
    refine kx_iload_n dJ11_utf16hashCode_17 rfl rfl ?_
    refine kx_imul dJ11_utf16hashCode_18 ?_
    refine kx_gets dJ11_utf16hashCode_19 kt_jdk_internal_util_ArraysSupport_JLA q1092 (Or.inl rfl) ?_
    refine kx_aload_nO dJ11_utf16hashCode_22 rfl rfl ?_
    refine kx_iload dJ11_utf16hashCode_23 rfl ?_
    exact h.elim
set_option maxHeartbeats 8000000 in
theorem kw_J11_hashCode {G : KG} {σ : KHp} {x0 : Int32} {x1 : Option Nat} {x2 : Int32} {x3 : Int32} {Q : Int32 → KHp → Prop} {X : String → Nat → KHp → Prop} (h : W_J11_hashCode G σ x0 x1 x2 x3 Q X) : kx_c G yJ11_hashCode (ws_ yJ11_hashCode cJ11_hashCode 6 (Option.some Jvm.ClassFile.FieldType.int)) 1 0 0 [.int (x0), va_rf (x1), .int (x2), .int (x3)] σ (fun rv σ' => ∃ r, rv = some (.int (r)) ∧ Q r σ') X := by
  refine kx_mk3 (ini := false) (by decide) (by cases x1 <;> exact Nat.le_of_ble_eq_true rfl) (fun h => by cases h) (fun Q1 X1 hQ hX => ?_)
  unfold W_J11_hashCode at h
  refine kx_lwF [(0, .int (x0)), (1, va_rf (x1)), (2, .int (x2)), (3, .int (x3))] (by cases x1 <;> exact ⟨rfl, rfl, rfl, rfl, trivial⟩) ?_
  refine kx_iload_n dJ11_hashCode_0 rfl rfl ?_
  refine kx_iload_n dJ11_hashCode_1 rfl rfl ?_
  refine kx_iadd dJ11_hashCode_2 ?_
  refine kx_istore dJ11_hashCode_3 (Nat.le_of_ble_eq_true rfl) ?_
  refine kx_iload_n dJ11_hashCode_5 rfl rfl ?_
  refine kx_istore dJ11_hashCode_6 (Nat.le_of_ble_eq_true rfl) ?_
  refine kx_lwF [(0, .int (x0)), (1, va_rf (x1)), (4, .int ((x2 + x3))), (5, .int (x2))] ⟨rfl, rfl, rfl, rfl, trivial⟩ ?_
  refine loopW2_k (fun (σ : KHp) (l0 : Int32) (l5 : Int32) => kx G (yJ11_hashCode.cls, cJ11_hashCode, 6, (Option.some Jvm.ClassFile.FieldType.int), false, []) (1, 0, 0, Q1, X1) (0) (0) σ 8 (kF [(0, .int (l0)), (1, va_rf (x1)), (4, .int ((x2 + x3))), (5, .int (l5))]) []) (fun kI8 hI8 σ l0 l5 h => ?_) 9000 σ x0 x2 h
  unfold WB_J11_hashCode_8 at h
  refine kx_iload dJ11_hashCode_8 rfl ?_
  refine kx_iload dJ11_hashCode_10 rfl ?_
  refine kx_icmp_ge (tgt := 31) dJ11_hashCode_12 (by decide) (fun c => ?_) (fun c => ?_)
  · have h := w_ift c h
    refine kx_iload_n dJ11_hashCode_31 rfl rfl ?_
    exact kx_iret dJ11_hashCode_32 rfl (hQ _ _ ⟨_, rfl, h⟩)
  · have h := w_iff c h
    refine kx_bipush (v := 31) dJ11_hashCode_15 (by decide) ?_
    refine kx_iload_n dJ11_hashCode_17 rfl rfl ?_
    refine kx_imul dJ11_hashCode_18 ?_
    refine kx_aload_nO dJ11_hashCode_19 rfl rfl ?_
    refine kx_iload dJ11_hashCode_20 rfl ?_
    exact h.elim
set_option maxHeartbeats 8000000 in
theorem kw_J11_hashCode_2 {G : KG} {σ : KHp} {x0 : Int32} {x1 : Option Nat} {x2 : Int32} {x3 : Int32} {Q : Int32 → KHp → Prop} {X : String → Nat → KHp → Prop} (h : W_J11_hashCode_2 G σ x0 x1 x2 x3 Q X) : kx_c G yJ11_hashCode_2 (ws_ yJ11_hashCode_2 cJ11_hashCode_2 6 (Option.some Jvm.ClassFile.FieldType.int)) 1 0 0 [.int (x0), va_rf (x1), .int (x2), .int (x3)] σ (fun rv σ' => ∃ r, rv = some (.int (r)) ∧ Q r σ') X := by
  refine kx_mk3 (ini := false) (by decide) (by cases x1 <;> exact Nat.le_of_ble_eq_true rfl) (fun h => by cases h) (fun Q1 X1 hQ hX => ?_)
  unfold W_J11_hashCode_2 at h
  refine kx_lwF [(0, .int (x0)), (1, va_rf (x1)), (2, .int (x2)), (3, .int (x3))] (by cases x1 <;> exact ⟨rfl, rfl, rfl, rfl, trivial⟩) ?_
  refine kx_iload_n dJ11_hashCode_2_0 rfl rfl ?_
  refine kx_iload_n dJ11_hashCode_2_1 rfl rfl ?_
  refine kx_iadd dJ11_hashCode_2_2 ?_
  refine kx_istore dJ11_hashCode_2_3 (Nat.le_of_ble_eq_true rfl) ?_
  refine kx_iload_n dJ11_hashCode_2_5 rfl rfl ?_
  refine kx_istore dJ11_hashCode_2_6 (Nat.le_of_ble_eq_true rfl) ?_
  refine kx_lwF [(0, .int (x0)), (1, va_rf (x1)), (4, .int ((x2 + x3))), (5, .int (x2))] ⟨rfl, rfl, rfl, rfl, trivial⟩ ?_
  refine loopW2_k (fun (σ : KHp) (l0 : Int32) (l5 : Int32) => kx G (yJ11_hashCode_2.cls, cJ11_hashCode_2, 6, (Option.some Jvm.ClassFile.FieldType.int), false, []) (1, 0, 0, Q1, X1) (0) (0) σ 8 (kF [(0, .int (l0)), (1, va_rf (x1)), (4, .int ((x2 + x3))), (5, .int (l5))]) []) (fun kI8 hI8 σ l0 l5 h => ?_) 9000 σ x0 x2 h
  unfold WB_J11_hashCode_2_8 at h
  refine kx_iload dJ11_hashCode_2_8 rfl ?_
  refine kx_iload dJ11_hashCode_2_10 rfl ?_
  refine kx_icmp_ge (tgt := 31) dJ11_hashCode_2_12 (by decide) (fun c => ?_) (fun c => ?_)
  · have h := w_ift c h
    refine kx_iload_n dJ11_hashCode_2_31 rfl rfl ?_
    exact kx_iret dJ11_hashCode_2_32 rfl (hQ _ _ ⟨_, rfl, h⟩)
  · have h := w_iff c h
    refine kx_bipush (v := 31) dJ11_hashCode_2_15 (by decide) ?_
    refine kx_iload_n dJ11_hashCode_2_17 rfl rfl ?_
    refine kx_imul dJ11_hashCode_2_18 ?_
    refine kx_aload_nO dJ11_hashCode_2_19 rfl rfl ?_
    refine kx_iload dJ11_hashCode_2_20 rfl ?_
    obtain ⟨a9001, rfl, hUa9001⟩ := h
    have h := hUa9001
    refine kW_lB dJ11_hashCode_2_22 h (fun v9002 h => ?_)
    refine kx_iadd dJ11_hashCode_2_23 ?_
    refine kx_istore_n dJ11_hashCode_2_24 rfl (Nat.le_of_ble_eq_true rfl) ?_
    refine kx_iinc2 (v := 1) dJ11_hashCode_2_25 rfl (by decide) ?_
    refine kx_goto (tgt := 8) dJ11_hashCode_2_28 (by decide) ?_
    exact kx_lwF [(0, .int ((((31 : Int32) * l0) + v9002))), (1, .ref (a9001)), (4, .int ((x2 + x3))), (5, .int ((l5 + (1 : Int32))))] ⟨rfl, rfl, rfl, rfl, trivial⟩ (hI8 _ _ _ h)
set_option maxHeartbeats 8000000 in
theorem kw_J11_hashCode_3 {G : KG} {σ : KHp} {x0 : Int32} {x1 : Option Nat} {x2 : Int32} {x3 : Int32} {Q : Int32 → KHp → Prop} {X : String → Nat → KHp → Prop} (h : W_J11_hashCode_3 G σ x0 x1 x2 x3 Q X) : kx_c G yJ11_hashCode_3 (ws_ yJ11_hashCode_3 cJ11_hashCode_3 6 (Option.some Jvm.ClassFile.FieldType.int)) 1 0 0 [.int (x0), va_rf (x1), .int (x2), .int (x3)] σ (fun rv σ' => ∃ r, rv = some (.int (r)) ∧ Q r σ') X := by
  refine kx_mk3 (ini := false) (by decide) (by cases x1 <;> exact Nat.le_of_ble_eq_true rfl) (fun h => by cases h) (fun Q1 X1 hQ hX => ?_)
  unfold W_J11_hashCode_3 at h
  refine kx_lwF [(0, .int (x0)), (1, va_rf (x1)), (2, .int (x2)), (3, .int (x3))] (by cases x1 <;> exact ⟨rfl, rfl, rfl, rfl, trivial⟩) ?_
  refine kx_iload_n dJ11_hashCode_3_0 rfl rfl ?_
  refine kx_iload_n dJ11_hashCode_3_1 rfl rfl ?_
  refine kx_iadd dJ11_hashCode_3_2 ?_
  refine kx_istore dJ11_hashCode_3_3 (Nat.le_of_ble_eq_true rfl) ?_
  refine kx_iload_n dJ11_hashCode_3_5 rfl rfl ?_
  refine kx_istore dJ11_hashCode_3_6 (Nat.le_of_ble_eq_true rfl) ?_
  refine kx_lwF [(0, .int (x0)), (1, va_rf (x1)), (4, .int ((x2 + x3))), (5, .int (x2))] ⟨rfl, rfl, rfl, rfl, trivial⟩ ?_
  refine loopW2_k (fun (σ : KHp) (l0 : Int32) (l5 : Int32) => kx G (yJ11_hashCode_3.cls, cJ11_hashCode_3, 6, (Option.some Jvm.ClassFile.FieldType.int), false, []) (1, 0, 0, Q1, X1) (0) (0) σ 8 (kF [(0, .int (l0)), (1, va_rf (x1)), (4, .int ((x2 + x3))), (5, .int (l5))]) []) (fun kI8 hI8 σ l0 l5 h => ?_) 9000 σ x0 x2 h
  unfold WB_J11_hashCode_3_8 at h
  refine kx_iload dJ11_hashCode_3_8 rfl ?_
  refine kx_iload dJ11_hashCode_3_10 rfl ?_
  refine kx_icmp_ge (tgt := 31) dJ11_hashCode_3_12 (by decide) (fun c => ?_) (fun c => ?_)
  · have h := w_ift c h
    refine kx_iload_n dJ11_hashCode_3_31 rfl rfl ?_
    exact kx_iret dJ11_hashCode_3_32 rfl (hQ _ _ ⟨_, rfl, h⟩)
  · have h := w_iff c h
    refine kx_bipush (v := 31) dJ11_hashCode_3_15 (by decide) ?_
    refine kx_iload_n dJ11_hashCode_3_17 rfl rfl ?_
    refine kx_imul dJ11_hashCode_3_18 ?_
    refine kx_aload_nO dJ11_hashCode_3_19 rfl rfl ?_
    refine kx_iload dJ11_hashCode_3_20 rfl ?_
    exact h.elim
set_option maxHeartbeats 8000000 in
theorem kw_J11_hashCode_4 {G : KG} {σ : KHp} {x0 : Int32} {x1 : Option Nat} {x2 : Int32} {x3 : Int32} {Q : Int32 → KHp → Prop} {X : String → Nat → KHp → Prop} (h : W_J11_hashCode_4 G σ x0 x1 x2 x3 Q X) : kx_c G yJ11_hashCode_4 (ws_ yJ11_hashCode_4 cJ11_hashCode_4 6 (Option.some Jvm.ClassFile.FieldType.int)) 1 0 0 [.int (x0), va_rf (x1), .int (x2), .int (x3)] σ (fun rv σ' => ∃ r, rv = some (.int (r)) ∧ Q r σ') X := by
  refine kx_mk3 (ini := false) (by decide) (by cases x1 <;> exact Nat.le_of_ble_eq_true rfl) (fun h => by cases h) (fun Q1 X1 hQ hX => ?_)
  unfold W_J11_hashCode_4 at h
  refine kx_lwF [(0, .int (x0)), (1, va_rf (x1)), (2, .int (x2)), (3, .int (x3))] (by cases x1 <;> exact ⟨rfl, rfl, rfl, rfl, trivial⟩) ?_
  refine kx_iload_n dJ11_hashCode_4_0 rfl rfl ?_
  refine kx_iload_n dJ11_hashCode_4_1 rfl rfl ?_
  refine kx_iadd dJ11_hashCode_4_2 ?_
  refine kx_istore dJ11_hashCode_4_3 (Nat.le_of_ble_eq_true rfl) ?_
  refine kx_iload_n dJ11_hashCode_4_5 rfl rfl ?_
  refine kx_istore dJ11_hashCode_4_6 (Nat.le_of_ble_eq_true rfl) ?_
  refine kx_lwF [(0, .int (x0)), (1, va_rf (x1)), (4, .int ((x2 + x3))), (5, .int (x2))] ⟨rfl, rfl, rfl, rfl, trivial⟩ ?_
  refine loopW2_k (fun (σ : KHp) (l0 : Int32) (l5 : Int32) => kx G (yJ11_hashCode_4.cls, cJ11_hashCode_4, 6, (Option.some Jvm.ClassFile.FieldType.int), false, []) (1, 0, 0, Q1, X1) (0) (0) σ 8 (kF [(0, .int (l0)), (1, va_rf (x1)), (4, .int ((x2 + x3))), (5, .int (l5))]) []) (fun kI8 hI8 σ l0 l5 h => ?_) 9000 σ x0 x2 h
  unfold WB_J11_hashCode_4_8 at h
  refine kx_iload dJ11_hashCode_4_8 rfl ?_
  refine kx_iload dJ11_hashCode_4_10 rfl ?_
  refine kx_icmp_ge (tgt := 31) dJ11_hashCode_4_12 (by decide) (fun c => ?_) (fun c => ?_)
  · have h := w_ift c h
    refine kx_iload_n dJ11_hashCode_4_31 rfl rfl ?_
    exact kx_iret dJ11_hashCode_4_32 rfl (hQ _ _ ⟨_, rfl, h⟩)
  · have h := w_iff c h
    refine kx_bipush (v := 31) dJ11_hashCode_4_15 (by decide) ?_
    refine kx_iload_n dJ11_hashCode_4_17 rfl rfl ?_
    refine kx_imul dJ11_hashCode_4_18 ?_
    refine kx_aload_nO dJ11_hashCode_4_19 rfl rfl ?_
    refine kx_iload dJ11_hashCode_4_20 rfl ?_
    obtain ⟨a9001, rfl, hUa9001⟩ := h
    have h := hUa9001
    refine kW_lI dJ11_hashCode_4_22 h (fun v9002 h => ?_)
    refine kx_iadd dJ11_hashCode_4_23 ?_
    refine kx_istore_n dJ11_hashCode_4_24 rfl (Nat.le_of_ble_eq_true rfl) ?_
    refine kx_iinc2 (v := 1) dJ11_hashCode_4_25 rfl (by decide) ?_
    refine kx_goto (tgt := 8) dJ11_hashCode_4_28 (by decide) ?_
    exact kx_lwF [(0, .int ((((31 : Int32) * l0) + v9002))), (1, .ref (a9001)), (4, .int ((x2 + x3))), (5, .int ((l5 + (1 : Int32))))] ⟨rfl, rfl, rfl, rfl, trivial⟩ (hI8 _ _ _ h)
set_option maxHeartbeats 8000000 in
theorem kw_J12_max {G : KG} {σ : KHp} {x0 : Int32} {x1 : Int32} {Q : Int32 → KHp → Prop} {X : String → Nat → KHp → Prop} (h : W_J12_max G σ x0 x1 Q X) : kx_c G yJ12_max (ws_ yJ12_max cJ12_max 2 (Option.some Jvm.ClassFile.FieldType.int)) 1 0 0 [.int (x0), .int (x1)] σ (fun rv σ' => ∃ r, rv = some (.int (r)) ∧ Q r σ') X := by
  refine kx_mk3F (ini := false) (by decide +kernel) (Nat.le_of_ble_eq_true rfl) (fun h => by cases h) (fun Q1 X1 hQ hX => ?_)
  unfold W_J12_max at h
  refine kx_iload_n dJ12_max_0 rfl rfl ?_
  refine kx_iload_n dJ12_max_1 rfl rfl ?_
  refine kW_jI 10 [] h (fun v2 σ3 h => ?_) (fun k1 jk1 h => ?_)
  · skip
    exact kx_iret dJ12_max_10 rfl (hQ _ _ ⟨_, rfl, h⟩)
  · skip
    refine kx_icmp_lt (tgt := 9) dJ12_max_2 (by decide) (fun c => ?_) (fun c => ?_)
    · have h := w_ift c h
      refine kx_iload_n dJ12_max_9 rfl rfl ?_
      exact jk1 _ _ h
    · have h := w_iff c h
      refine kx_iload_n dJ12_max_5 rfl rfl ?_
      refine kx_goto (tgt := 10) dJ12_max_6 (by decide) ?_
      exact jk1 _ _ h
set_option maxHeartbeats 8000000 in
theorem kw_J12_min {G : KG} {σ : KHp} {x0 : Int32} {x1 : Int32} {Q : Int32 → KHp → Prop} {X : String → Nat → KHp → Prop} (h : W_J12_min G σ x0 x1 Q X) : kx_c G yJ12_min (ws_ yJ12_min cJ12_min 2 (Option.some Jvm.ClassFile.FieldType.int)) 1 0 0 [.int (x0), .int (x1)] σ (fun rv σ' => ∃ r, rv = some (.int (r)) ∧ Q r σ') X := by
  refine kx_mk3F (ini := false) (by decide +kernel) (Nat.le_of_ble_eq_true rfl) (fun h => by cases h) (fun Q1 X1 hQ hX => ?_)
  unfold W_J12_min at h
  refine kx_iload_n dJ12_min_0 rfl rfl ?_
  refine kx_iload_n dJ12_min_1 rfl rfl ?_
  refine kW_jI 10 [] h (fun v2 σ3 h => ?_) (fun k1 jk1 h => ?_)
  · skip
    exact kx_iret dJ12_min_10 rfl (hQ _ _ ⟨_, rfl, h⟩)
  · skip
    refine kx_icmp_gt (tgt := 9) dJ12_min_2 (by decide) (fun c => ?_) (fun c => ?_)
    · have h := w_ift c h
      refine kx_iload_n dJ12_min_9 rfl rfl ?_
      exact jk1 _ _ h
    · have h := w_iff c h
      refine kx_iload_n dJ12_min_5 rfl rfl ?_
      refine kx_goto (tgt := 10) dJ12_min_6 (by decide) ?_
      exact jk1 _ _ h
set_option maxHeartbeats 8000000 in
theorem kw_J13_copyOf {G : KG} {bc bs : Nat} {σ : KHp} {x0 : Option Nat} {x1 : Int32} {Q : Option Nat → KHp → Prop} {X : String → Nat → KHp → Prop} (h : W_J13_copyOf G bc bs σ x0 x1 Q X) : kx_c G yJ13_copyOf (ws_ yJ13_copyOf cJ13_copyOf 3 (Option.some (Jvm.ClassFile.FieldType.array Jvm.ClassFile.FieldType.byte))) 2 bc bs [va_rf (x0), .int (x1)] σ (fun rv σ' => ∃ r, rv = some (va_rf (r)) ∧ Q r σ') X := by
  refine kx_mk3 (ini := false) (by decide) (by cases x0 <;> exact Nat.le_of_ble_eq_true rfl) (fun h => by cases h) (fun Q1 X1 hQ hX => ?_)
  unfold W_J13_copyOf at h
  refine kx_lwF [(0, va_rf (x0)), (1, .int (x1))] (by cases x0 <;> exact ⟨rfl, rfl, trivial⟩) ?_
  refine kx_iload_n dJ13_copyOf_0 rfl rfl ?_
  refine kx_aload_nO dJ13_copyOf_1 rfl rfl ?_
  obtain ⟨a1, rfl, hUa1⟩ := h
  have h := hUa1
  refine kW_len dJ13_copyOf_2 h (fun v2 h => ?_)
  refine kx_icmp_ne (tgt := 14) dJ13_copyOf_3 (by decide) (fun c => ?_) (fun c => ?_)
  · have h := w_iff c h
    refine kx_iload_n dJ13_copyOf_14 rfl rfl ?_
    refine kW_newa dJ13_copyOf_15 rfl q310 (fun _ _ => rfl) h (fun n5 q3 σ4 h => ?_)
    refine kx_astore_n dJ13_copyOf_17 rfl (Nat.le_of_ble_eq_true rfl) ?_
    refine kx_aload_n dJ13_copyOf_18 rfl rfl ?_
    refine kx_iconst (v := 0) dJ13_copyOf_19 (by decide) ?_
    refine kx_aload_n dJ13_copyOf_20 rfl rfl ?_
    refine kx_iconst (v := 0) dJ13_copyOf_21 (by decide) ?_
    refine kx_aload_n dJ13_copyOf_22 rfl rfl ?_
    refine kW_len dJ13_copyOf_23 h (fun v6 h => ?_)
    refine kx_iload_n dJ13_copyOf_24 rfl rfl ?_
    refine kx_callS dJ13_copyOf_25 lk_J13_304 (kw_J12_min h) rfl rfl (Nat.le_of_ble_eq_true rfl) (Nat.le_of_ble_eq_true rfl) (Nat.le_of_ble_eq_true rfl) (Nat.le_of_ble_eq_true rfl) (Nat.le_of_ble_eq_true rfl) (fun _ _ _ hx => kx_out rfl (hX _ _ _ hx)) (fun v_ σ8 hq => ?_)
    obtain ⟨v7, rfl, h⟩ := hq
    refine kW_cpy dJ13_copyOf_28 ⟨q355, q357, q356, q160⟩ (Nat.le_of_ble_eq_true rfl) (Nat.le_of_ble_eq_true rfl) h (fun σ9 h => ?_)
    refine kx_aload_n dJ13_copyOf_31 rfl rfl ?_
    exact kx_aret dJ13_copyOf_32 rfl (Or.inr ⟨_, rfl⟩) (Or.inr ⟨_, rfl⟩) (hQ _ _ ⟨some _, rfl, h⟩)
  · have h := w_ift c h
    refine kx_aload_n dJ13_copyOf_6 rfl rfl ?_
    refine kW_clB dJ13_copyOf_7 q345 q346 q347 q348 q349 q350 (Nat.le_of_ble_eq_true rfl) (Nat.le_of_ble_eq_true rfl) h (fun n12 q10 σ11 h => ?_)
    obtain ⟨⟨ta, tya, xa, hra, hna⟩, h⟩ := h
    refine kx_castA dJ13_copyOf_10 hra hna q351 ?_
    exact kx_aret dJ13_copyOf_13 rfl (Or.inr ⟨_, rfl⟩) (Or.inr ⟨_, rfl⟩) (hQ _ _ ⟨some _, rfl, h⟩)
set_option maxHeartbeats 8000000 in
theorem kw_J13_checkLength {G : KG} {σ : KHp} {x0 : Int32} {x1 : Int32} {Q : KHp → Prop} {X : String → Nat → KHp → Prop} (h : W_J13_checkLength G σ x0 x1 Q X) : kx_c G yJ13_checkLength (ws_ yJ13_checkLength cJ13_checkLength 2 (Option.none : Option Jvm.ClassFile.FieldType)) 1 0 0 [.int (x0), .int (x1)] σ (fun rv σ' => rv = none ∧ Q σ') X := by
  refine kx_mk3 (ini := false) (by decide) (Nat.le_of_ble_eq_true rfl) (fun h => by cases h) (fun Q1 X1 hQ hX => ?_)
  unfold W_J13_checkLength at h
  refine kx_iload_n dJ13_checkLength_0 rfl rfl ?_
  refine kx_iload_n dJ13_checkLength_1 rfl rfl ?_
  refine kx_icmp_ge (tgt := 37) dJ13_checkLength_2 (by decide) (fun c => ?_) (fun c => ?_)
  · have h := w_ift c h
    exact kx_vret dJ13_checkLength_37 rfl (hQ _ _ ⟨rfl, h⟩)
  · have h := w_iff c h
    exact h.elim
set_option maxHeartbeats 8000000 in
theorem kw_J13_copyOf_3 {G : KG} {bc bs : Nat} {σ : KHp} {x0 : Option Nat} {x1 : Int32} {x2 : Option Nat} {Q : Option Nat → KHp → Prop} {X : String → Nat → KHp → Prop} (h : W_J13_copyOf_3 G bc bs σ x0 x1 x2 Q X) : kx_c G yJ13_copyOf_3 (ws_ yJ13_copyOf_3 cJ13_copyOf_3 4 (Option.some (Jvm.ClassFile.FieldType.array (Jvm.ClassFile.FieldType.object "java/lang/Object")))) 2 bc bs [va_rf (x0), .int (x1), va_rf (x2)] σ (fun rv σ' => ∃ r, rv = some (va_rf (r)) ∧ Q r σ') X := by
  refine kx_mk3 (ini := false) (by decide) (by cases x0 <;> cases x2 <;> exact Nat.le_of_ble_eq_true rfl) (fun h => by cases h) (fun Q1 X1 hQ hX => ?_)
  unfold W_J13_copyOf_3 at h
  refine kx_lwF [(0, va_rf (x0)), (1, .int (x1)), (2, va_rf (x2))] (by cases x0 <;> cases x2 <;> exact ⟨rfl, rfl, rfl, trivial⟩) ?_
  refine kx_aload_nO dJ13_copyOf_3_0 rfl rfl ?_
  refine kx_ldcM dJ13_copyOf_3_1 q814 km__Ljava_lang_Object_ ?_
  refine kx_acmp_ne (rx := (x2)) (ry := (some (kx_K G 300))) (tgt := 13) dJ13_copyOf_3_3 (by decide) (fun c => ?_) (fun c => ?_)
  · have h := w_iff c h
    refine kx_aload_nO dJ13_copyOf_3_13 rfl rfl ?_
    exact h.elim
  · have h := w_ift c h
    refine kx_iload_n dJ13_copyOf_3_6 rfl rfl ?_
    refine kW_newq dJ13_copyOf_3_7 q815 q229 h (fun n3 q1 σ2 h => ?_)
    refine kx_goto (tgt := 24) dJ13_copyOf_3_10 (by decide) ?_
    refine kx_astore_n dJ13_copyOf_3_24 rfl (Nat.le_of_ble_eq_true rfl) ?_
    refine kx_aload_nO dJ13_copyOf_3_25 rfl rfl ?_
    refine kx_iconst (v := 0) dJ13_copyOf_3_26 (by decide) ?_
    refine kx_aload_n dJ13_copyOf_3_27 rfl rfl ?_
    refine kx_iconst (v := 0) dJ13_copyOf_3_28 (by decide) ?_
    refine kx_aload_nO dJ13_copyOf_3_29 rfl rfl ?_
    obtain ⟨a4, rfl, hUa4⟩ := h
    have h := hUa4
    refine kW_len dJ13_copyOf_3_30 h (fun v5 h => ?_)
    refine kx_iload_n dJ13_copyOf_3_31 rfl rfl ?_
    refine kx_callS dJ13_copyOf_3_32 lk_J13_304 (kw_J12_min h) rfl rfl (Nat.le_of_ble_eq_true rfl) (Nat.le_of_ble_eq_true rfl) (Nat.le_of_ble_eq_true rfl) (Nat.le_of_ble_eq_true rfl) (Nat.le_of_ble_eq_true rfl) (fun _ _ _ hx => kx_out rfl (hX _ _ _ hx)) (fun v_ σ7 hq => ?_)
    obtain ⟨v6, rfl, h⟩ := hq
    refine kW_cpy dJ13_copyOf_3_35 ⟨q355, q357, q356, q160⟩ (Nat.le_of_ble_eq_true rfl) (Nat.le_of_ble_eq_true rfl) h (fun σ8 h => ?_)
    refine kx_aload_n dJ13_copyOf_3_38 rfl rfl ?_
    exact kx_aret dJ13_copyOf_3_39 rfl (Or.inr ⟨_, rfl⟩) (Or.inr ⟨_, rfl⟩) (hQ _ _ ⟨some _, rfl, h⟩)
set_option maxHeartbeats 8000000 in
theorem kw_J13_rangeCheck {G : KG} {σ : KHp} {x0 : Int32} {x1 : Int32} {x2 : Int32} {Q : KHp → Prop} {X : String → Nat → KHp → Prop} (h : W_J13_rangeCheck G σ x0 x1 x2 Q X) : kx_c G yJ13_rangeCheck (ws_ yJ13_rangeCheck cJ13_rangeCheck 3 (Option.none : Option Jvm.ClassFile.FieldType)) 1 0 0 [.int (x0), .int (x1), .int (x2)] σ (fun rv σ' => rv = none ∧ Q σ') X := by
  refine kx_mk3 (ini := false) (by decide) (Nat.le_of_ble_eq_true rfl) (fun h => by cases h) (fun Q1 X1 hQ hX => ?_)
  unfold W_J13_rangeCheck at h
  refine kx_iload_n dJ13_rangeCheck_0 rfl rfl ?_
  refine kx_iload_n dJ13_rangeCheck_1 rfl rfl ?_
  refine kx_icmp_le (tgt := 46) dJ13_rangeCheck_2 (by decide) (fun c => ?_) (fun c => ?_)
  · have h := w_ift c h
    refine kx_iload_n dJ13_rangeCheck_46 rfl rfl ?_
    refine kx_if_ge (tgt := 59) dJ13_rangeCheck_47 (by decide) (fun c => ?_) (fun c => ?_)
    · have h := w_ift c h
      refine kx_iload_n dJ13_rangeCheck_59 rfl rfl ?_
      refine kx_iload_n dJ13_rangeCheck_60 rfl rfl ?_
      refine kx_icmp_le (tgt := 73) dJ13_rangeCheck_61 (by decide) (fun c => ?_) (fun c => ?_)
      · have h := w_ift c h
        exact kx_vret dJ13_rangeCheck_73 rfl (hQ _ _ ⟨rfl, h⟩)
      · have h := w_iff c h
        exact h.elim
    · have h := w_iff c h
      exact h.elim
  · have h := w_iff c h
    exact h.elim
set_option maxHeartbeats 8000000 in
theorem kw_J14_checkFromToIndex {G : KG} {σ : KHp} {x0 : Int32} {x1 : Int32} {x2 : Int32} {x3 : Option Nat} {Q : Int32 → KHp → Prop} {X : String → Nat → KHp → Prop} (h : W_J14_checkFromToIndex G σ x0 x1 x2 x3 Q X) : kx_c G yJ14_checkFromToIndex (ws_ yJ14_checkFromToIndex cJ14_checkFromToIndex 4 (Option.some Jvm.ClassFile.FieldType.int)) 1 0 0 [.int (x0), .int (x1), .int (x2), va_rf (x3)] σ (fun rv σ' => ∃ r, rv = some (.int (r)) ∧ Q r σ') X := by
  refine kx_mk3 (ini := false) (by decide) (by cases x3 <;> exact Nat.le_of_ble_eq_true rfl) (fun h => by cases h) (fun Q1 X1 hQ hX => ?_)
  unfold W_J14_checkFromToIndex at h
  refine kx_lwF [(0, .int (x0)), (1, .int (x1)), (2, .int (x2)), (3, va_rf (x3))] (by cases x3 <;> exact ⟨rfl, rfl, rfl, rfl, trivial⟩) ?_
  refine kx_iload_n dJ14_checkFromToIndex_0 rfl rfl ?_
  refine kW_jN 4 [] h (fun σ3 h => ?_) (fun k1 jk1 h => ?_)
  · skip
    refine kx_iload_n dJ14_checkFromToIndex_4 rfl rfl ?_
    refine kx_iload_n dJ14_checkFromToIndex_5 rfl rfl ?_
    refine kW_jN 9 [] h (fun σ6 h => ?_) (fun k4 jk4 h => ?_)
    · skip
      refine kx_iload_n dJ14_checkFromToIndex_9 rfl rfl ?_
      refine kx_iload_n dJ14_checkFromToIndex_10 rfl rfl ?_
      refine kx_icmp_le (tgt := 22) dJ14_checkFromToIndex_11 (by decide) (fun c => ?_) (fun c => ?_)
      · have h := w_ift c h
        refine kx_iload_n dJ14_checkFromToIndex_22 rfl rfl ?_
        exact kx_iret dJ14_checkFromToIndex_23 rfl (hQ _ _ ⟨_, rfl, h⟩)
      · have h := w_iff c h
        refine kx_aload_nO dJ14_checkFromToIndex_14 rfl rfl ?_
        refine kx_iload_n dJ14_checkFromToIndex_15 rfl rfl ?_
        refine kx_iload_n dJ14_checkFromToIndex_16 rfl rfl ?_
        refine kx_iload_n dJ14_checkFromToIndex_17 rfl rfl ?_
        exact h.elim
    · skip
      refine kx_icmp_gt (tgt := 14) dJ14_checkFromToIndex_6 (by decide) (fun c => ?_) (fun c => ?_)
      · have h := w_ift c h
        refine kx_aload_nO dJ14_checkFromToIndex_14 rfl rfl ?_
        refine kx_iload_n dJ14_checkFromToIndex_15 rfl rfl ?_
        refine kx_iload_n dJ14_checkFromToIndex_16 rfl rfl ?_
        refine kx_iload_n dJ14_checkFromToIndex_17 rfl rfl ?_
        exact h.elim
      · have h := w_iff c h
        exact jk4 _ h
  · skip
    refine kx_if_lt (tgt := 14) dJ14_checkFromToIndex_1 (by decide) (fun c => ?_) (fun c => ?_)
    · have h := w_ift c h
      refine kx_aload_nO dJ14_checkFromToIndex_14 rfl rfl ?_
      refine kx_iload_n dJ14_checkFromToIndex_15 rfl rfl ?_
      refine kx_iload_n dJ14_checkFromToIndex_16 rfl rfl ?_
      refine kx_iload_n dJ14_checkFromToIndex_17 rfl rfl ?_
      exact h.elim
    · have h := w_iff c h
      exact jk1 _ h
set_option maxHeartbeats 8000000 in
theorem kw_J14_checkFromIndexSize {G : KG} {σ : KHp} {x0 : Int32} {x1 : Int32} {x2 : Int32} {x3 : Option Nat} {Q : Int32 → KHp → Prop} {X : String → Nat → KHp → Prop} (h : W_J14_checkFromIndexSize G σ x0 x1 x2 x3 Q X) : kx_c G yJ14_checkFromIndexSize (ws_ yJ14_checkFromIndexSize cJ14_checkFromIndexSize 4 (Option.some Jvm.ClassFile.FieldType.int)) 1 0 0 [.int (x0), .int (x1), .int (x2), va_rf (x3)] σ (fun rv σ' => ∃ r, rv = some (.int (r)) ∧ Q r σ') X := by
  refine kx_mk3 (ini := false) (by decide) (by cases x3 <;> exact Nat.le_of_ble_eq_true rfl) (fun h => by cases h) (fun Q1 X1 hQ hX => ?_)
  unfold W_J14_checkFromIndexSize at h
  refine kx_lwF [(0, .int (x0)), (1, .int (x1)), (2, .int (x2)), (3, va_rf (x3))] (by cases x3 <;> exact ⟨rfl, rfl, rfl, rfl, trivial⟩) ?_
  refine kx_iload_n dJ14_checkFromIndexSize_0 rfl rfl ?_
  refine kx_iload_n dJ14_checkFromIndexSize_1 rfl rfl ?_
  refine kx_ior dJ14_checkFromIndexSize_2 ?_
  refine kx_iload_n dJ14_checkFromIndexSize_3 rfl rfl ?_
  refine kx_ior dJ14_checkFromIndexSize_4 ?_
  refine kW_jN 8 [] h (fun σ3 h => ?_) (fun k1 jk1 h => ?_)
  · skip
    refine kx_iload_n dJ14_checkFromIndexSize_8 rfl rfl ?_
    refine kx_iload_n dJ14_checkFromIndexSize_9 rfl rfl ?_
    refine kx_iload_n dJ14_checkFromIndexSize_10 rfl rfl ?_
    refine kx_isub dJ14_checkFromIndexSize_11 ?_
    refine kx_icmp_le (tgt := 23) dJ14_checkFromIndexSize_12 (by decide) (fun c => ?_) (fun c => ?_)
    · have h := w_ift c h
      refine kx_iload_n dJ14_checkFromIndexSize_23 rfl rfl ?_
      exact kx_iret dJ14_checkFromIndexSize_24 rfl (hQ _ _ ⟨_, rfl, h⟩)
    · have h := w_iff c h
      refine kx_aload_nO dJ14_checkFromIndexSize_15 rfl rfl ?_
      refine kx_iload_n dJ14_checkFromIndexSize_16 rfl rfl ?_
      refine kx_iload_n dJ14_checkFromIndexSize_17 rfl rfl ?_
      refine kx_iload_n dJ14_checkFromIndexSize_18 rfl rfl ?_
      exact h.elim
  · skip
    refine kx_if_lt (tgt := 15) dJ14_checkFromIndexSize_5 (by decide) (fun c => ?_) (fun c => ?_)
    · have h := w_ift c h
      refine kx_aload_nO dJ14_checkFromIndexSize_15 rfl rfl ?_
      refine kx_iload_n dJ14_checkFromIndexSize_16 rfl rfl ?_
      refine kx_iload_n dJ14_checkFromIndexSize_17 rfl rfl ?_
      refine kx_iload_n dJ14_checkFromIndexSize_18 rfl rfl ?_
      exact h.elim
    · have h := w_iff c h
      exact jk1 _ h
set_option maxHeartbeats 8000000 in
theorem kw_J14_checkIndex {G : KG} {σ : KHp} {x0 : Int32} {x1 : Int32} {x2 : Option Nat} {Q : Int32 → KHp → Prop} {X : String → Nat → KHp → Prop} (h : W_J14_checkIndex G σ x0 x1 x2 Q X) : kx_c G yJ14_checkIndex (ws_ yJ14_checkIndex cJ14_checkIndex 3 (Option.some Jvm.ClassFile.FieldType.int)) 1 0 0 [.int (x0), .int (x1), va_rf (x2)] σ (fun rv σ' => ∃ r, rv = some (.int (r)) ∧ Q r σ') X := by
  refine kx_mk3 (ini := false) (by decide) (by cases x2 <;> exact Nat.le_of_ble_eq_true rfl) (fun h => by cases h) (fun Q1 X1 hQ hX => ?_)
  unfold W_J14_checkIndex at h
  refine kx_lwF [(0, .int (x0)), (1, .int (x1)), (2, va_rf (x2))] (by cases x2 <;> exact ⟨rfl, rfl, rfl, trivial⟩) ?_
  refine kx_iload_n dJ14_checkIndex_0 rfl rfl ?_
  refine kW_jN 4 [] h (fun σ3 h => ?_) (fun k1 jk1 h => ?_)
  · skip
    refine kx_iload_n dJ14_checkIndex_4 rfl rfl ?_
    refine kx_iload_n dJ14_checkIndex_5 rfl rfl ?_
    refine kx_icmp_lt (tgt := 16) dJ14_checkIndex_6 (by decide) (fun c => ?_) (fun c => ?_)
    · have h := w_ift c h
      refine kx_iload_n dJ14_checkIndex_16 rfl rfl ?_
      exact kx_iret dJ14_checkIndex_17 rfl (hQ _ _ ⟨_, rfl, h⟩)
    · have h := w_iff c h
      refine kx_aload_nO dJ14_checkIndex_9 rfl rfl ?_
      refine kx_iload_n dJ14_checkIndex_10 rfl rfl ?_
      refine kx_iload_n dJ14_checkIndex_11 rfl rfl ?_
      exact h.elim
  · skip
    refine kx_if_lt (tgt := 9) dJ14_checkIndex_1 (by decide) (fun c => ?_) (fun c => ?_)
    · have h := w_ift c h
      refine kx_aload_nO dJ14_checkIndex_9 rfl rfl ?_
      refine kx_iload_n dJ14_checkIndex_10 rfl rfl ?_
      refine kx_iload_n dJ14_checkIndex_11 rfl rfl ?_
      exact h.elim
    · have h := w_iff c h
      exact jk1 _ h
set_option maxHeartbeats 8000000 in
theorem kw_J15_canEncode {G : KG} {σ : KHp} {x0 : Int32} {Q : Int32 → KHp → Prop} {X : String → Nat → KHp → Prop} (h : W_J15_canEncode G σ x0 Q X) : kx_c G yJ15_canEncode (ws_ yJ15_canEncode cJ15_canEncode 1 (Option.some Jvm.ClassFile.FieldType.boolean)) 1 0 0 [.int (x0)] σ (fun rv σ' => ∃ r, rv = some (.int (r)) ∧ Q r σ') X := by
  refine kx_mk3 (ini := false) (by decide) (Nat.le_of_ble_eq_true rfl) (fun h => by cases h) (fun Q1 X1 hQ hX => ?_)
  unfold W_J15_canEncode at h
  refine kx_iload_n dJ15_canEncode_0 rfl rfl ?_
  refine kx_sipush (v := 255) dJ15_canEncode_1 (by decide) ?_
  refine kW_jI 12 [] h (fun v2 σ3 h => ?_) (fun k1 jk1 h => ?_)
  · skip
    exact kx_zret dJ15_canEncode_12 rfl h.1 (hQ _ _ ⟨_, rfl, h.2⟩)
  · skip
    refine kx_icmp_gt (tgt := 11) dJ15_canEncode_4 (by decide) (fun c => ?_) (fun c => ?_)
    · have h := w_ift c h
      refine kx_iconst (v := 0) dJ15_canEncode_11 (by decide) ?_
      exact jk1 _ _ h
    · have h := w_iff c h
      refine kx_iconst (v := 1) dJ15_canEncode_7 (by decide) ?_
      refine kx_goto (tgt := 12) dJ15_canEncode_8 (by decide) ?_
      exact jk1 _ _ h
set_option maxHeartbeats 8000000 in
theorem kw_J15_equals {G : KG} {σ : KHp} {x0 : Option Nat} {x1 : Option Nat} {Q : Int32 → KHp → Prop} {X : String → Nat → KHp → Prop} (h : W_J15_equals G σ x0 x1 Q X) : kx_c G yJ15_equals (ws_ yJ15_equals cJ15_equals 3 (Option.some Jvm.ClassFile.FieldType.boolean)) 1 0 0 [va_rf (x0), va_rf (x1)] σ (fun rv σ' => ∃ r, rv = some (.int (r)) ∧ Q r σ') X := by
  refine kx_mk3 (ini := false) (by decide) (by cases x0 <;> cases x1 <;> exact Nat.le_of_ble_eq_true rfl) (fun h => by cases h) (fun Q1 X1 hQ hX => ?_)
  unfold W_J15_equals at h
  refine kx_lwF [(0, va_rf (x0)), (1, va_rf (x1))] (by cases x0 <;> cases x1 <;> exact ⟨rfl, rfl, trivial⟩) ?_
  refine kx_aload_nO dJ15_equals_0 rfl rfl ?_
  obtain ⟨a1, rfl, hUa1⟩ := h
  have h := hUa1
  refine kW_len dJ15_equals_1 h (fun v2 h => ?_)
  refine kx_aload_nO dJ15_equals_2 rfl rfl ?_
  obtain ⟨a3, rfl, hUa3⟩ := h
  have h := hUa3
  refine kW_len dJ15_equals_3 h (fun v4 h => ?_)
  refine kx_icmp_ne (tgt := 34) dJ15_equals_4 (by decide) (fun c => ?_) (fun c => ?_)
  · have h := w_iff c h
    refine kx_iconst (v := 0) dJ15_equals_34 (by decide) ?_
    exact kx_zret dJ15_equals_35 rfl rfl (hQ _ _ ⟨_, rfl, h⟩)
  · have h := w_ift c h
    refine kx_iconst (v := 0) dJ15_equals_7 (by decide) ?_
    refine kx_istore_n dJ15_equals_8 rfl (Nat.le_of_ble_eq_true rfl) ?_
    refine kx_lwF [(0, .ref (a1)), (1, .ref (a3)), (2, .int ((0 : Int32)))] ⟨rfl, rfl, rfl, trivial⟩ ?_
    refine loopW1_k (fun (σ : KHp) (l2 : Int32) => kx G (yJ15_equals.cls, cJ15_equals, 3, (Option.some Jvm.ClassFile.FieldType.boolean), false, []) (1, 0, 0, Q1, X1) (0) (0) σ 9 (kF [(0, .ref (a1)), (1, .ref (a3)), (2, .int (l2))]) []) (fun kI9 hI9 σ l2 h => ?_) 9000 σ (0 : Int32) h
    unfold WB_J15_equals_9 at h
    refine kx_iload_n dJ15_equals_9 rfl rfl ?_
    refine kx_aload_n dJ15_equals_10 rfl rfl ?_
    refine kW_len dJ15_equals_11 h (fun v10001 h => ?_)
    refine kx_icmp_ge (tgt := 32) dJ15_equals_12 (by decide) (fun c => ?_) (fun c => ?_)
    · have h := w_ift c h
      refine kx_iconst (v := 1) dJ15_equals_32 (by decide) ?_
      exact kx_zret dJ15_equals_33 rfl rfl (hQ _ _ ⟨_, rfl, h⟩)
    · have h := w_iff c h
      refine kx_aload_n dJ15_equals_15 rfl rfl ?_
      refine kx_iload_n dJ15_equals_16 rfl rfl ?_
      refine kW_lB dJ15_equals_17 h (fun v10002 h => ?_)
      refine kx_aload_n dJ15_equals_18 rfl rfl ?_
      refine kx_iload_n dJ15_equals_19 rfl rfl ?_
      refine kW_lB dJ15_equals_20 h (fun v10003 h => ?_)
      refine kx_icmp_eq (tgt := 26) dJ15_equals_21 (by decide) (fun c => ?_) (fun c => ?_)
      · have h := w_ift c h
        refine kx_iinc2 (v := 1) dJ15_equals_26 rfl (by decide) ?_
        refine kx_goto (tgt := 9) dJ15_equals_29 (by decide) ?_
        exact kx_lwF [(0, .ref (a1)), (1, .ref (a3)), (2, .int ((l2 + (1 : Int32))))] ⟨rfl, rfl, rfl, trivial⟩ (hI9 _ _ h)
      · have h := w_iff c h
        refine kx_iconst (v := 0) dJ15_equals_24 (by decide) ?_
        exact kx_zret dJ15_equals_25 rfl rfl (hQ _ _ ⟨_, rfl, h⟩)
set_option maxHeartbeats 8000000 in
theorem kw_J16_stringSize {G : KG} {σ : KHp} {x0 : Int32} {Q : Int32 → KHp → Prop} {X : String → Nat → KHp → Prop} (h : W_J16_stringSize G σ x0 Q X) : kx_c G yJ16_stringSize (ws_ yJ16_stringSize cJ16_stringSize 4 (Option.some Jvm.ClassFile.FieldType.int)) 1 0 0 [.int (x0)] σ (fun rv σ' => ∃ r, rv = some (.int (r)) ∧ Q r σ') X := by
  refine kx_mk3 (ini := false) (by decide) (Nat.le_of_ble_eq_true rfl) (fun h => by cases h) (fun Q1 X1 hQ hX => ?_)
  unfold W_J16_stringSize at h
  refine kx_iconst (v := 1) dJ16_stringSize_0 (by decide) ?_
  refine kx_istore_n dJ16_stringSize_1 rfl (Nat.le_of_ble_eq_true rfl) ?_
  refine kx_iload_n dJ16_stringSize_2 rfl rfl ?_
  refine kx_if_lt (tgt := 11) dJ16_stringSize_3 (by decide) (fun c => ?_) (fun c => ?_)
  · have h := w_ift c h
    refine kx_bipush (v := -10) dJ16_stringSize_11 (by decide) ?_
    refine kx_istore_n dJ16_stringSize_13 rfl (Nat.le_of_ble_eq_true rfl) ?_
    refine kx_iconst (v := 1) dJ16_stringSize_14 (by decide) ?_
    refine kx_istore_n dJ16_stringSize_15 rfl (Nat.le_of_ble_eq_true rfl) ?_
    refine kx_lwF [(0, .int (x0)), (1, .int ((1 : Int32))), (2, .int ((-10 : Int32))), (3, .int ((1 : Int32)))] ⟨rfl, rfl, rfl, rfl, trivial⟩ ?_
    refine loopW2_k (fun (σ : KHp) (l2 : Int32) (l3 : Int32) => kx G (yJ16_stringSize.cls, cJ16_stringSize, 4, (Option.some Jvm.ClassFile.FieldType.int), false, []) (1, 0, 0, Q1, X1) (0) (0) σ 16 (kF [(0, .int (x0)), (1, .int ((1 : Int32))), (2, .int (l2)), (3, .int (l3))]) []) (fun kI16 hI16 σ l2 l3 h => ?_) 9000 σ (-10 : Int32) (1 : Int32) h
    unfold WB_J16_stringSize_16 at h
    refine kx_iload_n dJ16_stringSize_16 rfl rfl ?_
    refine kx_bipush (v := 10) dJ16_stringSize_17 (by decide) ?_
    refine kx_icmp_ge (tgt := 42) dJ16_stringSize_19 (by decide) (fun c => ?_) (fun c => ?_)
    · have h := w_ift c h
      refine kx_bipush (v := 10) dJ16_stringSize_42 (by decide) ?_
      refine kx_iload_n dJ16_stringSize_44 rfl rfl ?_
      refine kx_iadd dJ16_stringSize_45 ?_
      exact kx_iret dJ16_stringSize_46 rfl (hQ _ _ ⟨_, rfl, h⟩)
    · have h := w_iff c h
      refine kx_iload_n dJ16_stringSize_22 rfl rfl ?_
      refine kx_iload_n dJ16_stringSize_23 rfl rfl ?_
      refine kx_icmp_le (tgt := 31) dJ16_stringSize_24 (by decide) (fun c => ?_) (fun c => ?_)
      · have h := w_ift c h
        refine kx_bipush (v := 10) dJ16_stringSize_31 (by decide) ?_
        refine kx_iload_n dJ16_stringSize_33 rfl rfl ?_
        refine kx_imul dJ16_stringSize_34 ?_
        refine kx_istore_n dJ16_stringSize_35 rfl (Nat.le_of_ble_eq_true rfl) ?_
        refine kx_iinc2 (v := 1) dJ16_stringSize_36 rfl (by decide) ?_
        refine kx_goto (tgt := 16) dJ16_stringSize_39 (by decide) ?_
        exact kx_lwF [(0, .int (x0)), (1, .int ((1 : Int32))), (2, .int (((10 : Int32) * l2))), (3, .int ((l3 + (1 : Int32))))] ⟨rfl, rfl, rfl, rfl, trivial⟩ (hI16 _ _ _ h)
      · have h := w_iff c h
        refine kx_iload_n dJ16_stringSize_27 rfl rfl ?_
        refine kx_iload_n dJ16_stringSize_28 rfl rfl ?_
        refine kx_iadd dJ16_stringSize_29 ?_
        exact kx_iret dJ16_stringSize_30 rfl (hQ _ _ ⟨_, rfl, h⟩)
  · have h := w_iff c h
    refine kx_iconst (v := 0) dJ16_stringSize_6 (by decide) ?_
    refine kx_istore_n dJ16_stringSize_7 rfl (Nat.le_of_ble_eq_true rfl) ?_
    refine kx_iload_n dJ16_stringSize_8 rfl rfl ?_
    refine kx_ineg dJ16_stringSize_9 ?_
    refine kx_istore_n dJ16_stringSize_10 rfl (Nat.le_of_ble_eq_true rfl) ?_
    refine kx_bipush (v := -10) dJ16_stringSize_11 (by decide) ?_
    refine kx_istore_n dJ16_stringSize_13 rfl (Nat.le_of_ble_eq_true rfl) ?_
    refine kx_iconst (v := 1) dJ16_stringSize_14 (by decide) ?_
    refine kx_istore_n dJ16_stringSize_15 rfl (Nat.le_of_ble_eq_true rfl) ?_
    refine kx_lwF [(0, .int ((-x0))), (1, .int ((0 : Int32))), (2, .int ((-10 : Int32))), (3, .int ((1 : Int32)))] ⟨rfl, rfl, rfl, rfl, trivial⟩ ?_
    refine loopW2_k (fun (σ : KHp) (l2 : Int32) (l3 : Int32) => kx G (yJ16_stringSize.cls, cJ16_stringSize, 4, (Option.some Jvm.ClassFile.FieldType.int), false, []) (1, 0, 0, Q1, X1) (0) (0) σ 16 (kF [(0, .int ((-x0))), (1, .int ((0 : Int32))), (2, .int (l2)), (3, .int (l3))]) []) (fun kI16 hI16 σ l2 l3 h => ?_) 9000 σ (-10 : Int32) (1 : Int32) h
    unfold WB_J16_stringSize_16 at h
    refine kx_iload_n dJ16_stringSize_16 rfl rfl ?_
    refine kx_bipush (v := 10) dJ16_stringSize_17 (by decide) ?_
    refine kx_icmp_ge (tgt := 42) dJ16_stringSize_19 (by decide) (fun c => ?_) (fun c => ?_)
    · have h := w_ift c h
      refine kx_bipush (v := 10) dJ16_stringSize_42 (by decide) ?_
      refine kx_iload_n dJ16_stringSize_44 rfl rfl ?_
      refine kx_iadd dJ16_stringSize_45 ?_
      exact kx_iret dJ16_stringSize_46 rfl (hQ _ _ ⟨_, rfl, h⟩)
    · have h := w_iff c h
      refine kx_iload_n dJ16_stringSize_22 rfl rfl ?_
      refine kx_iload_n dJ16_stringSize_23 rfl rfl ?_
      refine kx_icmp_le (tgt := 31) dJ16_stringSize_24 (by decide) (fun c => ?_) (fun c => ?_)
      · have h := w_ift c h
        refine kx_bipush (v := 10) dJ16_stringSize_31 (by decide) ?_
        refine kx_iload_n dJ16_stringSize_33 rfl rfl ?_
        refine kx_imul dJ16_stringSize_34 ?_
        refine kx_istore_n dJ16_stringSize_35 rfl (Nat.le_of_ble_eq_true rfl) ?_
        refine kx_iinc2 (v := 1) dJ16_stringSize_36 rfl (by decide) ?_
        refine kx_goto (tgt := 16) dJ16_stringSize_39 (by decide) ?_
        exact kx_lwF [(0, .int ((-x0))), (1, .int ((0 : Int32))), (2, .int (((10 : Int32) * l2))), (3, .int ((l3 + (1 : Int32))))] ⟨rfl, rfl, rfl, rfl, trivial⟩ (hI16 _ _ _ h)
      · have h := w_iff c h
        refine kx_iload_n dJ16_stringSize_27 rfl rfl ?_
        refine kx_iload_n dJ16_stringSize_28 rfl rfl ?_
        refine kx_iadd dJ16_stringSize_29 ?_
        exact kx_iret dJ16_stringSize_30 rfl (hQ _ _ ⟨_, rfl, h⟩)
set_option maxHeartbeats 8000000 in
theorem kw_J16_getChars {G : KG} {σ : KHp} {x0 : Int32} {x1 : Int32} {x2 : Option Nat} {Q : Int32 → KHp → Prop} {X : String → Nat → KHp → Prop} (h : W_J16_getChars G σ x0 x1 x2 Q X) : kx_c G yJ16_getChars (ws_ yJ16_getChars cJ16_getChars 7 (Option.some Jvm.ClassFile.FieldType.int)) 1 0 0 [.int (x0), .int (x1), va_rf (x2)] σ (fun rv σ' => ∃ r, rv = some (.int (r)) ∧ Q r σ') X := by
  refine kx_mk3 (ini := false) (by decide) (by cases x2 <;> exact Nat.le_of_ble_eq_true rfl) (fun h => by cases h) (fun Q1 X1 hQ hX => ?_)
  unfold W_J16_getChars at h
  refine kx_lwF [(0, .int (x0)), (1, .int (x1)), (2, va_rf (x2))] (by cases x2 <;> exact ⟨rfl, rfl, rfl, trivial⟩) ?_
  refine kx_iload_n dJ16_getChars_0 rfl rfl ?_
  refine kx_istore dJ16_getChars_1 (Nat.le_of_ble_eq_true rfl) ?_
  refine kx_iload_n dJ16_getChars_3 rfl rfl ?_
  refine kW_jI 12 [] h (fun v2 σ3 h => ?_) (fun k1 jk1 h => ?_)
  · skip
    refine kx_istore dJ16_getChars_12 (Nat.le_of_ble_eq_true rfl) ?_
    refine kx_iload dJ16_getChars_14 rfl ?_
    refine kx_if_ne (tgt := 22) dJ16_getChars_16 (by decide) (fun c => ?_) (fun c => ?_)
    · have h := w_iff c h
      refine kx_lwF [(0, .int (x0)), (2, va_rf (x2)), (5, .int (x1)), (6, .int (v2))] ⟨rfl, rfl, rfl, rfl, trivial⟩ ?_
      refine loopW2_k (fun (σ : KHp) (l0 : Int32) (l5 : Int32) => kx G (yJ16_getChars.cls, cJ16_getChars, 7, (Option.some Jvm.ClassFile.FieldType.int), false, []) (1, 0, 0, Q1, X1) (0) (0) σ 22 (kF [(0, .int (l0)), (2, va_rf (x2)), (5, .int (l5)), (6, .int (v2))]) []) (fun kI22 hI22 σ l0 l5 h => ?_) 9000 σ3 x0 x1 h
      unfold WB_J16_getChars_22 at h
      refine kx_iload_n dJ16_getChars_22 rfl rfl ?_
      refine kx_bipush (v := -100) dJ16_getChars_23 (by decide) ?_
      refine kx_icmp_gt (tgt := 72) dJ16_getChars_25 (by decide) (fun c => ?_) (fun c => ?_)
      · have h := w_ift c h
        refine kx_aload_nO dJ16_getChars_72 rfl rfl ?_
        refine kx_iinc2 (v := -1) dJ16_getChars_73 rfl (by decide) ?_
        refine kx_iload dJ16_getChars_76 rfl ?_
        refine kx_gets dJ16_getChars_78 kt_java_lang_Integer_DigitOnes q445 (Or.inl rfl) ?_
        refine kx_iload_n dJ16_getChars_81 rfl rfl ?_
        refine kx_ineg dJ16_getChars_82 ?_
        refine kW_lB dJ16_getChars_83 h (fun v23001 h => ?_)
        obtain ⟨a23002, rfl, hUa23002⟩ := h
        have h := hUa23002
        refine kW_sB dJ16_getChars_84 h (fun σ23003 h => ?_)
        refine kx_iload_n dJ16_getChars_85 rfl rfl ?_
        refine kx_bipush (v := -9) dJ16_getChars_86 (by decide) ?_
        refine kx_icmp_ge (tgt := 104) dJ16_getChars_88 (by decide) (fun c => ?_) (fun c => ?_)
        · have h := w_ift c h
          refine kx_iload dJ16_getChars_104 rfl ?_
          refine kx_if_eq (tgt := 118) dJ16_getChars_106 (by decide) (fun c => ?_) (fun c => ?_)
          · have h := w_ift c h
            refine kx_iload dJ16_getChars_118 rfl ?_
            exact kx_iret dJ16_getChars_120 rfl (hQ _ _ ⟨_, rfl, h⟩)
          · have h := w_iff c h
            refine kx_aload_n dJ16_getChars_109 rfl rfl ?_
            refine kx_iinc2 (v := -1) dJ16_getChars_110 rfl (by decide) ?_
            refine kx_iload dJ16_getChars_113 rfl ?_
            refine kx_bipush (v := 45) dJ16_getChars_115 (by decide) ?_
            refine kW_sB dJ16_getChars_117 h (fun σ23004 h => ?_)
            refine kx_iload dJ16_getChars_118 rfl ?_
            exact kx_iret dJ16_getChars_120 rfl (hQ _ _ ⟨_, rfl, h⟩)
        · have h := w_iff c h
          refine kx_aload_n dJ16_getChars_91 rfl rfl ?_
          refine kx_iinc2 (v := -1) dJ16_getChars_92 rfl (by decide) ?_
          refine kx_iload dJ16_getChars_95 rfl ?_
          refine kx_gets dJ16_getChars_97 kt_java_lang_Integer_DigitTens q447 (Or.inl rfl) ?_
          refine kx_iload_n dJ16_getChars_100 rfl rfl ?_
          refine kx_ineg dJ16_getChars_101 ?_
          refine kW_lB dJ16_getChars_102 h (fun v23005 h => ?_)
          refine kW_sB dJ16_getChars_103 h (fun σ23006 h => ?_)
          refine kx_iload dJ16_getChars_104 rfl ?_
          refine kx_if_eq (tgt := 118) dJ16_getChars_106 (by decide) (fun c => ?_) (fun c => ?_)
          · have h := w_ift c h
            refine kx_iload dJ16_getChars_118 rfl ?_
            exact kx_iret dJ16_getChars_120 rfl (hQ _ _ ⟨_, rfl, h⟩)
          · have h := w_iff c h
            refine kx_aload_n dJ16_getChars_109 rfl rfl ?_
            refine kx_iinc2 (v := -1) dJ16_getChars_110 rfl (by decide) ?_
            refine kx_iload dJ16_getChars_113 rfl ?_
            refine kx_bipush (v := 45) dJ16_getChars_115 (by decide) ?_
            refine kW_sB dJ16_getChars_117 h (fun σ23007 h => ?_)
            refine kx_iload dJ16_getChars_118 rfl ?_
            exact kx_iret dJ16_getChars_120 rfl (hQ _ _ ⟨_, rfl, h⟩)
      · have h := w_iff c h
        refine kx_iload_n dJ16_getChars_28 rfl rfl ?_
        refine kx_bipush (v := 100) dJ16_getChars_29 (by decide) ?_
        obtain ⟨hz, h⟩ := h
        refine kx_idiv dJ16_getChars_31 hz ?_
        refine kx_istore_n dJ16_getChars_32 rfl (Nat.le_of_ble_eq_true rfl) ?_
        refine kx_lwF [(0, .int (l0)), (2, va_rf (x2)), (3, .int ((l0 / (100 : Int32)))), (5, .int (l5)), (6, .int (v2))] (by cases x2 <;> exact ⟨rfl, rfl, rfl, rfl, rfl, trivial⟩) ?_
        refine kx_iload_n dJ16_getChars_33 rfl rfl ?_
        refine kx_bipush (v := 100) dJ16_getChars_34 (by decide) ?_
        refine kx_imul dJ16_getChars_36 ?_
        refine kx_iload_n dJ16_getChars_37 rfl rfl ?_
        refine kx_isub dJ16_getChars_38 ?_
        refine kx_istore dJ16_getChars_39 (Nat.le_of_ble_eq_true rfl) ?_
        refine kx_iload_n dJ16_getChars_41 rfl rfl ?_
        refine kx_istore_n dJ16_getChars_42 rfl (Nat.le_of_ble_eq_true rfl) ?_
        refine kx_aload_nO dJ16_getChars_43 rfl rfl ?_
        refine kx_iinc2 (v := -1) dJ16_getChars_44 rfl (by decide) ?_
        refine kx_iload dJ16_getChars_47 rfl ?_
        refine kx_gets dJ16_getChars_49 kt_java_lang_Integer_DigitOnes q445 (Or.inl rfl) ?_
        refine kx_iload dJ16_getChars_52 rfl ?_
        refine kW_lB dJ16_getChars_54 h (fun v23008 h => ?_)
        obtain ⟨a23009, rfl, hUa23009⟩ := h
        have h := hUa23009
        refine kW_sB dJ16_getChars_55 h (fun σ23010 h => ?_)
        refine kx_aload_n dJ16_getChars_56 rfl rfl ?_
        refine kx_iinc2 (v := -1) dJ16_getChars_57 rfl (by decide) ?_
        refine kx_iload dJ16_getChars_60 rfl ?_
        refine kx_gets dJ16_getChars_62 kt_java_lang_Integer_DigitTens q447 (Or.inl rfl) ?_
        refine kx_iload dJ16_getChars_65 rfl ?_
        refine kW_lB dJ16_getChars_67 h (fun v23011 h => ?_)
        refine kW_sB dJ16_getChars_68 h (fun σ23012 h => ?_)
        refine kx_goto (tgt := 22) dJ16_getChars_69 (by decide) ?_
        exact kx_lwF [(0, .int ((l0 / (100 : Int32)))), (2, .ref (a23009)), (5, .int (((l5 + (-1 : Int32)) + (-1 : Int32)))), (6, .int (v2))] ⟨rfl, rfl, rfl, rfl, trivial⟩ (hI22 _ _ _ h)
    · have h := w_ift c h
      refine kx_iload_n dJ16_getChars_19 rfl rfl ?_
      refine kx_ineg dJ16_getChars_20 ?_
      refine kx_istore_n dJ16_getChars_21 rfl (Nat.le_of_ble_eq_true rfl) ?_
      refine kx_lwF [(0, .int ((-x0))), (2, va_rf (x2)), (5, .int (x1)), (6, .int (v2))] ⟨rfl, rfl, rfl, rfl, trivial⟩ ?_
      refine loopW2_k (fun (σ : KHp) (l0 : Int32) (l5 : Int32) => kx G (yJ16_getChars.cls, cJ16_getChars, 7, (Option.some Jvm.ClassFile.FieldType.int), false, []) (1, 0, 0, Q1, X1) (0) (0) σ 22 (kF [(0, .int (l0)), (2, va_rf (x2)), (5, .int (l5)), (6, .int (v2))]) []) (fun kI22 hI22 σ l0 l5 h => ?_) 9000 σ3 (-x0) x1 h
      unfold WB_J16_getChars_22 at h
      refine kx_iload_n dJ16_getChars_22 rfl rfl ?_
      refine kx_bipush (v := -100) dJ16_getChars_23 (by decide) ?_
      refine kx_icmp_gt (tgt := 72) dJ16_getChars_25 (by decide) (fun c => ?_) (fun c => ?_)
      · have h := w_ift c h
        refine kx_aload_nO dJ16_getChars_72 rfl rfl ?_
        refine kx_iinc2 (v := -1) dJ16_getChars_73 rfl (by decide) ?_
        refine kx_iload dJ16_getChars_76 rfl ?_
        refine kx_gets dJ16_getChars_78 kt_java_lang_Integer_DigitOnes q445 (Or.inl rfl) ?_
        refine kx_iload_n dJ16_getChars_81 rfl rfl ?_
        refine kx_ineg dJ16_getChars_82 ?_
        refine kW_lB dJ16_getChars_83 h (fun v23001 h => ?_)
        obtain ⟨a23002, rfl, hUa23002⟩ := h
        have h := hUa23002
        refine kW_sB dJ16_getChars_84 h (fun σ23003 h => ?_)
        refine kx_iload_n dJ16_getChars_85 rfl rfl ?_
        refine kx_bipush (v := -9) dJ16_getChars_86 (by decide) ?_
        refine kx_icmp_ge (tgt := 104) dJ16_getChars_88 (by decide) (fun c => ?_) (fun c => ?_)
        · have h := w_ift c h
          refine kx_iload dJ16_getChars_104 rfl ?_
          refine kx_if_eq (tgt := 118) dJ16_getChars_106 (by decide) (fun c => ?_) (fun c => ?_)
          · have h := w_ift c h
            refine kx_iload dJ16_getChars_118 rfl ?_
            exact kx_iret dJ16_getChars_120 rfl (hQ _ _ ⟨_, rfl, h⟩)
          · have h := w_iff c h
            refine kx_aload_n dJ16_getChars_109 rfl rfl ?_
            refine kx_iinc2 (v := -1) dJ16_getChars_110 rfl (by decide) ?_
            refine kx_iload dJ16_getChars_113 rfl ?_
            refine kx_bipush (v := 45) dJ16_getChars_115 (by decide) ?_
            refine kW_sB dJ16_getChars_117 h (fun σ23004 h => ?_)
            refine kx_iload dJ16_getChars_118 rfl ?_
            exact kx_iret dJ16_getChars_120 rfl (hQ _ _ ⟨_, rfl, h⟩)
        · have h := w_iff c h
          refine kx_aload_n dJ16_getChars_91 rfl rfl ?_
          refine kx_iinc2 (v := -1) dJ16_getChars_92 rfl (by decide) ?_
          refine kx_iload dJ16_getChars_95 rfl ?_
          refine kx_gets dJ16_getChars_97 kt_java_lang_Integer_DigitTens q447 (Or.inl rfl) ?_
          refine kx_iload_n dJ16_getChars_100 rfl rfl ?_
          refine kx_ineg dJ16_getChars_101 ?_
          refine kW_lB dJ16_getChars_102 h (fun v23005 h => ?_)
          refine kW_sB dJ16_getChars_103 h (fun σ23006 h => ?_)
          refine kx_iload dJ16_getChars_104 rfl ?_
          refine kx_if_eq (tgt := 118) dJ16_getChars_106 (by decide) (fun c => ?_) (fun c => ?_)
          · have h := w_ift c h
            refine kx_iload dJ16_getChars_118 rfl ?_
            exact kx_iret dJ16_getChars_120 rfl (hQ _ _ ⟨_, rfl, h⟩)
          · have h := w_iff c h
            refine kx_aload_n dJ16_getChars_109 rfl rfl ?_
            refine kx_iinc2 (v := -1) dJ16_getChars_110 rfl (by decide) ?_
            refine kx_iload dJ16_getChars_113 rfl ?_
            refine kx_bipush (v := 45) dJ16_getChars_115 (by decide) ?_
            refine kW_sB dJ16_getChars_117 h (fun σ23007 h => ?_)
            refine kx_iload dJ16_getChars_118 rfl ?_
            exact kx_iret dJ16_getChars_120 rfl (hQ _ _ ⟨_, rfl, h⟩)
      · have h := w_iff c h
        refine kx_iload_n dJ16_getChars_28 rfl rfl ?_
        refine kx_bipush (v := 100) dJ16_getChars_29 (by decide) ?_
        obtain ⟨hz, h⟩ := h
        refine kx_idiv dJ16_getChars_31 hz ?_
        refine kx_istore_n dJ16_getChars_32 rfl (Nat.le_of_ble_eq_true rfl) ?_
        refine kx_lwF [(0, .int (l0)), (2, va_rf (x2)), (3, .int ((l0 / (100 : Int32)))), (5, .int (l5)), (6, .int (v2))] (by cases x2 <;> exact ⟨rfl, rfl, rfl, rfl, rfl, trivial⟩) ?_
        refine kx_iload_n dJ16_getChars_33 rfl rfl ?_
        refine kx_bipush (v := 100) dJ16_getChars_34 (by decide) ?_
        refine kx_imul dJ16_getChars_36 ?_
        refine kx_iload_n dJ16_getChars_37 rfl rfl ?_
        refine kx_isub dJ16_getChars_38 ?_
        refine kx_istore dJ16_getChars_39 (Nat.le_of_ble_eq_true rfl) ?_
        refine kx_iload_n dJ16_getChars_41 rfl rfl ?_
        refine kx_istore_n dJ16_getChars_42 rfl (Nat.le_of_ble_eq_true rfl) ?_
        refine kx_aload_nO dJ16_getChars_43 rfl rfl ?_
        refine kx_iinc2 (v := -1) dJ16_getChars_44 rfl (by decide) ?_
        refine kx_iload dJ16_getChars_47 rfl ?_
        refine kx_gets dJ16_getChars_49 kt_java_lang_Integer_DigitOnes q445 (Or.inl rfl) ?_
        refine kx_iload dJ16_getChars_52 rfl ?_
        refine kW_lB dJ16_getChars_54 h (fun v23008 h => ?_)
        obtain ⟨a23009, rfl, hUa23009⟩ := h
        have h := hUa23009
        refine kW_sB dJ16_getChars_55 h (fun σ23010 h => ?_)
        refine kx_aload_n dJ16_getChars_56 rfl rfl ?_
        refine kx_iinc2 (v := -1) dJ16_getChars_57 rfl (by decide) ?_
        refine kx_iload dJ16_getChars_60 rfl ?_
        refine kx_gets dJ16_getChars_62 kt_java_lang_Integer_DigitTens q447 (Or.inl rfl) ?_
        refine kx_iload dJ16_getChars_65 rfl ?_
        refine kW_lB dJ16_getChars_67 h (fun v23011 h => ?_)
        refine kW_sB dJ16_getChars_68 h (fun σ23012 h => ?_)
        refine kx_goto (tgt := 22) dJ16_getChars_69 (by decide) ?_
        exact kx_lwF [(0, .int ((l0 / (100 : Int32)))), (2, .ref (a23009)), (5, .int (((l5 + (-1 : Int32)) + (-1 : Int32)))), (6, .int (v2))] ⟨rfl, rfl, rfl, rfl, trivial⟩ (hI22 _ _ _ h)
  · skip
    refine kx_if_ge (tgt := 11) dJ16_getChars_4 (by decide) (fun c => ?_) (fun c => ?_)
    · have h := w_ift c h
      refine kx_iconst (v := 0) dJ16_getChars_11 (by decide) ?_
      exact jk1 _ _ h
    · have h := w_iff c h
      refine kx_iconst (v := 1) dJ16_getChars_7 (by decide) ?_
      refine kx_goto (tgt := 12) dJ16_getChars_8 (by decide) ?_
      exact jk1 _ _ h
set_option maxHeartbeats 8000000 in
theorem kw_J16_bitCount {G : KG} {σ : KHp} {x0 : Int32} {Q : Int32 → KHp → Prop} {X : String → Nat → KHp → Prop} (h : W_J16_bitCount G σ x0 Q X) : kx_c G yJ16_bitCount (ws_ yJ16_bitCount cJ16_bitCount 1 (Option.some Jvm.ClassFile.FieldType.int)) 1 0 0 [.int (x0)] σ (fun rv σ' => ∃ r, rv = some (.int (r)) ∧ Q r σ') X := by
  refine kx_mk3 (ini := false) (by decide) (Nat.le_of_ble_eq_true rfl) (fun h => by cases h) (fun Q1 X1 hQ hX => ?_)
  unfold W_J16_bitCount at h
  refine kx_iload_n dJ16_bitCount_0 rfl rfl ?_
  refine kx_iload_n dJ16_bitCount_1 rfl rfl ?_
  refine kx_iconst (v := 1) dJ16_bitCount_2 (by decide) ?_
  refine kx_iushr dJ16_bitCount_3 rfl ?_
  refine kx_ldcwi dJ16_bitCount_4 q2348 ?_
  refine kx_iand dJ16_bitCount_7 ?_
  refine kx_isub dJ16_bitCount_8 ?_
  refine kx_istore_n dJ16_bitCount_9 rfl (Nat.le_of_ble_eq_true rfl) ?_
  refine kx_iload_n dJ16_bitCount_10 rfl rfl ?_
  refine kx_ldcwi dJ16_bitCount_11 q2349 ?_
  refine kx_iand dJ16_bitCount_14 ?_
  refine kx_iload_n dJ16_bitCount_15 rfl rfl ?_
  refine kx_iconst (v := 2) dJ16_bitCount_16 (by decide) ?_
  refine kx_iushr dJ16_bitCount_17 rfl ?_
  refine kx_ldcwi dJ16_bitCount_18 q2349 ?_
  refine kx_iand dJ16_bitCount_21 ?_
  refine kx_iadd dJ16_bitCount_22 ?_
  refine kx_istore_n dJ16_bitCount_23 rfl (Nat.le_of_ble_eq_true rfl) ?_
  refine kx_iload_n dJ16_bitCount_24 rfl rfl ?_
  refine kx_iload_n dJ16_bitCount_25 rfl rfl ?_
  refine kx_iconst (v := 4) dJ16_bitCount_26 (by decide) ?_
  refine kx_iushr dJ16_bitCount_27 rfl ?_
  refine kx_iadd dJ16_bitCount_28 ?_
  refine kx_ldcwi dJ16_bitCount_29 q2350 ?_
  refine kx_iand dJ16_bitCount_32 ?_
  refine kx_istore_n dJ16_bitCount_33 rfl (Nat.le_of_ble_eq_true rfl) ?_
  refine kx_iload_n dJ16_bitCount_34 rfl rfl ?_
  refine kx_iload_n dJ16_bitCount_35 rfl rfl ?_
  refine kx_bipush (v := 8) dJ16_bitCount_36 (by decide) ?_
  refine kx_iushr dJ16_bitCount_38 rfl ?_
  refine kx_iadd dJ16_bitCount_39 ?_
  refine kx_istore_n dJ16_bitCount_40 rfl (Nat.le_of_ble_eq_true rfl) ?_
  refine kx_iload_n dJ16_bitCount_41 rfl rfl ?_
  refine kx_iload_n dJ16_bitCount_42 rfl rfl ?_
  refine kx_bipush (v := 16) dJ16_bitCount_43 (by decide) ?_
  refine kx_iushr dJ16_bitCount_45 rfl ?_
  refine kx_iadd dJ16_bitCount_46 ?_
  refine kx_istore_n dJ16_bitCount_47 rfl (Nat.le_of_ble_eq_true rfl) ?_
  refine kx_iload_n dJ16_bitCount_48 rfl rfl ?_
  refine kx_bipush (v := 63) dJ16_bitCount_49 (by decide) ?_
  refine kx_iand dJ16_bitCount_51 ?_
  exact kx_iret dJ16_bitCount_52 rfl (hQ _ _ ⟨_, rfl, h⟩)
set_option maxHeartbeats 8000000 in
theorem kw_J17_init {G : KG} {σ : KHp} {x0 : Nat} {Q : KHp → Prop} {X : String → Nat → KHp → Prop} (h : W_J17_init G σ x0 Q X) : kx_c G yJ17_init (ws_ yJ17_init cJ17_init 1 (Option.none : Option Jvm.ClassFile.FieldType)) 3 0 0 [.ref (x0)] σ (fun rv σ' => rv = none ∧ Q σ') X := by
  refine kx_mk3 (ini := true) (by decide) (Nat.le_of_ble_eq_true rfl) (fun _ => rfl) (fun Q1 X1 hQ hX => ?_)
  unfold W_J17_init at h
  refine kx_aload_n dJ17_init_0 rfl rfl ?_
  refine kx_callI dJ17_init_1 lk_J17_1 (kw_J1_init h) rfl rfl (Nat.le_of_ble_eq_true rfl) (Nat.le_of_ble_eq_true rfl) (Nat.le_of_ble_eq_true rfl) (Nat.le_of_ble_eq_true rfl) (Nat.le_of_ble_eq_true rfl) (fun _ _ _ hx => kx_out rfl (hX _ _ _ hx)) (fun v_ σ2 hq => ?_)
  obtain ⟨rfl, h⟩ := hq
  exact kx_vret dJ17_init_4 rfl (hQ _ _ ⟨rfl, h⟩)
set_option maxHeartbeats 8000000 in
theorem kw_J18_init {G : KG} {σ : KHp} {x0 : Nat} {Q : KHp → Prop} {X : String → Nat → KHp → Prop} (h : W_J18_init G σ x0 Q X) : kx_c G yJ18_init (ws_ yJ18_init cJ18_init 1 (Option.none : Option Jvm.ClassFile.FieldType)) 4 0 0 [.ref (x0)] σ (fun rv σ' => rv = none ∧ Q σ') X := by
  refine kx_mk3 (ini := true) (by decide) (Nat.le_of_ble_eq_true rfl) (fun _ => rfl) (fun Q1 X1 hQ hX => ?_)
  unfold W_J18_init at h
  refine kx_aload_n dJ18_init_0 rfl rfl ?_
  refine kx_callI dJ18_init_1 lk_J18_1 (kw_J17_init h) rfl rfl (Nat.le_of_ble_eq_true rfl) (Nat.le_of_ble_eq_true rfl) (Nat.le_of_ble_eq_true rfl) (Nat.le_of_ble_eq_true rfl) (Nat.le_of_ble_eq_true rfl) (fun _ _ _ hx => kx_out rfl (hX _ _ _ hx)) (fun v_ σ2 hq => ?_)
  obtain ⟨rfl, h⟩ := hq
  refine kx_aload_n dJ18_init_4 rfl rfl ?_
  refine kx_iconst (v := 0) dJ18_init_5 (by decide) ?_
  refine kW_p dJ18_init_6 (kp1 ⟨_, _, _, _, kc_J18, fl_J18_7_J18, Or.inl rfl, rfl, rfl⟩) h (fun σ3 h => ?_)
  exact kx_vret dJ18_init_9 rfl (hQ _ _ ⟨rfl, h⟩)
set_option maxHeartbeats 8000000 in
theorem kw_J18_isPositionIndex {G : KG} {σ : KHp} {x0 : Nat} {x1 : Int32} {Q : Int32 → KHp → Prop} {X : String → Nat → KHp → Prop} (h : W_J18_isPositionIndex G σ x0 x1 Q X) : kx_c G yJ18_isPositionIndex (ws_ yJ18_isPositionIndex cJ18_isPositionIndex 2 (Option.some Jvm.ClassFile.FieldType.boolean)) 1 0 0 [.ref (x0), .int (x1)] σ (fun rv σ' => ∃ r, rv = some (.int (r)) ∧ Q r σ') X := by
  refine kx_mk3 (ini := false) (by decide) (Nat.le_of_ble_eq_true rfl) (fun h => by cases h) (fun Q1 X1 hQ hX => ?_)
  unfold W_J18_isPositionIndex at h
  refine kx_iload_n dJ18_isPositionIndex_0 rfl rfl ?_
  refine kW_jI 17 [] h (fun v3 σ4 h => ?_) (fun k1 jk1 h => ?_)
  · skip
    exact kx_zret dJ18_isPositionIndex_17 rfl h.1 (hQ _ _ ⟨_, rfl, h.2⟩)
  · skip
    refine kx_if_lt (tgt := 16) dJ18_isPositionIndex_1 (by decide) (fun c => ?_) (fun c => ?_)
    · have h := w_ift c h
      refine kx_iconst (v := 0) dJ18_isPositionIndex_16 (by decide) ?_
      exact jk1 _ _ h
    · have h := w_iff c h
      refine kx_iload_n dJ18_isPositionIndex_4 rfl rfl ?_
      refine kx_aload_n dJ18_isPositionIndex_5 rfl rfl ?_
      refine kW_gI dJ18_isPositionIndex_6 (kf1 fl_J18_7_J18) h (fun v2 h => ?_)
      refine kx_icmp_gt (tgt := 16) dJ18_isPositionIndex_9 (by decide) (fun c => ?_) (fun c => ?_)
      · have h := w_ift c h
        refine kx_iconst (v := 0) dJ18_isPositionIndex_16 (by decide) ?_
        exact jk1 _ _ h
      · have h := w_iff c h
        refine kx_iconst (v := 1) dJ18_isPositionIndex_12 (by decide) ?_
        refine kx_goto (tgt := 17) dJ18_isPositionIndex_13 (by decide) ?_
        exact jk1 _ _ h
set_option maxHeartbeats 8000000 in
theorem kw_J18_node {G : KG} {σ : KHp} {x0 : Nat} {x1 : Int32} {Q : Option Nat → KHp → Prop} {X : String → Nat → KHp → Prop} (h : W_J18_node G σ x0 x1 Q X) : kx_c G yJ18_node (ws_ yJ18_node cJ18_node 4 (Option.some (Jvm.ClassFile.FieldType.object "java/util/LinkedList$Node"))) 1 0 0 [.ref (x0), .int (x1)] σ (fun rv σ' => ∃ r, rv = some (va_rf (r)) ∧ Q r σ') X := by
  refine kx_mk3 (ini := false) (by decide) (Nat.le_of_ble_eq_true rfl) (fun h => by cases h) (fun Q1 X1 hQ hX => ?_)
  unfold W_J18_node at h
  refine kx_iload_n dJ18_node_0 rfl rfl ?_
  refine kx_aload_n dJ18_node_1 rfl rfl ?_
  refine kW_gI dJ18_node_2 (kf1 fl_J18_7_J18) h (fun v1 h => ?_)
  refine kx_iconst (v := 1) dJ18_node_5 (by decide) ?_
  refine kx_ishr dJ18_node_6 ?_
  refine kx_icmp_ge (tgt := 35) dJ18_node_7 (by decide) (fun c => ?_) (fun c => ?_)
  · have h := w_ift c h
    refine kx_aload_n dJ18_node_35 rfl rfl ?_
    refine kW_gO dJ18_node_36 (kf1 fl_J18_27_J18) h (fun v2 h => ?_)
    refine kx_astore_nO dJ18_node_39 rfl (Nat.le_of_ble_eq_true rfl) ?_
    refine kx_aload_n dJ18_node_40 rfl rfl ?_
    refine kW_gI dJ18_node_41 (kf1 fl_J18_7_J18) h (fun v3 h => ?_)
    refine kx_iconst (v := 1) dJ18_node_44 (by decide) ?_
    refine kx_isub dJ18_node_45 ?_
    refine kx_istore_n dJ18_node_46 rfl (Nat.le_of_ble_eq_true rfl) ?_
    refine kx_lwF [(1, .int (x1)), (2, va_rf (v2)), (3, .int ((v3 - (1 : Int32))))] (by cases v2 <;> exact ⟨rfl, rfl, rfl, trivial⟩) ?_
    refine kx_lwF [(1, .int (x1)), (2, va_rf ((v2))), (3, .int ((v3 - (1 : Int32))))] ⟨rfl, rfl, rfl, trivial⟩ ?_
    refine loopW2_k (fun (σ : KHp) (l2 : Option Nat) (l3 : Int32) => kx G (yJ18_node.cls, cJ18_node, 4, (Option.some (Jvm.ClassFile.FieldType.object "java/util/LinkedList$Node")), false, []) (1, 0, 0, Q1, X1) (0) (0) σ 47 (kF [(1, .int (x1)), (2, va_rf (l2)), (3, .int (l3))]) []) (fun kI47 hI47 σ l2 l3 h => ?_) 9000 σ (v2) (v3 - (1 : Int32)) h
    unfold WB_J18_node_47 at h
    refine kx_iload_n dJ18_node_47 rfl rfl ?_
    refine kx_iload_n dJ18_node_48 rfl rfl ?_
    refine kx_icmp_le (tgt := 63) dJ18_node_49 (by decide) (fun c => ?_) (fun c => ?_)
    · have h := w_ift c h
      refine kx_aload_nO dJ18_node_63 rfl rfl ?_
      exact kx_aret dJ18_node_64 rfl (Or.inl ⟨_, rfl⟩) (va_rfs _) (hQ _ _ ⟨_, rfl, h⟩)
    · have h := w_iff c h
      refine kx_aload_nO dJ18_node_52 rfl rfl ?_
      obtain ⟨a48001, rfl, hUa48001⟩ := h
      have h := hUa48001
      refine kW_gO dJ18_node_53 (kf1 fl_J18_30_J23) h (fun v48002 h => ?_)
      refine kx_astore_nO dJ18_node_56 rfl (Nat.le_of_ble_eq_true rfl) ?_
      refine kx_iinc2 (v := -1) dJ18_node_57 rfl (by decide) ?_
      refine kx_lwF [(1, .int (x1)), (2, va_rf (v48002)), (3, .int ((l3 + (-1 : Int32))))] (by cases v48002 <;> exact ⟨rfl, rfl, rfl, trivial⟩) ?_
      refine kx_goto (tgt := 47) dJ18_node_60 (by decide) ?_
      exact kx_lwF [(1, .int (x1)), (2, va_rf ((v48002))), (3, .int ((l3 + (-1 : Int32))))] ⟨rfl, rfl, rfl, trivial⟩ (hI47 _ _ _ h)
  · have h := w_iff c h
    refine kx_aload_n dJ18_node_10 rfl rfl ?_
    refine kW_gO dJ18_node_11 (kf1 fl_J18_18_J18) h (fun v5 h => ?_)
    refine kx_astore_nO dJ18_node_14 rfl (Nat.le_of_ble_eq_true rfl) ?_
    refine kx_iconst (v := 0) dJ18_node_15 (by decide) ?_
    refine kx_istore_n dJ18_node_16 rfl (Nat.le_of_ble_eq_true rfl) ?_
    refine kx_lwF [(1, .int (x1)), (2, va_rf (v5)), (3, .int ((0 : Int32)))] (by cases v5 <;> exact ⟨rfl, rfl, rfl, trivial⟩) ?_
    refine kx_lwF [(1, .int (x1)), (2, va_rf ((v5))), (3, .int ((0 : Int32)))] ⟨rfl, rfl, rfl, trivial⟩ ?_
    refine loopW2_k (fun (σ : KHp) (l2 : Option Nat) (l3 : Int32) => kx G (yJ18_node.cls, cJ18_node, 4, (Option.some (Jvm.ClassFile.FieldType.object "java/util/LinkedList$Node")), false, []) (1, 0, 0, Q1, X1) (0) (0) σ 17 (kF [(1, .int (x1)), (2, va_rf (l2)), (3, .int (l3))]) []) (fun kI17 hI17 σ l2 l3 h => ?_) 9000 σ (v5) (0 : Int32) h
    unfold WB_J18_node_17 at h
    refine kx_iload_n dJ18_node_17 rfl rfl ?_
    refine kx_iload_n dJ18_node_18 rfl rfl ?_
    refine kx_icmp_ge (tgt := 33) dJ18_node_19 (by decide) (fun c => ?_) (fun c => ?_)
    · have h := w_ift c h
      refine kx_aload_nO dJ18_node_33 rfl rfl ?_
      exact kx_aret dJ18_node_34 rfl (Or.inl ⟨_, rfl⟩) (va_rfs _) (hQ _ _ ⟨_, rfl, h⟩)
    · have h := w_iff c h
      refine kx_aload_nO dJ18_node_22 rfl rfl ?_
      obtain ⟨a18001, rfl, hUa18001⟩ := h
      have h := hUa18001
      refine kW_gO dJ18_node_23 (kf1 fl_J18_36_J23) h (fun v18002 h => ?_)
      refine kx_astore_nO dJ18_node_26 rfl (Nat.le_of_ble_eq_true rfl) ?_
      refine kx_iinc2 (v := 1) dJ18_node_27 rfl (by decide) ?_
      refine kx_lwF [(1, .int (x1)), (2, va_rf (v18002)), (3, .int ((l3 + (1 : Int32))))] (by cases v18002 <;> exact ⟨rfl, rfl, rfl, trivial⟩) ?_
      refine kx_goto (tgt := 17) dJ18_node_30 (by decide) ?_
      exact kx_lwF [(1, .int (x1)), (2, va_rf ((v18002))), (3, .int ((l3 + (1 : Int32))))] ⟨rfl, rfl, rfl, trivial⟩ (hI17 _ _ _ h)
set_option maxHeartbeats 8000000 in
theorem kw_J18_size {G : KG} {σ : KHp} {x0 : Nat} {Q : Int32 → KHp → Prop} {X : String → Nat → KHp → Prop} (h : W_J18_size G σ x0 Q X) : kx_c G yJ18_size (ws_ yJ18_size cJ18_size 1 (Option.some Jvm.ClassFile.FieldType.int)) 1 0 0 [.ref (x0)] σ (fun rv σ' => ∃ r, rv = some (.int (r)) ∧ Q r σ') X := by
  refine kx_mk3 (ini := false) (by decide) (Nat.le_of_ble_eq_true rfl) (fun h => by cases h) (fun Q1 X1 hQ hX => ?_)
  unfold W_J18_size at h
  refine kx_aload_n dJ18_size_0 rfl rfl ?_
  refine kW_gI dJ18_size_1 (kf1 fl_J18_7_J18) h (fun v1 h => ?_)
  exact kx_iret dJ18_size_4 rfl (hQ _ _ ⟨_, rfl, h⟩)
set_option maxHeartbeats 8000000 in
theorem kw_J18_isElementIndex {G : KG} {σ : KHp} {x0 : Nat} {x1 : Int32} {Q : Int32 → KHp → Prop} {X : String → Nat → KHp → Prop} (h : W_J18_isElementIndex G σ x0 x1 Q X) : kx_c G yJ18_isElementIndex (ws_ yJ18_isElementIndex cJ18_isElementIndex 2 (Option.some Jvm.ClassFile.FieldType.boolean)) 1 0 0 [.ref (x0), .int (x1)] σ (fun rv σ' => ∃ r, rv = some (.int (r)) ∧ Q r σ') X := by
  refine kx_mk3 (ini := false) (by decide) (Nat.le_of_ble_eq_true rfl) (fun h => by cases h) (fun Q1 X1 hQ hX => ?_)
  unfold W_J18_isElementIndex at h
  refine kx_iload_n dJ18_isElementIndex_0 rfl rfl ?_
  refine kW_jI 17 [] h (fun v3 σ4 h => ?_) (fun k1 jk1 h => ?_)
  · skip
    exact kx_zret dJ18_isElementIndex_17 rfl h.1 (hQ _ _ ⟨_, rfl, h.2⟩)
  · skip
    refine kx_if_lt (tgt := 16) dJ18_isElementIndex_1 (by decide) (fun c => ?_) (fun c => ?_)
    · have h := w_ift c h
      refine kx_iconst (v := 0) dJ18_isElementIndex_16 (by decide) ?_
      exact jk1 _ _ h
    · have h := w_iff c h
      refine kx_iload_n dJ18_isElementIndex_4 rfl rfl ?_
      refine kx_aload_n dJ18_isElementIndex_5 rfl rfl ?_
      refine kW_gI dJ18_isElementIndex_6 (kf1 fl_J18_7_J18) h (fun v2 h => ?_)
      refine kx_icmp_ge (tgt := 16) dJ18_isElementIndex_9 (by decide) (fun c => ?_) (fun c => ?_)
      · have h := w_ift c h
        refine kx_iconst (v := 0) dJ18_isElementIndex_16 (by decide) ?_
        exact jk1 _ _ h
      · have h := w_iff c h
        refine kx_iconst (v := 1) dJ18_isElementIndex_12 (by decide) ?_
        refine kx_goto (tgt := 17) dJ18_isElementIndex_13 (by decide) ?_
        exact jk1 _ _ h
set_option maxHeartbeats 8000000 in
theorem kw_J18_unlink {G : KG} {σ : KHp} {x0 : Nat} {x1 : Option Nat} {Q : Option Nat → KHp → Prop} {X : String → Nat → KHp → Prop} (h : W_J18_unlink G σ x0 x1 Q X) : kx_c G yJ18_unlink (ws_ yJ18_unlink cJ18_unlink 5 (Option.some (Jvm.ClassFile.FieldType.object "java/lang/Object"))) 1 0 0 [.ref (x0), va_rf (x1)] σ (fun rv σ' => ∃ r, rv = some (va_rf (r)) ∧ Q r σ') X := by
  refine kx_mk3 (ini := false) (by decide) (by cases x1 <;> exact Nat.le_of_ble_eq_true rfl) (fun h => by cases h) (fun Q1 X1 hQ hX => ?_)
  unfold W_J18_unlink at h
  refine kx_lwF [(0, .ref x0), (1, va_rf (x1))] (by cases x1 <;> exact ⟨rfl, rfl, trivial⟩) ?_
  refine kx_aload_nO dJ18_unlink_0 rfl rfl ?_
  obtain ⟨a1, rfl, hUa1⟩ := h
  have h := hUa1
  refine kW_gO dJ18_unlink_1 (kf1 fl_J18_39_J23) h (fun v2 h => ?_)
  refine kx_astore_nO dJ18_unlink_4 rfl (Nat.le_of_ble_eq_true rfl) ?_
  refine kx_aload_n dJ18_unlink_5 rfl rfl ?_
  refine kW_gO dJ18_unlink_6 (kf1 fl_J18_36_J23) h (fun v3 h => ?_)
  refine kx_astore_nO dJ18_unlink_9 rfl (Nat.le_of_ble_eq_true rfl) ?_
  refine kx_lwF [(0, .ref (x0)), (1, .ref (a1)), (2, va_rf (v2)), (3, va_rf (v3))] (by cases v2 <;> exact ⟨rfl, rfl, rfl, rfl, trivial⟩) ?_
  refine kx_aload_n dJ18_unlink_10 rfl rfl ?_
  refine kW_gO dJ18_unlink_11 (kf1 fl_J18_30_J23) h (fun v4 h => ?_)
  refine kx_astoreO dJ18_unlink_14 (Nat.le_of_ble_eq_true rfl) ?_
  refine kx_lwF [(0, .ref (x0)), (1, .ref (a1)), (2, va_rf (v2)), (3, va_rf (v3)), (4, va_rf (v4))] (by cases v3 <;> exact ⟨rfl, rfl, rfl, rfl, rfl, trivial⟩) ?_
  refine kx_aloadO dJ18_unlink_16 rfl ?_
  refine kx_ifnonnullO (tgt := 29) dJ18_unlink_18 (by decide) (fun c => ?_) (fun c => ?_)
  · have h := w_ift c h
    refine kx_aload_n dJ18_unlink_21 rfl rfl ?_
    refine kx_aload_nO dJ18_unlink_22 rfl rfl ?_
    refine kW_p dJ18_unlink_23 (kp1 ⟨_, _, _, _, kc_J18, fl_J18_18_J18, Or.inl rfl, (by cases v3 <;> rfl), (by cases v3 <;> rfl)⟩) h (fun σ5 h => ?_)
    refine kx_goto (tgt := 40) dJ18_unlink_26 (by decide) ?_
    refine kx_aload_nO dJ18_unlink_40 rfl rfl ?_
    refine kx_ifnonnullO (tgt := 53) dJ18_unlink_41 (by decide) (fun c => ?_) (fun c => ?_)
    · have h := w_ift c h
      refine kx_aload_n dJ18_unlink_44 rfl rfl ?_
      refine kx_aloadO dJ18_unlink_45 rfl ?_
      refine kW_p dJ18_unlink_47 (kp1 ⟨_, _, _, _, kc_J18, fl_J18_27_J18, Or.inl rfl, (by cases v4 <;> rfl), (by cases v4 <;> rfl)⟩) h (fun σ6 h => ?_)
      refine kx_goto (tgt := 64) dJ18_unlink_50 (by decide) ?_
      refine kx_aload_n dJ18_unlink_64 rfl rfl ?_
      refine kx_null dJ18_unlink_65 ?_
      refine kW_p dJ18_unlink_66 (kp1 ⟨_, _, _, _, kc_J23, fl_J18_39_J23, Or.inl rfl, rfl, rfl⟩) h (fun σ7 h => ?_)
      refine kx_aload_n dJ18_unlink_69 rfl rfl ?_
      refine kx_dup dJ18_unlink_70 rfl ?_
      refine kW_gI dJ18_unlink_71 (kf1 fl_J18_7_J18) h (fun v8 h => ?_)
      refine kx_iconst (v := 1) dJ18_unlink_74 (by decide) ?_
      refine kx_isub dJ18_unlink_75 ?_
      refine kW_p dJ18_unlink_76 (kp1 ⟨_, _, _, _, kc_J18, fl_J18_7_J18, Or.inl rfl, rfl, rfl⟩) h (fun σ9 h => ?_)
      refine kx_aload_n dJ18_unlink_79 rfl rfl ?_
      refine kx_dup dJ18_unlink_80 rfl ?_
      refine kW_gI dJ18_unlink_81 (kfc fl_J18_33_J2 (kf1 fl_J18_33_J18)) h (fun v10 h => ?_)
      refine kx_iconst (v := 1) dJ18_unlink_84 (by decide) ?_
      refine kx_iadd dJ18_unlink_85 ?_
      refine kW_p dJ18_unlink_86 (kpc ⟨_, _, _, _, kc_J2, fl_J18_33_J2, Or.inl rfl, rfl, rfl⟩ (kp1 ⟨_, _, _, _, kc_J18, fl_J18_33_J18, Or.inl rfl, rfl, rfl⟩)) h (fun σ11 h => ?_)
      refine kx_aload_nO dJ18_unlink_89 rfl rfl ?_
      exact kx_aret dJ18_unlink_90 rfl (Or.inl ⟨_, rfl⟩) (va_rfs _) (hQ _ _ ⟨_, rfl, h⟩)
    · have h := w_iff c h
      refine kx_aload_nO dJ18_unlink_53 rfl rfl ?_
      refine kx_aloadO dJ18_unlink_54 rfl ?_
      obtain ⟨a12, rfl, hUa12⟩ := h
      have h := hUa12
      refine kW_p dJ18_unlink_56 (kp1 ⟨_, _, _, _, kc_J23, fl_J18_30_J23, Or.inl rfl, (by cases v4 <;> rfl), (by cases v4 <;> rfl)⟩) h (fun σ13 h => ?_)
      refine kx_aload_n dJ18_unlink_59 rfl rfl ?_
      refine kx_null dJ18_unlink_60 ?_
      refine kW_p dJ18_unlink_61 (kp1 ⟨_, _, _, _, kc_J23, fl_J18_36_J23, Or.inl rfl, rfl, rfl⟩) h (fun σ14 h => ?_)
      refine kx_aload_n dJ18_unlink_64 rfl rfl ?_
      refine kx_null dJ18_unlink_65 ?_
      refine kW_p dJ18_unlink_66 (kp1 ⟨_, _, _, _, kc_J23, fl_J18_39_J23, Or.inl rfl, rfl, rfl⟩) h (fun σ15 h => ?_)
      refine kx_aload_n dJ18_unlink_69 rfl rfl ?_
      refine kx_dup dJ18_unlink_70 rfl ?_
      refine kW_gI dJ18_unlink_71 (kf1 fl_J18_7_J18) h (fun v16 h => ?_)
      refine kx_iconst (v := 1) dJ18_unlink_74 (by decide) ?_
      refine kx_isub dJ18_unlink_75 ?_
      refine kW_p dJ18_unlink_76 (kp1 ⟨_, _, _, _, kc_J18, fl_J18_7_J18, Or.inl rfl, rfl, rfl⟩) h (fun σ17 h => ?_)
      refine kx_aload_n dJ18_unlink_79 rfl rfl ?_
      refine kx_dup dJ18_unlink_80 rfl ?_
      refine kW_gI dJ18_unlink_81 (kfc fl_J18_33_J2 (kf1 fl_J18_33_J18)) h (fun v18 h => ?_)
      refine kx_iconst (v := 1) dJ18_unlink_84 (by decide) ?_
      refine kx_iadd dJ18_unlink_85 ?_
      refine kW_p dJ18_unlink_86 (kpc ⟨_, _, _, _, kc_J2, fl_J18_33_J2, Or.inl rfl, rfl, rfl⟩ (kp1 ⟨_, _, _, _, kc_J18, fl_J18_33_J18, Or.inl rfl, rfl, rfl⟩)) h (fun σ19 h => ?_)
      refine kx_aload_nO dJ18_unlink_89 rfl rfl ?_
      exact kx_aret dJ18_unlink_90 rfl (Or.inl ⟨_, rfl⟩) (va_rfs _) (hQ _ _ ⟨_, rfl, h⟩)
  · have h := w_iff c h
    refine kx_aloadO dJ18_unlink_29 rfl ?_
    refine kx_aload_nO dJ18_unlink_31 rfl rfl ?_
    obtain ⟨a20, rfl, hUa20⟩ := h
    have h := hUa20
    refine kW_p dJ18_unlink_32 (kp1 ⟨_, _, _, _, kc_J23, fl_J18_36_J23, Or.inl rfl, (by cases v3 <;> rfl), (by cases v3 <;> rfl)⟩) h (fun σ21 h => ?_)
    refine kx_aload_n dJ18_unlink_35 rfl rfl ?_
    refine kx_null dJ18_unlink_36 ?_
    refine kW_p dJ18_unlink_37 (kp1 ⟨_, _, _, _, kc_J23, fl_J18_30_J23, Or.inl rfl, rfl, rfl⟩) h (fun σ22 h => ?_)
    refine kx_aload_nO dJ18_unlink_40 rfl rfl ?_
    refine kx_ifnonnullO (tgt := 53) dJ18_unlink_41 (by decide) (fun c => ?_) (fun c => ?_)
    · have h := w_ift c h
      refine kx_aload_n dJ18_unlink_44 rfl rfl ?_
      refine kx_aload dJ18_unlink_45 rfl ?_
      refine kW_p dJ18_unlink_47 (kp1 ⟨_, _, _, _, kc_J18, fl_J18_27_J18, Or.inl rfl, rfl, rfl⟩) h (fun σ23 h => ?_)
      refine kx_goto (tgt := 64) dJ18_unlink_50 (by decide) ?_
      refine kx_aload_n dJ18_unlink_64 rfl rfl ?_
      refine kx_null dJ18_unlink_65 ?_
      refine kW_p dJ18_unlink_66 (kp1 ⟨_, _, _, _, kc_J23, fl_J18_39_J23, Or.inl rfl, rfl, rfl⟩) h (fun σ24 h => ?_)
      refine kx_aload_n dJ18_unlink_69 rfl rfl ?_
      refine kx_dup dJ18_unlink_70 rfl ?_
      refine kW_gI dJ18_unlink_71 (kf1 fl_J18_7_J18) h (fun v25 h => ?_)
      refine kx_iconst (v := 1) dJ18_unlink_74 (by decide) ?_
      refine kx_isub dJ18_unlink_75 ?_
      refine kW_p dJ18_unlink_76 (kp1 ⟨_, _, _, _, kc_J18, fl_J18_7_J18, Or.inl rfl, rfl, rfl⟩) h (fun σ26 h => ?_)
      refine kx_aload_n dJ18_unlink_79 rfl rfl ?_
      refine kx_dup dJ18_unlink_80 rfl ?_
      refine kW_gI dJ18_unlink_81 (kfc fl_J18_33_J2 (kf1 fl_J18_33_J18)) h (fun v27 h => ?_)
      refine kx_iconst (v := 1) dJ18_unlink_84 (by decide) ?_
      refine kx_iadd dJ18_unlink_85 ?_
      refine kW_p dJ18_unlink_86 (kpc ⟨_, _, _, _, kc_J2, fl_J18_33_J2, Or.inl rfl, rfl, rfl⟩ (kp1 ⟨_, _, _, _, kc_J18, fl_J18_33_J18, Or.inl rfl, rfl, rfl⟩)) h (fun σ28 h => ?_)
      refine kx_aload_nO dJ18_unlink_89 rfl rfl ?_
      exact kx_aret dJ18_unlink_90 rfl (Or.inl ⟨_, rfl⟩) (va_rfs _) (hQ _ _ ⟨_, rfl, h⟩)
    · have h := w_iff c h
      refine kx_aload_nO dJ18_unlink_53 rfl rfl ?_
      refine kx_aload dJ18_unlink_54 rfl ?_
      obtain ⟨a29, rfl, hUa29⟩ := h
      have h := hUa29
      refine kW_p dJ18_unlink_56 (kp1 ⟨_, _, _, _, kc_J23, fl_J18_30_J23, Or.inl rfl, rfl, rfl⟩) h (fun σ30 h => ?_)
      refine kx_aload_n dJ18_unlink_59 rfl rfl ?_
      refine kx_null dJ18_unlink_60 ?_
      refine kW_p dJ18_unlink_61 (kp1 ⟨_, _, _, _, kc_J23, fl_J18_36_J23, Or.inl rfl, rfl, rfl⟩) h (fun σ31 h => ?_)
      refine kx_aload_n dJ18_unlink_64 rfl rfl ?_
      refine kx_null dJ18_unlink_65 ?_
      refine kW_p dJ18_unlink_66 (kp1 ⟨_, _, _, _, kc_J23, fl_J18_39_J23, Or.inl rfl, rfl, rfl⟩) h (fun σ32 h => ?_)
      refine kx_aload_n dJ18_unlink_69 rfl rfl ?_
      refine kx_dup dJ18_unlink_70 rfl ?_
      refine kW_gI dJ18_unlink_71 (kf1 fl_J18_7_J18) h (fun v33 h => ?_)
      refine kx_iconst (v := 1) dJ18_unlink_74 (by decide) ?_
      refine kx_isub dJ18_unlink_75 ?_
      refine kW_p dJ18_unlink_76 (kp1 ⟨_, _, _, _, kc_J18, fl_J18_7_J18, Or.inl rfl, rfl, rfl⟩) h (fun σ34 h => ?_)
      refine kx_aload_n dJ18_unlink_79 rfl rfl ?_
      refine kx_dup dJ18_unlink_80 rfl ?_
      refine kW_gI dJ18_unlink_81 (kfc fl_J18_33_J2 (kf1 fl_J18_33_J18)) h (fun v35 h => ?_)
      refine kx_iconst (v := 1) dJ18_unlink_84 (by decide) ?_
      refine kx_iadd dJ18_unlink_85 ?_
      refine kW_p dJ18_unlink_86 (kpc ⟨_, _, _, _, kc_J2, fl_J18_33_J2, Or.inl rfl, rfl, rfl⟩ (kp1 ⟨_, _, _, _, kc_J18, fl_J18_33_J18, Or.inl rfl, rfl, rfl⟩)) h (fun σ36 h => ?_)
      refine kx_aload_nO dJ18_unlink_89 rfl rfl ?_
      exact kx_aret dJ18_unlink_90 rfl (Or.inl ⟨_, rfl⟩) (va_rfs _) (hQ _ _ ⟨_, rfl, h⟩)
set_option maxHeartbeats 8000000 in
theorem kw_J19_init {G : KG} {bc bs : Nat} {σ : KHp} {x0 : Nat} {Q : KHp → Prop} {X : String → Nat → KHp → Prop} (h : W_J19_init G bc bs σ x0 Q X) : kx_c G yJ19_init (ws_ yJ19_init cJ19_init 1 (Option.none : Option Jvm.ClassFile.FieldType)) 2 bc bs [.ref (x0)] σ (fun rv σ' => rv = none ∧ Q σ') X := by
  refine kx_mk3 (ini := true) (by decide) (Nat.le_of_ble_eq_true rfl) (fun _ => rfl) (fun Q1 X1 hQ hX => ?_)
  unfold W_J19_init at h
  refine kx_aload_n dJ19_init_0 rfl rfl ?_
  refine kx_callI dJ19_init_1 lk_J19_42 (kw_J0_init h) rfl rfl (Nat.le_of_ble_eq_true rfl) (Nat.le_of_ble_eq_true rfl) (Nat.le_of_ble_eq_true rfl) (Nat.le_of_ble_eq_true rfl) (Nat.le_of_ble_eq_true rfl) (fun _ _ _ hx => kx_out rfl (hX _ _ _ hx)) (fun v_ σ2 hq => ?_)
  obtain ⟨rfl, h⟩ := hq
  refine kx_aload_n dJ19_init_4 rfl rfl ?_
  refine kx_bipush (v := 17) dJ19_init_5 (by decide) ?_
  refine kW_newq dJ19_init_7 q651 q229 h (fun n5 q3 σ4 h => ?_)
  refine kW_p dJ19_init_10 (kp1 ⟨_, _, _, _, kc_J19, fl_J19_3_J19, Or.inl rfl, rfl, rfl⟩) h (fun σ6 h => ?_)
  exact kx_vret dJ19_init_13 rfl (hQ _ _ ⟨rfl, h⟩)
set_option maxHeartbeats 8000000 in
theorem kw_J19_sub {G : KG} {σ : KHp} {x0 : Int32} {x1 : Int32} {x2 : Int32} {Q : Int32 → KHp → Prop} {X : String → Nat → KHp → Prop} (h : W_J19_sub G σ x0 x1 x2 Q X) : kx_c G yJ19_sub (ws_ yJ19_sub cJ19_sub 3 (Option.some Jvm.ClassFile.FieldType.int)) 1 0 0 [.int (x0), .int (x1), .int (x2)] σ (fun rv σ' => ∃ r, rv = some (.int (r)) ∧ Q r σ') X := by
  refine kx_mk3 (ini := false) (by decide) (Nat.le_of_ble_eq_true rfl) (fun h => by cases h) (fun Q1 X1 hQ hX => ?_)
  unfold W_J19_sub at h
  refine kx_iload_n dJ19_sub_0 rfl rfl ?_
  refine kx_iload_n dJ19_sub_1 rfl rfl ?_
  refine kx_isub dJ19_sub_2 ?_
  refine kx_dup dJ19_sub_3 rfl ?_
  refine kx_istore_n dJ19_sub_4 rfl (Nat.le_of_ble_eq_true rfl) ?_
  refine kx_if_ge (tgt := 12) dJ19_sub_5 (by decide) (fun c => ?_) (fun c => ?_)
  · have h := w_ift c h
    refine kx_iload_n dJ19_sub_12 rfl rfl ?_
    exact kx_iret dJ19_sub_13 rfl (hQ _ _ ⟨_, rfl, h⟩)
  · have h := w_iff c h
    refine kx_iload_n dJ19_sub_8 rfl rfl ?_
    refine kx_iload_n dJ19_sub_9 rfl rfl ?_
    refine kx_iadd dJ19_sub_10 ?_
    refine kx_istore_n dJ19_sub_11 rfl (Nat.le_of_ble_eq_true rfl) ?_
    refine kx_iload_n dJ19_sub_12 rfl rfl ?_
    exact kx_iret dJ19_sub_13 rfl (hQ _ _ ⟨_, rfl, h⟩)
set_option maxHeartbeats 8000000 in
theorem kw_J19_elementAt {G : KG} {σ : KHp} {x0 : Option Nat} {x1 : Int32} {Q : Option Nat → KHp → Prop} {X : String → Nat → KHp → Prop} (h : W_J19_elementAt G σ x0 x1 Q X) : kx_c G yJ19_elementAt (ws_ yJ19_elementAt cJ19_elementAt 2 (Option.some (Jvm.ClassFile.FieldType.object "java/lang/Object"))) 1 0 0 [va_rf (x0), .int (x1)] σ (fun rv σ' => ∃ r, rv = some (va_rf (r)) ∧ Q r σ') X := by
  refine kx_mk3 (ini := false) (by decide) (by cases x0 <;> exact Nat.le_of_ble_eq_true rfl) (fun h => by cases h) (fun Q1 X1 hQ hX => ?_)
  unfold W_J19_elementAt at h
  refine kx_lwF [(0, va_rf (x0)), (1, .int (x1))] (by cases x0 <;> exact ⟨rfl, rfl, trivial⟩) ?_
  refine kx_aload_nO dJ19_elementAt_0 rfl rfl ?_
  refine kx_iload_n dJ19_elementAt_1 rfl rfl ?_
  obtain ⟨a1, rfl, hUa1⟩ := h
  have h := hUa1
  refine kW_lO dJ19_elementAt_2 h (fun v2 h => ?_)
  exact kx_aret dJ19_elementAt_3 rfl (Or.inl ⟨_, rfl⟩) (va_rfs _) (hQ _ _ ⟨_, rfl, h⟩)
set_option maxHeartbeats 8000000 in
theorem kw_J19_inc {G : KG} {σ : KHp} {x0 : Int32} {x1 : Int32} {Q : Int32 → KHp → Prop} {X : String → Nat → KHp → Prop} (h : W_J19_inc G σ x0 x1 Q X) : kx_c G yJ19_inc (ws_ yJ19_inc cJ19_inc 2 (Option.some Jvm.ClassFile.FieldType.int)) 1 0 0 [.int (x0), .int (x1)] σ (fun rv σ' => ∃ r, rv = some (.int (r)) ∧ Q r σ') X := by
  refine kx_mk3 (ini := false) (by decide) (Nat.le_of_ble_eq_true rfl) (fun h => by cases h) (fun Q1 X1 hQ hX => ?_)
  unfold W_J19_inc at h
  refine kx_iinc2 (v := 1) dJ19_inc_0 rfl (by decide) ?_
  refine kx_iload_n dJ19_inc_3 rfl rfl ?_
  refine kx_iload_n dJ19_inc_4 rfl rfl ?_
  refine kx_icmp_lt (tgt := 10) dJ19_inc_5 (by decide) (fun c => ?_) (fun c => ?_)
  · have h := w_ift c h
    refine kx_iload_n dJ19_inc_10 rfl rfl ?_
    exact kx_iret dJ19_inc_11 rfl (hQ _ _ ⟨_, rfl, h⟩)
  · have h := w_iff c h
    refine kx_iconst (v := 0) dJ19_inc_8 (by decide) ?_
    refine kx_istore_n dJ19_inc_9 rfl (Nat.le_of_ble_eq_true rfl) ?_
    refine kx_iload_n dJ19_inc_10 rfl rfl ?_
    exact kx_iret dJ19_inc_11 rfl (hQ _ _ ⟨_, rfl, h⟩)
set_option maxHeartbeats 8000000 in
theorem kw_J19_newCapacity {G : KG} {σ : KHp} {x0 : Nat} {x1 : Int32} {x2 : Int32} {Q : Int32 → KHp → Prop} {X : String → Nat → KHp → Prop} (h : W_J19_newCapacity G σ x0 x1 x2 Q X) : kx_c G yJ19_newCapacity (ws_ yJ19_newCapacity cJ19_newCapacity 5 (Option.some Jvm.ClassFile.FieldType.int)) 1 0 0 [.ref (x0), .int (x1), .int (x2)] σ (fun rv σ' => ∃ r, rv = some (.int (r)) ∧ Q r σ') X := by
  refine kx_mk3 (ini := false) (by decide) (Nat.le_of_ble_eq_true rfl) (fun h => by cases h) (fun Q1 X1 hQ hX => ?_)
  unfold W_J19_newCapacity at h
  refine kx_aload_n dJ19_newCapacity_0 rfl rfl ?_
  refine kW_gO dJ19_newCapacity_1 (kf1 fl_J19_3_J19) h (fun v1 h => ?_)
  obtain ⟨a2, rfl, hUa2⟩ := h
  have h := hUa2
  refine kW_len dJ19_newCapacity_4 h (fun v3 h => ?_)
  refine kx_istore_n dJ19_newCapacity_5 rfl (Nat.le_of_ble_eq_true rfl) ?_
  refine kx_iload_n dJ19_newCapacity_6 rfl rfl ?_
  refine kx_iload_n dJ19_newCapacity_7 rfl rfl ?_
  refine kx_iadd dJ19_newCapacity_8 ?_
  refine kx_dup dJ19_newCapacity_9 rfl ?_
  refine kx_istore dJ19_newCapacity_10 (Nat.le_of_ble_eq_true rfl) ?_
  refine kx_ldci dJ19_newCapacity_12 q1559 ?_
  refine kx_isub dJ19_newCapacity_14 ?_
  refine kx_if_le (tgt := 36) dJ19_newCapacity_15 (by decide) (fun c => ?_) (fun c => ?_)
  · have h := w_ift c h
    refine kx_iload_n dJ19_newCapacity_36 rfl rfl ?_
    refine kx_iload_n dJ19_newCapacity_37 rfl rfl ?_
    refine kx_icmp_le (tgt := 44) dJ19_newCapacity_38 (by decide) (fun c => ?_) (fun c => ?_)
    · have h := w_ift c h
      refine kx_iload_n dJ19_newCapacity_44 rfl rfl ?_
      refine kx_iload_n dJ19_newCapacity_45 rfl rfl ?_
      refine kx_iadd dJ19_newCapacity_46 ?_
      refine kx_ldci dJ19_newCapacity_47 q1559 ?_
      refine kx_isub dJ19_newCapacity_49 ?_
      refine kW_jI 61 [] h (fun v5 σ6 h => ?_) (fun k4 jk4 h => ?_)
      · skip
        exact kx_iret dJ19_newCapacity_61 rfl (hQ _ _ ⟨_, rfl, h⟩)
      · skip
        refine kx_if_ge (tgt := 59) dJ19_newCapacity_50 (by decide) (fun c => ?_) (fun c => ?_)
        · have h := w_ift c h
          refine kx_ldci dJ19_newCapacity_59 q1559 ?_
          exact jk4 _ _ h
        · have h := w_iff c h
          refine kx_iload_n dJ19_newCapacity_53 rfl rfl ?_
          refine kx_iload_n dJ19_newCapacity_54 rfl rfl ?_
          refine kx_iadd dJ19_newCapacity_55 ?_
          refine kx_goto (tgt := 61) dJ19_newCapacity_56 (by decide) ?_
          exact jk4 _ _ h
    · have h := w_iff c h
      refine kx_iload dJ19_newCapacity_41 rfl ?_
      exact kx_iret dJ19_newCapacity_43 rfl (hQ _ _ ⟨_, rfl, h⟩)
  · have h := w_iff c h
    refine kx_iload dJ19_newCapacity_18 rfl ?_
    refine kx_if_ge (tgt := 33) dJ19_newCapacity_20 (by decide) (fun c => ?_) (fun c => ?_)
    · have h := w_ift c h
      refine kx_ldci dJ19_newCapacity_33 q1580 ?_
      exact kx_iret dJ19_newCapacity_35 rfl (hQ _ _ ⟨_, rfl, h⟩)
    · have h := w_iff c h
      exact h.elim
set_option maxHeartbeats 8000000 in
theorem kw_J19_nonNullElementAt {G : KG} {σ : KHp} {x0 : Option Nat} {x1 : Int32} {Q : Option Nat → KHp → Prop} {X : String → Nat → KHp → Prop} (h : W_J19_nonNullElementAt G σ x0 x1 Q X) : kx_c G yJ19_nonNullElementAt (ws_ yJ19_nonNullElementAt cJ19_nonNullElementAt 3 (Option.some (Jvm.ClassFile.FieldType.object "java/lang/Object"))) 1 0 0 [va_rf (x0), .int (x1)] σ (fun rv σ' => ∃ r, rv = some (va_rf (r)) ∧ Q r σ') X := by
  refine kx_mk3 (ini := false) (by decide) (by cases x0 <;> exact Nat.le_of_ble_eq_true rfl) (fun h => by cases h) (fun Q1 X1 hQ hX => ?_)
  unfold W_J19_nonNullElementAt at h
  refine kx_lwF [(0, va_rf (x0)), (1, .int (x1))] (by cases x0 <;> exact ⟨rfl, rfl, trivial⟩) ?_
  refine kx_aload_nO dJ19_nonNullElementAt_0 rfl rfl ?_
  refine kx_iload_n dJ19_nonNullElementAt_1 rfl rfl ?_
  obtain ⟨a1, rfl, hUa1⟩ := h
  have h := hUa1
  refine kW_lO dJ19_nonNullElementAt_2 h (fun v2 h => ?_)
  refine kx_astore_nO dJ19_nonNullElementAt_3 rfl (Nat.le_of_ble_eq_true rfl) ?_
  refine kx_aload_nO dJ19_nonNullElementAt_4 rfl rfl ?_
  refine kx_ifnonnullO (tgt := 16) dJ19_nonNullElementAt_5 (by decide) (fun c => ?_) (fun c => ?_)
  · have h := w_ift c h
    exact h.elim
  · have h := w_iff c h
    refine kx_aload_nO dJ19_nonNullElementAt_16 rfl rfl ?_
    exact kx_aret dJ19_nonNullElementAt_17 rfl (Or.inl ⟨_, rfl⟩) (va_rfs _) (hQ _ _ ⟨_, rfl, h⟩)
set_option maxHeartbeats 8000000 in
theorem kw_J19_circularClear {G : KG} {σ : KHp} {x0 : Option Nat} {x1 : Int32} {x2 : Int32} {Q : KHp → Prop} {X : String → Nat → KHp → Prop} (h : W_J19_circularClear G σ x0 x1 x2 Q X) : kx_c G yJ19_circularClear (ws_ yJ19_circularClear cJ19_circularClear 4 (Option.none : Option Jvm.ClassFile.FieldType)) 1 0 0 [va_rf (x0), .int (x1), .int (x2)] σ (fun rv σ' => rv = none ∧ Q σ') X := by
  refine kx_mk3 (ini := false) (by decide) (by cases x0 <;> exact Nat.le_of_ble_eq_true rfl) (fun h => by cases h) (fun Q1 X1 hQ hX => ?_)
  unfold W_J19_circularClear at h
  refine kx_lwF [(0, va_rf (x0)), (1, .int (x1)), (2, .int (x2))] (by cases x0 <;> exact ⟨rfl, rfl, rfl, trivial⟩) ?_
  refine kx_iload_n dJ19_circularClear_0 rfl rfl ?_
  refine kx_iload_n dJ19_circularClear_1 rfl rfl ?_
  refine kW_jI 11 [] h (fun v4 σ5 h => ?_) (fun k1 jk1 h => ?_)
  · skip
    refine kx_istore_n dJ19_circularClear_11 rfl (Nat.le_of_ble_eq_true rfl) ?_
    refine kx_lwF [(0, va_rf (x0)), (1, .int (x1)), (2, .int (x2)), (3, .int (v4))] ⟨rfl, rfl, rfl, rfl, trivial⟩ ?_
    refine loopW2_k (fun (σ : KHp) (l1 : Int32) (l3 : Int32) => kx G (yJ19_circularClear.cls, cJ19_circularClear, 4, (Option.none : Option Jvm.ClassFile.FieldType), false, []) (1, 0, 0, Q1, X1) (0) (0) σ 12 (kF [(0, va_rf (x0)), (1, .int (l1)), (2, .int (x2)), (3, .int (l3))]) []) (fun kI12 hI12 σ l1 l3 h => ?_) 9000 σ5 x1 v4 h
    unfold WB_J19_circularClear_12 at h
    refine kx_iload_n dJ19_circularClear_12 rfl rfl ?_
    refine kx_iload_n dJ19_circularClear_13 rfl rfl ?_
    refine kx_icmp_ge (tgt := 27) dJ19_circularClear_14 (by decide) (fun c => ?_) (fun c => ?_)
    · have h := w_ift c h
      refine kx_iload_n dJ19_circularClear_27 rfl rfl ?_
      refine kx_iload_n dJ19_circularClear_28 rfl rfl ?_
      refine kx_icmp_ne (tgt := 35) dJ19_circularClear_29 (by decide) (fun c => ?_) (fun c => ?_)
      · have h := w_iff c h
        refine kx_iconst (v := 0) dJ19_circularClear_35 (by decide) ?_
        refine kx_istore_n dJ19_circularClear_36 rfl (Nat.le_of_ble_eq_true rfl) ?_
        refine kx_lwF [(0, va_rf (x0)), (1, .int ((0 : Int32))), (2, .int (x2))] (by cases x0 <;> exact ⟨rfl, rfl, rfl, trivial⟩) ?_
        refine kx_iload_n dJ19_circularClear_37 rfl rfl ?_
        refine kx_istore_n dJ19_circularClear_38 rfl (Nat.le_of_ble_eq_true rfl) ?_
        refine kx_goto (tgt := 12) dJ19_circularClear_39 (by decide) ?_
        exact kx_lwF [(0, va_rf (x0)), (1, .int ((0 : Int32))), (2, .int (x2)), (3, .int (x2))] ⟨rfl, rfl, rfl, rfl, trivial⟩ (hI12 _ _ _ h)
      · have h := w_ift c h
        refine kx_goto (tgt := 42) dJ19_circularClear_32 (by decide) ?_
        exact kx_vret dJ19_circularClear_42 rfl (hQ _ _ ⟨rfl, h⟩)
    · have h := w_iff c h
      refine kx_aload_nO dJ19_circularClear_17 rfl rfl ?_
      refine kx_iload_n dJ19_circularClear_18 rfl rfl ?_
      refine kx_null dJ19_circularClear_19 ?_
      obtain ⟨a13001, rfl, hUa13001⟩ := h
      have h := hUa13001
      refine kW_sO dJ19_circularClear_20 h (fun σ13002 h => ?_)
      refine kx_iinc2 (v := 1) dJ19_circularClear_21 rfl (by decide) ?_
      refine kx_goto (tgt := 12) dJ19_circularClear_24 (by decide) ?_
      exact kx_lwF [(0, .ref (a13001)), (1, .int ((l1 + (1 : Int32)))), (2, .int (x2)), (3, .int (l3))] ⟨rfl, rfl, rfl, rfl, trivial⟩ (hI12 _ _ _ h)
  · skip
    refine kx_icmp_gt (tgt := 9) dJ19_circularClear_2 (by decide) (fun c => ?_) (fun c => ?_)
    · have h := w_ift c h
      refine kx_aload_nO dJ19_circularClear_9 rfl rfl ?_
      obtain ⟨a2, rfl, hUa2⟩ := h
      have h := hUa2
      refine kW_len dJ19_circularClear_10 h (fun v3 h => ?_)
      exact jk1 _ _ h
    · have h := w_iff c h
      refine kx_iload_n dJ19_circularClear_5 rfl rfl ?_
      refine kx_goto (tgt := 11) dJ19_circularClear_6 (by decide) ?_
      exact jk1 _ _ h
set_option maxHeartbeats 8000000 in
theorem kw_J19_isEmpty {G : KG} {σ : KHp} {x0 : Nat} {Q : Int32 → KHp → Prop} {X : String → Nat → KHp → Prop} (h : W_J19_isEmpty G σ x0 Q X) : kx_c G yJ19_isEmpty (ws_ yJ19_isEmpty cJ19_isEmpty 1 (Option.some Jvm.ClassFile.FieldType.boolean)) 1 0 0 [.ref (x0)] σ (fun rv σ' => ∃ r, rv = some (.int (r)) ∧ Q r σ') X := by
  refine kx_mk3 (ini := false) (by decide) (Nat.le_of_ble_eq_true rfl) (fun h => by cases h) (fun Q1 X1 hQ hX => ?_)
  unfold W_J19_isEmpty at h
  refine kx_aload_n dJ19_isEmpty_0 rfl rfl ?_
  refine kW_gI dJ19_isEmpty_1 (kf1 fl_J19_24_J19) h (fun v1 h => ?_)
  refine kx_aload_n dJ19_isEmpty_4 rfl rfl ?_
  refine kW_gI dJ19_isEmpty_5 (kf1 fl_J19_20_J19) h (fun v2 h => ?_)
  refine kW_jI 16 [] h (fun v4 σ5 h => ?_) (fun k3 jk3 h => ?_)
  · skip
    exact kx_zret dJ19_isEmpty_16 rfl h.1 (hQ _ _ ⟨_, rfl, h.2⟩)
  · skip
    refine kx_icmp_ne (tgt := 15) dJ19_isEmpty_8 (by decide) (fun c => ?_) (fun c => ?_)
    · have h := w_iff c h
      refine kx_iconst (v := 0) dJ19_isEmpty_15 (by decide) ?_
      exact jk3 _ _ h
    · have h := w_ift c h
      refine kx_iconst (v := 1) dJ19_isEmpty_11 (by decide) ?_
      refine kx_goto (tgt := 16) dJ19_isEmpty_12 (by decide) ?_
      exact jk3 _ _ h
set_option maxHeartbeats 8000000 in
theorem kw_J19_dec {G : KG} {σ : KHp} {x0 : Int32} {x1 : Int32} {Q : Int32 → KHp → Prop} {X : String → Nat → KHp → Prop} (h : W_J19_dec G σ x0 x1 Q X) : kx_c G yJ19_dec (ws_ yJ19_dec cJ19_dec 2 (Option.some Jvm.ClassFile.FieldType.int)) 1 0 0 [.int (x0), .int (x1)] σ (fun rv σ' => ∃ r, rv = some (.int (r)) ∧ Q r σ') X := by
  refine kx_mk3 (ini := false) (by decide) (Nat.le_of_ble_eq_true rfl) (fun h => by cases h) (fun Q1 X1 hQ hX => ?_)
  unfold W_J19_dec at h
  refine kx_iinc2 (v := -1) dJ19_dec_0 rfl (by decide) ?_
  refine kx_iload_n dJ19_dec_3 rfl rfl ?_
  refine kx_if_ge (tgt := 11) dJ19_dec_4 (by decide) (fun c => ?_) (fun c => ?_)
  · have h := w_ift c h
    refine kx_iload_n dJ19_dec_11 rfl rfl ?_
    exact kx_iret dJ19_dec_12 rfl (hQ _ _ ⟨_, rfl, h⟩)
  · have h := w_iff c h
    refine kx_iload_n dJ19_dec_7 rfl rfl ?_
    refine kx_iconst (v := 1) dJ19_dec_8 (by decide) ?_
    refine kx_isub dJ19_dec_9 ?_
    refine kx_istore_n dJ19_dec_10 rfl (Nat.le_of_ble_eq_true rfl) ?_
    refine kx_iload_n dJ19_dec_11 rfl rfl ?_
    exact kx_iret dJ19_dec_12 rfl (hQ _ _ ⟨_, rfl, h⟩)
set_option maxHeartbeats 8000000 in
theorem kw_J22_checkIndex {G : KG} {σ : KHp} {x0 : Int32} {x1 : Int32} {Q : Int32 → KHp → Prop} {X : String → Nat → KHp → Prop} (h : W_J22_checkIndex G σ x0 x1 Q X) : kx_c G yJ22_checkIndex (ws_ yJ22_checkIndex cJ22_checkIndex 2 (Option.some Jvm.ClassFile.FieldType.int)) 2 0 0 [.int (x0), .int (x1)] σ (fun rv σ' => ∃ r, rv = some (.int (r)) ∧ Q r σ') X := by
  refine kx_mk3 (ini := false) (by decide) (Nat.le_of_ble_eq_true rfl) (fun h => by cases h) (fun Q1 X1 hQ hX => ?_)
  unfold W_J22_checkIndex at h
  refine kx_iload_n dJ22_checkIndex_0 rfl rfl ?_
  refine kx_iload_n dJ22_checkIndex_1 rfl rfl ?_
  refine kx_null dJ22_checkIndex_2 ?_
  refine kx_callS dJ22_checkIndex_3 lk_J22_105 (kw_J14_checkIndex h) rfl rfl (Nat.le_of_ble_eq_true rfl) (Nat.le_of_ble_eq_true rfl) (Nat.le_of_ble_eq_true rfl) (Nat.le_of_ble_eq_true rfl) (Nat.le_of_ble_eq_true rfl) (fun _ _ _ hx => kx_out rfl (hX _ _ _ hx)) (fun v_ σ2 hq => ?_)
  obtain ⟨v1, rfl, h⟩ := hq
  exact kx_iret dJ22_checkIndex_6 rfl (hQ _ _ ⟨_, rfl, h⟩)
set_option maxHeartbeats 8000000 in
theorem kw_J23_init {G : KG} {σ : KHp} {x0 : Nat} {x1 : Option Nat} {x2 : Option Nat} {x3 : Option Nat} {Q : KHp → Prop} {X : String → Nat → KHp → Prop} (h : W_J23_init G σ x0 x1 x2 x3 Q X) : kx_c G yJ23_init (ws_ yJ23_init cJ23_init 4 (Option.none : Option Jvm.ClassFile.FieldType)) 1 0 0 [.ref (x0), va_rf (x1), va_rf (x2), va_rf (x3)] σ (fun rv σ' => rv = none ∧ Q σ') X := by
  refine kx_mk3 (ini := true) (by decide) (by cases x1 <;> cases x2 <;> cases x3 <;> exact Nat.le_of_ble_eq_true rfl) (fun _ => rfl) (fun Q1 X1 hQ hX => ?_)
  unfold W_J23_init at h
  refine kx_lwF [(0, .ref x0), (1, va_rf (x1)), (2, va_rf (x2)), (3, va_rf (x3))] (by cases x1 <;> cases x2 <;> cases x3 <;> exact ⟨rfl, rfl, rfl, rfl, trivial⟩) ?_
  refine kx_aload_n dJ23_init_0 rfl rfl ?_
  refine kx_oinit dJ23_init_1 q1489 q206 q207 (Nat.le_of_ble_eq_true rfl) (Nat.le_of_ble_eq_true rfl) ?_
  refine kx_aload_n dJ23_init_4 rfl rfl ?_
  refine kx_aload_nO dJ23_init_5 rfl rfl ?_
  refine kW_p dJ23_init_6 (kp1 ⟨_, _, _, _, kc_J23, fl_J23_7_J23, Or.inl rfl, (by cases x2 <;> rfl), (by cases x2 <;> rfl)⟩) h (fun σ1 h => ?_)
  refine kx_aload_n dJ23_init_9 rfl rfl ?_
  refine kx_aload_nO dJ23_init_10 rfl rfl ?_
  refine kW_p dJ23_init_11 (kp1 ⟨_, _, _, _, kc_J23, fl_J23_13_J23, Or.inl rfl, (by cases x3 <;> rfl), (by cases x3 <;> rfl)⟩) h (fun σ2 h => ?_)
  refine kx_aload_n dJ23_init_14 rfl rfl ?_
  refine kx_aload_nO dJ23_init_15 rfl rfl ?_
  refine kW_p dJ23_init_16 (kp1 ⟨_, _, _, _, kc_J23, fl_J23_17_J23, Or.inl rfl, (by cases x1 <;> rfl), (by cases x1 <;> rfl)⟩) h (fun σ3 h => ?_)
  exact kx_vret dJ23_init_19 rfl (hQ _ _ ⟨rfl, h⟩)
set_option maxHeartbeats 8000000 in
theorem kw_J30_init {G : KG} {σ : KHp} {x0 : Nat} {x1 : Option Nat} {x2 : Int32} {Q : KHp → Prop} {X : String → Nat → KHp → Prop} (h : W_J30_init G σ x0 x1 x2 Q X) : kx_c G yJ30_init (ws_ yJ30_init cJ30_init 3 (Option.none : Option Jvm.ClassFile.FieldType)) 2 0 0 [.ref (x0), va_rf (x1), .int (x2)] σ (fun rv σ' => rv = none ∧ Q σ') X := by
  refine kx_mk3 (ini := true) (by decide) (by cases x1 <;> exact Nat.le_of_ble_eq_true rfl) (fun _ => rfl) (fun Q1 X1 hQ hX => ?_)
  unfold W_J30_init at h
  refine kx_lwF [(0, .ref x0), (1, va_rf (x1)), (2, .int (x2))] (by cases x1 <;> exact ⟨rfl, rfl, rfl, trivial⟩) ?_
  refine kx_aload_n dJ30_init_0 rfl rfl ?_
  refine kx_aload_nO dJ30_init_1 rfl rfl ?_
  refine kW_p dJ30_init_2 (kp1 ⟨_, _, _, _, kc_J30, fl_J30_1_J30, Or.inr ⟨rfl, rfl, q1748⟩, (by cases x1 <;> rfl), (by cases x1 <;> rfl)⟩) h (fun σ1 h => ?_)
  refine kx_aload_n dJ30_init_5 rfl rfl ?_
  refine kx_oinit dJ30_init_6 q1739 q206 q207 (Nat.le_of_ble_eq_true rfl) (Nat.le_of_ble_eq_true rfl) ?_
  refine kx_aload_n dJ30_init_9 rfl rfl ?_
  refine kx_aload_n dJ30_init_10 rfl rfl ?_
  refine kW_gO dJ30_init_11 (kf1 fl_J30_1_J30) h (fun v2 h => ?_)
  obtain ⟨a3, rfl, hUa3⟩ := h
  have h := hUa3
  refine kW_gI dJ30_init_14 (kfc fl_J30_13_J2 (kf1 fl_J30_13_J18)) h (fun v4 h => ?_)
  refine kW_p dJ30_init_17 (kp1 ⟨_, _, _, _, kc_J30, fl_J30_19_J30, Or.inl rfl, rfl, rfl⟩) h (fun σ5 h => ?_)
  refine kx_aload_n dJ30_init_20 rfl rfl ?_
  refine kx_iload_n dJ30_init_21 rfl rfl ?_
  refine kx_aload_nO dJ30_init_22 rfl rfl ?_
  obtain ⟨a6, rfl, hUa6⟩ := h
  have h := hUa6
  refine kW_gI dJ30_init_23 (kf1 fl_J30_22_J18) h (fun v7 h => ?_)
  refine kW_jO 38 [.ref (x0)] h (fun v11 σ12 h => ?_) (fun k8 jk8 h => ?_)
  · skip
    refine kW_p dJ30_init_38 (kp1 ⟨_, _, _, _, kc_J30, fl_J30_29_J30, Or.inl rfl, (by cases v11 <;> rfl), (by cases v11 <;> rfl)⟩) h (fun σ13 h => ?_)
    refine kx_aload_n dJ30_init_41 rfl rfl ?_
    refine kx_iload_n dJ30_init_42 rfl rfl ?_
    refine kW_p dJ30_init_43 (kp1 ⟨_, _, _, _, kc_J30, fl_J30_33_J30, Or.inl rfl, rfl, rfl⟩) h (fun σ14 h => ?_)
    exact kx_vret dJ30_init_46 rfl (hQ _ _ ⟨rfl, h⟩)
  · skip
    refine kx_icmp_ne (tgt := 33) dJ30_init_26 (by decide) (fun c => ?_) (fun c => ?_)
    · have h := w_iff c h
      refine kx_aload_n dJ30_init_33 rfl rfl ?_
      refine kx_iload_n dJ30_init_34 rfl rfl ?_
      obtain ⟨hr, h⟩ := h
      refine kx_callV dJ30_init_35 lk_J30_25 (kw_J18_node h) rfl (wR_rc hr rfl) rfl (Nat.le_of_ble_eq_true rfl) (Nat.le_of_ble_eq_true rfl) (Nat.le_of_ble_eq_true rfl) (Nat.le_of_ble_eq_true rfl) (Nat.le_of_ble_eq_true rfl) (fun _ _ _ hx => kx_out rfl (hX _ _ _ hx)) (fun v_ σ10 hq => ?_)
      obtain ⟨v9, rfl, h⟩ := hq
      exact jk8 (v9) _ h
    · have h := w_ift c h
      refine kx_null dJ30_init_29 ?_
      refine kx_goto (tgt := 38) dJ30_init_30 (by decide) ?_
      exact jk8 none _ h
set_option maxHeartbeats 8000000 in
theorem kw_J30_hasNext {G : KG} {σ : KHp} {x0 : Nat} {Q : Int32 → KHp → Prop} {X : String → Nat → KHp → Prop} (h : W_J30_hasNext G σ x0 Q X) : kx_c G yJ30_hasNext (ws_ yJ30_hasNext cJ30_hasNext 1 (Option.some Jvm.ClassFile.FieldType.boolean)) 1 0 0 [.ref (x0)] σ (fun rv σ' => ∃ r, rv = some (.int (r)) ∧ Q r σ') X := by
  refine kx_mk3 (ini := false) (by decide) (Nat.le_of_ble_eq_true rfl) (fun h => by cases h) (fun Q1 X1 hQ hX => ?_)
  unfold W_J30_hasNext at h
  refine kx_aload_n dJ30_hasNext_0 rfl rfl ?_
  refine kW_gI dJ30_hasNext_1 (kf1 fl_J30_33_J30) h (fun v1 h => ?_)
  refine kx_aload_n dJ30_hasNext_4 rfl rfl ?_
  refine kW_gO dJ30_hasNext_5 (kf1 fl_J30_1_J30) h (fun v2 h => ?_)
  obtain ⟨a3, rfl, hUa3⟩ := h
  have h := hUa3
  refine kW_gI dJ30_hasNext_8 (kf1 fl_J30_22_J18) h (fun v4 h => ?_)
  refine kW_jI 19 [] h (fun v6 σ7 h => ?_) (fun k5 jk5 h => ?_)
  · skip
    exact kx_zret dJ30_hasNext_19 rfl h.1 (hQ _ _ ⟨_, rfl, h.2⟩)
  · skip
    refine kx_icmp_ge (tgt := 18) dJ30_hasNext_11 (by decide) (fun c => ?_) (fun c => ?_)
    · have h := w_ift c h
      refine kx_iconst (v := 0) dJ30_hasNext_18 (by decide) ?_
      exact jk5 _ _ h
    · have h := w_iff c h
      refine kx_iconst (v := 1) dJ30_hasNext_14 (by decide) ?_
      refine kx_goto (tgt := 19) dJ30_hasNext_15 (by decide) ?_
      exact jk5 _ _ h
set_option maxHeartbeats 8000000 in
theorem kw_J30_checkForComodification {G : KG} {σ : KHp} {x0 : Nat} {Q : KHp → Prop} {X : String → Nat → KHp → Prop} (h : W_J30_checkForComodification G σ x0 Q X) : kx_c G yJ30_checkForComodification (ws_ yJ30_checkForComodification cJ30_checkForComodification 1 (Option.none : Option Jvm.ClassFile.FieldType)) 1 0 0 [.ref (x0)] σ (fun rv σ' => rv = none ∧ Q σ') X := by
  refine kx_mk3 (ini := false) (by decide) (Nat.le_of_ble_eq_true rfl) (fun h => by cases h) (fun Q1 X1 hQ hX => ?_)
  unfold W_J30_checkForComodification at h
  refine kx_aload_n dJ30_checkForComodification_0 rfl rfl ?_
  refine kW_gO dJ30_checkForComodification_1 (kf1 fl_J30_1_J30) h (fun v1 h => ?_)
  obtain ⟨a2, rfl, hUa2⟩ := h
  have h := hUa2
  refine kW_gI dJ30_checkForComodification_4 (kfc fl_J30_13_J2 (kf1 fl_J30_13_J18)) h (fun v3 h => ?_)
  refine kx_aload_n dJ30_checkForComodification_7 rfl rfl ?_
  refine kW_gI dJ30_checkForComodification_8 (kf1 fl_J30_19_J30) h (fun v4 h => ?_)
  refine kx_icmp_eq (tgt := 22) dJ30_checkForComodification_11 (by decide) (fun c => ?_) (fun c => ?_)
  · have h := w_ift c h
    exact kx_vret dJ30_checkForComodification_22 rfl (hQ _ _ ⟨rfl, h⟩)
  · have h := w_iff c h
    exact h.elim
set_option maxHeartbeats 8000000 in
theorem kw_J31_hasNext {G : KG} {σ : KHp} {x0 : Nat} {Q : Int32 → KHp → Prop} {X : String → Nat → KHp → Prop} (h : W_J31_hasNext G σ x0 Q X) : kx_c G yJ31_hasNext (ws_ yJ31_hasNext cJ31_hasNext 1 (Option.some Jvm.ClassFile.FieldType.boolean)) 1 0 0 [.ref (x0)] σ (fun rv σ' => ∃ r, rv = some (.int (r)) ∧ Q r σ') X := by
  refine kx_mk3 (ini := false) (by decide) (Nat.le_of_ble_eq_true rfl) (fun h => by cases h) (fun Q1 X1 hQ hX => ?_)
  unfold W_J31_hasNext at h
  refine kx_aload_n dJ31_hasNext_0 rfl rfl ?_
  refine kW_gI dJ31_hasNext_1 (kf1 fl_J31_19_J31) h (fun v1 h => ?_)
  refine kW_jI 12 [] h (fun v3 σ4 h => ?_) (fun k2 jk2 h => ?_)
  · skip
    exact kx_zret dJ31_hasNext_12 rfl h.1 (hQ _ _ ⟨_, rfl, h.2⟩)
  · skip
    refine kx_if_le (tgt := 11) dJ31_hasNext_4 (by decide) (fun c => ?_) (fun c => ?_)
    · have h := w_ift c h
      refine kx_iconst (v := 0) dJ31_hasNext_11 (by decide) ?_
      exact jk2 _ _ h
    · have h := w_iff c h
      refine kx_iconst (v := 1) dJ31_hasNext_7 (by decide) ?_
      refine kx_goto (tgt := 12) dJ31_hasNext_8 (by decide) ?_
      exact jk2 _ _ h
set_option maxHeartbeats 8000000 in
theorem kw_J31_next {G : KG} {σ : KHp} {x0 : Nat} {Q : Option Nat → KHp → Prop} {X : String → Nat → KHp → Prop} (h : W_J31_next G σ x0 Q X) : kx_c G yJ31_next (ws_ yJ31_next cJ31_next 3 (Option.some (Jvm.ClassFile.FieldType.object "java/lang/Object"))) 2 0 0 [.ref (x0)] σ (fun rv σ' => ∃ r, rv = some (va_rf (r)) ∧ Q r σ') X := by
  refine kx_mk3 (ini := false) (by decide) (Nat.le_of_ble_eq_true rfl) (fun h => by cases h) (fun Q1 X1 hQ hX => ?_)
  unfold W_J31_next at h
  refine kx_aload_n dJ31_next_0 rfl rfl ?_
  refine kW_gI dJ31_next_1 (kf1 fl_J31_19_J31) h (fun v1 h => ?_)
  refine kx_if_gt (tgt := 15) dJ31_next_4 (by decide) (fun c => ?_) (fun c => ?_)
  · have h := w_ift c h
    refine kx_aload_n dJ31_next_15 rfl rfl ?_
    refine kW_gO dJ31_next_16 (kf1 fl_J31_1_J31) h (fun v2 h => ?_)
    obtain ⟨a3, rfl, hUa3⟩ := h
    have h := hUa3
    refine kW_gO dJ31_next_19 (kf1 fl_J31_35_J19) h (fun v4 h => ?_)
    refine kx_astore_nO dJ31_next_22 rfl (Nat.le_of_ble_eq_true rfl) ?_
    refine kx_aload_nO dJ31_next_23 rfl rfl ?_
    refine kx_aload_n dJ31_next_24 rfl rfl ?_
    refine kW_gI dJ31_next_25 (kf1 fl_J31_29_J31) h (fun v5 h => ?_)
    refine kx_callS dJ31_next_28 lk_J31_39 (kw_J19_nonNullElementAt h) rfl rfl (Nat.le_of_ble_eq_true rfl) (Nat.le_of_ble_eq_true rfl) (Nat.le_of_ble_eq_true rfl) (Nat.le_of_ble_eq_true rfl) (Nat.le_of_ble_eq_true rfl) (fun _ _ _ hx => kx_out rfl (hX _ _ _ hx)) (fun v_ σ7 hq => ?_)
    obtain ⟨v6, rfl, h⟩ := hq
    refine kx_astore_nO dJ31_next_31 rfl (Nat.le_of_ble_eq_true rfl) ?_
    refine kx_lwF [(0, .ref (x0)), (1, va_rf (v4)), (2, va_rf (v6))] (by cases v4 <;> exact ⟨rfl, rfl, rfl, trivial⟩) ?_
    refine kx_aload_n dJ31_next_32 rfl rfl ?_
    refine kx_aload_n dJ31_next_33 rfl rfl ?_
    refine kx_aload_n dJ31_next_34 rfl rfl ?_
    refine kW_gI dJ31_next_35 (kf1 fl_J31_29_J31) h (fun v8 h => ?_)
    refine kx_dup_x1 dJ31_next_38 rfl rfl ?_
    refine kW_p dJ31_next_39 (kp1 ⟨_, _, _, _, kc_J31, fl_J31_23_J31, Or.inl rfl, rfl, rfl⟩) h (fun σ9 h => ?_)
    refine kx_aload_nO dJ31_next_42 rfl rfl ?_
    obtain ⟨a10, rfl, hUa10⟩ := h
    have h := hUa10
    refine kW_len dJ31_next_43 h (fun v11 h => ?_)
    refine kx_callS dJ31_next_44 lk_J31_43 (kw_J19_inc h) rfl rfl (Nat.le_of_ble_eq_true rfl) (Nat.le_of_ble_eq_true rfl) (Nat.le_of_ble_eq_true rfl) (Nat.le_of_ble_eq_true rfl) (Nat.le_of_ble_eq_true rfl) (fun _ _ _ hx => kx_out rfl (hX _ _ _ hx)) (fun v_ σ13 hq => ?_)
    obtain ⟨v12, rfl, h⟩ := hq
    refine kW_p dJ31_next_47 (kp1 ⟨_, _, _, _, kc_J31, fl_J31_29_J31, Or.inl rfl, rfl, rfl⟩) h (fun σ14 h => ?_)
    refine kx_aload_n dJ31_next_50 rfl rfl ?_
    refine kx_dup dJ31_next_51 rfl ?_
    refine kW_gI dJ31_next_52 (kf1 fl_J31_19_J31) h (fun v15 h => ?_)
    refine kx_iconst (v := 1) dJ31_next_55 (by decide) ?_
    refine kx_isub dJ31_next_56 ?_
    refine kW_p dJ31_next_57 (kp1 ⟨_, _, _, _, kc_J31, fl_J31_19_J31, Or.inl rfl, rfl, rfl⟩) h (fun σ16 h => ?_)
    refine kx_aload_nO dJ31_next_60 rfl rfl ?_
    exact kx_aret dJ31_next_61 rfl (Or.inl ⟨_, rfl⟩) (va_rfs _) (hQ _ _ ⟨_, rfl, h⟩)
  · have h := w_iff c h
    exact h.elim
set_option maxHeartbeats 8000000 in
theorem kw_X1_inRange {G : KG} {σ : KHp} {x0 : Int64} {x2 : Int64} {x4 : Int64} {Q : Int32 → KHp → Prop} {X : String → Nat → KHp → Prop} (h : W_X1_inRange G σ x0 x2 x4 Q X) : kx_c G yX1_inRange (ws_ yX1_inRange cX1_inRange 6 (Option.some Jvm.ClassFile.FieldType.boolean)) 1 0 0 [.long (x0), .long (x2), .long (x4)] σ (fun rv σ' => ∃ r, rv = some (.int (r)) ∧ Q r σ') X := by
  refine kx_mk3 (ini := false) rfl (Nat.le_of_ble_eq_true rfl) (fun h => by cases h) (fun Q1 X1 hQ hX => ?_)
  unfold W_X1_inRange at h
  refine kx_lload_n dX1_inRange_0 rfl rfl ?_
  refine kx_lload_n dX1_inRange_1 rfl rfl ?_
  refine kx_lcmp dX1_inRange_2 ?_
  refine kW_jI 18 [] h (fun v2 σ3 h => ?_) (fun k1 jk1 h => ?_)
  · skip
    exact kx_zret dX1_inRange_18 rfl h.1 (hQ _ _ ⟨_, rfl, h.2⟩)
  · skip
    refine kx_if_lt (tgt := 17) dX1_inRange_3 (by decide) (fun c => ?_) (fun c => ?_)
    · have h := w_ift c h
      refine kx_iconst (v := 0) dX1_inRange_17 (by decide) ?_
      exact jk1 _ _ h
    · have h := w_iff c h
      refine kx_lload_n dX1_inRange_6 rfl rfl ?_
      refine kx_lload dX1_inRange_7 rfl ?_
      refine kx_lcmp dX1_inRange_9 ?_
      refine kx_if_gt (tgt := 17) dX1_inRange_10 (by decide) (fun c => ?_) (fun c => ?_)
      · have h := w_ift c h
        refine kx_iconst (v := 0) dX1_inRange_17 (by decide) ?_
        exact jk1 _ _ h
      · have h := w_iff c h
        refine kx_iconst (v := 1) dX1_inRange_13 (by decide) ?_
        refine kx_goto (tgt := 18) dX1_inRange_14 (by decide) ?_
        exact jk1 _ _ h
set_option maxHeartbeats 8000000 in
theorem kw_X1_errorCode {G : KG} {σ : KHp} {x0 : Nat} {Q : Int32 → KHp → Prop} {X : String → Nat → KHp → Prop} (h : W_X1_errorCode G σ x0 Q X) : kx_c G yX1_errorCode (ws_ yX1_errorCode cX1_errorCode 1 (Option.some Jvm.ClassFile.FieldType.int)) 1 0 0 [.ref (x0)] σ (fun rv σ' => ∃ r, rv = some (.int (r)) ∧ Q r σ') X := by
  refine kx_mk3 (ini := false) rfl (Nat.le_of_ble_eq_true rfl) (fun h => by cases h) (fun Q1 X1 hQ hX => ?_)
  unfold W_X1_errorCode at h
  refine kx_aload_n dX1_errorCode_0 rfl rfl ?_
  refine kW_gI dX1_errorCode_1 (kf1 fl_X1_164_X1) h (fun v1 h => ?_)
  exact kx_iret dX1_errorCode_4 rfl (hQ _ _ ⟨_, rfl, h⟩)
set_option maxHeartbeats 8000000 in
theorem kw_X1_errorPosition {G : KG} {σ : KHp} {x0 : Nat} {Q : Int32 → KHp → Prop} {X : String → Nat → KHp → Prop} (h : W_X1_errorPosition G σ x0 Q X) : kx_c G yX1_errorPosition (ws_ yX1_errorPosition cX1_errorPosition 1 (Option.some Jvm.ClassFile.FieldType.int)) 1 0 0 [.ref (x0)] σ (fun rv σ' => ∃ r, rv = some (.int (r)) ∧ Q r σ') X := by
  refine kx_mk3 (ini := false) rfl (Nat.le_of_ble_eq_true rfl) (fun h => by cases h) (fun Q1 X1 hQ hX => ?_)
  unfold W_X1_errorPosition at h
  refine kx_aload_n dX1_errorPosition_0 rfl rfl ?_
  refine kW_gI dX1_errorPosition_1 (kf1 fl_X1_118_X1) h (fun v1 h => ?_)
  exact kx_iret dX1_errorPosition_4 rfl (hQ _ _ ⟨_, rfl, h⟩)
set_option maxHeartbeats 8000000 in
theorem kw_X1_now {G : KG} {σ : KHp} {x0 : Nat} {Q : Int32 → KHp → Prop} {X : String → Nat → KHp → Prop} (h : W_X1_now G σ x0 Q X) : kx_c G yX1_now (ws_ yX1_now cX1_now 1 (Option.some Jvm.ClassFile.FieldType.int)) 1 0 0 [.ref (x0)] σ (fun rv σ' => ∃ r, rv = some (.int (r)) ∧ Q r σ') X := by
  refine kx_mk3 (ini := false) rfl (Nat.le_of_ble_eq_true rfl) (fun h => by cases h) (fun Q1 X1 hQ hX => ?_)
  unfold W_X1_now at h
  refine kx_aload_n dX1_now_0 rfl rfl ?_
  refine kW_gO dX1_now_1 (kf1 fl_X1_103_X1) h (fun v1 h => ?_)
  obtain ⟨a2, rfl, hUa2⟩ := h
  have h := hUa2
  refine kW_gI dX1_now_4 (kf1 fl_X1_239_X2) h (fun v3 h => ?_)
  exact kx_iret dX1_now_7 rfl (hQ _ _ ⟨_, rfl, h⟩)
set_option maxHeartbeats 8000000 in
theorem kw_X1_appendWord {G : KG} {σ : KHp} {x0 : Nat} {x1 : Int32} {Q : KHp → Prop} {X : String → Nat → KHp → Prop} (h : W_X1_appendWord G σ x0 x1 Q X) : kx_c G yX1_appendWord (ws_ yX1_appendWord cX1_appendWord 3 (Option.none : Option Jvm.ClassFile.FieldType)) 1 0 0 [.ref (x0), .int (x1)] σ (fun rv σ' => rv = none ∧ Q σ') X := by
  refine kx_mk3 (ini := false) rfl (Nat.le_of_ble_eq_true rfl) (fun h => by cases h) (fun Q1 X1 hQ hX => ?_)
  unfold W_X1_appendWord at h
  refine kx_bipush (v := 24) dX1_appendWord_0 (by decide) ?_
  refine kx_istore_n dX1_appendWord_2 rfl (Nat.le_of_ble_eq_true rfl) ?_
  refine kx_lwF [(0, .ref (x0)), (1, .int (x1)), (2, .int ((24 : Int32)))] ⟨rfl, rfl, rfl, trivial⟩ ?_
  refine loopW1_k (fun (σ : KHp) (l2 : Int32) => kx G (yX1_appendWord.cls, cX1_appendWord, 3, (Option.none : Option Jvm.ClassFile.FieldType), false, []) (1, 0, 0, Q1, X1) (0) (0) σ 3 (kF [(0, .ref (x0)), (1, .int (x1)), (2, .int (l2))]) []) (fun kI3 hI3 σ l2 h => ?_) 9000 σ (24 : Int32) h
  unfold WB_X1_appendWord_3 at h
  refine kx_iload_n dX1_appendWord_3 rfl rfl ?_
  refine kx_if_lt (tgt := 36) dX1_appendWord_4 (by decide) (fun c => ?_) (fun c => ?_)
  · have h := w_ift c h
    exact kx_vret dX1_appendWord_36 rfl (hQ _ _ ⟨rfl, h⟩)
  · have h := w_iff c h
    refine kx_aload_n dX1_appendWord_7 rfl rfl ?_
    refine kW_gO dX1_appendWord_8 (kf1 fl_X1_114_X1) h (fun v4001 h => ?_)
    refine kx_aload_n dX1_appendWord_11 rfl rfl ?_
    refine kW_gI dX1_appendWord_12 (kf1 fl_X1_129_X1) h (fun v4002 h => ?_)
    refine kx_iload_n dX1_appendWord_15 rfl rfl ?_
    refine kx_iload_n dX1_appendWord_16 rfl rfl ?_
    refine kx_ishr dX1_appendWord_17 ?_
    refine kx_i2b dX1_appendWord_18 rfl ?_
    obtain ⟨a4003, rfl, hUa4003⟩ := h
    have h := hUa4003
    refine kW_sB dX1_appendWord_19 h (fun σ4004 h => ?_)
    refine kx_aload_n dX1_appendWord_20 rfl rfl ?_
    refine kx_dup dX1_appendWord_21 rfl ?_
    refine kW_gI dX1_appendWord_22 (kf1 fl_X1_129_X1) h (fun v4005 h => ?_)
    refine kx_iconst (v := 1) dX1_appendWord_25 (by decide) ?_
    refine kx_iadd dX1_appendWord_26 ?_
    refine kW_p dX1_appendWord_27 (kp1 ⟨_, _, _, _, kc_X1, fl_X1_129_X1, Or.inl rfl, rfl, rfl⟩) h (fun σ4006 h => ?_)
    refine kx_iinc2 (v := -8) dX1_appendWord_30 rfl (by decide) ?_
    refine kx_goto (tgt := 3) dX1_appendWord_33 (by decide) ?_
    exact kx_lwF [(0, .ref (x0)), (1, .int (x1)), (2, .int ((l2 + (-8 : Int32))))] ⟨rfl, rfl, rfl, trivial⟩ (hI3 _ _ h)
set_option maxHeartbeats 8000000 in
theorem kw_X1_truncate {G : KG} {bc bs : Nat} {σ : KHp} {x0 : Nat} {x1 : Int32} {Q : KHp → Prop} {X : String → Nat → KHp → Prop} (h : W_X1_truncate G bc bs σ x0 x1 Q X) : kx_c G yX1_truncate (ws_ yX1_truncate cX1_truncate 2 (Option.none : Option Jvm.ClassFile.FieldType)) 9 bc bs [.ref (x0), .int (x1)] σ (fun rv σ' => rv = none ∧ Q σ') X := by
  refine kx_mk3 (ini := false) rfl (Nat.le_of_ble_eq_true rfl) (fun h => by cases h) (fun Q1 X1 hQ hX => ?_)
  unfold W_X1_truncate at h
  refine kx_iload_n dX1_truncate_0 rfl rfl ?_
  refine kx_i2l dX1_truncate_1 rfl ?_
  refine kx_lconst (v := 0) dX1_truncate_2 (by decide) ?_
  refine kx_aload_n dX1_truncate_3 rfl rfl ?_
  refine kW_gI dX1_truncate_4 (kf1 fl_X1_129_X1) h (fun v1 h => ?_)
  refine kx_i2l dX1_truncate_7 rfl ?_
  refine kx_callS dX1_truncate_8 lk_X1_140 (kw_X1_inRange h) rfl rfl (Nat.le_of_ble_eq_true rfl) (Nat.le_of_ble_eq_true rfl) (Nat.le_of_ble_eq_true rfl) (Nat.le_of_ble_eq_true rfl) (Nat.le_of_ble_eq_true rfl) (fun _ _ _ hx => kx_out rfl (hX _ _ _ hx)) (fun v_ σ3 hq => ?_)
  obtain ⟨v2, rfl, h⟩ := hq
  obtain ⟨c6, c7, hc, hs, h⟩ := h
  refine kx_callS dX1_truncate_11 lk_X1_144 (kw_X1_requireArgument h) rfl rfl (Nat.le_of_ble_eq_true rfl) (Nat.le_of_ble_eq_true rfl) (Nat.le_of_ble_eq_true rfl) hc hs (fun _ _ _ hx => kx_out rfl (hX _ _ _ hx)) (fun v_ σ5 hq => ?_)
  obtain ⟨rfl, h⟩ := hq
  refine kx_aload_n dX1_truncate_14 rfl rfl ?_
  refine kx_iload_n dX1_truncate_15 rfl rfl ?_
  refine kW_p dX1_truncate_16 (kp1 ⟨_, _, _, _, kc_X1, fl_X1_129_X1, Or.inl rfl, rfl, rfl⟩) h (fun σ8 h => ?_)
  exact kx_vret dX1_truncate_19 rfl (hQ _ _ ⟨rfl, h⟩)
set_option maxHeartbeats 8000000 in
theorem kw_X1_loadCount {G : KG} {σ : KHp} {x0 : Nat} {Q : Int32 → KHp → Prop} {X : String → Nat → KHp → Prop} (h : W_X1_loadCount G σ x0 Q X) : kx_c G yX1_loadCount (ws_ yX1_loadCount cX1_loadCount 1 (Option.some Jvm.ClassFile.FieldType.int)) 2 0 0 [.ref (x0)] σ (fun rv σ' => ∃ r, rv = some (.int (r)) ∧ Q r σ') X := by
  refine kx_mk3 (ini := false) rfl (Nat.le_of_ble_eq_true rfl) (fun h => by cases h) (fun Q1 X1 hQ hX => ?_)
  unfold W_X1_loadCount at h
  refine kx_aload_n dX1_loadCount_0 rfl rfl ?_
  refine kW_gO dX1_loadCount_1 (kf1 fl_X1_103_X1) h (fun v1 h => ?_)
  obtain ⟨a2, rfl, hUa2⟩ := h
  have h := hUa2
  refine kW_gO dX1_loadCount_4 (kf1 fl_X1_205_X2) h (fun v3 h => ?_)
  obtain ⟨a4, rfl, hUa4⟩ := h
  have h := hUa4
  refine kW_gO dX1_loadCount_7 (kf1 fl_X1_209_X3) h (fun v5 h => ?_)
  obtain ⟨a6, rfl, hUa6⟩ := h
  have h := hUa6
  obtain ⟨hr, h⟩ := h
  refine kx_callV dX1_loadCount_10 lk_X1_180 (kw_J2_size h) rfl (wR_rc hr rfl) rfl (Nat.le_of_ble_eq_true rfl) (Nat.le_of_ble_eq_true rfl) (Nat.le_of_ble_eq_true rfl) (Nat.le_of_ble_eq_true rfl) (Nat.le_of_ble_eq_true rfl) (fun _ _ _ hx => kx_out rfl (hX _ _ _ hx)) (fun v_ σ8 hq => ?_)
  obtain ⟨v7, rfl, h⟩ := hq
  exact kx_iret dX1_loadCount_13 rfl (hQ _ _ ⟨_, rfl, h⟩)
set_option maxHeartbeats 8000000 in
theorem kw_X1_signatureCount {G : KG} {σ : KHp} {x0 : Nat} {Q : Int32 → KHp → Prop} {X : String → Nat → KHp → Prop} (h : W_X1_signatureCount G σ x0 Q X) : kx_c G yX1_signatureCount (ws_ yX1_signatureCount cX1_signatureCount 1 (Option.some Jvm.ClassFile.FieldType.int)) 2 0 0 [.ref (x0)] σ (fun rv σ' => ∃ r, rv = some (.int (r)) ∧ Q r σ') X := by
  refine kx_mk3 (ini := false) rfl (Nat.le_of_ble_eq_true rfl) (fun h => by cases h) (fun Q1 X1 hQ hX => ?_)
  unfold W_X1_signatureCount at h
  refine kx_aload_n dX1_signatureCount_0 rfl rfl ?_
  refine kW_gO dX1_signatureCount_1 (kf1 fl_X1_103_X1) h (fun v1 h => ?_)
  obtain ⟨a2, rfl, hUa2⟩ := h
  have h := hUa2
  refine kW_gO dX1_signatureCount_4 (kf1 fl_X1_205_X2) h (fun v3 h => ?_)
  obtain ⟨a4, rfl, hUa4⟩ := h
  have h := hUa4
  refine kW_gO dX1_signatureCount_7 (kf1 fl_X1_212_X3) h (fun v5 h => ?_)
  obtain ⟨a6, rfl, hUa6⟩ := h
  have h := hUa6
  obtain ⟨hr, h⟩ := h
  refine kx_callV dX1_signatureCount_10 lk_X1_180 (kw_J2_size h) rfl (wR_rc hr rfl) rfl (Nat.le_of_ble_eq_true rfl) (Nat.le_of_ble_eq_true rfl) (Nat.le_of_ble_eq_true rfl) (Nat.le_of_ble_eq_true rfl) (Nat.le_of_ble_eq_true rfl) (fun _ _ _ hx => kx_out rfl (hX _ _ _ hx)) (fun v_ σ8 hq => ?_)
  obtain ⟨v7, rfl, h⟩ := hq
  exact kx_iret dX1_signatureCount_13 rfl (hQ _ _ ⟨_, rfl, h⟩)
set_option maxHeartbeats 8000000 in
theorem kw_X1_magnitude {G : KG} {σ : KHp} {x0 : UInt32} {Q : UInt32 → KHp → Prop} {X : String → Nat → KHp → Prop} (h : W_X1_magnitude G σ x0 Q X) : kx_c G yX1_magnitude (ws_ yX1_magnitude cX1_magnitude 1 (Option.some Jvm.ClassFile.FieldType.float)) 1 0 0 [.float (x0)] σ (fun rv σ' => ∃ r, rv = some (.float (r)) ∧ Q r σ') X := by
  refine kx_mk3 (ini := false) rfl (Nat.le_of_ble_eq_true rfl) (fun h => by cases h) (fun Q1 X1 hQ hX => ?_)
  unfold W_X1_magnitude at h
  refine kx_fload_n dX1_magnitude_0 rfl rfl ?_
  refine kx_fconst0 dX1_magnitude_1 ?_
  refine kx_fcmp dX1_magnitude_2 ?_
  refine kW_jF 13 [] h (fun v3 σ4 h => ?_) (fun k1 jk1 h => ?_)
  · skip
    exact kx_fret dX1_magnitude_13 rfl (hQ _ _ ⟨_, rfl, h⟩)
  · skip
    refine kx_if_ge (tgt := 12) dX1_magnitude_3 (by decide) (fun c => ?_) (fun c => ?_)
    · have h := w_ift c h
      refine kx_fload_n dX1_magnitude_12 rfl rfl ?_
      exact jk1 _ _ h
    · have h := w_iff c h
      refine kx_fconst0 dX1_magnitude_6 ?_
      refine kx_fload_n dX1_magnitude_7 rfl rfl ?_
      refine kW_fsub dX1_magnitude_8 h (fun v2 h => ?_)
      refine kx_goto (tgt := 13) dX1_magnitude_9 (by decide) ?_
      exact jk1 _ _ h
set_option maxHeartbeats 8000000 in
theorem kw_X1_has {G : KG} {σ : KHp} {x0 : Int32} {x1 : Int32} {Q : Int32 → KHp → Prop} {X : String → Nat → KHp → Prop} (h : W_X1_has G σ x0 x1 Q X) : kx_c G yX1_has (ws_ yX1_has cX1_has 2 (Option.some Jvm.ClassFile.FieldType.boolean)) 1 0 0 [.int (x0), .int (x1)] σ (fun rv σ' => ∃ r, rv = some (.int (r)) ∧ Q r σ') X := by
  refine kx_mk3 (ini := false) rfl (Nat.le_of_ble_eq_true rfl) (fun h => by cases h) (fun Q1 X1 hQ hX => ?_)
  unfold W_X1_has at h
  refine kx_iload_n dX1_has_0 rfl rfl ?_
  refine kx_iload_n dX1_has_1 rfl rfl ?_
  refine kx_ishr dX1_has_2 ?_
  refine kx_iconst (v := 1) dX1_has_3 (by decide) ?_
  refine kx_iand dX1_has_4 ?_
  refine kx_iconst (v := 1) dX1_has_5 (by decide) ?_
  refine kW_jI 14 [] h (fun v2 σ3 h => ?_) (fun k1 jk1 h => ?_)
  · skip
    exact kx_zret dX1_has_14 rfl h.1 (hQ _ _ ⟨_, rfl, h.2⟩)
  · skip
    refine kx_icmp_ne (tgt := 13) dX1_has_6 (by decide) (fun c => ?_) (fun c => ?_)
    · have h := w_iff c h
      refine kx_iconst (v := 0) dX1_has_13 (by decide) ?_
      exact jk1 _ _ h
    · have h := w_ift c h
      refine kx_iconst (v := 1) dX1_has_9 (by decide) ?_
      refine kx_goto (tgt := 14) dX1_has_10 (by decide) ?_
      exact jk1 _ _ h
set_option maxHeartbeats 8000000 in
theorem kw_X1_requireFeature {G : KG} {bc bs : Nat} {σ : KHp} {x0 : Int32} {Q : KHp → Prop} {X : String → Nat → KHp → Prop} (h : W_X1_requireFeature G bc bs σ x0 Q X) : kx_c G yX1_requireFeature (ws_ yX1_requireFeature cX1_requireFeature 1 (Option.none : Option Jvm.ClassFile.FieldType)) 9 bc bs [.int (x0)] σ (fun rv σ' => rv = none ∧ Q σ') X := by
  refine kx_mk3 (ini := false) rfl (Nat.le_of_ble_eq_true rfl) (fun h => by cases h) (fun Q1 X1 hQ hX => ?_)
  unfold W_X1_requireFeature at h
  refine kx_iload_n dX1_requireFeature_0 rfl rfl ?_
  refine kx_i2l dX1_requireFeature_1 rfl ?_
  refine kx_lconst (v := 0) dX1_requireFeature_2 (by decide) ?_
  refine kx_ldc2 dX1_requireFeature_3 q2374 ?_
  refine kx_callS dX1_requireFeature_6 lk_X1_140 (kw_X1_inRange h) rfl rfl (Nat.le_of_ble_eq_true rfl) (Nat.le_of_ble_eq_true rfl) (Nat.le_of_ble_eq_true rfl) (Nat.le_of_ble_eq_true rfl) (Nat.le_of_ble_eq_true rfl) (fun _ _ _ hx => kx_out rfl (hX _ _ _ hx)) (fun v_ σ2 hq => ?_)
  obtain ⟨v1, rfl, h⟩ := hq
  obtain ⟨c5, c6, hc, hs, h⟩ := h
  refine kx_callS dX1_requireFeature_9 lk_X1_144 (kw_X1_requireArgument h) rfl rfl (Nat.le_of_ble_eq_true rfl) (Nat.le_of_ble_eq_true rfl) (Nat.le_of_ble_eq_true rfl) hc hs (fun _ _ _ hx => kx_out rfl (hX _ _ _ hx)) (fun v_ σ4 hq => ?_)
  obtain ⟨rfl, h⟩ := hq
  exact kx_vret dX1_requireFeature_12 rfl (hQ _ _ ⟨rfl, h⟩)
set_option maxHeartbeats 8000000 in
theorem kw_X2_draw {G : KG} {σ : KHp} {x0 : Nat} {Q : Int32 → KHp → Prop} {X : String → Nat → KHp → Prop} (h : W_X2_draw G σ x0 Q X) : kx_c G yX2_draw (ws_ yX2_draw cX2_draw 1 (Option.some Jvm.ClassFile.FieldType.int)) 1 0 0 [.ref (x0)] σ (fun rv σ' => ∃ r, rv = some (.int (r)) ∧ Q r σ') X := by
  refine kx_mk3 (ini := false) rfl (Nat.le_of_ble_eq_true rfl) (fun h => by cases h) (fun Q1 X1 hQ hX => ?_)
  unfold W_X2_draw at h
  refine kx_aload_n dX2_draw_0 rfl rfl ?_
  refine kx_aload_n dX2_draw_1 rfl rfl ?_
  refine kW_gJ dX2_draw_2 (kf1 fl_X2_62_X2) h (fun v1 h => ?_)
  refine kx_ldc2 dX2_draw_5 q2194 ?_
  refine kx_lmul dX2_draw_8 ?_
  refine kx_ldc2 dX2_draw_9 q2195 ?_
  refine kx_ladd dX2_draw_12 ?_
  refine kx_ldc2 dX2_draw_13 q2196 ?_
  obtain ⟨hz, h⟩ := h
  refine kx_lrem dX2_draw_16 hz ?_
  refine kW_p dX2_draw_17 (kp1 ⟨_, _, _, _, kc_X2, fl_X2_62_X2, Or.inl rfl, rfl, rfl⟩) h (fun σ2 h => ?_)
  refine kx_aload_n dX2_draw_20 rfl rfl ?_
  refine kW_gJ dX2_draw_21 (kf1 fl_X2_62_X2) h (fun v3 h => ?_)
  refine kx_ldc2 dX2_draw_24 q2197 ?_
  obtain ⟨hz, h⟩ := h
  refine kx_ldiv dX2_draw_27 hz ?_
  refine kx_ldc2 dX2_draw_28 q2198 ?_
  obtain ⟨hz, h⟩ := h
  refine kx_lrem dX2_draw_31 hz ?_
  refine kx_l2i dX2_draw_32 rfl ?_
  exact kx_iret dX2_draw_33 rfl (hQ _ _ ⟨_, rfl, h⟩)
set_option maxHeartbeats 8000000 in
theorem kw_X3_init {G : KG} {bc bs : Nat} {σ : KHp} {x0 : Nat} {Q : KHp → Prop} {X : String → Nat → KHp → Prop} (h : W_X3_init G bc bs σ x0 Q X) : kx_c G yX3_init (ws_ yX3_init cX3_init 1 (Option.none : Option Jvm.ClassFile.FieldType)) 4 bc bs [.ref (x0)] σ (fun rv σ' => rv = none ∧ Q σ') X := by
  refine kx_mk3 (ini := true) rfl (Nat.le_of_ble_eq_true rfl) (fun _ => rfl) (fun Q1 X1 hQ hX => ?_)
  unfold W_X3_init at h
  refine kx_aload_n dX3_init_0 rfl rfl ?_
  refine kx_oinit dX3_init_1 q215 q206 q207 (Nat.le_of_ble_eq_true rfl) (Nat.le_of_ble_eq_true rfl) ?_
  refine kx_aload_n dX3_init_4 rfl rfl ?_
  refine kx_bipush (v := 8) dX3_init_5 (by decide) ?_
  refine kW_p dX3_init_7 (kp1 ⟨_, _, _, _, kc_X3, fl_X3_9_X3, Or.inl rfl, rfl, rfl⟩) h (fun σ1 h => ?_)
  refine kx_aload_n dX3_init_10 rfl rfl ?_
  refine kx_iconst (v := 1) dX3_init_11 (by decide) ?_
  refine kW_p dX3_init_12 (kp1 ⟨_, _, _, _, kc_X3, fl_X3_15_X3, Or.inl rfl, rfl, rfl⟩) h (fun σ2 h => ?_)
  refine kx_aload_n dX3_init_15 rfl rfl ?_
  refine kx_iconst (v := 1) dX3_init_16 (by decide) ?_
  refine kW_p dX3_init_17 (kp1 ⟨_, _, _, _, kc_X3, fl_X3_18_X3, Or.inl rfl, rfl, rfl⟩) h (fun σ3 h => ?_)
  refine kx_aload_n dX3_init_20 rfl rfl ?_
  refine kx_iconst (v := 0) dX3_init_21 (by decide) ?_
  refine kW_newa dX3_init_22 rfl q309 (fun _ _ => rfl) h (fun n6 q4 σ5 h => ?_)
  refine kW_p dX3_init_24 (kp1 ⟨_, _, _, _, kc_X3, fl_X3_21_X3, Or.inl rfl, rfl, rfl⟩) h (fun σ7 h => ?_)
  refine kx_aload_n dX3_init_27 rfl rfl ?_
  refine kW_new dX3_init_28 kc_J2 q216 q217 q148 rfl h (fun q8 σ9 h => ?_)
  refine kx_dup dX3_init_31 rfl ?_
  refine kx_iconst (v := 2) dX3_init_32 (by decide) ?_
  obtain ⟨c12, c13, hc, hs, h⟩ := h
  refine kx_callI dX3_init_33 lk_X3_27 (kw_J2_init h) rfl rfl (Nat.le_of_ble_eq_true rfl) (Nat.le_of_ble_eq_true rfl) (Nat.le_of_ble_eq_true rfl) hc hs (fun _ _ _ hx => kx_out rfl (hX _ _ _ hx)) (fun v_ σ11 hq => ?_)
  obtain ⟨rfl, h⟩ := hq
  refine kW_p dX3_init_36 (kp1 ⟨_, _, _, _, kc_X3, fl_X3_30_X3, Or.inr ⟨rfl, rfl, q584⟩, rfl, rfl⟩) h (fun σ14 h => ?_)
  refine kx_aload_n dX3_init_39 rfl rfl ?_
  refine kx_iconst (v := 4) dX3_init_40 (by decide) ?_
  refine kW_newa dX3_init_41 rfl q617 (fun _ _ => rfl) h (fun n17 q15 σ16 h => ?_)
  refine kW_p dX3_init_43 (kp1 ⟨_, _, _, _, kc_X3, fl_X3_34_X3, Or.inr ⟨rfl, rfl, q588⟩, rfl, rfl⟩) h (fun σ18 h => ?_)
  refine kx_aload_n dX3_init_46 rfl rfl ?_
  refine kW_new dX3_init_47 kc_J2 q216 q217 q148 rfl h (fun q19 σ20 h => ?_)
  refine kx_dup dX3_init_50 rfl ?_
  refine kx_iconst (v := 4) dX3_init_51 (by decide) ?_
  obtain ⟨c23, c24, hc, hs, h⟩ := h
  refine kx_callI dX3_init_52 lk_X3_27 (kw_J2_init h) rfl rfl (Nat.le_of_ble_eq_true rfl) (Nat.le_of_ble_eq_true rfl) (Nat.le_of_ble_eq_true rfl) hc hs (fun _ _ _ hx => kx_out rfl (hX _ _ _ hx)) (fun v_ σ22 hq => ?_)
  obtain ⟨rfl, h⟩ := hq
  refine kW_p dX3_init_55 (kp1 ⟨_, _, _, _, kc_X3, fl_X3_38_X3, Or.inr ⟨rfl, rfl, q592⟩, rfl, rfl⟩) h (fun σ25 h => ?_)
  refine kx_aload_n dX3_init_58 rfl rfl ?_
  refine kW_new dX3_init_59 kc_J2 q216 q217 q148 rfl h (fun q26 σ27 h => ?_)
  refine kx_dup dX3_init_62 rfl ?_
  refine kx_iconst (v := 2) dX3_init_63 (by decide) ?_
  obtain ⟨c30, c31, hc, hs, h⟩ := h
  refine kx_callI dX3_init_64 lk_X3_27 (kw_J2_init h) rfl rfl (Nat.le_of_ble_eq_true rfl) (Nat.le_of_ble_eq_true rfl) (Nat.le_of_ble_eq_true rfl) hc hs (fun _ _ _ hx => kx_out rfl (hX _ _ _ hx)) (fun v_ σ29 hq => ?_)
  obtain ⟨rfl, h⟩ := hq
  refine kW_p dX3_init_67 (kp1 ⟨_, _, _, _, kc_X3, fl_X3_41_X3, Or.inr ⟨rfl, rfl, q596⟩, rfl, rfl⟩) h (fun σ32 h => ?_)
  exact kx_vret dX3_init_70 rfl (hQ _ _ ⟨rfl, h⟩)
set_option maxHeartbeats 8000000 in
theorem kw_X3_lay {G : KG} {bc bs : Nat} {σ : KHp} {x0 : Nat} {Q : KHp → Prop} {X : String → Nat → KHp → Prop} (h : W_X3_lay G bc bs σ x0 Q X) : kx_c G yX3_lay (ws_ yX3_lay cX3_lay 3 (Option.none : Option Jvm.ClassFile.FieldType)) 1 bc bs [.ref (x0)] σ (fun rv σ' => rv = none ∧ Q σ') X := by
  refine kx_mk3 (ini := false) rfl (Nat.le_of_ble_eq_true rfl) (fun h => by cases h) (fun Q1 X1 hQ hX => ?_)
  unfold W_X3_lay at h
  refine kx_aload_n dX3_lay_0 rfl rfl ?_
  refine kx_aload_n dX3_lay_1 rfl rfl ?_
  refine kW_gI dX3_lay_2 (kf1 fl_X3_9_X3) h (fun v1 h => ?_)
  refine kW_newa dX3_lay_5 rfl q309 (fun _ _ => rfl) h (fun n4 q2 σ3 h => ?_)
  refine kW_p dX3_lay_7 (kp1 ⟨_, _, _, _, kc_X3, fl_X3_21_X3, Or.inl rfl, rfl, rfl⟩) h (fun σ5 h => ?_)
  refine kx_iconst (v := 0) dX3_lay_10 (by decide) ?_
  refine kx_istore_n dX3_lay_11 rfl (Nat.le_of_ble_eq_true rfl) ?_
  refine kx_lwF [(0, .ref (x0)), (1, .int ((0 : Int32)))] ⟨rfl, rfl, trivial⟩ ?_
  refine loopW3_k (fun (σ : KHp) (bc12 bs12 : Nat) (l1 : Int32) => kx G (yX3_lay.cls, cX3_lay, 3, (Option.none : Option Jvm.ClassFile.FieldType), false, []) (1, bc, bs, Q1, X1) (bc12) (bs12) σ 12 (kF [(0, .ref (x0)), (1, .int (l1))]) []) (fun kI12 hI12 σ bc12 bs12 l1 h => ?_) 9000 σ5 (bc - 1) (bs - n4) (0 : Int32) h
  unfold WB_X3_lay_12 at h
  refine kx_iload_n dX3_lay_12 rfl rfl ?_
  refine kx_aload_n dX3_lay_13 rfl rfl ?_
  refine kW_gI dX3_lay_14 (kf1 fl_X3_9_X3) h (fun v13001 h => ?_)
  refine kx_icmp_ge (tgt := 55) dX3_lay_17 (by decide) (fun c => ?_) (fun c => ?_)
  · have h := w_ift c h
    exact kx_vret dX3_lay_55 rfl (hQ _ _ ⟨rfl, h⟩)
  · have h := w_iff c h
    refine kx_iconst (v := 2) dX3_lay_20 (by decide) ?_
    refine kx_iload_n dX3_lay_21 rfl rfl ?_
    refine kx_imul dX3_lay_22 ?_
    refine kx_iconst (v := 1) dX3_lay_23 (by decide) ?_
    refine kx_iadd dX3_lay_24 ?_
    refine kx_i2f dX3_lay_25 ?_
    refine kx_iconst (v := 2) dX3_lay_26 (by decide) ?_
    refine kx_aload_n dX3_lay_27 rfl rfl ?_
    refine kW_gI dX3_lay_28 (kf1 fl_X3_9_X3) h (fun v13002 h => ?_)
    refine kx_imul dX3_lay_31 ?_
    refine kx_i2f dX3_lay_32 ?_
    refine kW_fdiv dX3_lay_33 h (fun v13003 h => ?_)
    refine kx_fstore_n dX3_lay_34 rfl (Nat.le_of_ble_eq_true rfl) ?_
    refine kx_aload_n dX3_lay_35 rfl rfl ?_
    refine kW_gO dX3_lay_36 (kf1 fl_X3_21_X3) h (fun v13004 h => ?_)
    refine kx_iload_n dX3_lay_39 rfl rfl ?_
    refine kx_ldcf dX3_lay_40 q1473 ?_
    refine kx_fload_n dX3_lay_42 rfl rfl ?_
    refine kW_fmul dX3_lay_43 h (fun v13005 h => ?_)
    refine kx_fconst1 dX3_lay_44 ?_
    refine kx_fload_n dX3_lay_45 rfl rfl ?_
    refine kW_fsub dX3_lay_46 h (fun v13006 h => ?_)
    refine kW_fmul dX3_lay_47 h (fun v13007 h => ?_)
    obtain ⟨a13008, rfl, hUa13008⟩ := h
    have h := hUa13008
    refine kW_sF dX3_lay_48 h (fun σ13009 h => ?_)
    refine kx_iinc2 (v := 1) dX3_lay_49 rfl (by decide) ?_
    refine kx_goto (tgt := 12) dX3_lay_52 (by decide) ?_
    exact kx_lwF [(0, .ref (x0)), (1, .int ((l1 + (1 : Int32))))] ⟨rfl, rfl, trivial⟩ (hI12 _ _ _ _ h)
set_option maxHeartbeats 8000000 in
theorem kw_X4_values {G : KG} {bc bs : Nat} {σ : KHp}  {Q : Option Nat → KHp → Prop} {X : String → Nat → KHp → Prop} (h : W_X4_values G bc bs σ  Q X) : kx_c G yX4_values (ws_ yX4_values cX4_values 0 (Option.some (Jvm.ClassFile.FieldType.array (Jvm.ClassFile.FieldType.object "ArcRecorder$Feature")))) 2 bc bs [] σ (fun rv σ' => ∃ r, rv = some (va_rf (r)) ∧ Q r σ') X := by
  refine kx_mk3 (ini := false) rfl (Nat.le_of_ble_eq_true rfl) (fun h => by cases h) (fun Q1 X1 hQ hX => ?_)
  unfold W_X4_values at h
  refine kx_gets dX4_values_0 kt_ArcRecorder_Feature__VALUES q667 (Or.inl rfl) ?_
  refine kW_clO dX4_values_3 q669 q670 q347 q348 q671 q672 (Nat.le_of_ble_eq_true rfl) (Nat.le_of_ble_eq_true rfl) h (fun n3 q1 σ2 h => ?_)
  obtain ⟨⟨ta, tya, xa, hra, hna⟩, h⟩ := h
  refine kx_castA dX4_values_6 hra hna q674 ?_
  exact kx_aret dX4_values_9 rfl (Or.inr ⟨_, rfl⟩) (Or.inr ⟨_, rfl⟩) (hQ _ _ ⟨some _, rfl, h⟩)
set_option maxHeartbeats 8000000 in
theorem kw_X5_init {G : KG} {bc bs : Nat} {σ : KHp} {x0 : Nat} {x1 : Int32} {Q : KHp → Prop} {X : String → Nat → KHp → Prop} (h : W_X5_init G bc bs σ x0 x1 Q X) : kx_c G yX5_init (ws_ yX5_init cX5_init 2 (Option.none : Option Jvm.ClassFile.FieldType)) 1 bc bs [.ref (x0), .int (x1)] σ (fun rv σ' => rv = none ∧ Q σ') X := by
  refine kx_mk3 (ini := true) rfl (Nat.le_of_ble_eq_true rfl) (fun _ => rfl) (fun Q1 X1 hQ hX => ?_)
  unfold W_X5_init at h
  refine kx_aload_n dX5_init_0 rfl rfl ?_
  refine kx_oinit dX5_init_1 q684 q206 q207 (Nat.le_of_ble_eq_true rfl) (Nat.le_of_ble_eq_true rfl) ?_
  refine kx_aload_n dX5_init_4 rfl rfl ?_
  refine kx_ldcf dX5_init_5 q685 ?_
  refine kW_p dX5_init_7 (kp1 ⟨_, _, _, _, kc_X5, fl_X5_10_X5, Or.inl rfl, rfl, rfl⟩) h (fun σ1 h => ?_)
  refine kx_aload_n dX5_init_10 rfl rfl ?_
  refine kx_iload_n dX5_init_11 rfl rfl ?_
  refine kW_newa dX5_init_12 rfl q309 (fun _ _ => rfl) h (fun n4 q2 σ3 h => ?_)
  refine kW_p dX5_init_14 (kp1 ⟨_, _, _, _, kc_X5, fl_X5_16_X5, Or.inr ⟨rfl, rfl, q686⟩, rfl, rfl⟩) h (fun σ5 h => ?_)
  refine kx_aload_n dX5_init_17 rfl rfl ?_
  refine kx_bipush (v := 6) dX5_init_18 (by decide) ?_
  refine kW_newa dX5_init_20 rfl q309 (fun _ _ => rfl) h (fun n8 q6 σ7 h => ?_)
  refine kW_p dX5_init_22 (kp1 ⟨_, _, _, _, kc_X5, fl_X5_20_X5, Or.inr ⟨rfl, rfl, q689⟩, rfl, rfl⟩) h (fun σ9 h => ?_)
  exact kx_vret dX5_init_25 rfl (hQ _ _ ⟨rfl, h⟩)
set_option maxHeartbeats 8000000 in
theorem kw_X5_init_2 {G : KG} {bc bs : Nat} {σ : KHp} {x0 : Nat} {x1 : Option Nat} {Q : KHp → Prop} {X : String → Nat → KHp → Prop} (h : W_X5_init_2 G bc bs σ x0 x1 Q X) : kx_c G yX5_init_2 (ws_ yX5_init_2 cX5_init_2 2 (Option.none : Option Jvm.ClassFile.FieldType)) 2 bc bs [.ref (x0), va_rf (x1)] σ (fun rv σ' => rv = none ∧ Q σ') X := by
  refine kx_mk3 (ini := true) rfl (by cases x1 <;> exact Nat.le_of_ble_eq_true rfl) (fun _ => rfl) (fun Q1 X1 hQ hX => ?_)
  unfold W_X5_init_2 at h
  refine kx_lwF [(0, .ref x0), (1, va_rf (x1))] (by cases x1 <;> exact ⟨rfl, rfl, trivial⟩) ?_
  refine kx_aload_n dX5_init_2_0 rfl rfl ?_
  refine kx_oinit dX5_init_2_1 q684 q206 q207 (Nat.le_of_ble_eq_true rfl) (Nat.le_of_ble_eq_true rfl) ?_
  refine kx_aload_n dX5_init_2_4 rfl rfl ?_
  refine kx_ldcf dX5_init_2_5 q685 ?_
  refine kW_p dX5_init_2_7 (kp1 ⟨_, _, _, _, kc_X5, fl_X5_10_X5, Or.inl rfl, rfl, rfl⟩) h (fun σ1 h => ?_)
  refine kx_aload_n dX5_init_2_10 rfl rfl ?_
  refine kx_aload_nO dX5_init_2_11 rfl rfl ?_
  obtain ⟨a2, rfl, hUa2⟩ := h
  have h := hUa2
  refine kW_gO dX5_init_2_12 (kf1 fl_X5_16_X5) h (fun v3 h => ?_)
  obtain ⟨a4, rfl, hUa4⟩ := h
  have h := hUa4
  refine kW_clF dX5_init_2_15 q1634 q1635 q347 q348 q1636 q1637 (Nat.le_of_ble_eq_true rfl) (Nat.le_of_ble_eq_true rfl) h (fun n7 q5 σ6 h => ?_)
  obtain ⟨⟨ta, tya, xa, hra, hna⟩, h⟩ := h
  refine kx_castA dX5_init_2_18 hra hna q1638 ?_
  refine kW_p dX5_init_2_21 (kp1 ⟨_, _, _, _, kc_X5, fl_X5_16_X5, Or.inr ⟨rfl, rfl, q686⟩, rfl, rfl⟩) h (fun σ8 h => ?_)
  refine kx_aload_n dX5_init_2_24 rfl rfl ?_
  refine kx_aload_n dX5_init_2_25 rfl rfl ?_
  refine kW_gO dX5_init_2_26 (kf1 fl_X5_20_X5) h (fun v9 h => ?_)
  obtain ⟨a10, rfl, hUa10⟩ := h
  have h := hUa10
  refine kW_clF dX5_init_2_29 q1634 q1635 q347 q348 q1636 q1637 (Nat.le_of_ble_eq_true rfl) (Nat.le_of_ble_eq_true rfl) h (fun n13 q11 σ12 h => ?_)
  obtain ⟨⟨ta, tya, xa, hra, hna⟩, h⟩ := h
  refine kx_castA dX5_init_2_32 hra hna q1638 ?_
  refine kW_p dX5_init_2_35 (kp1 ⟨_, _, _, _, kc_X5, fl_X5_20_X5, Or.inr ⟨rfl, rfl, q689⟩, rfl, rfl⟩) h (fun σ14 h => ?_)
  refine kx_aload_n dX5_init_2_38 rfl rfl ?_
  refine kx_aload_n dX5_init_2_39 rfl rfl ?_
  refine kW_gI dX5_init_2_40 (kf1 fl_X5_28_X5) h (fun v15 h => ?_)
  refine kW_p dX5_init_2_43 (kp1 ⟨_, _, _, _, kc_X5, fl_X5_28_X5, Or.inl rfl, rfl, rfl⟩) h (fun σ16 h => ?_)
  refine kx_aload_n dX5_init_2_46 rfl rfl ?_
  refine kx_aload_n dX5_init_2_47 rfl rfl ?_
  refine kW_gI dX5_init_2_48 (kf1 fl_X5_32_X5) h (fun v17 h => ?_)
  refine kW_p dX5_init_2_51 (kp1 ⟨_, _, _, _, kc_X5, fl_X5_32_X5, Or.inl rfl, rfl, rfl⟩) h (fun σ18 h => ?_)
  refine kx_aload_n dX5_init_2_54 rfl rfl ?_
  refine kx_aload_n dX5_init_2_55 rfl rfl ?_
  refine kW_gI dX5_init_2_56 (kf1 fl_X5_35_X5) h (fun v19 h => ?_)
  refine kW_p dX5_init_2_59 (kp1 ⟨_, _, _, _, kc_X5, fl_X5_35_X5, Or.inl rfl, rfl, rfl⟩) h (fun σ20 h => ?_)
  refine kx_aload_n dX5_init_2_62 rfl rfl ?_
  refine kx_aload_n dX5_init_2_63 rfl rfl ?_
  refine kW_gI dX5_init_2_64 (kf1 fl_X5_38_X5) h (fun v21 h => ?_)
  refine kW_p dX5_init_2_67 (kp1 ⟨_, _, _, _, kc_X5, fl_X5_38_X5, Or.inl rfl, rfl, rfl⟩) h (fun σ22 h => ?_)
  refine kx_aload_n dX5_init_2_70 rfl rfl ?_
  refine kx_aload_n dX5_init_2_71 rfl rfl ?_
  refine kW_gI dX5_init_2_72 (kf1 fl_X5_41_X5) h (fun v23 h => ?_)
  refine kW_p dX5_init_2_75 (kp1 ⟨_, _, _, _, kc_X5, fl_X5_41_X5, Or.inl rfl, rfl, rfl⟩) h (fun σ24 h => ?_)
  refine kx_aload_n dX5_init_2_78 rfl rfl ?_
  refine kx_aload_n dX5_init_2_79 rfl rfl ?_
  refine kW_gI dX5_init_2_80 (kf1 fl_X5_44_X5) h (fun v25 h => ?_)
  refine kW_p dX5_init_2_83 (kp1 ⟨_, _, _, _, kc_X5, fl_X5_44_X5, Or.inl rfl, rfl, rfl⟩) h (fun σ26 h => ?_)
  refine kx_aload_n dX5_init_2_86 rfl rfl ?_
  refine kx_aload_n dX5_init_2_87 rfl rfl ?_
  refine kW_gJ dX5_init_2_88 (kf1 fl_X5_47_X5) h (fun v27 h => ?_)
  refine kW_p dX5_init_2_91 (kp1 ⟨_, _, _, _, kc_X5, fl_X5_47_X5, Or.inl rfl, rfl, rfl⟩) h (fun σ28 h => ?_)
  refine kx_aload_n dX5_init_2_94 rfl rfl ?_
  refine kx_aload_n dX5_init_2_95 rfl rfl ?_
  refine kW_gI dX5_init_2_96 (kf1 fl_X5_51_X5) h (fun v29 h => ?_)
  refine kW_pZ dX5_init_2_99 (kp1 ⟨_, _, _, _, kc_X5, fl_X5_51_X5, Or.inl rfl, rfl, rfl⟩) (kp1 ⟨_, _, _, _, kc_X5, fl_X5_51_X5, Or.inl rfl, rfl, rfl⟩) h (fun σ30 h => ?_)
  refine kx_aload_n dX5_init_2_102 rfl rfl ?_
  refine kx_aload_n dX5_init_2_103 rfl rfl ?_
  refine kW_gI dX5_init_2_104 (kf1 fl_X5_55_X5) h (fun v31 h => ?_)
  refine kW_pZ dX5_init_2_107 (kp1 ⟨_, _, _, _, kc_X5, fl_X5_55_X5, Or.inl rfl, rfl, rfl⟩) (kp1 ⟨_, _, _, _, kc_X5, fl_X5_55_X5, Or.inl rfl, rfl, rfl⟩) h (fun σ32 h => ?_)
  refine kx_aload_n dX5_init_2_110 rfl rfl ?_
  refine kx_aload_n dX5_init_2_111 rfl rfl ?_
  refine kW_gF dX5_init_2_112 (kf1 fl_X5_10_X5) h (fun v33 h => ?_)
  refine kW_p dX5_init_2_115 (kp1 ⟨_, _, _, _, kc_X5, fl_X5_10_X5, Or.inl rfl, rfl, rfl⟩) h (fun σ34 h => ?_)
  exact kx_vret dX5_init_2_118 rfl (hQ _ _ ⟨rfl, h⟩)
set_option maxHeartbeats 8000000 in
theorem kw_X5_forgetWindow {G : KG} {σ : KHp} {x0 : Nat} {Q : KHp → Prop} {X : String → Nat → KHp → Prop} (h : W_X5_forgetWindow G σ x0 Q X) : kx_c G yX5_forgetWindow (ws_ yX5_forgetWindow cX5_forgetWindow 1 (Option.none : Option Jvm.ClassFile.FieldType)) 1 0 0 [.ref (x0)] σ (fun rv σ' => rv = none ∧ Q σ') X := by
  refine kx_mk3 (ini := false) rfl (Nat.le_of_ble_eq_true rfl) (fun h => by cases h) (fun Q1 X1 hQ hX => ?_)
  unfold W_X5_forgetWindow at h
  refine kx_aload_n dX5_forgetWindow_0 rfl rfl ?_
  refine kx_lconst (v := 0) dX5_forgetWindow_1 (by decide) ?_
  refine kW_p dX5_forgetWindow_2 (kp1 ⟨_, _, _, _, kc_X5, fl_X5_47_X5, Or.inl rfl, rfl, rfl⟩) h (fun σ1 h => ?_)
  refine kx_aload_n dX5_forgetWindow_5 rfl rfl ?_
  refine kx_iconst (v := 0) dX5_forgetWindow_6 (by decide) ?_
  refine kW_p dX5_forgetWindow_7 (kp1 ⟨_, _, _, _, kc_X5, fl_X5_35_X5, Or.inl rfl, rfl, rfl⟩) h (fun σ2 h => ?_)
  refine kx_aload_n dX5_forgetWindow_10 rfl rfl ?_
  refine kx_ldcf dX5_forgetWindow_11 q685 ?_
  refine kW_p dX5_forgetWindow_13 (kp1 ⟨_, _, _, _, kc_X5, fl_X5_10_X5, Or.inl rfl, rfl, rfl⟩) h (fun σ3 h => ?_)
  refine kx_aload_n dX5_forgetWindow_16 rfl rfl ?_
  refine kx_iconst (v := 0) dX5_forgetWindow_17 (by decide) ?_
  refine kW_pZ dX5_forgetWindow_18 (kp1 ⟨_, _, _, _, kc_X5, fl_X5_51_X5, Or.inl rfl, rfl, rfl⟩) (kp1 ⟨_, _, _, _, kc_X5, fl_X5_51_X5, Or.inl rfl, rfl, rfl⟩) h (fun σ4 h => ?_)
  exact kx_vret dX5_forgetWindow_21 rfl (hQ _ _ ⟨rfl, h⟩)
set_option maxHeartbeats 8000000 in
theorem kw_X5_was {G : KG} {σ : KHp} {x0 : Nat} {x1 : Int32} {Q : Int32 → KHp → Prop} {X : String → Nat → KHp → Prop} (h : W_X5_was G σ x0 x1 Q X) : kx_c G yX5_was (ws_ yX5_was cX5_was 2 (Option.some Jvm.ClassFile.FieldType.boolean)) 1 0 0 [.ref (x0), .int (x1)] σ (fun rv σ' => ∃ r, rv = some (.int (r)) ∧ Q r σ') X := by
  refine kx_mk3 (ini := false) rfl (Nat.le_of_ble_eq_true rfl) (fun h => by cases h) (fun Q1 X1 hQ hX => ?_)
  unfold W_X5_was at h
  refine kx_aload_n dX5_was_0 rfl rfl ?_
  refine kW_gJ dX5_was_1 (kf1 fl_X5_47_X5) h (fun v1 h => ?_)
  refine kx_iload_n dX5_was_4 rfl rfl ?_
  refine kx_lshr dX5_was_5 rfl ?_
  refine kx_lconst (v := 1) dX5_was_6 (by decide) ?_
  refine kx_land dX5_was_7 ?_
  refine kx_lconst (v := 1) dX5_was_8 (by decide) ?_
  refine kx_lcmp dX5_was_9 ?_
  refine kW_jI 18 [] h (fun v3 σ4 h => ?_) (fun k2 jk2 h => ?_)
  · skip
    exact kx_zret dX5_was_18 rfl h.1 (hQ _ _ ⟨_, rfl, h.2⟩)
  · skip
    refine kx_if_ne (tgt := 17) dX5_was_10 (by decide) (fun c => ?_) (fun c => ?_)
    · have h := w_iff c h
      refine kx_iconst (v := 0) dX5_was_17 (by decide) ?_
      exact jk2 _ _ h
    · have h := w_ift c h
      refine kx_iconst (v := 1) dX5_was_13 (by decide) ?_
      refine kx_goto (tgt := 18) dX5_was_14 (by decide) ?_
      exact jk2 _ _ h
set_option maxHeartbeats 8000000 in
theorem kw_X7_isAt {G : KG} {σ : KHp} {x0 : Nat} {x1 : Int32} {x2 : Int32} {Q : Int32 → KHp → Prop} {X : String → Nat → KHp → Prop} (h : W_X7_isAt G σ x0 x1 x2 Q X) : kx_c G yX7_isAt (ws_ yX7_isAt cX7_isAt 3 (Option.some Jvm.ClassFile.FieldType.boolean)) 2 0 0 [.ref (x0), .int (x1), .int (x2)] σ (fun rv σ' => ∃ r, rv = some (.int (r)) ∧ Q r σ') X := by
  refine kx_mk3 (ini := false) rfl (Nat.le_of_ble_eq_true rfl) (fun h => by cases h) (fun Q1 X1 hQ hX => ?_)
  unfold W_X7_isAt at h
  refine kx_aload_n dX7_isAt_0 rfl rfl ?_
  refine kW_gI dX7_isAt_1 (kf1 fl_X7_49_X7) h (fun v1 h => ?_)
  refine kx_aload_n dX7_isAt_4 rfl rfl ?_
  refine kW_gO dX7_isAt_5 (kf1 fl_X7_3_X7) h (fun v2 h => ?_)
  obtain ⟨a3, rfl, hUa3⟩ := h
  have h := hUa3
  refine kW_gI dX7_isAt_8 (kf1 fl_X7_53_X1) h (fun v4 h => ?_)
  refine kW_jI 42 [] h (fun v14 σ15 h => ?_) (fun k5 jk5 h => ?_)
  · skip
    exact kx_zret dX7_isAt_42 rfl h.1 (hQ _ _ ⟨_, rfl, h.2⟩)
  · skip
    refine kx_icmp_ge (tgt := 41) dX7_isAt_11 (by decide) (fun c => ?_) (fun c => ?_)
    · have h := w_ift c h
      refine kx_iconst (v := 0) dX7_isAt_41 (by decide) ?_
      exact jk5 _ _ h
    · have h := w_iff c h
      refine kx_aload_n dX7_isAt_14 rfl rfl ?_
      refine kW_gO dX7_isAt_15 (kf1 fl_X7_3_X7) h (fun v6 h => ?_)
      obtain ⟨a7, rfl, hUa7⟩ := h
      have h := hUa7
      refine kW_gO dX7_isAt_18 (kf1 fl_X7_56_X1) h (fun v8 h => ?_)
      refine kx_aload_n dX7_isAt_21 rfl rfl ?_
      refine kW_gI dX7_isAt_22 (kf1 fl_X7_49_X7) h (fun v9 h => ?_)
      obtain ⟨a10, rfl, hUa10⟩ := h
      have h := hUa10
      refine kW_lB dX7_isAt_25 h (fun v11 h => ?_)
      refine kx_i2l dX7_isAt_26 rfl ?_
      refine kx_iload_n dX7_isAt_27 rfl rfl ?_
      refine kx_i2l dX7_isAt_28 rfl ?_
      refine kx_iload_n dX7_isAt_29 rfl rfl ?_
      refine kx_i2l dX7_isAt_30 rfl ?_
      refine kx_callSN dX7_isAt_31 lk_X7_60 (kw_X1_inRange h) rfl rfl (Nat.le_of_ble_eq_true rfl) (Nat.le_of_ble_eq_true rfl) (Nat.le_of_ble_eq_true rfl) (Nat.le_of_ble_eq_true rfl) (Nat.le_of_ble_eq_true rfl) (fun _ _ _ hx => kx_out rfl (hX _ _ _ hx)) (fun v_ σ13 hq => ?_)
      obtain ⟨v12, rfl, h⟩ := hq
      refine kx_if_eq (tgt := 41) dX7_isAt_34 (by decide) (fun c => ?_) (fun c => ?_)
      · have h := w_ift c h
        refine kx_iconst (v := 0) dX7_isAt_41 (by decide) ?_
        exact jk5 _ _ h
      · have h := w_iff c h
        refine kx_iconst (v := 1) dX7_isAt_37 (by decide) ?_
        refine kx_goto (tgt := 42) dX7_isAt_38 (by decide) ?_
        exact jk5 _ _ h
set_option maxHeartbeats 8000000 in
theorem kw_X7_isSymbol {G : KG} {σ : KHp} {x0 : Nat} {x1 : Int32} {Q : Int32 → KHp → Prop} {X : String → Nat → KHp → Prop} (h : W_X7_isSymbol G σ x0 x1 Q X) : kx_c G yX7_isSymbol (ws_ yX7_isSymbol cX7_isSymbol 2 (Option.some Jvm.ClassFile.FieldType.boolean)) 1 0 0 [.ref (x0), .int (x1)] σ (fun rv σ' => ∃ r, rv = some (.int (r)) ∧ Q r σ') X := by
  refine kx_mk3 (ini := false) rfl (Nat.le_of_ble_eq_true rfl) (fun h => by cases h) (fun Q1 X1 hQ hX => ?_)
  unfold W_X7_isSymbol at h
  refine kx_aload_n dX7_isSymbol_0 rfl rfl ?_
  refine kW_gO dX7_isSymbol_1 (kf1 fl_X7_80_X7) h (fun v1 h => ?_)
  refine kx_gets dX7_isSymbol_4 kt_ArcRecorder_Token_SYMBOL q962 (Or.inl rfl) ?_
  refine kx_acmp_ne (rx := (v1)) (ry := (some (kx_K G 10))) (tgt := 30) dX7_isSymbol_7 (by decide) (fun c => ?_) (fun c => ?_)
  · have h := w_iff c h
    refine kx_iconst (v := 0) dX7_isSymbol_30 (by decide) ?_
    exact kx_zret dX7_isSymbol_31 rfl rfl (hQ _ _ ⟨_, rfl, h⟩)
  · have h := w_ift c h
    refine kx_aload_n dX7_isSymbol_10 rfl rfl ?_
    refine kW_gO dX7_isSymbol_11 (kf1 fl_X7_3_X7) h (fun v2 h => ?_)
    obtain ⟨a3, rfl, hUa3⟩ := h
    have h := hUa3
    refine kW_gO dX7_isSymbol_14 (kf1 fl_X7_56_X1) h (fun v4 h => ?_)
    refine kx_aload_n dX7_isSymbol_17 rfl rfl ?_
    refine kW_gI dX7_isSymbol_18 (kf1 fl_X7_68_X7) h (fun v5 h => ?_)
    obtain ⟨a6, rfl, hUa6⟩ := h
    have h := hUa6
    refine kW_lB dX7_isSymbol_21 h (fun v7 h => ?_)
    refine kx_iload_n dX7_isSymbol_22 rfl rfl ?_
    refine kW_jI 31 [] h (fun v9 σ10 h => ?_) (fun k8 jk8 h => ?_)
    · skip
      exact kx_zret dX7_isSymbol_31 rfl h.1 (hQ _ _ ⟨_, rfl, h.2⟩)
    · skip
      refine kx_icmp_ne (tgt := 30) dX7_isSymbol_23 (by decide) (fun c => ?_) (fun c => ?_)
      · have h := w_iff c h
        refine kx_iconst (v := 0) dX7_isSymbol_30 (by decide) ?_
        exact jk8 _ _ h
      · have h := w_ift c h
        refine kx_iconst (v := 1) dX7_isSymbol_26 (by decide) ?_
        refine kx_goto (tgt := 31) dX7_isSymbol_27 (by decide) ?_
        exact jk8 _ _ h
