set_option maxRecDepth 100000
set_option maxHeartbeats 8000000 in
theorem kw_J7_append {G : KG} {bc bs : Nat} {σ : KHp} {x0 : Nat} {x1 : Option Nat} {Q : Option Nat → KHp → Prop} {X : String → Nat → KHp → Prop} (h : W_J7_append G bc bs σ x0 x1 Q X) : kx_c G yJ7_append (ws_ yJ7_append cJ7_append 3 (Option.some (Jvm.ClassFile.FieldType.object "java/lang/AbstractStringBuilder"))) 9 bc bs [.ref (x0), va_rf (x1)] σ (fun rv σ' => ∃ r, rv = some (va_rf (r)) ∧ Q r σ') X := by
  refine kx_mk3 (ini := false) (by decide) (by cases x1 <;> exact Nat.le_of_ble_eq_true rfl) (fun h => by cases h) (fun Q1 X1 hQ hX => ?_)
  unfold W_J7_append at h
  refine kx_lwF [(0, .ref x0), (1, va_rf (x1))] (by cases x1 <;> exact ⟨rfl, rfl, trivial⟩) ?_
  refine kx_aload_nO dJ7_append_0 rfl rfl ?_
  refine kx_ifnonnullO (tgt := 9) dJ7_append_1 (by decide) (fun c => ?_) (fun c => ?_)
  · have h := w_ift c h
    refine kx_aload_n dJ7_append_4 rfl rfl ?_
    obtain ⟨hr, h⟩ := h
    obtain ⟨c3, c4, hc, hs, h⟩ := h
    refine kx_callP dJ7_append_5 lk_J7_204 (kw_J7_appendNull h) rfl (wR_rc hr rfl) rfl (Nat.le_of_ble_eq_true rfl) (Nat.le_of_ble_eq_true rfl) (Nat.le_of_ble_eq_true rfl) hc hs (fun _ _ _ hx => kx_out rfl (hX _ _ _ hx)) (fun v_ σ2 hq => ?_)
    obtain ⟨v1, rfl, h⟩ := hq
    exact kx_aret dJ7_append_8 rfl (Or.inl ⟨_, rfl⟩) (va_rfs _) (hQ _ _ ⟨_, rfl, h⟩)
  · have h := w_iff c h
    refine kx_aload_nO dJ7_append_9 rfl rfl ?_
    obtain ⟨a5, rfl, hUa5⟩ := h
    have h := hUa5
    obtain ⟨hr, h⟩ := h
    refine kx_callV dJ7_append_10 lk_J7_32 (kw_J9_length h) rfl (wR_rc hr rfl) rfl (Nat.le_of_ble_eq_true rfl) (Nat.le_of_ble_eq_true rfl) (Nat.le_of_ble_eq_true rfl) (Nat.le_of_ble_eq_true rfl) (Nat.le_of_ble_eq_true rfl) (fun _ _ _ hx => kx_out rfl (hX _ _ _ hx)) (fun v_ σ7 hq => ?_)
    obtain ⟨v6, rfl, h⟩ := hq
    refine kx_istore_n dJ7_append_13 rfl (Nat.le_of_ble_eq_true rfl) ?_
    refine kx_aload_n dJ7_append_14 rfl rfl ?_
    refine kx_aload_n dJ7_append_15 rfl rfl ?_
    refine kW_gI dJ7_append_16 (kf1 fl_J7_79_J8) h (fun v8 h => ?_)
    refine kx_iload_n dJ7_append_19 rfl rfl ?_
    refine kx_iadd dJ7_append_20 ?_
    obtain ⟨hr, h⟩ := h
    obtain ⟨c11, c12, hc, hs, h⟩ := h
    refine kx_callP dJ7_append_21 lk_J7_100 (kw_J7_ensureCapacityInternal h) rfl (wR_rc hr rfl) rfl (Nat.le_of_ble_eq_true rfl) (Nat.le_of_ble_eq_true rfl) (Nat.le_of_ble_eq_true rfl) hc hs (fun _ _ _ hx => kx_out rfl (hX _ _ _ hx)) (fun v_ σ10 hq => ?_)
    obtain ⟨rfl, h⟩ := hq
    refine kx_aload_n dJ7_append_24 rfl rfl ?_
    refine kx_aload_n dJ7_append_25 rfl rfl ?_
    refine kW_gI dJ7_append_26 (kf1 fl_J7_79_J8) h (fun v13 h => ?_)
    refine kx_aload_n dJ7_append_29 rfl rfl ?_
    obtain ⟨hr, h⟩ := h
    obtain ⟨c16, c17, hc, hs, h⟩ := h
    refine kx_callP dJ7_append_30 lk_J7_208 (kw_J7_putStringAt h) rfl (wR_rc hr rfl) rfl (Nat.le_of_ble_eq_true rfl) (Nat.le_of_ble_eq_true rfl) (Nat.le_of_ble_eq_true rfl) hc hs (fun _ _ _ hx => kx_out rfl (hX _ _ _ hx)) (fun v_ σ15 hq => ?_)
    obtain ⟨rfl, h⟩ := hq
    refine kx_aload_n dJ7_append_33 rfl rfl ?_
    refine kx_dup dJ7_append_34 rfl ?_
    refine kW_gI dJ7_append_35 (kf1 fl_J7_79_J8) h (fun v18 h => ?_)
    refine kx_iload_n dJ7_append_38 rfl rfl ?_
    refine kx_iadd dJ7_append_39 ?_
    refine kW_p dJ7_append_40 (kp1 ⟨_, _, _, _, kc_J8, fl_J7_79_J8, Or.inl rfl, rfl, rfl⟩) h (fun σ19 h => ?_)
    refine kx_aload_n dJ7_append_43 rfl rfl ?_
    exact kx_aret dJ7_append_44 rfl (Or.inl ⟨_, rfl⟩) (Or.inr ⟨_, rfl⟩) (hQ _ _ ⟨some _, rfl, h⟩)
set_option maxHeartbeats 8000000 in
theorem kw_J8_append {G : KG} {bc bs : Nat} {σ : KHp} {x0 : Nat} {x1 : Option Nat} {Q : Option Nat → KHp → Prop} {X : String → Nat → KHp → Prop} (h : W_J8_append G bc bs σ x0 x1 Q X) : kx_c G yJ8_append (ws_ yJ8_append cJ8_append 2 (Option.some (Jvm.ClassFile.FieldType.object "java/lang/StringBuilder"))) 10 bc bs [.ref (x0), va_rf (x1)] σ (fun rv σ' => ∃ r, rv = some (va_rf (r)) ∧ Q r σ') X := by
  refine kx_mk3 (ini := false) (by decide) (by cases x1 <;> exact Nat.le_of_ble_eq_true rfl) (fun h => by cases h) (fun Q1 X1 hQ hX => ?_)
  unfold W_J8_append at h
  refine kx_lwF [(0, .ref x0), (1, va_rf (x1))] (by cases x1 <;> exact ⟨rfl, rfl, trivial⟩) ?_
  refine kx_aload_n dJ8_append_0 rfl rfl ?_
  refine kx_aload_nO dJ8_append_1 rfl rfl ?_
  obtain ⟨hr, h⟩ := h
  obtain ⟨c3, c4, hc, hs, h⟩ := h
  refine kx_callSU dJ8_append_2 lk_J8_29 (kw_J7_append h) rfl hr.choose_spec.choose_spec rfl rfl (Nat.le_of_ble_eq_true rfl) (Nat.le_of_ble_eq_true rfl) (Nat.le_of_ble_eq_true rfl) hc hs (fun _ _ _ hx => kx_out rfl (hX _ _ _ hx)) (fun v_ σ2 hq => ?_)
  obtain ⟨v1, rfl, h⟩ := hq
  refine kx_pop dJ8_append_5 (va_cat _) ?_
  refine kx_aload_n dJ8_append_6 rfl rfl ?_
  exact kx_aret dJ8_append_7 rfl (Or.inl ⟨_, rfl⟩) (Or.inr ⟨_, rfl⟩) (hQ _ _ ⟨some _, rfl, h⟩)
set_option maxHeartbeats 8000000 in
theorem kw_J8_toString {G : KG} {bc bs : Nat} {σ : KHp} {x0 : Nat} {Q : Option Nat → KHp → Prop} {X : String → Nat → KHp → Prop} (h : W_J8_toString G bc bs σ x0 Q X) : kx_c G yJ8_toString (ws_ yJ8_toString cJ8_toString 1 (Option.some (Jvm.ClassFile.FieldType.object "java/lang/String"))) 8 bc bs [.ref (x0)] σ (fun rv σ' => ∃ r, rv = some (va_rf (r)) ∧ Q r σ') X := by
  refine kx_mk3 (ini := false) (by decide) (Nat.le_of_ble_eq_true rfl) (fun h => by cases h) (fun Q1 X1 hQ hX => ?_)
  unfold W_J8_toString at h
  refine kW_new dJ8_toString_0 kc_J9 q461 q462 q155 rfl h (fun q1 σ2 h => ?_)
  refine kx_dup dJ8_toString_3 rfl ?_
  refine kx_aload_n dJ8_toString_4 rfl rfl ?_
  obtain ⟨c5, c6, hc, hs, h⟩ := h
  refine kx_callI dJ8_toString_5 lk_J8_137 (kw_J9_init h) rfl rfl (Nat.le_of_ble_eq_true rfl) (Nat.le_of_ble_eq_true rfl) (Nat.le_of_ble_eq_true rfl) hc hs (fun _ _ _ hx => kx_out rfl (hX _ _ _ hx)) (fun v_ σ4 hq => ?_)
  obtain ⟨rfl, h⟩ := hq
  exact kx_aret dJ8_toString_8 rfl (Or.inl ⟨_, rfl⟩) (Or.inr ⟨_, rfl⟩) (hQ _ _ ⟨some _, rfl, h⟩)
set_option maxHeartbeats 8000000 in
theorem kw_X1_init {G : KG} {bc bs : Nat} {σ : KHp} {x0 : Nat} {Q : KHp → Prop} {X : String → Nat → KHp → Prop} (h : W_X1_init G bc bs σ x0 Q X) : kx_c G yX1_init (ws_ yX1_init cX1_init 1 (Option.none : Option Jvm.ClassFile.FieldType)) 9 bc bs [.ref (x0)] σ (fun rv σ' => rv = none ∧ Q σ') X := by
  refine kx_mk3 (ini := true) rfl (Nat.le_of_ble_eq_true rfl) (fun _ => rfl) (fun Q1 X1 hQ hX => ?_)
  unfold W_X1_init at h
  refine kx_aload_n dX1_init_0 rfl rfl ?_
  refine kx_oinit dX1_init_1 q205 q206 q207 (Nat.le_of_ble_eq_true rfl) (Nat.le_of_ble_eq_true rfl) ?_
  refine kx_aload_n dX1_init_4 rfl rfl ?_
  refine kW_new dX1_init_5 kc_X2 q208 q209 q144 rfl h (fun q1 σ2 h => ?_)
  refine kx_dup dX1_init_8 rfl ?_
  refine kW_new dX1_init_9 kc_X3 q210 q211 q145 rfl h (fun q3 σ4 h => ?_)
  refine kx_dup dX1_init_12 rfl ?_
  obtain ⟨c7, c8, hc, hs, h⟩ := h
  refine kx_callIN dX1_init_13 lk_X1_99 (kw_X3_init h) rfl rfl (Nat.le_of_ble_eq_true rfl) (Nat.le_of_ble_eq_true rfl) (Nat.le_of_ble_eq_true rfl) hc hs (fun _ _ _ hx => kx_out rfl (hX _ _ _ hx)) (fun v_ σ6 hq => ?_)
  obtain ⟨rfl, h⟩ := hq
  obtain ⟨c11, c12, hc, hs, h⟩ := h
  refine kx_callI dX1_init_16 lk_X1_100 (kw_X2_init h) rfl rfl (Nat.le_of_ble_eq_true rfl) (Nat.le_of_ble_eq_true rfl) (Nat.le_of_ble_eq_true rfl) hc hs (fun _ _ _ hx => kx_out rfl (hX _ _ _ hx)) (fun v_ σ10 hq => ?_)
  obtain ⟨rfl, h⟩ := hq
  refine kW_p dX1_init_19 (kp1 ⟨_, _, _, _, kc_X1, fl_X1_103_X1, Or.inl rfl, rfl, rfl⟩) h (fun σ13 h => ?_)
  refine kx_aload_n dX1_init_22 rfl rfl ?_
  refine kW_new dX1_init_23 kc_J19 q873 q646 q167 rfl h (fun q14 σ15 h => ?_)
  refine kx_dup dX1_init_26 rfl ?_
  obtain ⟨c18, c19, hc, hs, h⟩ := h
  refine kx_callI dX1_init_27 lk_X1_109 (kw_J19_init h) rfl rfl (Nat.le_of_ble_eq_true rfl) (Nat.le_of_ble_eq_true rfl) (Nat.le_of_ble_eq_true rfl) hc hs (fun _ _ _ hx => kx_out rfl (hX _ _ _ hx)) (fun v_ σ17 hq => ?_)
  obtain ⟨rfl, h⟩ := hq
  refine kW_p dX1_init_30 (kp1 ⟨_, _, _, _, kc_X1, fl_X1_110_X1, Or.inr ⟨rfl, rfl, q878⟩, rfl, rfl⟩) h (fun σ20 h => ?_)
  refine kx_aload_n dX1_init_33 rfl rfl ?_
  refine kx_sipush (v := 1000) dX1_init_34 (by decide) ?_
  refine kW_newa dX1_init_37 rfl q310 (fun _ _ => rfl) h (fun n23 q21 σ22 h => ?_)
  refine kW_p dX1_init_39 (kp1 ⟨_, _, _, _, kc_X1, fl_X1_114_X1, Or.inr ⟨rfl, rfl, q880⟩, rfl, rfl⟩) h (fun σ24 h => ?_)
  refine kx_aload_n dX1_init_42 rfl rfl ?_
  refine kx_iconst (v := -1) dX1_init_43 (by decide) ?_
  refine kW_p dX1_init_44 (kp1 ⟨_, _, _, _, kc_X1, fl_X1_118_X1, Or.inl rfl, rfl, rfl⟩) h (fun σ25 h => ?_)
  refine kx_aload_n dX1_init_47 rfl rfl ?_
  refine kW_new dX1_init_48 kc_J8 q875 q278 q154 rfl h (fun q26 σ27 h => ?_)
  refine kx_dup dX1_init_51 rfl ?_
  obtain ⟨c30, c31, hc, hs, h⟩ := h
  refine kx_callI dX1_init_52 lk_X1_124 (kw_J8_init h) rfl rfl (Nat.le_of_ble_eq_true rfl) (Nat.le_of_ble_eq_true rfl) (Nat.le_of_ble_eq_true rfl) hc hs (fun _ _ _ hx => kx_out rfl (hX _ _ _ hx)) (fun v_ σ29 hq => ?_)
  obtain ⟨rfl, h⟩ := hq
  refine kW_p dX1_init_55 (kp1 ⟨_, _, _, _, kc_X1, fl_X1_125_X1, Or.inr ⟨rfl, rfl, q885⟩, rfl, rfl⟩) h (fun σ32 h => ?_)
  exact kx_vret dX1_init_58 rfl (hQ _ _ ⟨rfl, h⟩)
set_option maxHeartbeats 8000000 in
theorem kw_X1_text {G : KG} {bc bs : Nat} {σ : KHp} {x0 : Nat} {Q : Option Nat → KHp → Prop} {X : String → Nat → KHp → Prop} (h : W_X1_text G bc bs σ x0 Q X) : kx_c G yX1_text (ws_ yX1_text cX1_text 3 (Option.some (Jvm.ClassFile.FieldType.object "java/lang/String"))) 9 bc bs [.ref (x0)] σ (fun rv σ' => ∃ r, rv = some (va_rf (r)) ∧ Q r σ') X := by
  refine kx_mk3 (ini := false) rfl (Nat.le_of_ble_eq_true rfl) (fun h => by cases h) (fun Q1 X1 hQ hX => ?_)
  unfold W_X1_text at h
  refine kW_new dX1_text_0 kc_J8 q875 q278 q154 rfl h (fun q1 σ2 h => ?_)
  refine kx_dup dX1_text_3 rfl ?_
  obtain ⟨c5, c6, hc, hs, h⟩ := h
  refine kx_callI dX1_text_4 lk_X1_124 (kw_J8_init h) rfl rfl (Nat.le_of_ble_eq_true rfl) (Nat.le_of_ble_eq_true rfl) (Nat.le_of_ble_eq_true rfl) hc hs (fun _ _ _ hx => kx_out rfl (hX _ _ _ hx)) (fun v_ σ4 hq => ?_)
  obtain ⟨rfl, h⟩ := hq
  refine kx_astore_n dX1_text_7 rfl (Nat.le_of_ble_eq_true rfl) ?_
  refine kx_iconst (v := 0) dX1_text_8 (by decide) ?_
  refine kx_istore_n dX1_text_9 rfl (Nat.le_of_ble_eq_true rfl) ?_
  refine kx_lwF [(0, .ref (x0)), (1, .ref (q1)), (2, .int ((0 : Int32)))] ⟨rfl, rfl, rfl, trivial⟩ ?_
  refine loopW3_k (fun (σ : KHp) (bc10 bs10 : Nat) (l2 : Int32) => kx G (yX1_text.cls, cX1_text, 3, (Option.some (Jvm.ClassFile.FieldType.object "java/lang/String")), false, []) (9, bc, bs, Q1, X1) (bc10) (bs10) σ 10 (kF [(0, .ref (x0)), (1, .ref (q1)), (2, .int (l2))]) []) (fun kI10 hI10 σ bc10 bs10 l2 h => ?_) 9000 σ4 (bc - 1 - c5) (bs - 4 - c6) (0 : Int32) h
  unfold WB_X1_text_10 at h
  refine kx_iload_n dX1_text_10 rfl rfl ?_
  refine kx_aload_n dX1_text_11 rfl rfl ?_
  refine kW_gI dX1_text_12 (kf1 fl_X1_129_X1) h (fun v11001 h => ?_)
  refine kx_icmp_ge (tgt := 40) dX1_text_15 (by decide) (fun c => ?_) (fun c => ?_)
  · have h := w_ift c h
    refine kx_aload_n dX1_text_40 rfl rfl ?_
    obtain ⟨hr, h⟩ := h
    obtain ⟨c11004, c11005, hc, hs, h⟩ := h
    refine kx_callV dX1_text_41 lk_X1_195 (kw_J8_toString h) rfl (wR_rc hr rfl) rfl (Nat.le_of_ble_eq_true rfl) (Nat.le_of_ble_eq_true rfl) (Nat.le_of_ble_eq_true rfl) hc hs (fun _ _ _ hx => kx_out rfl (hX _ _ _ hx)) (fun v_ σ11003 hq => ?_)
    obtain ⟨v11002, rfl, h⟩ := hq
    exact kx_aret dX1_text_44 rfl (Or.inl ⟨_, rfl⟩) (va_rfs _) (hQ _ _ ⟨_, rfl, h⟩)
  · have h := w_iff c h
    refine kx_aload_n dX1_text_18 rfl rfl ?_
    refine kx_aload_n dX1_text_19 rfl rfl ?_
    refine kW_gO dX1_text_20 (kf1 fl_X1_114_X1) h (fun v11006 h => ?_)
    refine kx_iload_n dX1_text_23 rfl rfl ?_
    obtain ⟨a11007, rfl, hUa11007⟩ := h
    have h := hUa11007
    refine kW_lB dX1_text_24 h (fun v11008 h => ?_)
    refine kx_sipush (v := 255) dX1_text_25 (by decide) ?_
    refine kx_iand dX1_text_28 ?_
    refine kx_i2c dX1_text_29 rfl ?_
    obtain ⟨hr, h⟩ := h
    obtain ⟨c11011, c11012, hc, hs, h⟩ := h
    refine kx_callV dX1_text_30 lk_X1_191 (kw_J8_append_3 h) rfl (wR_rc hr rfl) rfl (Nat.le_of_ble_eq_true rfl) (Nat.le_of_ble_eq_true rfl) (Nat.le_of_ble_eq_true rfl) hc hs (fun _ _ _ hx => kx_out rfl (hX _ _ _ hx)) (fun v_ σ11010 hq => ?_)
    obtain ⟨v11009, rfl, h⟩ := hq
    refine kx_pop dX1_text_33 (va_cat _) ?_
    refine kx_iinc2 (v := 1) dX1_text_34 rfl (by decide) ?_
    refine kx_goto (tgt := 10) dX1_text_37 (by decide) ?_
    exact kx_lwF [(0, .ref (x0)), (1, .ref (q1)), (2, .int ((l2 + (1 : Int32))))] ⟨rfl, rfl, rfl, trivial⟩ (hI10 _ _ _ _ h)
set_option maxHeartbeats 8000000 in
theorem kw_X1_remember {G : KG} {bc bs : Nat} {σ : KHp} {x0 : Nat} {Q : Option Nat → KHp → Prop} {X : String → Nat → KHp → Prop} (h : W_X1_remember G bc bs σ x0 Q X) : kx_c G yX1_remember (ws_ yX1_remember cX1_remember 1 (Option.some (Jvm.ClassFile.FieldType.object "ArcRecorder$State"))) 9 bc bs [.ref (x0)] σ (fun rv σ' => ∃ r, rv = some (va_rf (r)) ∧ Q r σ') X := by
  refine kx_mk3 (ini := false) rfl (Nat.le_of_ble_eq_true rfl) (fun h => by cases h) (fun Q1 X1 hQ hX => ?_)
  unfold W_X1_remember at h
  refine kx_aload_n dX1_remember_0 rfl rfl ?_
  refine kW_new dX1_remember_1 kc_X2 q208 q209 q144 rfl h (fun q1 σ2 h => ?_)
  refine kx_dup dX1_remember_4 rfl ?_
  refine kx_aload_n dX1_remember_5 rfl rfl ?_
  refine kW_gO dX1_remember_6 (kf1 fl_X1_103_X1) h (fun v3 h => ?_)
  obtain ⟨c6, c7, hc, hs, h⟩ := h
  refine kx_callI dX1_remember_9 lk_X1_158 (kw_X2_init_2 h) rfl rfl (Nat.le_of_ble_eq_true rfl) (Nat.le_of_ble_eq_true rfl) (Nat.le_of_ble_eq_true rfl) hc hs (fun _ _ _ hx => kx_out rfl (hX _ _ _ hx)) (fun v_ σ5 hq => ?_)
  obtain ⟨rfl, h⟩ := hq
  obtain ⟨hr, h⟩ := h
  obtain ⟨c10, c11, hc, hs, h⟩ := h
  refine kx_callV dX1_remember_12 lk_X1_161 (kw_X1_keep h) rfl (wR_rc hr rfl) rfl (Nat.le_of_ble_eq_true rfl) (Nat.le_of_ble_eq_true rfl) (Nat.le_of_ble_eq_true rfl) hc hs (fun _ _ _ hx => kx_out rfl (hX _ _ _ hx)) (fun v_ σ9 hq => ?_)
  obtain ⟨rfl, h⟩ := hq
  refine kx_aload_n dX1_remember_15 rfl rfl ?_
  refine kW_gO dX1_remember_16 (kf1 fl_X1_103_X1) h (fun v12 h => ?_)
  exact kx_aret dX1_remember_19 rfl (Or.inl ⟨_, rfl⟩) (va_rfs _) (hQ _ _ ⟨_, rfl, h⟩)
set_option maxHeartbeats 8000000 in
theorem kw_X1_clearMemory {G : KG} {bc bs : Nat} {σ : KHp} {x0 : Nat} {Q : Int32 → KHp → Prop} {X : String → Nat → KHp → Prop} (h : W_X1_clearMemory G bc bs σ x0 Q X) : kx_c G yX1_clearMemory (ws_ yX1_clearMemory cX1_clearMemory 2 (Option.some Jvm.ClassFile.FieldType.int)) 10 bc bs [.ref (x0)] σ (fun rv σ' => ∃ r, rv = some (.int (r)) ∧ Q r σ') X := by
  refine kx_mk3 (ini := false) rfl (Nat.le_of_ble_eq_true rfl) (fun h => by cases h) (fun Q1 X1 hQ hX => ?_)
  unfold W_X1_clearMemory at h
  refine kx_aload_n dX1_clearMemory_0 rfl rfl ?_
  obtain ⟨hr, h⟩ := h
  obtain ⟨c3, c4, hc, hs, h⟩ := h
  refine kx_callV dX1_clearMemory_1 lk_X1_283 (kw_X1_remember h) rfl (wR_rc hr rfl) rfl (Nat.le_of_ble_eq_true rfl) (Nat.le_of_ble_eq_true rfl) (Nat.le_of_ble_eq_true rfl) hc hs (fun _ _ _ hx => kx_out rfl (hX _ _ _ hx)) (fun v_ σ2 hq => ?_)
  obtain ⟨v1, rfl, h⟩ := hq
  obtain ⟨a5, rfl, hUa5⟩ := h
  have h := hUa5
  refine kW_gO dX1_clearMemory_4 (kf1 fl_X1_444_X2) h (fun v6 h => ?_)
  obtain ⟨a7, rfl, hUa7⟩ := h
  have h := hUa7
  obtain ⟨hr, h⟩ := h
  refine kx_callV dX1_clearMemory_7 lk_X1_147 (kw_J19_size h) rfl (wR_rc hr rfl) rfl (Nat.le_of_ble_eq_true rfl) (Nat.le_of_ble_eq_true rfl) (Nat.le_of_ble_eq_true rfl) (Nat.le_of_ble_eq_true rfl) (Nat.le_of_ble_eq_true rfl) (fun _ _ _ hx => kx_out rfl (hX _ _ _ hx)) (fun v_ σ9 hq => ?_)
  obtain ⟨v8, rfl, h⟩ := hq
  refine kx_istore_n dX1_clearMemory_10 rfl (Nat.le_of_ble_eq_true rfl) ?_
  refine kx_aload_n dX1_clearMemory_11 rfl rfl ?_
  refine kW_gO dX1_clearMemory_12 (kf1 fl_X1_103_X1) h (fun v10 h => ?_)
  obtain ⟨a11, rfl, hUa11⟩ := h
  have h := hUa11
  refine kW_gO dX1_clearMemory_15 (kf1 fl_X1_444_X2) h (fun v12 h => ?_)
  obtain ⟨a13, rfl, hUa13⟩ := h
  have h := hUa13
  obtain ⟨hr, h⟩ := h
  refine kx_callV dX1_clearMemory_18 lk_X1_467 (kw_J19_clear h) rfl (wR_rc hr rfl) rfl (Nat.le_of_ble_eq_true rfl) (Nat.le_of_ble_eq_true rfl) (Nat.le_of_ble_eq_true rfl) (Nat.le_of_ble_eq_true rfl) (Nat.le_of_ble_eq_true rfl) (fun _ _ _ hx => kx_out rfl (hX _ _ _ hx)) (fun v_ σ15 hq => ?_)
  obtain ⟨rfl, h⟩ := hq
  refine kx_iload_n dX1_clearMemory_21 rfl rfl ?_
  exact kx_iret dX1_clearMemory_22 rfl (hQ _ _ ⟨_, rfl, h⟩)
set_option maxHeartbeats 8000000 in
theorem kw_X1_setOn {G : KG} {bc bs : Nat} {σ : KHp} {x0 : Nat} {x1 : Int32} {x2 : Int32} {Q : Int32 → KHp → Prop} {X : String → Nat → KHp → Prop} (h : W_X1_setOn G bc bs σ x0 x1 x2 Q X) : kx_c G yX1_setOn (ws_ yX1_setOn cX1_setOn 4 (Option.some Jvm.ClassFile.FieldType.boolean)) 10 bc bs [.ref (x0), .int (x1), .int (x2)] σ (fun rv σ' => ∃ r, rv = some (.int (r)) ∧ Q r σ') X := by
  refine kx_mk3 (ini := false) rfl (Nat.le_of_ble_eq_true rfl) (fun h => by cases h) (fun Q1 X1 hQ hX => ?_)
  unfold W_X1_setOn at h
  refine kx_aload_n dX1_setOn_0 rfl rfl ?_
  refine kx_iload_n dX1_setOn_1 rfl rfl ?_
  obtain ⟨hr, h⟩ := h
  obtain ⟨c3, c4, hc, hs, h⟩ := h
  refine kx_callV dX1_setOn_2 lk_X1_262 (kw_X1_loadAt h) rfl (wR_rc hr rfl) rfl (Nat.le_of_ble_eq_true rfl) (Nat.le_of_ble_eq_true rfl) (Nat.le_of_ble_eq_true rfl) hc hs (fun _ _ _ hx => kx_out rfl (hX _ _ _ hx)) (fun v_ σ2 hq => ?_)
  obtain ⟨v1, rfl, h⟩ := hq
  refine kx_pop dX1_setOn_5 (va_cat _) ?_
  refine kx_aload_n dX1_setOn_6 rfl rfl ?_
  obtain ⟨hr, h⟩ := h
  obtain ⟨c7, c8, hc, hs, h⟩ := h
  refine kx_callV dX1_setOn_7 lk_X1_283 (kw_X1_remember h) rfl (wR_rc hr rfl) rfl (Nat.le_of_ble_eq_true rfl) (Nat.le_of_ble_eq_true rfl) (Nat.le_of_ble_eq_true rfl) hc hs (fun _ _ _ hx => kx_out rfl (hX _ _ _ hx)) (fun v_ σ6 hq => ?_)
  obtain ⟨v5, rfl, h⟩ := hq
  obtain ⟨a9, rfl, hUa9⟩ := h
  have h := hUa9
  refine kW_gO dX1_setOn_10 (kf1 fl_X1_280_X2) h (fun v10 h => ?_)
  refine kx_iload_n dX1_setOn_13 rfl rfl ?_
  obtain ⟨a11, rfl, hUa11⟩ := h
  have h := hUa11
  refine kW_lB dX1_setOn_14 h (fun v12 h => ?_)
  refine kx_istore_n dX1_setOn_15 rfl (Nat.le_of_ble_eq_true rfl) ?_
  refine kx_aload_n dX1_setOn_16 rfl rfl ?_
  refine kW_gO dX1_setOn_17 (kf1 fl_X1_103_X1) h (fun v13 h => ?_)
  obtain ⟨a14, rfl, hUa14⟩ := h
  have h := hUa14
  refine kW_gO dX1_setOn_20 (kf1 fl_X1_280_X2) h (fun v15 h => ?_)
  refine kx_iload_n dX1_setOn_23 rfl rfl ?_
  refine kx_iload_n dX1_setOn_24 rfl rfl ?_
  obtain ⟨a16, rfl, hUa16⟩ := h
  have h := hUa16
  refine kW_sB dX1_setOn_25 h (fun σ17 h => ?_)
  refine kx_iload_n dX1_setOn_26 rfl rfl ?_
  exact kx_zret dX1_setOn_27 rfl h.1 (hQ _ _ ⟨_, rfl, h.2⟩)
set_option maxHeartbeats 8000000 in
theorem kw_X1_plan {G : KG} {bc bs : Nat} {σ : KHp} {x0 : Nat} {x1 : Int32} {x2 : Int32} {x3 : Int32} {Q : Int32 → KHp → Prop} {X : String → Nat → KHp → Prop} (h : W_X1_plan G bc bs σ x0 x1 x2 x3 Q X) : kx_c G yX1_plan (ws_ yX1_plan cX1_plan 4 (Option.some Jvm.ClassFile.FieldType.int)) 10 bc bs [.ref (x0), .int (x1), .int (x2), .int (x3)] σ (fun rv σ' => ∃ r, rv = some (.int (r)) ∧ Q r σ') X := by
  refine kx_mk3 (ini := false) rfl (Nat.le_of_ble_eq_true rfl) (fun h => by cases h) (fun Q1 X1 hQ hX => ?_)
  unfold W_X1_plan at h
  refine kx_aload_n dX1_plan_0 rfl rfl ?_
  refine kx_iload_n dX1_plan_1 rfl rfl ?_
  obtain ⟨hr, h⟩ := h
  obtain ⟨c3, c4, hc, hs, h⟩ := h
  refine kx_callV dX1_plan_2 lk_X1_262 (kw_X1_loadAt h) rfl (wR_rc hr rfl) rfl (Nat.le_of_ble_eq_true rfl) (Nat.le_of_ble_eq_true rfl) (Nat.le_of_ble_eq_true rfl) hc hs (fun _ _ _ hx => kx_out rfl (hX _ _ _ hx)) (fun v_ σ2 hq => ?_)
  obtain ⟨v1, rfl, h⟩ := hq
  refine kx_pop dX1_plan_5 (va_cat _) ?_
  refine kx_iload_n dX1_plan_6 rfl rfl ?_
  refine kx_i2l dX1_plan_7 rfl ?_
  refine kx_aload_n dX1_plan_8 rfl rfl ?_
  refine kW_gO dX1_plan_9 (kf1 fl_X1_103_X1) h (fun v5 h => ?_)
  obtain ⟨a6, rfl, hUa6⟩ := h
  have h := hUa6
  refine kW_gI dX1_plan_12 (kf1 fl_X1_239_X2) h (fun v7 h => ?_)
  refine kx_iconst (v := 1) dX1_plan_15 (by decide) ?_
  refine kx_iadd dX1_plan_16 ?_
  refine kx_i2l dX1_plan_17 rfl ?_
  refine kx_ldc2 dX1_plan_18 q2134 ?_
  refine kx_callS dX1_plan_21 lk_X1_140 (kw_X1_inRange h) rfl rfl (Nat.le_of_ble_eq_true rfl) (Nat.le_of_ble_eq_true rfl) (Nat.le_of_ble_eq_true rfl) (Nat.le_of_ble_eq_true rfl) (Nat.le_of_ble_eq_true rfl) (fun _ _ _ hx => kx_out rfl (hX _ _ _ hx)) (fun v_ σ9 hq => ?_)
  obtain ⟨v8, rfl, h⟩ := hq
  obtain ⟨c12, c13, hc, hs, h⟩ := h
  refine kx_callS dX1_plan_24 lk_X1_144 (kw_X1_requireArgument h) rfl rfl (Nat.le_of_ble_eq_true rfl) (Nat.le_of_ble_eq_true rfl) (Nat.le_of_ble_eq_true rfl) hc hs (fun _ _ _ hx => kx_out rfl (hX _ _ _ hx)) (fun v_ σ11 hq => ?_)
  obtain ⟨rfl, h⟩ := hq
  refine kx_aload_n dX1_plan_27 rfl rfl ?_
  refine kW_gO dX1_plan_28 (kf1 fl_X1_103_X1) h (fun v14 h => ?_)
  obtain ⟨a15, rfl, hUa15⟩ := h
  have h := hUa15
  refine kW_gO dX1_plan_31 (kf1 fl_X1_226_X2) h (fun v16 h => ?_)
  obtain ⟨a17, rfl, hUa17⟩ := h
  have h := hUa17
  obtain ⟨hr, h⟩ := h
  refine kx_callV dX1_plan_34 lk_X1_230 (kw_J18_size h) rfl (wR_rc hr rfl) rfl (Nat.le_of_ble_eq_true rfl) (Nat.le_of_ble_eq_true rfl) (Nat.le_of_ble_eq_true rfl) (Nat.le_of_ble_eq_true rfl) (Nat.le_of_ble_eq_true rfl) (fun _ _ _ hx => kx_out rfl (hX _ _ _ hx)) (fun v_ σ19 hq => ?_)
  obtain ⟨v18, rfl, h⟩ := hq
  refine kx_bipush (v := 20) dX1_plan_37 (by decide) ?_
  refine kW_jIa 47 [] h (fun v21 σ22 bcv21 bsv21 h => ?_) (fun k20 jk20 h => ?_)
  · skip
    obtain ⟨c25, c26, hc, hs, h⟩ := h
    refine kx_callS dX1_plan_47 lk_X1_132 (kw_X1_requireState h) rfl rfl (Nat.le_of_ble_eq_true rfl) (Nat.le_of_ble_eq_true rfl) (Nat.le_of_ble_eq_true rfl) hc hs (fun _ _ _ hx => kx_out rfl (hX _ _ _ hx)) (fun v_ σ24 hq => ?_)
    obtain ⟨rfl, h⟩ := hq
    refine kx_aload_n dX1_plan_50 rfl rfl ?_
    obtain ⟨hr, h⟩ := h
    obtain ⟨c29, c30, hc, hs, h⟩ := h
    refine kx_callV dX1_plan_51 lk_X1_283 (kw_X1_remember h) rfl (wR_rc hr rfl) rfl (Nat.le_of_ble_eq_true rfl) (Nat.le_of_ble_eq_true rfl) (Nat.le_of_ble_eq_true rfl) hc hs (fun _ _ _ hx => kx_out rfl (hX _ _ _ hx)) (fun v_ σ28 hq => ?_)
    obtain ⟨v27, rfl, h⟩ := hq
    obtain ⟨a31, rfl, hUa31⟩ := h
    have h := hUa31
    refine kW_gO dX1_plan_54 (kf1 fl_X1_226_X2) h (fun v32 h => ?_)
    refine kW_new dX1_plan_57 kc_X17 q2135 q1449 q185 rfl h (fun q33 σ34 h => ?_)
    refine kx_dup dX1_plan_60 rfl ?_
    refine kx_iload_n dX1_plan_61 rfl rfl ?_
    refine kx_iload_n dX1_plan_62 rfl rfl ?_
    refine kx_iload_n dX1_plan_63 rfl rfl ?_
    refine kx_callI dX1_plan_64 lk_X1_290 (kw_X17_init h) rfl rfl (by cases v32 <;> exact Nat.le_of_ble_eq_true rfl) (Nat.le_of_ble_eq_true rfl) (Nat.le_of_ble_eq_true rfl) (Nat.le_of_ble_eq_true rfl) (Nat.le_of_ble_eq_true rfl) (fun _ _ _ hx => kx_out rfl (hX _ _ _ hx)) (fun v_ σ36 hq => ?_)
    obtain ⟨rfl, h⟩ := hq
    obtain ⟨a37, rfl, hUa37⟩ := h
    have h := hUa37
    obtain ⟨hr, h⟩ := h
    obtain ⟨c40, c41, hc, hs, h⟩ := h
    refine kx_callV dX1_plan_67 lk_X1_293 (kw_J18_addLast h) rfl (wR_rc hr rfl) rfl (Nat.le_of_ble_eq_true rfl) (Nat.le_of_ble_eq_true rfl) (Nat.le_of_ble_eq_true rfl) hc hs (fun _ _ _ hx => kx_out rfl (hX _ _ _ hx)) (fun v_ σ39 hq => ?_)
    obtain ⟨rfl, h⟩ := hq
    refine kx_aload_n dX1_plan_70 rfl rfl ?_
    refine kW_gO dX1_plan_71 (kf1 fl_X1_103_X1) h (fun v42 h => ?_)
    obtain ⟨a43, rfl, hUa43⟩ := h
    have h := hUa43
    refine kW_gO dX1_plan_74 (kf1 fl_X1_226_X2) h (fun v44 h => ?_)
    obtain ⟨a45, rfl, hUa45⟩ := h
    have h := hUa45
    obtain ⟨hr, h⟩ := h
    refine kx_callV dX1_plan_77 lk_X1_230 (kw_J18_size h) rfl (wR_rc hr rfl) rfl (Nat.le_of_ble_eq_true rfl) (Nat.le_of_ble_eq_true rfl) (Nat.le_of_ble_eq_true rfl) (Nat.le_of_ble_eq_true rfl) (Nat.le_of_ble_eq_true rfl) (fun _ _ _ hx => kx_out rfl (hX _ _ _ hx)) (fun v_ σ47 hq => ?_)
    obtain ⟨v46, rfl, h⟩ := hq
    exact kx_iret dX1_plan_80 rfl (hQ _ _ ⟨_, rfl, h⟩)
  · skip
    refine kx_icmp_ge (tgt := 46) dX1_plan_39 (by decide) (fun c => ?_) (fun c => ?_)
    · have h := w_ift c h
      refine kx_iconst (v := 0) dX1_plan_46 (by decide) ?_
      exact jk20 _ _ _ _ h
    · have h := w_iff c h
      refine kx_iconst (v := 1) dX1_plan_42 (by decide) ?_
      refine kx_goto (tgt := 47) dX1_plan_43 (by decide) ?_
      exact jk20 _ _ _ _ h
set_option maxHeartbeats 8000000 in
theorem kw_X1_run {G : KG} {bc bs : Nat} {σ : KHp} {x0 : Nat} {x1 : Int32} {Q : Int32 → KHp → Prop} {X : String → Nat → KHp → Prop} (h : W_X1_run G bc bs σ x0 x1 Q X) : kx_c G yX1_run (ws_ yX1_run cX1_run 4 (Option.some Jvm.ClassFile.FieldType.int)) 10 bc bs [.ref (x0), .int (x1)] σ (fun rv σ' => ∃ r, rv = some (.int (r)) ∧ Q r σ') X := by
  refine kx_mk3 (ini := false) rfl (Nat.le_of_ble_eq_true rfl) (fun h => by cases h) (fun Q1 X1 hQ hX => ?_)
  unfold W_X1_run at h
  refine kx_iload_n dX1_run_0 rfl rfl ?_
  refine kx_i2l dX1_run_1 rfl ?_
  refine kx_lconst (v := 1) dX1_run_2 (by decide) ?_
  refine kx_ldc2 dX1_run_3 q2164 ?_
  refine kx_callS dX1_run_6 lk_X1_140 (kw_X1_inRange h) rfl rfl (Nat.le_of_ble_eq_true rfl) (Nat.le_of_ble_eq_true rfl) (Nat.le_of_ble_eq_true rfl) (Nat.le_of_ble_eq_true rfl) (Nat.le_of_ble_eq_true rfl) (fun _ _ _ hx => kx_out rfl (hX _ _ _ hx)) (fun v_ σ2 hq => ?_)
  obtain ⟨v1, rfl, h⟩ := hq
  obtain ⟨c5, c6, hc, hs, h⟩ := h
  refine kx_callS dX1_run_9 lk_X1_144 (kw_X1_requireArgument h) rfl rfl (Nat.le_of_ble_eq_true rfl) (Nat.le_of_ble_eq_true rfl) (Nat.le_of_ble_eq_true rfl) hc hs (fun _ _ _ hx => kx_out rfl (hX _ _ _ hx)) (fun v_ σ4 hq => ?_)
  obtain ⟨rfl, h⟩ := hq
  refine kx_aload_n dX1_run_12 rfl rfl ?_
  refine kW_gO dX1_run_13 (kf1 fl_X1_103_X1) h (fun v7 h => ?_)
  obtain ⟨a8, rfl, hUa8⟩ := h
  have h := hUa8
  refine kW_gI dX1_run_16 (kf1 fl_X1_239_X2) h (fun v9 h => ?_)
  refine kx_iload_n dX1_run_19 rfl rfl ?_
  refine kx_iadd dX1_run_20 ?_
  refine kx_ldcwi dX1_run_21 q2165 ?_
  refine kW_jIa 32 [] h (fun v11 σ12 bcv11 bsv11 h => ?_) (fun k10 jk10 h => ?_)
  · skip
    obtain ⟨c15, c16, hc, hs, h⟩ := h
    refine kx_callS dX1_run_32 lk_X1_132 (kw_X1_requireState h) rfl rfl (Nat.le_of_ble_eq_true rfl) (Nat.le_of_ble_eq_true rfl) (Nat.le_of_ble_eq_true rfl) hc hs (fun _ _ _ hx => kx_out rfl (hX _ _ _ hx)) (fun v_ σ14 hq => ?_)
    obtain ⟨rfl, h⟩ := hq
    refine kx_aload_n dX1_run_35 rfl rfl ?_
    obtain ⟨hr, h⟩ := h
    obtain ⟨c19, c20, hc, hs, h⟩ := h
    refine kx_callV dX1_run_36 lk_X1_283 (kw_X1_remember h) rfl (wR_rc hr rfl) rfl (Nat.le_of_ble_eq_true rfl) (Nat.le_of_ble_eq_true rfl) (Nat.le_of_ble_eq_true rfl) hc hs (fun _ _ _ hx => kx_out rfl (hX _ _ _ hx)) (fun v_ σ18 hq => ?_)
    obtain ⟨v17, rfl, h⟩ := hq
    refine kx_pop dX1_run_39 (va_cat _) ?_
    refine kx_iconst (v := 0) dX1_run_40 (by decide) ?_
    refine kx_istore_n dX1_run_41 rfl (Nat.le_of_ble_eq_true rfl) ?_
    refine kx_iconst (v := 0) dX1_run_42 (by decide) ?_
    refine kx_istore_n dX1_run_43 rfl (Nat.le_of_ble_eq_true rfl) ?_
    refine kx_lwF [(0, .ref (x0)), (1, .int (x1)), (2, .int ((0 : Int32))), (3, .int ((0 : Int32)))] ⟨rfl, rfl, rfl, rfl, trivial⟩ ?_
    refine loopW4_k (fun (σ : KHp) (bc44 bs44 : Nat) (l2 : Int32) (l3 : Int32) => kx G (yX1_run.cls, cX1_run, 4, (Option.some Jvm.ClassFile.FieldType.int), false, []) (10, bc, bs, Q1, X1) (bc44) (bs44) σ 44 (kF [(0, .ref (x0)), (1, .int (x1)), (2, .int (l2)), (3, .int (l3))]) []) (fun kI44 hI44 σ bc44 bs44 l2 l3 h => ?_) 9000 σ18 (bcv11 - c15 - c19) (bsv11 - c16 - c20) (0 : Int32) (0 : Int32) h
    unfold WB_X1_run_44 at h
    refine kx_iload_n dX1_run_44 rfl rfl ?_
    refine kx_iload_n dX1_run_45 rfl rfl ?_
    refine kx_icmp_ge (tgt := 68) dX1_run_46 (by decide) (fun c => ?_) (fun c => ?_)
    · have h := w_ift c h
      refine kx_iload_n dX1_run_68 rfl rfl ?_
      exact kx_iret dX1_run_69 rfl (hQ _ _ ⟨_, rfl, h⟩)
    · have h := w_iff c h
      refine kx_iload_n dX1_run_49 rfl rfl ?_
      refine kx_aload_n dX1_run_50 rfl rfl ?_
      refine kW_gO dX1_run_51 (kf1 fl_X1_103_X1) h (fun v45001 h => ?_)
      obtain ⟨a45002, rfl, hUa45002⟩ := h
      have h := hUa45002
      obtain ⟨hr, h⟩ := h
      obtain ⟨c45005, c45006, hc, hs, h⟩ := h
      refine kx_callV dX1_run_54 lk_X1_316 (kw_X2_step h) rfl (wR_rc hr rfl) rfl (Nat.le_of_ble_eq_true rfl) (Nat.le_of_ble_eq_true rfl) (Nat.le_of_ble_eq_true rfl) hc hs (fun _ _ _ hx => kx_out rfl (hX _ _ _ hx)) (fun v_ σ45004 hq => ?_)
      obtain ⟨v45003, rfl, h⟩ := hq
      refine kx_callS dX1_run_57 lk_X1_319 (kw_J16_bitCount h) rfl rfl (Nat.le_of_ble_eq_true rfl) (Nat.le_of_ble_eq_true rfl) (Nat.le_of_ble_eq_true rfl) (Nat.le_of_ble_eq_true rfl) (Nat.le_of_ble_eq_true rfl) (fun _ _ _ hx => kx_out rfl (hX _ _ _ hx)) (fun v_ σ45008 hq => ?_)
      obtain ⟨v45007, rfl, h⟩ := hq
      refine kx_iadd dX1_run_60 ?_
      refine kx_istore_n dX1_run_61 rfl (Nat.le_of_ble_eq_true rfl) ?_
      refine kx_iinc2 (v := 1) dX1_run_62 rfl (by decide) ?_
      refine kx_goto (tgt := 44) dX1_run_65 (by decide) ?_
      exact kx_lwF [(0, .ref (x0)), (1, .int (x1)), (2, .int ((l2 + v45007))), (3, .int ((l3 + (1 : Int32))))] ⟨rfl, rfl, rfl, rfl, trivial⟩ (hI44 _ _ _ _ _ h)
  · skip
    refine kx_icmp_gt (tgt := 31) dX1_run_24 (by decide) (fun c => ?_) (fun c => ?_)
    · have h := w_ift c h
      refine kx_iconst (v := 0) dX1_run_31 (by decide) ?_
      exact jk10 _ _ _ _ h
    · have h := w_iff c h
      refine kx_iconst (v := 1) dX1_run_27 (by decide) ?_
      refine kx_goto (tgt := 32) dX1_run_28 (by decide) ?_
      exact jk10 _ _ _ _ h
set_option maxHeartbeats 8000000 in
theorem kw_X1_learn {G : KG} {bc bs : Nat} {σ : KHp} {x0 : Nat} {x1 : Int32} {Q : Int32 → KHp → Prop} {X : String → Nat → KHp → Prop} (h : W_X1_learn G bc bs σ x0 x1 Q X) : kx_c G yX1_learn (ws_ yX1_learn cX1_learn 5 (Option.some Jvm.ClassFile.FieldType.int)) 10 bc bs [.ref (x0), .int (x1)] σ (fun rv σ' => ∃ r, rv = some (.int (r)) ∧ Q r σ') X := by
  refine kx_mk3 (ini := false) rfl (Nat.le_of_ble_eq_true rfl) (fun h => by cases h) (fun Q1 X1 hQ hX => ?_)
  unfold W_X1_learn at h
  refine kx_aload_n dX1_learn_0 rfl rfl ?_
  refine kx_iload_n dX1_learn_1 rfl rfl ?_
  obtain ⟨hr, h⟩ := h
  obtain ⟨c3, c4, hc, hs, h⟩ := h
  refine kx_callV dX1_learn_2 lk_X1_255 (kw_X1_branchAt h) rfl (wR_rc hr rfl) rfl (Nat.le_of_ble_eq_true rfl) (Nat.le_of_ble_eq_true rfl) (Nat.le_of_ble_eq_true rfl) hc hs (fun _ _ _ hx => kx_out rfl (hX _ _ _ hx)) (fun v_ σ2 hq => ?_)
  obtain ⟨v1, rfl, h⟩ := hq
  refine kx_astore_nO dX1_learn_5 rfl (Nat.le_of_ble_eq_true rfl) ?_
  refine kx_aload_n dX1_learn_6 rfl rfl ?_
  obtain ⟨hr, h⟩ := h
  obtain ⟨c7, c8, hc, hs, h⟩ := h
  refine kx_callV dX1_learn_7 lk_X1_199 (kw_X1_text h) rfl (wR_rc hr rfl) rfl (Nat.le_of_ble_eq_true rfl) (Nat.le_of_ble_eq_true rfl) (Nat.le_of_ble_eq_true rfl) hc hs (fun _ _ _ hx => kx_out rfl (hX _ _ _ hx)) (fun v_ σ6 hq => ?_)
  obtain ⟨v5, rfl, h⟩ := hq
  refine kx_astore_nO dX1_learn_10 rfl (Nat.le_of_ble_eq_true rfl) ?_
  refine kx_lwF [(0, .ref (x0)), (2, va_rf (v1)), (3, va_rf (v5))] (by cases v1 <;> exact ⟨rfl, rfl, rfl, trivial⟩) ?_
  refine kx_aload_nO dX1_learn_11 rfl rfl ?_
  refine kx_callS dX1_learn_12 lk_X1_405 (kw_X1_isName h) rfl rfl (Nat.le_of_ble_eq_true rfl) (Nat.le_of_ble_eq_true rfl) (Nat.le_of_ble_eq_true rfl) (Nat.le_of_ble_eq_true rfl) (Nat.le_of_ble_eq_true rfl) (fun _ _ _ hx => kx_out rfl (hX _ _ _ hx)) (fun v_ σ10 hq => ?_)
  obtain ⟨v9, rfl, h⟩ := hq
  refine kW_jIa 35 [] h (fun v16 σ17 bcv16 bsv16 h => ?_) (fun k11 jk11 h => ?_)
  · skip
    obtain ⟨c20, c21, hc, hs, h⟩ := h
    refine kx_callS dX1_learn_35 lk_X1_144 (kw_X1_requireArgument h) rfl rfl (Nat.le_of_ble_eq_true rfl) (Nat.le_of_ble_eq_true rfl) (Nat.le_of_ble_eq_true rfl) hc hs (fun _ _ _ hx => kx_out rfl (hX _ _ _ hx)) (fun v_ σ19 hq => ?_)
    obtain ⟨rfl, h⟩ := hq
    refine kx_aload_n dX1_learn_38 rfl rfl ?_
    refine kW_gO dX1_learn_39 (kf1 fl_X1_103_X1) h (fun v22 h => ?_)
    obtain ⟨a23, rfl, hUa23⟩ := h
    have h := hUa23
    refine kW_gO dX1_learn_42 (kf1 fl_X1_223_X2) h (fun v24 h => ?_)
    obtain ⟨a25, rfl, hUa25⟩ := h
    have h := hUa25
    obtain ⟨hr, h⟩ := h
    refine kx_callV dX1_learn_45 lk_X1_180 (kw_J2_size h) rfl (wR_rc hr rfl) rfl (Nat.le_of_ble_eq_true rfl) (Nat.le_of_ble_eq_true rfl) (Nat.le_of_ble_eq_true rfl) (Nat.le_of_ble_eq_true rfl) (Nat.le_of_ble_eq_true rfl) (fun _ _ _ hx => kx_out rfl (hX _ _ _ hx)) (fun v_ σ27 hq => ?_)
    obtain ⟨v26, rfl, h⟩ := hq
    refine kx_bipush (v := 8) dX1_learn_48 (by decide) ?_
    refine kW_jIa 58 [] h (fun v29 σ30 bcv29 bsv29 h => ?_) (fun k28 jk28 h => ?_)
    · skip
      obtain ⟨c33, c34, hc, hs, h⟩ := h
      refine kx_callS dX1_learn_58 lk_X1_132 (kw_X1_requireState h) rfl rfl (Nat.le_of_ble_eq_true rfl) (Nat.le_of_ble_eq_true rfl) (Nat.le_of_ble_eq_true rfl) hc hs (fun _ _ _ hx => kx_out rfl (hX _ _ _ hx)) (fun v_ σ32 hq => ?_)
      obtain ⟨rfl, h⟩ := hq
      refine kx_aload_nO dX1_learn_61 rfl rfl ?_
      obtain ⟨a35, rfl, hUa35⟩ := h
      have h := hUa35
      refine kW_gI dX1_learn_62 (kf1 fl_X1_325_X5) h (fun v36 h => ?_)
      refine kW_jIa 73 [] h (fun v38 σ39 bcv38 bsv38 h => ?_) (fun k37 jk37 h => ?_)
      · skip
        obtain ⟨c42, c43, hc, hs, h⟩ := h
        refine kx_callS dX1_learn_73 lk_X1_328 (kw_X1_requireElement h) rfl rfl (Nat.le_of_ble_eq_true rfl) (Nat.le_of_ble_eq_true rfl) (Nat.le_of_ble_eq_true rfl) hc hs (fun _ _ _ hx => kx_out rfl (hX _ _ _ hx)) (fun v_ σ41 hq => ?_)
        obtain ⟨rfl, h⟩ := hq
        refine kx_aload_n dX1_learn_76 rfl rfl ?_
        refine kx_iconst (v := 0) dX1_learn_77 (by decide) ?_
        refine kW_p dX1_learn_78 (kp1 ⟨_, _, _, _, kc_X1, fl_X1_129_X1, Or.inl rfl, rfl, rfl⟩) h (fun σ44 h => ?_)
        refine kW_new dX1_learn_81 kc_X14 q2436 q1367 q182 rfl h (fun q45 σ46 h => ?_)
        refine kx_dup dX1_learn_84 rfl ?_
        refine kx_aload_nO dX1_learn_85 rfl rfl ?_
        refine kx_iconst (v := 0) dX1_learn_86 (by decide) ?_
        obtain ⟨c49, c50, hc, hs, h⟩ := h
        refine kx_callI dX1_learn_87 lk_X1_408 (kw_X14_init h) rfl rfl (Nat.le_of_ble_eq_true rfl) (Nat.le_of_ble_eq_true rfl) (Nat.le_of_ble_eq_true rfl) hc hs (fun _ _ _ hx => kx_out rfl (hX _ _ _ hx)) (fun v_ σ48 hq => ?_)
        obtain ⟨rfl, h⟩ := hq
        refine kx_astore dX1_learn_90 (Nat.le_of_ble_eq_true rfl) ?_
        refine kx_aload dX1_learn_92 rfl ?_
        refine kW_gO dX1_learn_94 (kf1 fl_X1_411_X14) h (fun v51 h => ?_)
        refine kW_new dX1_learn_97 kc_X15 q2491 q1406 q183 rfl h (fun q52 σ53 h => ?_)
        refine kx_dup dX1_learn_100 rfl ?_
        refine kx_iconst (v := 0) dX1_learn_101 (by decide) ?_
        refine kx_iconst (v := 1) dX1_learn_102 (by decide) ?_
        refine kx_aload_n dX1_learn_103 rfl rfl ?_
        refine kW_gO dX1_learn_104 (kf1 fl_X1_340_X5) h (fun v54 h => ?_)
        refine kx_iconst (v := 0) dX1_learn_107 (by decide) ?_
        obtain ⟨a55, rfl, hUa55⟩ := h
        have h := hUa55
        refine kW_lF dX1_learn_108 h (fun v56 h => ?_)
        refine kx_f2i dX1_learn_109 ?_
        refine kx_iconst (v := 2) dX1_learn_110 (by decide) ?_
        refine kx_iadd dX1_learn_111 ?_
        refine kx_callI dX1_learn_112 lk_X1_416 (kw_X15_init h) rfl rfl (by cases v51 <;> exact Nat.le_of_ble_eq_true rfl) (Nat.le_of_ble_eq_true rfl) (Nat.le_of_ble_eq_true rfl) (Nat.le_of_ble_eq_true rfl) (Nat.le_of_ble_eq_true rfl) (fun _ _ _ hx => kx_out rfl (hX _ _ _ hx)) (fun v_ σ58 hq => ?_)
        obtain ⟨rfl, h⟩ := hq
        obtain ⟨a59, rfl, hUa59⟩ := h
        have h := hUa59
        obtain ⟨hr, h⟩ := h
        obtain ⟨c62, c63, hc, hs, h⟩ := h
        refine kx_callV dX1_learn_115 lk_X1_419 (kw_J2_add h) rfl (wR_rc hr rfl) rfl (Nat.le_of_ble_eq_true rfl) (Nat.le_of_ble_eq_true rfl) (Nat.le_of_ble_eq_true rfl) hc hs (fun _ _ _ hx => kx_out rfl (hX _ _ _ hx)) (fun v_ σ61 hq => ?_)
        obtain ⟨v60, rfl, h⟩ := hq
        refine kx_pop dX1_learn_118 rfl ?_
        refine kx_aload dX1_learn_119 rfl ?_
        refine kW_gO dX1_learn_121 (kf1 fl_X1_411_X14) h (fun v64 h => ?_)
        refine kW_new dX1_learn_124 kc_X15 q2491 q1406 q183 rfl h (fun q65 σ66 h => ?_)
        refine kx_dup dX1_learn_127 rfl ?_
        refine kx_iconst (v := 2) dX1_learn_128 (by decide) ?_
        refine kx_iconst (v := 0) dX1_learn_129 (by decide) ?_
        refine kx_aload_n dX1_learn_130 rfl rfl ?_
        refine kW_gO dX1_learn_131 (kf1 fl_X1_340_X5) h (fun v67 h => ?_)
        refine kx_iconst (v := 2) dX1_learn_134 (by decide) ?_
        obtain ⟨a68, rfl, hUa68⟩ := h
        have h := hUa68
        refine kW_lF dX1_learn_135 h (fun v69 h => ?_)
        refine kx_f2i dX1_learn_136 ?_
        refine kx_iconst (v := 1) dX1_learn_137 (by decide) ?_
        refine kx_isub dX1_learn_138 ?_
        refine kx_callI dX1_learn_139 lk_X1_416 (kw_X15_init h) rfl rfl (by cases v64 <;> exact Nat.le_of_ble_eq_true rfl) (Nat.le_of_ble_eq_true rfl) (Nat.le_of_ble_eq_true rfl) (Nat.le_of_ble_eq_true rfl) (Nat.le_of_ble_eq_true rfl) (fun _ _ _ hx => kx_out rfl (hX _ _ _ hx)) (fun v_ σ71 hq => ?_)
        obtain ⟨rfl, h⟩ := hq
        obtain ⟨a72, rfl, hUa72⟩ := h
        have h := hUa72
        obtain ⟨hr, h⟩ := h
        obtain ⟨c75, c76, hc, hs, h⟩ := h
        refine kx_callV dX1_learn_142 lk_X1_419 (kw_J2_add h) rfl (wR_rc hr rfl) rfl (Nat.le_of_ble_eq_true rfl) (Nat.le_of_ble_eq_true rfl) (Nat.le_of_ble_eq_true rfl) hc hs (fun _ _ _ hx => kx_out rfl (hX _ _ _ hx)) (fun v_ σ74 hq => ?_)
        obtain ⟨v73, rfl, h⟩ := hq
        refine kx_pop dX1_learn_145 rfl ?_
        refine kx_aload dX1_learn_146 rfl ?_
        refine kW_gO dX1_learn_148 (kf1 fl_X1_411_X14) h (fun v77 h => ?_)
        refine kW_new dX1_learn_151 kc_X15 q2491 q1406 q183 rfl h (fun q78 σ79 h => ?_)
        refine kx_dup dX1_learn_154 rfl ?_
        refine kx_iconst (v := 2) dX1_learn_155 (by decide) ?_
        refine kx_iconst (v := 1) dX1_learn_156 (by decide) ?_
        refine kx_aload_n dX1_learn_157 rfl rfl ?_
        refine kW_gO dX1_learn_158 (kf1 fl_X1_340_X5) h (fun v80 h => ?_)
        refine kx_iconst (v := 2) dX1_learn_161 (by decide) ?_
        obtain ⟨a81, rfl, hUa81⟩ := h
        have h := hUa81
        refine kW_lF dX1_learn_162 h (fun v82 h => ?_)
        refine kx_f2i dX1_learn_163 ?_
        refine kx_iconst (v := 1) dX1_learn_164 (by decide) ?_
        refine kx_iadd dX1_learn_165 ?_
        refine kx_callI dX1_learn_166 lk_X1_416 (kw_X15_init h) rfl rfl (by cases v77 <;> exact Nat.le_of_ble_eq_true rfl) (Nat.le_of_ble_eq_true rfl) (Nat.le_of_ble_eq_true rfl) (Nat.le_of_ble_eq_true rfl) (Nat.le_of_ble_eq_true rfl) (fun _ _ _ hx => kx_out rfl (hX _ _ _ hx)) (fun v_ σ84 hq => ?_)
        obtain ⟨rfl, h⟩ := hq
        obtain ⟨a85, rfl, hUa85⟩ := h
        have h := hUa85
        obtain ⟨hr, h⟩ := h
        obtain ⟨c88, c89, hc, hs, h⟩ := h
        refine kx_callV dX1_learn_169 lk_X1_419 (kw_J2_add h) rfl (wR_rc hr rfl) rfl (Nat.le_of_ble_eq_true rfl) (Nat.le_of_ble_eq_true rfl) (Nat.le_of_ble_eq_true rfl) hc hs (fun _ _ _ hx => kx_out rfl (hX _ _ _ hx)) (fun v_ σ87 hq => ?_)
        obtain ⟨v86, rfl, h⟩ := hq
        refine kx_pop dX1_learn_172 rfl ?_
        refine kx_aload dX1_learn_173 rfl ?_
        refine kW_gO dX1_learn_175 (kf1 fl_X1_411_X14) h (fun v90 h => ?_)
        refine kW_new dX1_learn_178 kc_X15 q2491 q1406 q183 rfl h (fun q91 σ92 h => ?_)
        refine kx_dup dX1_learn_181 rfl ?_
        refine kx_iconst (v := 3) dX1_learn_182 (by decide) ?_
        refine kx_iconst (v := 1) dX1_learn_183 (by decide) ?_
        refine kx_aload_n dX1_learn_184 rfl rfl ?_
        refine kW_gO dX1_learn_185 (kf1 fl_X1_340_X5) h (fun v93 h => ?_)
        refine kx_iconst (v := 3) dX1_learn_188 (by decide) ?_
        obtain ⟨a94, rfl, hUa94⟩ := h
        have h := hUa94
        refine kW_lF dX1_learn_189 h (fun v95 h => ?_)
        refine kx_f2i dX1_learn_190 ?_
        refine kx_iconst (v := 2) dX1_learn_191 (by decide) ?_
        refine kx_iadd dX1_learn_192 ?_
        refine kx_callI dX1_learn_193 lk_X1_416 (kw_X15_init h) rfl rfl (by cases v90 <;> exact Nat.le_of_ble_eq_true rfl) (Nat.le_of_ble_eq_true rfl) (Nat.le_of_ble_eq_true rfl) (Nat.le_of_ble_eq_true rfl) (Nat.le_of_ble_eq_true rfl) (fun _ _ _ hx => kx_out rfl (hX _ _ _ hx)) (fun v_ σ97 hq => ?_)
        obtain ⟨rfl, h⟩ := hq
        obtain ⟨a98, rfl, hUa98⟩ := h
        have h := hUa98
        obtain ⟨hr, h⟩ := h
        obtain ⟨c101, c102, hc, hs, h⟩ := h
        refine kx_callV dX1_learn_196 lk_X1_419 (kw_J2_add h) rfl (wR_rc hr rfl) rfl (Nat.le_of_ble_eq_true rfl) (Nat.le_of_ble_eq_true rfl) (Nat.le_of_ble_eq_true rfl) hc hs (fun _ _ _ hx => kx_out rfl (hX _ _ _ hx)) (fun v_ σ100 hq => ?_)
        obtain ⟨v99, rfl, h⟩ := hq
        refine kx_pop dX1_learn_199 rfl ?_
        refine kx_aload_n dX1_learn_200 rfl rfl ?_
        obtain ⟨hr, h⟩ := h
        obtain ⟨c105, c106, hc, hs, h⟩ := h
        refine kx_callV dX1_learn_201 lk_X1_283 (kw_X1_remember h) rfl (wR_rc hr rfl) rfl (Nat.le_of_ble_eq_true rfl) (Nat.le_of_ble_eq_true rfl) (Nat.le_of_ble_eq_true rfl) hc hs (fun _ _ _ hx => kx_out rfl (hX _ _ _ hx)) (fun v_ σ104 hq => ?_)
        obtain ⟨v103, rfl, h⟩ := hq
        obtain ⟨a107, rfl, hUa107⟩ := h
        have h := hUa107
        refine kW_gO dX1_learn_204 (kf1 fl_X1_223_X2) h (fun v108 h => ?_)
        refine kW_new dX1_learn_207 kc_X16 q2455 q1426 q184 rfl h (fun q109 σ110 h => ?_)
        refine kx_dup dX1_learn_210 rfl ?_
        refine kx_aload dX1_learn_211 rfl ?_
        refine kx_iconst (v := 0) dX1_learn_213 (by decide) ?_
        refine kx_callI dX1_learn_214 lk_X1_422 (kw_X16_init h) rfl rfl (by cases v108 <;> exact Nat.le_of_ble_eq_true rfl) (Nat.le_of_ble_eq_true rfl) (Nat.le_of_ble_eq_true rfl) (Nat.le_of_ble_eq_true rfl) (Nat.le_of_ble_eq_true rfl) (fun _ _ _ hx => kx_out rfl (hX _ _ _ hx)) (fun v_ σ112 hq => ?_)
        obtain ⟨rfl, h⟩ := hq
        obtain ⟨a113, rfl, hUa113⟩ := h
        have h := hUa113
        obtain ⟨hr, h⟩ := h
        obtain ⟨c116, c117, hc, hs, h⟩ := h
        refine kx_callV dX1_learn_217 lk_X1_419 (kw_J2_add h) rfl (wR_rc hr rfl) rfl (Nat.le_of_ble_eq_true rfl) (Nat.le_of_ble_eq_true rfl) (Nat.le_of_ble_eq_true rfl) hc hs (fun _ _ _ hx => kx_out rfl (hX _ _ _ hx)) (fun v_ σ115 hq => ?_)
        obtain ⟨v114, rfl, h⟩ := hq
        refine kx_pop dX1_learn_220 rfl ?_
        refine kx_aload_n dX1_learn_221 rfl rfl ?_
        refine kW_gO dX1_learn_222 (kf1 fl_X1_103_X1) h (fun v118 h => ?_)
        obtain ⟨a119, rfl, hUa119⟩ := h
        have h := hUa119
        refine kW_gO dX1_learn_225 (kf1 fl_X1_223_X2) h (fun v120 h => ?_)
        obtain ⟨a121, rfl, hUa121⟩ := h
        have h := hUa121
        obtain ⟨hr, h⟩ := h
        refine kx_callV dX1_learn_228 lk_X1_180 (kw_J2_size h) rfl (wR_rc hr rfl) rfl (Nat.le_of_ble_eq_true rfl) (Nat.le_of_ble_eq_true rfl) (Nat.le_of_ble_eq_true rfl) (Nat.le_of_ble_eq_true rfl) (Nat.le_of_ble_eq_true rfl) (fun _ _ _ hx => kx_out rfl (hX _ _ _ hx)) (fun v_ σ123 hq => ?_)
        obtain ⟨v122, rfl, h⟩ := hq
        refine kx_iconst (v := 1) dX1_learn_231 (by decide) ?_
        refine kx_isub dX1_learn_232 ?_
        exact kx_iret dX1_learn_233 rfl (hQ _ _ ⟨_, rfl, h⟩)
      · skip
        refine kx_if_le (tgt := 72) dX1_learn_65 (by decide) (fun c => ?_) (fun c => ?_)
        · have h := w_ift c h
          refine kx_iconst (v := 0) dX1_learn_72 (by decide) ?_
          exact jk37 _ _ _ _ h
        · have h := w_iff c h
          refine kx_iconst (v := 1) dX1_learn_68 (by decide) ?_
          refine kx_goto (tgt := 73) dX1_learn_69 (by decide) ?_
          exact jk37 _ _ _ _ h
    · skip
      refine kx_icmp_ge (tgt := 57) dX1_learn_50 (by decide) (fun c => ?_) (fun c => ?_)
      · have h := w_ift c h
        refine kx_iconst (v := 0) dX1_learn_57 (by decide) ?_
        exact jk28 _ _ _ _ h
      · have h := w_iff c h
        refine kx_iconst (v := 1) dX1_learn_53 (by decide) ?_
        refine kx_goto (tgt := 58) dX1_learn_54 (by decide) ?_
        exact jk28 _ _ _ _ h
  · skip
    refine kx_if_eq (tgt := 34) dX1_learn_15 (by decide) (fun c => ?_) (fun c => ?_)
    · have h := w_ift c h
      refine kx_iconst (v := 0) dX1_learn_34 (by decide) ?_
      exact jk11 _ _ _ _ h
    · have h := w_iff c h
      refine kx_aload_n dX1_learn_18 rfl rfl ?_
      refine kW_gO dX1_learn_19 (kf1 fl_X1_103_X1) h (fun v12 h => ?_)
      refine kx_aload_nO dX1_learn_22 rfl rfl ?_
      obtain ⟨a13, rfl, hUa13⟩ := h
      have h := hUa13
      obtain ⟨hr, h⟩ := h
      refine kx_callV dX1_learn_23 lk_X1_202 (kw_X2_find h) rfl (wR_rc hr rfl) rfl (Nat.le_of_ble_eq_true rfl) (Nat.le_of_ble_eq_true rfl) (Nat.le_of_ble_eq_true rfl) (Nat.le_of_ble_eq_true rfl) (Nat.le_of_ble_eq_true rfl) (fun _ _ _ hx => kx_out rfl (hX _ _ _ hx)) (fun v_ σ15 hq => ?_)
      obtain ⟨v14, rfl, h⟩ := hq
      refine kx_iconst (v := -1) dX1_learn_26 (by decide) ?_
      refine kx_icmp_ne (tgt := 34) dX1_learn_27 (by decide) (fun c => ?_) (fun c => ?_)
      · have h := w_iff c h
        refine kx_iconst (v := 0) dX1_learn_34 (by decide) ?_
        exact jk11 _ _ _ _ h
      · have h := w_ift c h
        refine kx_iconst (v := 1) dX1_learn_30 (by decide) ?_
        refine kx_goto (tgt := 35) dX1_learn_31 (by decide) ?_
        exact jk11 _ _ _ _ h
set_option maxHeartbeats 8000000 in
theorem kw_X1_forget {G : KG} {bc bs : Nat} {σ : KHp} {x0 : Nat} {x1 : Int32} {Q : Int32 → KHp → Prop} {X : String → Nat → KHp → Prop} (h : W_X1_forget G bc bs σ x0 x1 Q X) : kx_c G yX1_forget (ws_ yX1_forget cX1_forget 6 (Option.some Jvm.ClassFile.FieldType.int)) 10 bc bs [.ref (x0), .int (x1)] σ (fun rv σ' => ∃ r, rv = some (.int (r)) ∧ Q r σ') X := by
  refine kx_mk3 (ini := false) rfl (Nat.le_of_ble_eq_true rfl) (fun h => by cases h) (fun Q1 X1 hQ hX => ?_)
  unfold W_X1_forget at h
  refine kx_aload_n dX1_forget_0 rfl rfl ?_
  refine kx_iload_n dX1_forget_1 rfl rfl ?_
  obtain ⟨hr, h⟩ := h
  obtain ⟨c3, c4, hc, hs, h⟩ := h
  refine kx_callV dX1_forget_2 lk_X1_378 (kw_X1_nuisanceAt h) rfl (wR_rc hr rfl) rfl (Nat.le_of_ble_eq_true rfl) (Nat.le_of_ble_eq_true rfl) (Nat.le_of_ble_eq_true rfl) hc hs (fun _ _ _ hx => kx_out rfl (hX _ _ _ hx)) (fun v_ σ2 hq => ?_)
  obtain ⟨v1, rfl, h⟩ := hq
  obtain ⟨a5, rfl, hUa5⟩ := h
  have h := hUa5
  refine kW_gI dX1_forget_5 (kf1 fl_X1_382_X16) h (fun v6 h => ?_)
  refine kx_istore_n dX1_forget_8 rfl (Nat.le_of_ble_eq_true rfl) ?_
  refine kx_aload_n dX1_forget_9 rfl rfl ?_
  obtain ⟨hr, h⟩ := h
  obtain ⟨c9, c10, hc, hs, h⟩ := h
  refine kx_callV dX1_forget_10 lk_X1_283 (kw_X1_remember h) rfl (wR_rc hr rfl) rfl (Nat.le_of_ble_eq_true rfl) (Nat.le_of_ble_eq_true rfl) (Nat.le_of_ble_eq_true rfl) hc hs (fun _ _ _ hx => kx_out rfl (hX _ _ _ hx)) (fun v_ σ8 hq => ?_)
  obtain ⟨v7, rfl, h⟩ := hq
  obtain ⟨a11, rfl, hUa11⟩ := h
  have h := hUa11
  refine kW_gO dX1_forget_13 (kf1 fl_X1_223_X2) h (fun v12 h => ?_)
  refine kx_iload_n dX1_forget_16 rfl rfl ?_
  obtain ⟨a13, rfl, hUa13⟩ := h
  have h := hUa13
  obtain ⟨hr, h⟩ := h
  refine kx_callV dX1_forget_17 lk_X1_425 (kw_J2_remove h) rfl (wR_rc hr rfl) rfl (Nat.le_of_ble_eq_true rfl) (Nat.le_of_ble_eq_true rfl) (Nat.le_of_ble_eq_true rfl) (Nat.le_of_ble_eq_true rfl) (Nat.le_of_ble_eq_true rfl) (fun _ _ _ hx => kx_out rfl (hX _ _ _ hx)) (fun v_ σ15 hq => ?_)
  obtain ⟨v14, rfl, h⟩ := hq
  refine kx_pop dX1_forget_20 (va_cat _) ?_
  refine kx_iconst (v := 1) dX1_forget_21 (by decide) ?_
  refine kx_iload_n dX1_forget_22 rfl rfl ?_
  refine kx_ishl dX1_forget_23 ?_
  refine kx_iconst (v := 1) dX1_forget_24 (by decide) ?_
  refine kx_isub dX1_forget_25 ?_
  refine kx_istore_n dX1_forget_26 rfl (Nat.le_of_ble_eq_true rfl) ?_
  refine kx_iconst (v := 0) dX1_forget_27 (by decide) ?_
  refine kx_istore dX1_forget_28 (Nat.le_of_ble_eq_true rfl) ?_
  refine kx_lwF [(0, .ref (x0)), (2, .int (v6)), (3, .int ((((1 : Int32) <<< (x1 &&& 31)) - (1 : Int32)))), (4, .int ((0 : Int32)))] ⟨rfl, rfl, rfl, rfl, trivial⟩ ?_
  refine loopW3_k (fun (σ : KHp) (bc30 bs30 : Nat) (l4 : Int32) => kx G (yX1_forget.cls, cX1_forget, 6, (Option.some Jvm.ClassFile.FieldType.int), false, []) (10, bc, bs, Q1, X1) (bc30) (bs30) σ 30 (kF [(0, .ref (x0)), (2, .int (v6)), (3, .int ((((1 : Int32) <<< (x1 &&& 31)) - (1 : Int32)))), (4, .int (l4))]) []) (fun kI30 hI30 σ bc30 bs30 l4 h => ?_) 9000 σ15 (bc - c3 - c9) (bs - c4 - c10) (0 : Int32) h
  unfold WB_X1_forget_30 at h
  refine kx_iload dX1_forget_30 rfl ?_
  refine kx_aload_n dX1_forget_32 rfl rfl ?_
  refine kW_gO dX1_forget_33 (kf1 fl_X1_103_X1) h (fun v31001 h => ?_)
  obtain ⟨a31002, rfl, hUa31002⟩ := h
  have h := hUa31002
  refine kW_gO dX1_forget_36 (kf1 fl_X1_176_X2) h (fun v31003 h => ?_)
  obtain ⟨a31004, rfl, hUa31004⟩ := h
  have h := hUa31004
  obtain ⟨hr, h⟩ := h
  refine kx_callV dX1_forget_39 lk_X1_180 (kw_J2_size h) rfl (wR_rc hr rfl) rfl (Nat.le_of_ble_eq_true rfl) (Nat.le_of_ble_eq_true rfl) (Nat.le_of_ble_eq_true rfl) (Nat.le_of_ble_eq_true rfl) (Nat.le_of_ble_eq_true rfl) (fun _ _ _ hx => kx_out rfl (hX _ _ _ hx)) (fun v_ σ31006 hq => ?_)
  obtain ⟨v31005, rfl, h⟩ := hq
  refine kx_icmp_ge (tgt := 92) dX1_forget_42 (by decide) (fun c => ?_) (fun c => ?_)
  · have h := w_ift c h
    refine kx_iload_n dX1_forget_92 rfl rfl ?_
    exact kx_iret dX1_forget_93 rfl (hQ _ _ ⟨_, rfl, h⟩)
  · have h := w_iff c h
    refine kx_aload_n dX1_forget_45 rfl rfl ?_
    refine kW_gO dX1_forget_46 (kf1 fl_X1_103_X1) h (fun v31007 h => ?_)
    obtain ⟨a31008, rfl, hUa31008⟩ := h
    have h := hUa31008
    refine kW_gO dX1_forget_49 (kf1 fl_X1_176_X2) h (fun v31009 h => ?_)
    refine kx_iload dX1_forget_52 rfl ?_
    obtain ⟨a31010, rfl, hUa31010⟩ := h
    have h := hUa31010
    obtain ⟨hr, h⟩ := h
    refine kx_callV dX1_forget_54 lk_X1_245 (kw_J2_get h) rfl (wR_rc hr rfl) rfl (Nat.le_of_ble_eq_true rfl) (Nat.le_of_ble_eq_true rfl) (Nat.le_of_ble_eq_true rfl) (Nat.le_of_ble_eq_true rfl) (Nat.le_of_ble_eq_true rfl) (fun _ _ _ hx => kx_out rfl (hX _ _ _ hx)) (fun v_ σ31012 hq => ?_)
    obtain ⟨v31011, rfl, h⟩ := hq
    obtain ⟨a31013, rfl, hUa31013⟩ := h
    have h := hUa31013
    obtain ⟨⟨tc, fc, hr⟩, h⟩ := h
    refine kx_castS dX1_forget_57 hr rfl q1943 ?_
    refine kx_astore dX1_forget_60 (Nat.le_of_ble_eq_true rfl) ?_
    refine kx_aload dX1_forget_62 rfl ?_
    refine kx_aload dX1_forget_64 rfl ?_
    refine kW_gI dX1_forget_66 (kf1 fl_X1_346_X5) h (fun v31014 h => ?_)
    refine kx_iload_n dX1_forget_69 rfl rfl ?_
    refine kx_iand dX1_forget_70 ?_
    refine kx_aload dX1_forget_71 rfl ?_
    refine kW_gI dX1_forget_73 (kf1 fl_X1_346_X5) h (fun v31015 h => ?_)
    refine kx_iconst (v := 1) dX1_forget_76 (by decide) ?_
    refine kx_ishr dX1_forget_77 ?_
    refine kx_iload_n dX1_forget_78 rfl rfl ?_
    refine kx_iconst (v := -1) dX1_forget_79 (by decide) ?_
    refine kx_ixor dX1_forget_80 ?_
    refine kx_iand dX1_forget_81 ?_
    refine kx_ior dX1_forget_82 ?_
    refine kW_p dX1_forget_83 (kp1 ⟨_, _, _, _, kc_X5, fl_X1_346_X5, Or.inl rfl, rfl, rfl⟩) h (fun σ31016 h => ?_)
    refine kx_iinc2 (v := 1) dX1_forget_86 rfl (by decide) ?_
    refine kx_goto (tgt := 30) dX1_forget_89 (by decide) ?_
    exact kx_lwF [(0, .ref (x0)), (2, .int (v6)), (3, .int ((((1 : Int32) <<< (x1 &&& 31)) - (1 : Int32)))), (4, .int ((l4 + (1 : Int32))))] ⟨rfl, rfl, rfl, rfl, trivial⟩ (hI30 _ _ _ _ h)
set_option maxHeartbeats 8000000 in
theorem kw_X1_setLimits {G : KG} {bc bs : Nat} {σ : KHp} {x0 : Nat} {x1 : Int32} {x2 : Int32} {Q : Int32 → KHp → Prop} {X : String → Nat → KHp → Prop} (h : W_X1_setLimits G bc bs σ x0 x1 x2 Q X) : kx_c G yX1_setLimits (ws_ yX1_setLimits cX1_setLimits 4 (Option.some Jvm.ClassFile.FieldType.int)) 10 bc bs [.ref (x0), .int (x1), .int (x2)] σ (fun rv σ' => ∃ r, rv = some (.int (r)) ∧ Q r σ') X := by
  refine kx_mk3 (ini := false) rfl (Nat.le_of_ble_eq_true rfl) (fun h => by cases h) (fun Q1 X1 hQ hX => ?_)
  unfold W_X1_setLimits at h
  refine kx_iload_n dX1_setLimits_0 rfl rfl ?_
  refine kx_i2l dX1_setLimits_1 rfl ?_
  refine kx_lconst (v := 1) dX1_setLimits_2 (by decide) ?_
  refine kx_ldc2 dX1_setLimits_3 q2518 ?_
  refine kx_callS dX1_setLimits_6 lk_X1_140 (kw_X1_inRange h) rfl rfl (Nat.le_of_ble_eq_true rfl) (Nat.le_of_ble_eq_true rfl) (Nat.le_of_ble_eq_true rfl) (Nat.le_of_ble_eq_true rfl) (Nat.le_of_ble_eq_true rfl) (fun _ _ _ hx => kx_out rfl (hX _ _ _ hx)) (fun v_ σ2 hq => ?_)
  obtain ⟨v1, rfl, h⟩ := hq
  refine kW_jIa 28 [] h (fun v6 σ7 bcv6 bsv6 h => ?_) (fun k3 jk3 h => ?_)
  · skip
    obtain ⟨c10, c11, hc, hs, h⟩ := h
    refine kx_callS dX1_setLimits_28 lk_X1_144 (kw_X1_requireArgument h) rfl rfl (Nat.le_of_ble_eq_true rfl) (Nat.le_of_ble_eq_true rfl) (Nat.le_of_ble_eq_true rfl) hc hs (fun _ _ _ hx => kx_out rfl (hX _ _ _ hx)) (fun v_ σ9 hq => ?_)
    obtain ⟨rfl, h⟩ := hq
    refine kx_aload_n dX1_setLimits_31 rfl rfl ?_
    obtain ⟨hr, h⟩ := h
    obtain ⟨c14, c15, hc, hs, h⟩ := h
    refine kx_callV dX1_setLimits_32 lk_X1_283 (kw_X1_remember h) rfl (wR_rc hr rfl) rfl (Nat.le_of_ble_eq_true rfl) (Nat.le_of_ble_eq_true rfl) (Nat.le_of_ble_eq_true rfl) hc hs (fun _ _ _ hx => kx_out rfl (hX _ _ _ hx)) (fun v_ σ13 hq => ?_)
    obtain ⟨v12, rfl, h⟩ := hq
    obtain ⟨a16, rfl, hUa16⟩ := h
    have h := hUa16
    refine kW_gI dX1_setLimits_35 (kf1 fl_X1_237_X2) h (fun v17 h => ?_)
    refine kx_istore_n dX1_setLimits_38 rfl (Nat.le_of_ble_eq_true rfl) ?_
    refine kx_aload_n dX1_setLimits_39 rfl rfl ?_
    refine kW_gO dX1_setLimits_40 (kf1 fl_X1_103_X1) h (fun v18 h => ?_)
    refine kx_iload_n dX1_setLimits_43 rfl rfl ?_
    obtain ⟨a19, rfl, hUa19⟩ := h
    have h := hUa19
    refine kW_p dX1_setLimits_44 (kp1 ⟨_, _, _, _, kc_X2, fl_X1_235_X2, Or.inl rfl, rfl, rfl⟩) h (fun σ20 h => ?_)
    refine kx_aload_n dX1_setLimits_47 rfl rfl ?_
    refine kW_gO dX1_setLimits_48 (kf1 fl_X1_103_X1) h (fun v21 h => ?_)
    refine kx_iload_n dX1_setLimits_51 rfl rfl ?_
    obtain ⟨a22, rfl, hUa22⟩ := h
    have h := hUa22
    refine kW_p dX1_setLimits_52 (kp1 ⟨_, _, _, _, kc_X2, fl_X1_237_X2, Or.inl rfl, rfl, rfl⟩) h (fun σ23 h => ?_)
    refine kx_iload_n dX1_setLimits_55 rfl rfl ?_
    exact kx_iret dX1_setLimits_56 rfl (hQ _ _ ⟨_, rfl, h⟩)
  · skip
    refine kx_if_eq (tgt := 27) dX1_setLimits_9 (by decide) (fun c => ?_) (fun c => ?_)
    · have h := w_ift c h
      refine kx_iconst (v := 0) dX1_setLimits_27 (by decide) ?_
      exact jk3 _ _ _ _ h
    · have h := w_iff c h
      refine kx_iload_n dX1_setLimits_12 rfl rfl ?_
      refine kx_i2l dX1_setLimits_13 rfl ?_
      refine kx_lconst (v := 1) dX1_setLimits_14 (by decide) ?_
      refine kx_iload_n dX1_setLimits_15 rfl rfl ?_
      refine kx_i2l dX1_setLimits_16 rfl ?_
      refine kx_callS dX1_setLimits_17 lk_X1_140 (kw_X1_inRange h) rfl rfl (Nat.le_of_ble_eq_true rfl) (Nat.le_of_ble_eq_true rfl) (Nat.le_of_ble_eq_true rfl) (Nat.le_of_ble_eq_true rfl) (Nat.le_of_ble_eq_true rfl) (fun _ _ _ hx => kx_out rfl (hX _ _ _ hx)) (fun v_ σ5 hq => ?_)
      obtain ⟨v4, rfl, h⟩ := hq
      refine kx_if_eq (tgt := 27) dX1_setLimits_20 (by decide) (fun c => ?_) (fun c => ?_)
      · have h := w_ift c h
        refine kx_iconst (v := 0) dX1_setLimits_27 (by decide) ?_
        exact jk3 _ _ _ _ h
      · have h := w_iff c h
        refine kx_iconst (v := 1) dX1_setLimits_23 (by decide) ?_
        refine kx_goto (tgt := 28) dX1_setLimits_24 (by decide) ?_
        exact jk3 _ _ _ _ h
set_option maxHeartbeats 8000000 in
theorem kw_X1_reset {G : KG} {bc bs : Nat} {σ : KHp} {x0 : Nat} {x1 : Int32} {Q : Int32 → KHp → Prop} {X : String → Nat → KHp → Prop} (h : W_X1_reset G bc bs σ x0 x1 Q X) : kx_c G yX1_reset (ws_ yX1_reset cX1_reset 3 (Option.some Jvm.ClassFile.FieldType.int)) 10 bc bs [.ref (x0), .int (x1)] σ (fun rv σ' => ∃ r, rv = some (.int (r)) ∧ Q r σ') X := by
  refine kx_mk3 (ini := false) rfl (Nat.le_of_ble_eq_true rfl) (fun h => by cases h) (fun Q1 X1 hQ hX => ?_)
  unfold W_X1_reset at h
  refine kx_aload_n dX1_reset_0 rfl rfl ?_
  refine kx_iload_n dX1_reset_1 rfl rfl ?_
  obtain ⟨hr, h⟩ := h
  obtain ⟨c3, c4, hc, hs, h⟩ := h
  refine kx_callV dX1_reset_2 lk_X1_255 (kw_X1_branchAt h) rfl (wR_rc hr rfl) rfl (Nat.le_of_ble_eq_true rfl) (Nat.le_of_ble_eq_true rfl) (Nat.le_of_ble_eq_true rfl) hc hs (fun _ _ _ hx => kx_out rfl (hX _ _ _ hx)) (fun v_ σ2 hq => ?_)
  obtain ⟨v1, rfl, h⟩ := hq
  obtain ⟨a5, rfl, hUa5⟩ := h
  have h := hUa5
  refine kW_gI dX1_reset_5 (kf1 fl_X1_311_X5) h (fun v6 h => ?_)
  refine kx_iconst (v := 1) dX1_reset_8 (by decide) ?_
  refine kW_jIa 17 [] h (fun v8 σ9 bcv8 bsv8 h => ?_) (fun k7 jk7 h => ?_)
  · skip
    obtain ⟨c12, c13, hc, hs, h⟩ := h
    refine kx_callS dX1_reset_17 lk_X1_132 (kw_X1_requireState h) rfl rfl (Nat.le_of_ble_eq_true rfl) (Nat.le_of_ble_eq_true rfl) (Nat.le_of_ble_eq_true rfl) hc hs (fun _ _ _ hx => kx_out rfl (hX _ _ _ hx)) (fun v_ σ11 hq => ?_)
    obtain ⟨rfl, h⟩ := hq
    refine kx_aload_n dX1_reset_20 rfl rfl ?_
    obtain ⟨hr, h⟩ := h
    obtain ⟨c16, c17, hc, hs, h⟩ := h
    refine kx_callV dX1_reset_21 lk_X1_283 (kw_X1_remember h) rfl (wR_rc hr rfl) rfl (Nat.le_of_ble_eq_true rfl) (Nat.le_of_ble_eq_true rfl) (Nat.le_of_ble_eq_true rfl) hc hs (fun _ _ _ hx => kx_out rfl (hX _ _ _ hx)) (fun v_ σ15 hq => ?_)
    obtain ⟨v14, rfl, h⟩ := hq
    obtain ⟨a18, rfl, hUa18⟩ := h
    have h := hUa18
    refine kW_gO dX1_reset_24 (kf1 fl_X1_176_X2) h (fun v19 h => ?_)
    refine kx_iload_n dX1_reset_27 rfl rfl ?_
    obtain ⟨a20, rfl, hUa20⟩ := h
    have h := hUa20
    obtain ⟨hr, h⟩ := h
    refine kx_callV dX1_reset_28 lk_X1_245 (kw_J2_get h) rfl (wR_rc hr rfl) rfl (Nat.le_of_ble_eq_true rfl) (Nat.le_of_ble_eq_true rfl) (Nat.le_of_ble_eq_true rfl) (Nat.le_of_ble_eq_true rfl) (Nat.le_of_ble_eq_true rfl) (fun _ _ _ hx => kx_out rfl (hX _ _ _ hx)) (fun v_ σ22 hq => ?_)
    obtain ⟨v21, rfl, h⟩ := hq
    obtain ⟨a23, rfl, hUa23⟩ := h
    have h := hUa23
    obtain ⟨⟨tc, fc, hr⟩, h⟩ := h
    refine kx_castS dX1_reset_31 hr rfl q1943 ?_
    refine kx_astore_n dX1_reset_34 rfl (Nat.le_of_ble_eq_true rfl) ?_
    refine kx_aload_n dX1_reset_35 rfl rfl ?_
    refine kx_iconst (v := 0) dX1_reset_36 (by decide) ?_
    refine kW_p dX1_reset_37 (kp1 ⟨_, _, _, _, kc_X5, fl_X1_311_X5, Or.inl rfl, rfl, rfl⟩) h (fun σ24 h => ?_)
    refine kx_aload_n dX1_reset_40 rfl rfl ?_
    refine kW_gI dX1_reset_41 (kf1 fl_X1_430_X5) h (fun v25 h => ?_)
    exact kx_iret dX1_reset_44 rfl (hQ _ _ ⟨_, rfl, h⟩)
  · skip
    refine kx_icmp_ne (tgt := 16) dX1_reset_9 (by decide) (fun c => ?_) (fun c => ?_)
    · have h := w_iff c h
      refine kx_iconst (v := 0) dX1_reset_16 (by decide) ?_
      exact jk7 _ _ _ _ h
    · have h := w_ift c h
      refine kx_iconst (v := 1) dX1_reset_12 (by decide) ?_
      refine kx_goto (tgt := 17) dX1_reset_13 (by decide) ?_
      exact jk7 _ _ _ _ h
set_option maxHeartbeats 8000000 in
theorem kw_X1_service {G : KG} {bc bs : Nat} {σ : KHp} {x0 : Nat} {x1 : Int32} {Q : Int32 → KHp → Prop} {X : String → Nat → KHp → Prop} (h : W_X1_service G bc bs σ x0 x1 Q X) : kx_c G yX1_service (ws_ yX1_service cX1_service 4 (Option.some Jvm.ClassFile.FieldType.int)) 10 bc bs [.ref (x0), .int (x1)] σ (fun rv σ' => ∃ r, rv = some (.int (r)) ∧ Q r σ') X := by
  refine kx_mk3 (ini := false) rfl (Nat.le_of_ble_eq_true rfl) (fun h => by cases h) (fun Q1 X1 hQ hX => ?_)
  unfold W_X1_service at h
  refine kx_aload_n dX1_service_0 rfl rfl ?_
  refine kx_iload_n dX1_service_1 rfl rfl ?_
  obtain ⟨hr, h⟩ := h
  obtain ⟨c3, c4, hc, hs, h⟩ := h
  refine kx_callV dX1_service_2 lk_X1_255 (kw_X1_branchAt h) rfl (wR_rc hr rfl) rfl (Nat.le_of_ble_eq_true rfl) (Nat.le_of_ble_eq_true rfl) (Nat.le_of_ble_eq_true rfl) hc hs (fun _ _ _ hx => kx_out rfl (hX _ _ _ hx)) (fun v_ σ2 hq => ?_)
  obtain ⟨v1, rfl, h⟩ := hq
  obtain ⟨a5, rfl, hUa5⟩ := h
  have h := hUa5
  refine kW_gI dX1_service_5 (kf1 fl_X1_430_X5) h (fun v6 h => ?_)
  refine kx_istore_n dX1_service_8 rfl (Nat.le_of_ble_eq_true rfl) ?_
  refine kx_aload_n dX1_service_9 rfl rfl ?_
  obtain ⟨hr, h⟩ := h
  obtain ⟨c9, c10, hc, hs, h⟩ := h
  refine kx_callV dX1_service_10 lk_X1_283 (kw_X1_remember h) rfl (wR_rc hr rfl) rfl (Nat.le_of_ble_eq_true rfl) (Nat.le_of_ble_eq_true rfl) (Nat.le_of_ble_eq_true rfl) hc hs (fun _ _ _ hx => kx_out rfl (hX _ _ _ hx)) (fun v_ σ8 hq => ?_)
  obtain ⟨v7, rfl, h⟩ := hq
  obtain ⟨a11, rfl, hUa11⟩ := h
  have h := hUa11
  refine kW_gO dX1_service_13 (kf1 fl_X1_176_X2) h (fun v12 h => ?_)
  refine kx_iload_n dX1_service_16 rfl rfl ?_
  obtain ⟨a13, rfl, hUa13⟩ := h
  have h := hUa13
  obtain ⟨hr, h⟩ := h
  refine kx_callV dX1_service_17 lk_X1_245 (kw_J2_get h) rfl (wR_rc hr rfl) rfl (Nat.le_of_ble_eq_true rfl) (Nat.le_of_ble_eq_true rfl) (Nat.le_of_ble_eq_true rfl) (Nat.le_of_ble_eq_true rfl) (Nat.le_of_ble_eq_true rfl) (fun _ _ _ hx => kx_out rfl (hX _ _ _ hx)) (fun v_ σ15 hq => ?_)
  obtain ⟨v14, rfl, h⟩ := hq
  obtain ⟨a16, rfl, hUa16⟩ := h
  have h := hUa16
  obtain ⟨⟨tc, fc, hr⟩, h⟩ := h
  refine kx_castS dX1_service_20 hr rfl q1943 ?_
  refine kx_astore_n dX1_service_23 rfl (Nat.le_of_ble_eq_true rfl) ?_
  refine kx_aload_n dX1_service_24 rfl rfl ?_
  refine kx_iconst (v := 0) dX1_service_25 (by decide) ?_
  refine kW_p dX1_service_26 (kp1 ⟨_, _, _, _, kc_X5, fl_X1_430_X5, Or.inl rfl, rfl, rfl⟩) h (fun σ17 h => ?_)
  refine kx_aload_n dX1_service_29 rfl rfl ?_
  refine kx_aload_n dX1_service_30 rfl rfl ?_
  refine kW_gI dX1_service_31 (kf1 fl_X1_311_X5) h (fun v18 h => ?_)
  refine kx_iconst (v := 2) dX1_service_34 (by decide) ?_
  refine kW_jIa 46 [.ref (a16)] h (fun v21 σ22 bcv21 bsv21 h => ?_) (fun k19 jk19 h => ?_)
  · skip
    refine kW_p dX1_service_46 (kp1 ⟨_, _, _, _, kc_X5, fl_X1_311_X5, Or.inl rfl, rfl, rfl⟩) h (fun σ23 h => ?_)
    refine kx_iload_n dX1_service_49 rfl rfl ?_
    exact kx_iret dX1_service_50 rfl (hQ _ _ ⟨_, rfl, h⟩)
  · skip
    refine kx_icmp_ne (tgt := 42) dX1_service_35 (by decide) (fun c => ?_) (fun c => ?_)
    · have h := w_iff c h
      refine kx_aload_n dX1_service_42 rfl rfl ?_
      refine kW_gI dX1_service_43 (kf1 fl_X1_311_X5) h (fun v20 h => ?_)
      exact jk19 _ _ _ _ h
    · have h := w_ift c h
      refine kx_iconst (v := 1) dX1_service_38 (by decide) ?_
      refine kx_goto (tgt := 46) dX1_service_39 (by decide) ?_
      exact jk19 _ _ _ _ h
set_option maxHeartbeats 8000000 in
theorem kw_X1_test {G : KG} {bc bs : Nat} {σ : KHp} {x0 : Nat} {x1 : Int32} {Q : Int32 → KHp → Prop} {X : String → Nat → KHp → Prop} (h : W_X1_test G bc bs σ x0 x1 Q X) : kx_c G yX1_test (ws_ yX1_test cX1_test 2 (Option.some Jvm.ClassFile.FieldType.int)) 11 bc bs [.ref (x0), .int (x1)] σ (fun rv σ' => ∃ r, rv = some (.int (r)) ∧ Q r σ') X := by
  refine kx_mk3 (ini := false) rfl (Nat.le_of_ble_eq_true rfl) (fun h => by cases h) (fun Q1 X1 hQ hX => ?_)
  unfold W_X1_test at h
  refine kx_aload_n dX1_test_0 rfl rfl ?_
  refine kx_iload_n dX1_test_1 rfl rfl ?_
  obtain ⟨hr, h⟩ := h
  obtain ⟨c3, c4, hc, hs, h⟩ := h
  refine kx_callV dX1_test_2 lk_X1_255 (kw_X1_branchAt h) rfl (wR_rc hr rfl) rfl (Nat.le_of_ble_eq_true rfl) (Nat.le_of_ble_eq_true rfl) (Nat.le_of_ble_eq_true rfl) hc hs (fun _ _ _ hx => kx_out rfl (hX _ _ _ hx)) (fun v_ σ2 hq => ?_)
  obtain ⟨v1, rfl, h⟩ := hq
  obtain ⟨a5, rfl, hUa5⟩ := h
  have h := hUa5
  refine kW_gI dX1_test_5 (kf1 fl_X1_311_X5) h (fun v6 h => ?_)
  refine kW_jIa 27 [] h (fun v14 σ15 bcv14 bsv14 h => ?_) (fun k7 jk7 h => ?_)
  · skip
    obtain ⟨c18, c19, hc, hs, h⟩ := h
    refine kx_callS dX1_test_27 lk_X1_132 (kw_X1_requireState h) rfl rfl (Nat.le_of_ble_eq_true rfl) (Nat.le_of_ble_eq_true rfl) (Nat.le_of_ble_eq_true rfl) hc hs (fun _ _ _ hx => kx_out rfl (hX _ _ _ hx)) (fun v_ σ17 hq => ?_)
    obtain ⟨rfl, h⟩ := hq
    refine kx_aload_n dX1_test_30 rfl rfl ?_
    obtain ⟨hr, h⟩ := h
    obtain ⟨c22, c23, hc, hs, h⟩ := h
    refine kx_callV dX1_test_31 lk_X1_283 (kw_X1_remember h) rfl (wR_rc hr rfl) rfl (Nat.le_of_ble_eq_true rfl) (Nat.le_of_ble_eq_true rfl) (Nat.le_of_ble_eq_true rfl) hc hs (fun _ _ _ hx => kx_out rfl (hX _ _ _ hx)) (fun v_ σ21 hq => ?_)
    obtain ⟨v20, rfl, h⟩ := hq
    obtain ⟨a24, rfl, hUa24⟩ := h
    have h := hUa24
    refine kW_gO dX1_test_34 (kf1 fl_X1_176_X2) h (fun v25 h => ?_)
    refine kx_iload_n dX1_test_37 rfl rfl ?_
    obtain ⟨a26, rfl, hUa26⟩ := h
    have h := hUa26
    obtain ⟨hr, h⟩ := h
    refine kx_callV dX1_test_38 lk_X1_245 (kw_J2_get h) rfl (wR_rc hr rfl) rfl (Nat.le_of_ble_eq_true rfl) (Nat.le_of_ble_eq_true rfl) (Nat.le_of_ble_eq_true rfl) (Nat.le_of_ble_eq_true rfl) (Nat.le_of_ble_eq_true rfl) (fun _ _ _ hx => kx_out rfl (hX _ _ _ hx)) (fun v_ σ28 hq => ?_)
    obtain ⟨v27, rfl, h⟩ := hq
    obtain ⟨a29, rfl, hUa29⟩ := h
    have h := hUa29
    obtain ⟨⟨tc, fc, hr⟩, h⟩ := h
    refine kx_castS dX1_test_41 hr rfl q1943 ?_
    refine kx_iconst (v := 1) dX1_test_44 (by decide) ?_
    refine kW_pZ dX1_test_45 (kp1 ⟨_, _, _, _, kc_X5, fl_X1_433_X5, Or.inl rfl, rfl, rfl⟩) (kp1 ⟨_, _, _, _, kc_X5, fl_X1_433_X5, Or.inl rfl, rfl, rfl⟩) h (fun σ30 h => ?_)
    refine kx_aload_n dX1_test_48 rfl rfl ?_
    refine kx_iload_n dX1_test_49 rfl rfl ?_
    obtain ⟨hr, h⟩ := h
    obtain ⟨c33, c34, hc, hs, h⟩ := h
    refine kx_callV dX1_test_50 lk_X1_436 (kw_X1_margin h) rfl (wR_rc hr rfl) rfl (Nat.le_of_ble_eq_true rfl) (Nat.le_of_ble_eq_true rfl) (Nat.le_of_ble_eq_true rfl) hc hs (fun _ _ _ hx => kx_out rfl (hX _ _ _ hx)) (fun v_ σ32 hq => ?_)
    obtain ⟨v31, rfl, h⟩ := hq
    exact kx_iret dX1_test_53 rfl (hQ _ _ ⟨_, rfl, h⟩)
  · skip
    refine kx_if_ne (tgt := 26) dX1_test_8 (by decide) (fun c => ?_) (fun c => ?_)
    · have h := w_iff c h
      refine kx_iconst (v := 0) dX1_test_26 (by decide) ?_
      exact jk7 _ _ _ _ h
    · have h := w_ift c h
      refine kx_aload_n dX1_test_11 rfl rfl ?_
      refine kx_iload_n dX1_test_12 rfl rfl ?_
      obtain ⟨hr, h⟩ := h
      obtain ⟨c10, c11, hc, hs, h⟩ := h
      refine kx_callV dX1_test_13 lk_X1_255 (kw_X1_branchAt h) rfl (wR_rc hr rfl) rfl (Nat.le_of_ble_eq_true rfl) (Nat.le_of_ble_eq_true rfl) (Nat.le_of_ble_eq_true rfl) hc hs (fun _ _ _ hx => kx_out rfl (hX _ _ _ hx)) (fun v_ σ9 hq => ?_)
      obtain ⟨v8, rfl, h⟩ := hq
      obtain ⟨a12, rfl, hUa12⟩ := h
      have h := hUa12
      refine kW_gI dX1_test_16 (kf1 fl_X1_433_X5) h (fun v13 h => ?_)
      refine kx_if_ne (tgt := 26) dX1_test_19 (by decide) (fun c => ?_) (fun c => ?_)
      · have h := w_iff c h
        refine kx_iconst (v := 0) dX1_test_26 (by decide) ?_
        exact jk7 _ _ _ _ h
      · have h := w_ift c h
        refine kx_iconst (v := 1) dX1_test_22 (by decide) ?_
        refine kx_goto (tgt := 27) dX1_test_23 (by decide) ?_
        exact jk7 _ _ _ _ h
set_option maxHeartbeats 8000000 in
theorem kw_X1_tripIn {G : KG} {bc bs : Nat} {σ : KHp} {x0 : Nat} {x1 : Int32} {Q : Int32 → KHp → Prop} {X : String → Nat → KHp → Prop} (h : W_X1_tripIn G bc bs σ x0 x1 Q X) : kx_c G yX1_tripIn (ws_ yX1_tripIn cX1_tripIn 2 (Option.some Jvm.ClassFile.FieldType.int)) 10 bc bs [.ref (x0), .int (x1)] σ (fun rv σ' => ∃ r, rv = some (.int (r)) ∧ Q r σ') X := by
  refine kx_mk3 (ini := false) rfl (Nat.le_of_ble_eq_true rfl) (fun h => by cases h) (fun Q1 X1 hQ hX => ?_)
  unfold W_X1_tripIn at h
  refine kx_aload_n dX1_tripIn_0 rfl rfl ?_
  refine kx_iload_n dX1_tripIn_1 rfl rfl ?_
  obtain ⟨hr, h⟩ := h
  obtain ⟨c3, c4, hc, hs, h⟩ := h
  refine kx_callV dX1_tripIn_2 lk_X1_255 (kw_X1_branchAt h) rfl (wR_rc hr rfl) rfl (Nat.le_of_ble_eq_true rfl) (Nat.le_of_ble_eq_true rfl) (Nat.le_of_ble_eq_true rfl) hc hs (fun _ _ _ hx => kx_out rfl (hX _ _ _ hx)) (fun v_ σ2 hq => ?_)
  obtain ⟨v1, rfl, h⟩ := hq
  refine kx_pop dX1_tripIn_5 (va_cat _) ?_
  refine kW_new dX1_tripIn_6 kc_X2 q208 q209 q144 rfl h (fun q5 σ6 h => ?_)
  refine kx_dup dX1_tripIn_9 rfl ?_
  refine kx_aload_n dX1_tripIn_10 rfl rfl ?_
  refine kW_gO dX1_tripIn_11 (kf1 fl_X1_103_X1) h (fun v7 h => ?_)
  obtain ⟨c10, c11, hc, hs, h⟩ := h
  refine kx_callI dX1_tripIn_14 lk_X1_158 (kw_X2_init_2 h) rfl rfl (Nat.le_of_ble_eq_true rfl) (Nat.le_of_ble_eq_true rfl) (Nat.le_of_ble_eq_true rfl) hc hs (fun _ _ _ hx => kx_out rfl (hX _ _ _ hx)) (fun v_ σ9 hq => ?_)
  obtain ⟨rfl, h⟩ := hq
  refine kx_iload_n dX1_tripIn_17 rfl rfl ?_
  refine kx_sipush (v := 500) dX1_tripIn_18 (by decide) ?_
  obtain ⟨hr, h⟩ := h
  obtain ⟨c14, c15, hc, hs, h⟩ := h
  refine kx_callV dX1_tripIn_21 lk_X1_470 (kw_X2_tripIn h) rfl (wR_rc hr rfl) rfl (Nat.le_of_ble_eq_true rfl) (Nat.le_of_ble_eq_true rfl) (Nat.le_of_ble_eq_true rfl) hc hs (fun _ _ _ hx => kx_out rfl (hX _ _ _ hx)) (fun v_ σ13 hq => ?_)
  obtain ⟨v12, rfl, h⟩ := hq
  exact kx_iret dX1_tripIn_24 rfl (hQ _ _ ⟨_, rfl, h⟩)
set_option maxHeartbeats 8000000 in
theorem kw_X1_tripping {G : KG} {bc bs : Nat} {σ : KHp} {x0 : Nat} {x1 : Int32} {Q : Int32 → KHp → Prop} {X : String → Nat → KHp → Prop} (h : W_X1_tripping G bc bs σ x0 x1 Q X) : kx_c G yX1_tripping (ws_ yX1_tripping cX1_tripping 5 (Option.some Jvm.ClassFile.FieldType.int)) 9 bc bs [.ref (x0), .int (x1)] σ (fun rv σ' => ∃ r, rv = some (.int (r)) ∧ Q r σ') X := by
  refine kx_mk3 (ini := false) rfl (Nat.le_of_ble_eq_true rfl) (fun h => by cases h) (fun Q1 X1 hQ hX => ?_)
  unfold W_X1_tripping at h
  refine kx_iload_n dX1_tripping_0 rfl rfl ?_
  refine kx_i2l dX1_tripping_1 rfl ?_
  refine kx_lconst (v := 1) dX1_tripping_2 (by decide) ?_
  refine kx_ldc2 dX1_tripping_3 q2164 ?_
  refine kx_callS dX1_tripping_6 lk_X1_140 (kw_X1_inRange h) rfl rfl (Nat.le_of_ble_eq_true rfl) (Nat.le_of_ble_eq_true rfl) (Nat.le_of_ble_eq_true rfl) (Nat.le_of_ble_eq_true rfl) (Nat.le_of_ble_eq_true rfl) (fun _ _ _ hx => kx_out rfl (hX _ _ _ hx)) (fun v_ σ2 hq => ?_)
  obtain ⟨v1, rfl, h⟩ := hq
  obtain ⟨c5, c6, hc, hs, h⟩ := h
  refine kx_callS dX1_tripping_9 lk_X1_144 (kw_X1_requireArgument h) rfl rfl (Nat.le_of_ble_eq_true rfl) (Nat.le_of_ble_eq_true rfl) (Nat.le_of_ble_eq_true rfl) hc hs (fun _ _ _ hx => kx_out rfl (hX _ _ _ hx)) (fun v_ σ4 hq => ?_)
  obtain ⟨rfl, h⟩ := hq
  refine kW_new dX1_tripping_12 kc_X2 q208 q209 q144 rfl h (fun q7 σ8 h => ?_)
  refine kx_dup dX1_tripping_15 rfl ?_
  refine kx_aload_n dX1_tripping_16 rfl rfl ?_
  refine kW_gO dX1_tripping_17 (kf1 fl_X1_103_X1) h (fun v9 h => ?_)
  obtain ⟨c12, c13, hc, hs, h⟩ := h
  refine kx_callI dX1_tripping_20 lk_X1_158 (kw_X2_init_2 h) rfl rfl (Nat.le_of_ble_eq_true rfl) (Nat.le_of_ble_eq_true rfl) (Nat.le_of_ble_eq_true rfl) hc hs (fun _ _ _ hx => kx_out rfl (hX _ _ _ hx)) (fun v_ σ11 hq => ?_)
  obtain ⟨rfl, h⟩ := hq
  refine kx_astore_n dX1_tripping_23 rfl (Nat.le_of_ble_eq_true rfl) ?_
  refine kx_iconst (v := 0) dX1_tripping_24 (by decide) ?_
  refine kx_istore_n dX1_tripping_25 rfl (Nat.le_of_ble_eq_true rfl) ?_
  refine kx_iconst (v := 0) dX1_tripping_26 (by decide) ?_
  refine kx_istore dX1_tripping_27 (Nat.le_of_ble_eq_true rfl) ?_
  refine kx_lwF [(1, .int (x1)), (2, .ref (q7)), (3, .int ((0 : Int32))), (4, .int ((0 : Int32)))] ⟨rfl, rfl, rfl, rfl, trivial⟩ ?_
  refine loopW4_k (fun (σ : KHp) (bc29 bs29 : Nat) (l3 : Int32) (l4 : Int32) => kx G (yX1_tripping.cls, cX1_tripping, 5, (Option.some Jvm.ClassFile.FieldType.int), false, []) (9, bc, bs, Q1, X1) (bc29) (bs29) σ 29 (kF [(1, .int (x1)), (2, .ref (q7)), (3, .int (l3)), (4, .int (l4))]) []) (fun kI29 hI29 σ bc29 bs29 l3 l4 h => ?_) 9000 σ11 (bc - c5 - 1 - c12) (bs - c6 - 14 - c13) (0 : Int32) (0 : Int32) h
  unfold WB_X1_tripping_29 at h
  refine kx_iload dX1_tripping_29 rfl ?_
  refine kx_iload_n dX1_tripping_31 rfl rfl ?_
  refine kx_icmp_ge (tgt := 48) dX1_tripping_32 (by decide) (fun c => ?_) (fun c => ?_)
  · have h := w_ift c h
    refine kx_iload_n dX1_tripping_48 rfl rfl ?_
    exact kx_iret dX1_tripping_49 rfl (hQ _ _ ⟨_, rfl, h⟩)
  · have h := w_iff c h
    refine kx_iload_n dX1_tripping_35 rfl rfl ?_
    refine kx_aload_n dX1_tripping_36 rfl rfl ?_
    obtain ⟨hr, h⟩ := h
    obtain ⟨c30003, c30004, hc, hs, h⟩ := h
    refine kx_callV dX1_tripping_37 lk_X1_316 (kw_X2_step h) rfl (wR_rc hr rfl) rfl (Nat.le_of_ble_eq_true rfl) (Nat.le_of_ble_eq_true rfl) (Nat.le_of_ble_eq_true rfl) hc hs (fun _ _ _ hx => kx_out rfl (hX _ _ _ hx)) (fun v_ σ30002 hq => ?_)
    obtain ⟨v30001, rfl, h⟩ := hq
    refine kx_ior dX1_tripping_40 ?_
    refine kx_istore_n dX1_tripping_41 rfl (Nat.le_of_ble_eq_true rfl) ?_
    refine kx_iinc2 (v := 1) dX1_tripping_42 rfl (by decide) ?_
    refine kx_goto (tgt := 29) dX1_tripping_45 (by decide) ?_
    exact kx_lwF [(1, .int (x1)), (2, .ref (q7)), (3, .int ((l3 ||| v30001))), (4, .int ((l4 + (1 : Int32))))] ⟨rfl, rfl, rfl, rfl, trivial⟩ (hI29 _ _ _ _ _ h)
set_option maxHeartbeats 8000000 in
theorem kw_X1_featureAfter {G : KG} {bc bs : Nat} {σ : KHp} {x0 : Nat} {x1 : Int32} {x2 : Int32} {x3 : Int32} {Q : UInt32 → KHp → Prop} {X : String → Nat → KHp → Prop} (h : W_X1_featureAfter G bc bs σ x0 x1 x2 x3 Q X) : kx_c G yX1_featureAfter (ws_ yX1_featureAfter cX1_featureAfter 6 (Option.some Jvm.ClassFile.FieldType.float)) 10 bc bs [.ref (x0), .int (x1), .int (x2), .int (x3)] σ (fun rv σ' => ∃ r, rv = some (.float (r)) ∧ Q r σ') X := by
  refine kx_mk3 (ini := false) rfl (Nat.le_of_ble_eq_true rfl) (fun h => by cases h) (fun Q1 X1 hQ hX => ?_)
  unfold W_X1_featureAfter at h
  refine kx_aload_n dX1_featureAfter_0 rfl rfl ?_
  refine kx_iload_n dX1_featureAfter_1 rfl rfl ?_
  obtain ⟨hr, h⟩ := h
  obtain ⟨c3, c4, hc, hs, h⟩ := h
  refine kx_callV dX1_featureAfter_2 lk_X1_255 (kw_X1_branchAt h) rfl (wR_rc hr rfl) rfl (Nat.le_of_ble_eq_true rfl) (Nat.le_of_ble_eq_true rfl) (Nat.le_of_ble_eq_true rfl) hc hs (fun _ _ _ hx => kx_out rfl (hX _ _ _ hx)) (fun v_ σ2 hq => ?_)
  obtain ⟨v1, rfl, h⟩ := hq
  refine kx_pop dX1_featureAfter_5 (va_cat _) ?_
  refine kx_iload_n dX1_featureAfter_6 rfl rfl ?_
  obtain ⟨c7, c8, hc, hs, h⟩ := h
  refine kx_callS dX1_featureAfter_7 lk_X1_337 (kw_X1_requireFeature h) rfl rfl (Nat.le_of_ble_eq_true rfl) (Nat.le_of_ble_eq_true rfl) (Nat.le_of_ble_eq_true rfl) hc hs (fun _ _ _ hx => kx_out rfl (hX _ _ _ hx)) (fun v_ σ6 hq => ?_)
  obtain ⟨rfl, h⟩ := hq
  refine kx_iload_n dX1_featureAfter_10 rfl rfl ?_
  refine kx_i2l dX1_featureAfter_11 rfl ?_
  refine kx_lconst (v := 1) dX1_featureAfter_12 (by decide) ?_
  refine kx_ldc2 dX1_featureAfter_13 q2164 ?_
  refine kx_callS dX1_featureAfter_16 lk_X1_140 (kw_X1_inRange h) rfl rfl (Nat.le_of_ble_eq_true rfl) (Nat.le_of_ble_eq_true rfl) (Nat.le_of_ble_eq_true rfl) (Nat.le_of_ble_eq_true rfl) (Nat.le_of_ble_eq_true rfl) (fun _ _ _ hx => kx_out rfl (hX _ _ _ hx)) (fun v_ σ10 hq => ?_)
  obtain ⟨v9, rfl, h⟩ := hq
  obtain ⟨c13, c14, hc, hs, h⟩ := h
  refine kx_callS dX1_featureAfter_19 lk_X1_144 (kw_X1_requireArgument h) rfl rfl (Nat.le_of_ble_eq_true rfl) (Nat.le_of_ble_eq_true rfl) (Nat.le_of_ble_eq_true rfl) hc hs (fun _ _ _ hx => kx_out rfl (hX _ _ _ hx)) (fun v_ σ12 hq => ?_)
  obtain ⟨rfl, h⟩ := hq
  refine kW_new dX1_featureAfter_22 kc_X2 q208 q209 q144 rfl h (fun q15 σ16 h => ?_)
  refine kx_dup dX1_featureAfter_25 rfl ?_
  refine kx_aload_n dX1_featureAfter_26 rfl rfl ?_
  refine kW_gO dX1_featureAfter_27 (kf1 fl_X1_103_X1) h (fun v17 h => ?_)
  obtain ⟨c20, c21, hc, hs, h⟩ := h
  refine kx_callI dX1_featureAfter_30 lk_X1_158 (kw_X2_init_2 h) rfl rfl (Nat.le_of_ble_eq_true rfl) (Nat.le_of_ble_eq_true rfl) (Nat.le_of_ble_eq_true rfl) hc hs (fun _ _ _ hx => kx_out rfl (hX _ _ _ hx)) (fun v_ σ19 hq => ?_)
  obtain ⟨rfl, h⟩ := hq
  refine kx_astore dX1_featureAfter_33 (Nat.le_of_ble_eq_true rfl) ?_
  refine kx_iconst (v := 0) dX1_featureAfter_35 (by decide) ?_
  refine kx_istore dX1_featureAfter_36 (Nat.le_of_ble_eq_true rfl) ?_
  refine kx_lwF [(1, .int (x1)), (2, .int (x2)), (3, .int (x3)), (4, .ref (q15)), (5, .int ((0 : Int32)))] ⟨rfl, rfl, rfl, rfl, rfl, trivial⟩ ?_
  refine loopW3_k (fun (σ : KHp) (bc38 bs38 : Nat) (l5 : Int32) => kx G (yX1_featureAfter.cls, cX1_featureAfter, 6, (Option.some Jvm.ClassFile.FieldType.float), false, []) (10, bc, bs, Q1, X1) (bc38) (bs38) σ 38 (kF [(1, .int (x1)), (2, .int (x2)), (3, .int (x3)), (4, .ref (q15)), (5, .int (l5))]) []) (fun kI38 hI38 σ bc38 bs38 l5 h => ?_) 9000 σ19 (bc - c3 - c7 - c13 - 1 - c20) (bs - c4 - c8 - c14 - 14 - c21) (0 : Int32) h
  unfold WB_X1_featureAfter_38 at h
  refine kx_iload dX1_featureAfter_38 rfl ?_
  refine kx_iload_n dX1_featureAfter_40 rfl rfl ?_
  refine kx_icmp_ge (tgt := 56) dX1_featureAfter_41 (by decide) (fun c => ?_) (fun c => ?_)
  · have h := w_ift c h
    refine kx_aload dX1_featureAfter_56 rfl ?_
    refine kW_gO dX1_featureAfter_58 (kf1 fl_X1_176_X2) h (fun v39001 h => ?_)
    refine kx_iload_n dX1_featureAfter_61 rfl rfl ?_
    obtain ⟨a39002, rfl, hUa39002⟩ := h
    have h := hUa39002
    obtain ⟨hr, h⟩ := h
    refine kx_callV dX1_featureAfter_62 lk_X1_245 (kw_J2_get h) rfl (wR_rc hr rfl) rfl (Nat.le_of_ble_eq_true rfl) (Nat.le_of_ble_eq_true rfl) (Nat.le_of_ble_eq_true rfl) (Nat.le_of_ble_eq_true rfl) (Nat.le_of_ble_eq_true rfl) (fun _ _ _ hx => kx_out rfl (hX _ _ _ hx)) (fun v_ σ39004 hq => ?_)
    obtain ⟨v39003, rfl, h⟩ := hq
    obtain ⟨a39005, rfl, hUa39005⟩ := h
    have h := hUa39005
    obtain ⟨⟨tc, fc, hr⟩, h⟩ := h
    refine kx_castS dX1_featureAfter_65 hr rfl q1943 ?_
    refine kW_gI dX1_featureAfter_68 (kf1 fl_X1_325_X5) h (fun v39006 h => ?_)
    refine kW_jIa 79 [] h (fun v39008 σ39009 bcv39008 bsv39008 h => ?_) (fun k39007 jk39007 h => ?_)
    · skip
      obtain ⟨c39012, c39013, hc, hs, h⟩ := h
      refine kx_callS dX1_featureAfter_79 lk_X1_328 (kw_X1_requireElement h) rfl rfl (Nat.le_of_ble_eq_true rfl) (Nat.le_of_ble_eq_true rfl) (Nat.le_of_ble_eq_true rfl) hc hs (fun _ _ _ hx => kx_out rfl (hX _ _ _ hx)) (fun v_ σ39011 hq => ?_)
      obtain ⟨rfl, h⟩ := hq
      refine kx_aload dX1_featureAfter_82 rfl ?_
      refine kW_gO dX1_featureAfter_84 (kf1 fl_X1_176_X2) h (fun v39014 h => ?_)
      refine kx_iload_n dX1_featureAfter_87 rfl rfl ?_
      obtain ⟨a39015, rfl, hUa39015⟩ := h
      have h := hUa39015
      obtain ⟨hr, h⟩ := h
      refine kx_callV dX1_featureAfter_88 lk_X1_245 (kw_J2_get h) rfl (wR_rc hr rfl) rfl (Nat.le_of_ble_eq_true rfl) (Nat.le_of_ble_eq_true rfl) (Nat.le_of_ble_eq_true rfl) (Nat.le_of_ble_eq_true rfl) (Nat.le_of_ble_eq_true rfl) (fun _ _ _ hx => kx_out rfl (hX _ _ _ hx)) (fun v_ σ39017 hq => ?_)
      obtain ⟨v39016, rfl, h⟩ := hq
      obtain ⟨a39018, rfl, hUa39018⟩ := h
      have h := hUa39018
      obtain ⟨⟨tc, fc, hr⟩, h⟩ := h
      refine kx_castS dX1_featureAfter_91 hr rfl q1943 ?_
      refine kW_gO dX1_featureAfter_94 (kf1 fl_X1_340_X5) h (fun v39019 h => ?_)
      refine kx_iload_n dX1_featureAfter_97 rfl rfl ?_
      obtain ⟨a39020, rfl, hUa39020⟩ := h
      have h := hUa39020
      refine kW_lF dX1_featureAfter_98 h (fun v39021 h => ?_)
      exact kx_fret dX1_featureAfter_99 rfl (hQ _ _ ⟨_, rfl, h⟩)
    · skip
      refine kx_if_le (tgt := 78) dX1_featureAfter_71 (by decide) (fun c => ?_) (fun c => ?_)
      · have h := w_ift c h
        refine kx_iconst (v := 0) dX1_featureAfter_78 (by decide) ?_
        exact jk39007 _ _ _ _ h
      · have h := w_iff c h
        refine kx_iconst (v := 1) dX1_featureAfter_74 (by decide) ?_
        refine kx_goto (tgt := 79) dX1_featureAfter_75 (by decide) ?_
        exact jk39007 _ _ _ _ h
  · have h := w_iff c h
    refine kx_aload dX1_featureAfter_44 rfl ?_
    obtain ⟨hr, h⟩ := h
    obtain ⟨c39024, c39025, hc, hs, h⟩ := h
    refine kx_callV dX1_featureAfter_46 lk_X1_316 (kw_X2_step h) rfl (wR_rc hr rfl) rfl (Nat.le_of_ble_eq_true rfl) (Nat.le_of_ble_eq_true rfl) (Nat.le_of_ble_eq_true rfl) hc hs (fun _ _ _ hx => kx_out rfl (hX _ _ _ hx)) (fun v_ σ39023 hq => ?_)
    obtain ⟨v39022, rfl, h⟩ := hq
    refine kx_pop dX1_featureAfter_49 rfl ?_
    refine kx_iinc2 (v := 1) dX1_featureAfter_50 rfl (by decide) ?_
    refine kx_goto (tgt := 38) dX1_featureAfter_53 (by decide) ?_
    exact kx_lwF [(1, .int (x1)), (2, .int (x2)), (3, .int (x3)), (4, .ref (q15)), (5, .int ((l5 + (1 : Int32))))] ⟨rfl, rfl, rfl, rfl, rfl, trivial⟩ (hI38 _ _ _ _ h)
set_option maxHeartbeats 8000000 in
theorem kw_X1_culprit {G : KG} {bc bs : Nat} {σ : KHp} {x0 : Nat} {x1 : Int32} {Q : Int32 → KHp → Prop} {X : String → Nat → KHp → Prop} (h : W_X1_culprit G bc bs σ x0 x1 Q X) : kx_c G yX1_culprit (ws_ yX1_culprit cX1_culprit 4 (Option.some Jvm.ClassFile.FieldType.int)) 10 bc bs [.ref (x0), .int (x1)] σ (fun rv σ' => ∃ r, rv = some (.int (r)) ∧ Q r σ') X := by
  refine kx_mk3 (ini := false) rfl (Nat.le_of_ble_eq_true rfl) (fun h => by cases h) (fun Q1 X1 hQ hX => ?_)
  unfold W_X1_culprit at h
  refine kx_aload_n dX1_culprit_0 rfl rfl ?_
  refine kx_iload_n dX1_culprit_1 rfl rfl ?_
  obtain ⟨hr, h⟩ := h
  obtain ⟨c3, c4, hc, hs, h⟩ := h
  refine kx_callV dX1_culprit_2 lk_X1_255 (kw_X1_branchAt h) rfl (wR_rc hr rfl) rfl (Nat.le_of_ble_eq_true rfl) (Nat.le_of_ble_eq_true rfl) (Nat.le_of_ble_eq_true rfl) hc hs (fun _ _ _ hx => kx_out rfl (hX _ _ _ hx)) (fun v_ σ2 hq => ?_)
  obtain ⟨v1, rfl, h⟩ := hq
  refine kx_pop dX1_culprit_5 (va_cat _) ?_
  refine kW_new dX1_culprit_6 kc_X2 q208 q209 q144 rfl h (fun q5 σ6 h => ?_)
  refine kx_dup dX1_culprit_9 rfl ?_
  refine kx_aload_n dX1_culprit_10 rfl rfl ?_
  refine kW_gO dX1_culprit_11 (kf1 fl_X1_103_X1) h (fun v7 h => ?_)
  obtain ⟨c10, c11, hc, hs, h⟩ := h
  refine kx_callI dX1_culprit_14 lk_X1_158 (kw_X2_init_2 h) rfl rfl (Nat.le_of_ble_eq_true rfl) (Nat.le_of_ble_eq_true rfl) (Nat.le_of_ble_eq_true rfl) hc hs (fun _ _ _ hx => kx_out rfl (hX _ _ _ hx)) (fun v_ σ9 hq => ?_)
  obtain ⟨rfl, h⟩ := hq
  refine kx_iload_n dX1_culprit_17 rfl rfl ?_
  refine kx_sipush (v := 200) dX1_culprit_18 (by decide) ?_
  obtain ⟨hr, h⟩ := h
  obtain ⟨c14, c15, hc, hs, h⟩ := h
  refine kx_callV dX1_culprit_21 lk_X1_470 (kw_X2_tripIn h) rfl (wR_rc hr rfl) rfl (Nat.le_of_ble_eq_true rfl) (Nat.le_of_ble_eq_true rfl) (Nat.le_of_ble_eq_true rfl) hc hs (fun _ _ _ hx => kx_out rfl (hX _ _ _ hx)) (fun v_ σ13 hq => ?_)
  obtain ⟨v12, rfl, h⟩ := hq
  refine kx_iconst (v := -1) dX1_culprit_24 (by decide) ?_
  refine kx_icmp_ne (tgt := 30) dX1_culprit_25 (by decide) (fun c => ?_) (fun c => ?_)
  · have h := w_iff c h
    refine kx_iconst (v := 0) dX1_culprit_30 (by decide) ?_
    refine kx_istore_n dX1_culprit_31 rfl (Nat.le_of_ble_eq_true rfl) ?_
    refine kx_lwF [(0, .ref (x0)), (1, .int (x1)), (2, .int ((0 : Int32)))] ⟨rfl, rfl, rfl, trivial⟩ ?_
    refine loopW3_k (fun (σ : KHp) (bc32 bs32 : Nat) (l2 : Int32) => kx G (yX1_culprit.cls, cX1_culprit, 4, (Option.some Jvm.ClassFile.FieldType.int), false, []) (10, bc, bs, Q1, X1) (bc32) (bs32) σ 32 (kF [(0, .ref (x0)), (1, .int (x1)), (2, .int (l2))]) []) (fun kI32 hI32 σ bc32 bs32 l2 h => ?_) 9000 σ13 (bc - c3 - 1 - c10 - c14) (bs - c4 - 14 - c11 - c15) (0 : Int32) h
    unfold WB_X1_culprit_32 at h
    refine kx_iload_n dX1_culprit_32 rfl rfl ?_
    refine kx_aload_n dX1_culprit_33 rfl rfl ?_
    obtain ⟨hr, h⟩ := h
    refine kx_callV dX1_culprit_34 lk_X1_217 (kw_X1_loadCount h) rfl (wR_rc hr rfl) rfl (Nat.le_of_ble_eq_true rfl) (Nat.le_of_ble_eq_true rfl) (Nat.le_of_ble_eq_true rfl) (Nat.le_of_ble_eq_true rfl) (Nat.le_of_ble_eq_true rfl) (fun _ _ _ hx => kx_out rfl (hX _ _ _ hx)) (fun v_ σ33002 hq => ?_)
    obtain ⟨v33001, rfl, h⟩ := hq
    refine kx_icmp_ge (tgt := 118) dX1_culprit_37 (by decide) (fun c => ?_) (fun c => ?_)
    · have h := w_ift c h
      refine kx_iconst (v := -1) dX1_culprit_118 (by decide) ?_
      exact kx_iret dX1_culprit_119 rfl (hQ _ _ ⟨_, rfl, h⟩)
    · have h := w_iff c h
      refine kx_aload_n dX1_culprit_40 rfl rfl ?_
      refine kW_gO dX1_culprit_41 (kf1 fl_X1_103_X1) h (fun v33003 h => ?_)
      obtain ⟨a33004, rfl, hUa33004⟩ := h
      have h := hUa33004
      refine kW_gO dX1_culprit_44 (kf1 fl_X1_280_X2) h (fun v33005 h => ?_)
      refine kx_iload_n dX1_culprit_47 rfl rfl ?_
      obtain ⟨a33006, rfl, hUa33006⟩ := h
      have h := hUa33006
      refine kW_lB dX1_culprit_48 h (fun v33007 h => ?_)
      refine kx_if_eq (tgt := 112) dX1_culprit_49 (by decide) (fun c => ?_) (fun c => ?_)
      · have h := w_ift c h
        refine kx_iinc2 (v := 1) dX1_culprit_112 rfl (by decide) ?_
        refine kx_goto (tgt := 32) dX1_culprit_115 (by decide) ?_
        exact kx_lwF [(0, .ref (x0)), (1, .int (x1)), (2, .int ((l2 + (1 : Int32))))] ⟨rfl, rfl, rfl, trivial⟩ (hI32 _ _ _ _ h)
      · have h := w_iff c h
        refine kx_aload_n dX1_culprit_52 rfl rfl ?_
        refine kW_gO dX1_culprit_53 (kf1 fl_X1_103_X1) h (fun v33008 h => ?_)
        obtain ⟨a33009, rfl, hUa33009⟩ := h
        have h := hUa33009
        refine kW_gO dX1_culprit_56 (kf1 fl_X1_205_X2) h (fun v33010 h => ?_)
        obtain ⟨a33011, rfl, hUa33011⟩ := h
        have h := hUa33011
        refine kW_gO dX1_culprit_59 (kf1 fl_X1_209_X3) h (fun v33012 h => ?_)
        refine kx_iload_n dX1_culprit_62 rfl rfl ?_
        obtain ⟨a33013, rfl, hUa33013⟩ := h
        have h := hUa33013
        obtain ⟨hr, h⟩ := h
        refine kx_callV dX1_culprit_63 lk_X1_245 (kw_J2_get h) rfl (wR_rc hr rfl) rfl (Nat.le_of_ble_eq_true rfl) (Nat.le_of_ble_eq_true rfl) (Nat.le_of_ble_eq_true rfl) (Nat.le_of_ble_eq_true rfl) (Nat.le_of_ble_eq_true rfl) (fun _ _ _ hx => kx_out rfl (hX _ _ _ hx)) (fun v_ σ33015 hq => ?_)
        obtain ⟨v33014, rfl, h⟩ := hq
        obtain ⟨a33016, rfl, hUa33016⟩ := h
        have h := hUa33016
        obtain ⟨hr, h⟩ := h
        refine kW_castL dX1_culprit_66 (C := "ArcRecorder$Load") (by rcases hr with hr | hr | hr | hr <;> first | exact ⟨_, wR_rc hr rfl, q3475⟩ | exact ⟨_, wR_rc hr rfl, q3476⟩ | exact ⟨_, wR_rc hr rfl, q3474⟩ | exact ⟨_, wR_rc hr rfl, q3473⟩) q2072 ?_
        refine kW_gI dX1_culprit_69 (kfc fl_X1_271_X10 (kfc fl_X1_271_X11 (kfc fl_X1_271_X12 (kf1 fl_X1_271_X13)))) h (fun v33017 h => ?_)
        refine kx_iload_n dX1_culprit_72 rfl rfl ?_
        refine kx_icmp_eq (tgt := 79) dX1_culprit_73 (by decide) (fun c => ?_) (fun c => ?_)
        · have h := w_ift c h
          refine kW_new dX1_culprit_79 kc_X2 q208 q209 q144 rfl h (fun q33018 σ33019 h => ?_)
          refine kx_dup dX1_culprit_82 rfl ?_
          refine kx_aload_n dX1_culprit_83 rfl rfl ?_
          refine kW_gO dX1_culprit_84 (kf1 fl_X1_103_X1) h (fun v33020 h => ?_)
          obtain ⟨c33023, c33024, hc, hs, h⟩ := h
          refine kx_callI dX1_culprit_87 lk_X1_158 (kw_X2_init_2 h) rfl rfl (Nat.le_of_ble_eq_true rfl) (Nat.le_of_ble_eq_true rfl) (Nat.le_of_ble_eq_true rfl) hc hs (fun _ _ _ hx => kx_out rfl (hX _ _ _ hx)) (fun v_ σ33022 hq => ?_)
          obtain ⟨rfl, h⟩ := hq
          refine kx_astore_n dX1_culprit_90 rfl (Nat.le_of_ble_eq_true rfl) ?_
          refine kx_aload_n dX1_culprit_91 rfl rfl ?_
          refine kW_gO dX1_culprit_92 (kf1 fl_X1_280_X2) h (fun v33025 h => ?_)
          refine kx_iload_n dX1_culprit_95 rfl rfl ?_
          refine kx_iconst (v := 0) dX1_culprit_96 (by decide) ?_
          obtain ⟨a33026, rfl, hUa33026⟩ := h
          have h := hUa33026
          refine kW_sB dX1_culprit_97 h (fun σ33027 h => ?_)
          refine kx_aload_n dX1_culprit_98 rfl rfl ?_
          refine kx_iload_n dX1_culprit_99 rfl rfl ?_
          refine kx_sipush (v := 200) dX1_culprit_100 (by decide) ?_
          obtain ⟨hr, h⟩ := h
          obtain ⟨c33030, c33031, hc, hs, h⟩ := h
          refine kx_callV dX1_culprit_103 lk_X1_470 (kw_X2_tripIn h) rfl (wR_rc hr rfl) rfl (Nat.le_of_ble_eq_true rfl) (Nat.le_of_ble_eq_true rfl) (Nat.le_of_ble_eq_true rfl) hc hs (fun _ _ _ hx => kx_out rfl (hX _ _ _ hx)) (fun v_ σ33029 hq => ?_)
          obtain ⟨v33028, rfl, h⟩ := hq
          refine kx_iconst (v := -1) dX1_culprit_106 (by decide) ?_
          refine kx_icmp_ne (tgt := 112) dX1_culprit_107 (by decide) (fun c => ?_) (fun c => ?_)
          · have h := w_iff c h
            refine kx_iinc2 (v := 1) dX1_culprit_112 rfl (by decide) ?_
            refine kx_goto (tgt := 32) dX1_culprit_115 (by decide) ?_
            exact kx_lwF [(0, .ref (x0)), (1, .int (x1)), (2, .int ((l2 + (1 : Int32))))] ⟨rfl, rfl, rfl, trivial⟩ (hI32 _ _ _ _ h)
          · have h := w_ift c h
            refine kx_iload_n dX1_culprit_110 rfl rfl ?_
            exact kx_iret dX1_culprit_111 rfl (hQ _ _ ⟨_, rfl, h⟩)
        · have h := w_iff c h
          refine kx_goto (tgt := 112) dX1_culprit_76 (by decide) ?_
          refine kx_iinc2 (v := 1) dX1_culprit_112 rfl (by decide) ?_
          refine kx_goto (tgt := 32) dX1_culprit_115 (by decide) ?_
          exact kx_lwF [(0, .ref (x0)), (1, .int (x1)), (2, .int ((l2 + (1 : Int32))))] ⟨rfl, rfl, rfl, trivial⟩ (hI32 _ _ _ _ h)
  · have h := w_ift c h
    refine kx_iconst (v := -1) dX1_culprit_28 (by decide) ?_
    exact kx_iret dX1_culprit_29 rfl (hQ _ _ ⟨_, rfl, h⟩)
set_option maxHeartbeats 8000000 in
theorem kw_X1_hitsAhead {G : KG} {bc bs : Nat} {σ : KHp} {x0 : Nat} {x1 : Int32} {Q : Int32 → KHp → Prop} {X : String → Nat → KHp → Prop} (h : W_X1_hitsAhead G bc bs σ x0 x1 Q X) : kx_c G yX1_hitsAhead (ws_ yX1_hitsAhead cX1_hitsAhead 5 (Option.some Jvm.ClassFile.FieldType.int)) 10 bc bs [.ref (x0), .int (x1)] σ (fun rv σ' => ∃ r, rv = some (.int (r)) ∧ Q r σ') X := by
  refine kx_mk3 (ini := false) rfl (Nat.le_of_ble_eq_true rfl) (fun h => by cases h) (fun Q1 X1 hQ hX => ?_)
  unfold W_X1_hitsAhead at h
  refine kx_aload_n dX1_hitsAhead_0 rfl rfl ?_
  refine kx_iload_n dX1_hitsAhead_1 rfl rfl ?_
  obtain ⟨hr, h⟩ := h
  obtain ⟨c3, c4, hc, hs, h⟩ := h
  refine kx_callV dX1_hitsAhead_2 lk_X1_366 (kw_X1_signatureAt h) rfl (wR_rc hr rfl) rfl (Nat.le_of_ble_eq_true rfl) (Nat.le_of_ble_eq_true rfl) (Nat.le_of_ble_eq_true rfl) hc hs (fun _ _ _ hx => kx_out rfl (hX _ _ _ hx)) (fun v_ σ2 hq => ?_)
  obtain ⟨v1, rfl, h⟩ := hq
  refine kx_pop dX1_hitsAhead_5 (va_cat _) ?_
  refine kW_new dX1_hitsAhead_6 kc_X2 q208 q209 q144 rfl h (fun q5 σ6 h => ?_)
  refine kx_dup dX1_hitsAhead_9 rfl ?_
  refine kx_aload_n dX1_hitsAhead_10 rfl rfl ?_
  refine kW_gO dX1_hitsAhead_11 (kf1 fl_X1_103_X1) h (fun v7 h => ?_)
  obtain ⟨c10, c11, hc, hs, h⟩ := h
  refine kx_callI dX1_hitsAhead_14 lk_X1_158 (kw_X2_init_2 h) rfl rfl (Nat.le_of_ble_eq_true rfl) (Nat.le_of_ble_eq_true rfl) (Nat.le_of_ble_eq_true rfl) hc hs (fun _ _ _ hx => kx_out rfl (hX _ _ _ hx)) (fun v_ σ9 hq => ?_)
  obtain ⟨rfl, h⟩ := hq
  refine kx_astore_n dX1_hitsAhead_17 rfl (Nat.le_of_ble_eq_true rfl) ?_
  refine kx_iconst (v := 0) dX1_hitsAhead_18 (by decide) ?_
  refine kx_istore_n dX1_hitsAhead_19 rfl (Nat.le_of_ble_eq_true rfl) ?_
  refine kx_lwF [(0, .ref (x0)), (1, .int (x1)), (2, .ref (q5)), (3, .int ((0 : Int32)))] ⟨rfl, rfl, rfl, rfl, trivial⟩ ?_
  refine loopW3_k (fun (σ : KHp) (bc20 bs20 : Nat) (l3 : Int32) => kx G (yX1_hitsAhead.cls, cX1_hitsAhead, 5, (Option.some Jvm.ClassFile.FieldType.int), false, []) (10, bc, bs, Q1, X1) (bc20) (bs20) σ 20 (kF [(0, .ref (x0)), (1, .int (x1)), (2, .ref (q5)), (3, .int (l3))]) []) (fun kI20 hI20 σ bc20 bs20 l3 h => ?_) 9000 σ9 (bc - c3 - 1 - c10) (bs - c4 - 14 - c11) (0 : Int32) h
  unfold WB_X1_hitsAhead_20 at h
  refine kx_iload_n dX1_hitsAhead_20 rfl rfl ?_
  refine kx_bipush (v := 100) dX1_hitsAhead_21 (by decide) ?_
  refine kx_icmp_ge (tgt := 38) dX1_hitsAhead_23 (by decide) (fun c => ?_) (fun c => ?_)
  · have h := w_ift c h
    refine kx_aload_n dX1_hitsAhead_38 rfl rfl ?_
    refine kW_gO dX1_hitsAhead_39 (kf1 fl_X1_370_X2) h (fun v21001 h => ?_)
    refine kx_iload_n dX1_hitsAhead_42 rfl rfl ?_
    obtain ⟨a21002, rfl, hUa21002⟩ := h
    have h := hUa21002
    refine kW_lI dX1_hitsAhead_43 h (fun v21003 h => ?_)
    refine kx_aload_n dX1_hitsAhead_44 rfl rfl ?_
    refine kW_gO dX1_hitsAhead_45 (kf1 fl_X1_103_X1) h (fun v21004 h => ?_)
    obtain ⟨a21005, rfl, hUa21005⟩ := h
    have h := hUa21005
    refine kW_gO dX1_hitsAhead_48 (kf1 fl_X1_370_X2) h (fun v21006 h => ?_)
    refine kx_iload_n dX1_hitsAhead_51 rfl rfl ?_
    obtain ⟨a21007, rfl, hUa21007⟩ := h
    have h := hUa21007
    refine kW_lI dX1_hitsAhead_52 h (fun v21008 h => ?_)
    refine kx_isub dX1_hitsAhead_53 ?_
    exact kx_iret dX1_hitsAhead_54 rfl (hQ _ _ ⟨_, rfl, h⟩)
  · have h := w_iff c h
    refine kx_aload_n dX1_hitsAhead_26 rfl rfl ?_
    obtain ⟨hr, h⟩ := h
    obtain ⟨c21011, c21012, hc, hs, h⟩ := h
    refine kx_callV dX1_hitsAhead_27 lk_X1_316 (kw_X2_step h) rfl (wR_rc hr rfl) rfl (Nat.le_of_ble_eq_true rfl) (Nat.le_of_ble_eq_true rfl) (Nat.le_of_ble_eq_true rfl) hc hs (fun _ _ _ hx => kx_out rfl (hX _ _ _ hx)) (fun v_ σ21010 hq => ?_)
    obtain ⟨v21009, rfl, h⟩ := hq
    refine kx_istore dX1_hitsAhead_30 (Nat.le_of_ble_eq_true rfl) ?_
    refine kx_iinc2 (v := 1) dX1_hitsAhead_32 rfl (by decide) ?_
    refine kx_goto (tgt := 20) dX1_hitsAhead_35 (by decide) ?_
    exact kx_lwF [(0, .ref (x0)), (1, .int (x1)), (2, .ref (q5)), (3, .int ((l3 + (1 : Int32))))] ⟨rfl, rfl, rfl, rfl, trivial⟩ (hI20 _ _ _ _ h)
set_option maxHeartbeats 8000000 in
theorem kw_X1_largestCount {G : KG} {bc bs : Nat} {σ : KHp} {x0 : Nat} {x1 : Int32} {Q : Int32 → KHp → Prop} {X : String → Nat → KHp → Prop} (h : W_X1_largestCount G bc bs σ x0 x1 Q X) : kx_c G yX1_largestCount (ws_ yX1_largestCount cX1_largestCount 4 (Option.some Jvm.ClassFile.FieldType.int)) 10 bc bs [.ref (x0), .int (x1)] σ (fun rv σ' => ∃ r, rv = some (.int (r)) ∧ Q r σ') X := by
  refine kx_mk3 (ini := false) rfl (Nat.le_of_ble_eq_true rfl) (fun h => by cases h) (fun Q1 X1 hQ hX => ?_)
  unfold W_X1_largestCount at h
  refine kx_aload_n dX1_largestCount_0 rfl rfl ?_
  refine kx_iload_n dX1_largestCount_1 rfl rfl ?_
  obtain ⟨hr, h⟩ := h
  obtain ⟨c3, c4, hc, hs, h⟩ := h
  refine kx_callV dX1_largestCount_2 lk_X1_255 (kw_X1_branchAt h) rfl (wR_rc hr rfl) rfl (Nat.le_of_ble_eq_true rfl) (Nat.le_of_ble_eq_true rfl) (Nat.le_of_ble_eq_true rfl) hc hs (fun _ _ _ hx => kx_out rfl (hX _ _ _ hx)) (fun v_ σ2 hq => ?_)
  obtain ⟨v1, rfl, h⟩ := hq
  refine kx_pop dX1_largestCount_5 (va_cat _) ?_
  refine kx_aload_n dX1_largestCount_6 rfl rfl ?_
  refine kW_gO dX1_largestCount_7 (kf1 fl_X1_103_X1) h (fun v5 h => ?_)
  obtain ⟨a6, rfl, hUa6⟩ := h
  have h := hUa6
  refine kW_gI dX1_largestCount_10 (kf1 fl_X1_235_X2) h (fun v7 h => ?_)
  refine kx_istore_n dX1_largestCount_13 rfl (Nat.le_of_ble_eq_true rfl) ?_
  refine kx_lwF [(0, .ref (x0)), (1, .int (x1)), (2, .int (v7))] ⟨rfl, rfl, rfl, trivial⟩ ?_
  refine loopW3_k (fun (σ : KHp) (bc14 bs14 : Nat) (l2 : Int32) => kx G (yX1_largestCount.cls, cX1_largestCount, 4, (Option.some Jvm.ClassFile.FieldType.int), false, []) (10, bc, bs, Q1, X1) (bc14) (bs14) σ 14 (kF [(0, .ref (x0)), (1, .int (x1)), (2, .int (l2))]) []) (fun kI14 hI14 σ bc14 bs14 l2 h => ?_) 9000 σ2 (bc - c3) (bs - c4) v7 h
  unfold WB_X1_largestCount_14 at h
  refine kx_iload_n dX1_largestCount_14 rfl rfl ?_
  refine kx_if_le (tgt := 55) dX1_largestCount_15 (by decide) (fun c => ?_) (fun c => ?_)
  · have h := w_ift c h
    refine kx_iconst (v := -1) dX1_largestCount_55 (by decide) ?_
    exact kx_iret dX1_largestCount_56 rfl (hQ _ _ ⟨_, rfl, h⟩)
  · have h := w_iff c h
    refine kW_new dX1_largestCount_18 kc_X2 q208 q209 q144 rfl h (fun q15001 σ15002 h => ?_)
    refine kx_dup dX1_largestCount_21 rfl ?_
    refine kx_aload_n dX1_largestCount_22 rfl rfl ?_
    refine kW_gO dX1_largestCount_23 (kf1 fl_X1_103_X1) h (fun v15003 h => ?_)
    obtain ⟨c15006, c15007, hc, hs, h⟩ := h
    refine kx_callI dX1_largestCount_26 lk_X1_158 (kw_X2_init_2 h) rfl rfl (Nat.le_of_ble_eq_true rfl) (Nat.le_of_ble_eq_true rfl) (Nat.le_of_ble_eq_true rfl) hc hs (fun _ _ _ hx => kx_out rfl (hX _ _ _ hx)) (fun v_ σ15005 hq => ?_)
    obtain ⟨rfl, h⟩ := hq
    refine kx_astore_n dX1_largestCount_29 rfl (Nat.le_of_ble_eq_true rfl) ?_
    refine kx_aload_n dX1_largestCount_30 rfl rfl ?_
    refine kx_iload_n dX1_largestCount_31 rfl rfl ?_
    refine kW_p dX1_largestCount_32 (kp1 ⟨_, _, _, _, kc_X2, fl_X1_237_X2, Or.inl rfl, rfl, rfl⟩) h (fun σ15008 h => ?_)
    refine kx_aload_n dX1_largestCount_35 rfl rfl ?_
    refine kx_iload_n dX1_largestCount_36 rfl rfl ?_
    refine kx_sipush (v := 200) dX1_largestCount_37 (by decide) ?_
    obtain ⟨hr, h⟩ := h
    obtain ⟨c15011, c15012, hc, hs, h⟩ := h
    refine kx_callV dX1_largestCount_40 lk_X1_470 (kw_X2_tripIn h) rfl (wR_rc hr rfl) rfl (Nat.le_of_ble_eq_true rfl) (Nat.le_of_ble_eq_true rfl) (Nat.le_of_ble_eq_true rfl) hc hs (fun _ _ _ hx => kx_out rfl (hX _ _ _ hx)) (fun v_ σ15010 hq => ?_)
    obtain ⟨v15009, rfl, h⟩ := hq
    refine kx_iconst (v := -1) dX1_largestCount_43 (by decide) ?_
    refine kx_icmp_eq (tgt := 49) dX1_largestCount_44 (by decide) (fun c => ?_) (fun c => ?_)
    · have h := w_ift c h
      refine kx_iinc2 (v := -1) dX1_largestCount_49 rfl (by decide) ?_
      refine kx_goto (tgt := 14) dX1_largestCount_52 (by decide) ?_
      exact kx_lwF [(0, .ref (x0)), (1, .int (x1)), (2, .int ((l2 + (-1 : Int32))))] ⟨rfl, rfl, rfl, trivial⟩ (hI14 _ _ _ _ h)
    · have h := w_iff c h
      refine kx_iload_n dX1_largestCount_47 rfl rfl ?_
      exact kx_iret dX1_largestCount_48 rfl (hQ _ _ ⟨_, rfl, h⟩)
set_option maxHeartbeats 8000000 in
theorem kw_X1_writeTrip {G : KG} {bc bs : Nat} {σ : KHp} {x0 : Nat} {x1 : Int32} {Q : Int32 → KHp → Prop} {X : String → Nat → KHp → Prop} (h : W_X1_writeTrip G bc bs σ x0 x1 Q X) : kx_c G yX1_writeTrip (ws_ yX1_writeTrip cX1_writeTrip 4 (Option.some Jvm.ClassFile.FieldType.int)) 11 bc bs [.ref (x0), .int (x1)] σ (fun rv σ' => ∃ r, rv = some (.int (r)) ∧ Q r σ') X := by
  refine kx_mk3 (ini := false) rfl (Nat.le_of_ble_eq_true rfl) (fun h => by cases h) (fun Q1 X1 hQ hX => ?_)
  unfold W_X1_writeTrip at h
  refine kx_aload_n dX1_writeTrip_0 rfl rfl ?_
  refine kx_iload_n dX1_writeTrip_1 rfl rfl ?_
  obtain ⟨hr, h⟩ := h
  obtain ⟨c3, c4, hc, hs, h⟩ := h
  refine kx_callV dX1_writeTrip_2 lk_X1_450 (kw_X1_tripAt h) rfl (wR_rc hr rfl) rfl (Nat.le_of_ble_eq_true rfl) (Nat.le_of_ble_eq_true rfl) (Nat.le_of_ble_eq_true rfl) hc hs (fun _ _ _ hx => kx_out rfl (hX _ _ _ hx)) (fun v_ σ2 hq => ?_)
  obtain ⟨v1, rfl, h⟩ := hq
  refine kx_astore_nO dX1_writeTrip_5 rfl (Nat.le_of_ble_eq_true rfl) ?_
  refine kx_aload_n dX1_writeTrip_6 rfl rfl ?_
  refine kW_gO dX1_writeTrip_7 (kf1 fl_X1_125_X1) h (fun v5 h => ?_)
  refine kx_iconst (v := 0) dX1_writeTrip_10 (by decide) ?_
  obtain ⟨a6, rfl, hUa6⟩ := h
  have h := hUa6
  obtain ⟨hr, h⟩ := h
  obtain ⟨c9, c10, hc, hs, h⟩ := h
  refine kx_callV dX1_writeTrip_11 lk_X1_485 (kw_J8_setLength h) rfl (wR_rc hr rfl) rfl (Nat.le_of_ble_eq_true rfl) (Nat.le_of_ble_eq_true rfl) (Nat.le_of_ble_eq_true rfl) hc hs (fun _ _ _ hx => kx_out rfl (hX _ _ _ hx)) (fun v_ σ8 hq => ?_)
  obtain ⟨rfl, h⟩ := hq
  refine kx_aload_n dX1_writeTrip_14 rfl rfl ?_
  refine kW_gO dX1_writeTrip_15 (kf1 fl_X1_125_X1) h (fun v11 h => ?_)
  refine kx_aload_n dX1_writeTrip_18 rfl rfl ?_
  refine kW_gO dX1_writeTrip_19 (kf1 fl_X1_103_X1) h (fun v12 h => ?_)
  obtain ⟨a13, rfl, hUa13⟩ := h
  have h := hUa13
  refine kW_gO dX1_writeTrip_22 (kf1 fl_X1_205_X2) h (fun v14 h => ?_)
  obtain ⟨a15, rfl, hUa15⟩ := h
  have h := hUa15
  refine kW_gO dX1_writeTrip_25 (kf1 fl_X1_488_X3) h (fun v16 h => ?_)
  refine kx_aload_nO dX1_writeTrip_28 rfl rfl ?_
  obtain ⟨a17, rfl, hUa17⟩ := h
  have h := hUa17
  refine kW_gI dX1_writeTrip_29 (kf1 fl_X1_455_X20) h (fun v18 h => ?_)
  obtain ⟨a19, rfl, hUa19⟩ := h
  have h := hUa19
  obtain ⟨hr, h⟩ := h
  refine kx_callV dX1_writeTrip_32 lk_X1_245 (kw_J2_get h) rfl (wR_rc hr rfl) rfl (by cases v11 <;> exact Nat.le_of_ble_eq_true rfl) (Nat.le_of_ble_eq_true rfl) (Nat.le_of_ble_eq_true rfl) (Nat.le_of_ble_eq_true rfl) (Nat.le_of_ble_eq_true rfl) (fun _ _ _ hx => kx_out rfl (hX _ _ _ hx)) (fun v_ σ21 hq => ?_)
  obtain ⟨v20, rfl, h⟩ := hq
  obtain ⟨a22, rfl, hUa22⟩ := h
  have h := hUa22
  obtain ⟨⟨tc, fc, hr⟩, h⟩ := h
  refine kx_castS dX1_writeTrip_35 hr rfl q2718 ?_
  obtain ⟨a23, rfl, hUa23⟩ := h
  have h := hUa23
  obtain ⟨hr, h⟩ := h
  obtain ⟨c26, c27, hc, hs, h⟩ := h
  refine kx_callV dX1_writeTrip_38 lk_X1_489 (kw_J8_append h) rfl (wR_rc hr rfl) rfl (Nat.le_of_ble_eq_true rfl) (Nat.le_of_ble_eq_true rfl) (Nat.le_of_ble_eq_true rfl) hc hs (fun _ _ _ hx => kx_out rfl (hX _ _ _ hx)) (fun v_ σ25 hq => ?_)
  obtain ⟨v24, rfl, h⟩ := hq
  refine kx_bipush (v := 32) dX1_writeTrip_41 (by decide) ?_
  obtain ⟨a28, rfl, hUa28⟩ := h
  have h := hUa28
  obtain ⟨hr, h⟩ := h
  obtain ⟨c31, c32, hc, hs, h⟩ := h
  refine kx_callV dX1_writeTrip_43 lk_X1_191 (kw_J8_append_3 h) rfl (wR_rc hr rfl) rfl (Nat.le_of_ble_eq_true rfl) (Nat.le_of_ble_eq_true rfl) (Nat.le_of_ble_eq_true rfl) hc hs (fun _ _ _ hx => kx_out rfl (hX _ _ _ hx)) (fun v_ σ30 hq => ?_)
  obtain ⟨v29, rfl, h⟩ := hq
  refine kx_aload_n dX1_writeTrip_46 rfl rfl ?_
  refine kW_gI dX1_writeTrip_47 (kf1 fl_X1_454_X20) h (fun v33 h => ?_)
  obtain ⟨a34, rfl, hUa34⟩ := h
  have h := hUa34
  obtain ⟨hr, h⟩ := h
  obtain ⟨c37, c38, hc, hs, h⟩ := h
  refine kx_callV dX1_writeTrip_50 lk_X1_492 (kw_J8_append_2 h) rfl (wR_rc hr rfl) rfl (Nat.le_of_ble_eq_true rfl) (Nat.le_of_ble_eq_true rfl) (Nat.le_of_ble_eq_true rfl) hc hs (fun _ _ _ hx => kx_out rfl (hX _ _ _ hx)) (fun v_ σ36 hq => ?_)
  obtain ⟨v35, rfl, h⟩ := hq
  refine kx_bipush (v := 32) dX1_writeTrip_53 (by decide) ?_
  obtain ⟨a39, rfl, hUa39⟩ := h
  have h := hUa39
  obtain ⟨hr, h⟩ := h
  obtain ⟨c42, c43, hc, hs, h⟩ := h
  refine kx_callV dX1_writeTrip_55 lk_X1_191 (kw_J8_append_3 h) rfl (wR_rc hr rfl) rfl (Nat.le_of_ble_eq_true rfl) (Nat.le_of_ble_eq_true rfl) (Nat.le_of_ble_eq_true rfl) hc hs (fun _ _ _ hx => kx_out rfl (hX _ _ _ hx)) (fun v_ σ41 hq => ?_)
  obtain ⟨v40, rfl, h⟩ := hq
  refine kx_aload_n dX1_writeTrip_58 rfl rfl ?_
  refine kW_gI dX1_writeTrip_59 (kf1 fl_X1_456_X20) h (fun v44 h => ?_)
  obtain ⟨a45, rfl, hUa45⟩ := h
  have h := hUa45
  obtain ⟨hr, h⟩ := h
  obtain ⟨c48, c49, hc, hs, h⟩ := h
  refine kx_callV dX1_writeTrip_62 lk_X1_492 (kw_J8_append_2 h) rfl (wR_rc hr rfl) rfl (Nat.le_of_ble_eq_true rfl) (Nat.le_of_ble_eq_true rfl) (Nat.le_of_ble_eq_true rfl) hc hs (fun _ _ _ hx => kx_out rfl (hX _ _ _ hx)) (fun v_ σ47 hq => ?_)
  obtain ⟨v46, rfl, h⟩ := hq
  refine kx_pop dX1_writeTrip_65 (va_cat _) ?_
  refine kx_iconst (v := 0) dX1_writeTrip_66 (by decide) ?_
  refine kx_istore_n dX1_writeTrip_67 rfl (Nat.le_of_ble_eq_true rfl) ?_
  refine kx_lwF [(0, .ref (x0)), (2, .ref (a17)), (3, .int ((0 : Int32)))] ⟨rfl, rfl, rfl, trivial⟩ ?_
  refine loopW3_k (fun (σ : KHp) (bc68 bs68 : Nat) (l3 : Int32) => kx G (yX1_writeTrip.cls, cX1_writeTrip, 4, (Option.some Jvm.ClassFile.FieldType.int), false, []) (11, bc, bs, Q1, X1) (bc68) (bs68) σ 68 (kF [(0, .ref (x0)), (2, .ref (a17)), (3, .int (l3))]) []) (fun kI68 hI68 σ bc68 bs68 l3 h => ?_) 9000 σ47 (bc - c3 - c9 - c26 - c31 - c37 - c42 - c48) (bs - c4 - c10 - c27 - c32 - c38 - c43 - c49) (0 : Int32) h
  unfold WB_X1_writeTrip_68 at h
  refine kx_iload_n dX1_writeTrip_68 rfl rfl ?_
  refine kx_aload_n dX1_writeTrip_69 rfl rfl ?_
  refine kW_gO dX1_writeTrip_70 (kf1 fl_X1_461_X20) h (fun v69001 h => ?_)
  obtain ⟨a69002, rfl, hUa69002⟩ := h
  have h := hUa69002
  refine kW_len dX1_writeTrip_73 h (fun v69003 h => ?_)
  refine kx_icmp_ge (tgt := 102) dX1_writeTrip_74 (by decide) (fun c => ?_) (fun c => ?_)
  · have h := w_ift c h
    refine kx_aload_n dX1_writeTrip_102 rfl rfl ?_
    refine kW_gO dX1_writeTrip_103 (kf1 fl_X1_125_X1) h (fun v69004 h => ?_)
    refine kx_bipush (v := 10) dX1_writeTrip_106 (by decide) ?_
    obtain ⟨a69005, rfl, hUa69005⟩ := h
    have h := hUa69005
    obtain ⟨hr, h⟩ := h
    obtain ⟨c69008, c69009, hc, hs, h⟩ := h
    refine kx_callV dX1_writeTrip_108 lk_X1_191 (kw_J8_append_3 h) rfl (wR_rc hr rfl) rfl (Nat.le_of_ble_eq_true rfl) (Nat.le_of_ble_eq_true rfl) (Nat.le_of_ble_eq_true rfl) hc hs (fun _ _ _ hx => kx_out rfl (hX _ _ _ hx)) (fun v_ σ69007 hq => ?_)
    obtain ⟨v69006, rfl, h⟩ := hq
    refine kx_pop dX1_writeTrip_111 (va_cat _) ?_
    refine kx_aload_n dX1_writeTrip_112 rfl rfl ?_
    refine kW_gO dX1_writeTrip_113 (kf1 fl_X1_125_X1) h (fun v69010 h => ?_)
    obtain ⟨a69011, rfl, hUa69011⟩ := h
    have h := hUa69011
    obtain ⟨hr, h⟩ := h
    refine kx_callV dX1_writeTrip_116 lk_X1_495 (kw_J8_length h) rfl (wR_rc hr rfl) rfl (Nat.le_of_ble_eq_true rfl) (Nat.le_of_ble_eq_true rfl) (Nat.le_of_ble_eq_true rfl) (Nat.le_of_ble_eq_true rfl) (Nat.le_of_ble_eq_true rfl) (fun _ _ _ hx => kx_out rfl (hX _ _ _ hx)) (fun v_ σ69013 hq => ?_)
    obtain ⟨v69012, rfl, h⟩ := hq
    exact kx_iret dX1_writeTrip_119 rfl (hQ _ _ ⟨_, rfl, h⟩)
  · have h := w_iff c h
    refine kx_aload_n dX1_writeTrip_77 rfl rfl ?_
    refine kW_gO dX1_writeTrip_78 (kf1 fl_X1_125_X1) h (fun v69014 h => ?_)
    refine kx_bipush (v := 32) dX1_writeTrip_81 (by decide) ?_
    obtain ⟨a69015, rfl, hUa69015⟩ := h
    have h := hUa69015
    obtain ⟨hr, h⟩ := h
    obtain ⟨c69018, c69019, hc, hs, h⟩ := h
    refine kx_callV dX1_writeTrip_83 lk_X1_191 (kw_J8_append_3 h) rfl (wR_rc hr rfl) rfl (Nat.le_of_ble_eq_true rfl) (Nat.le_of_ble_eq_true rfl) (Nat.le_of_ble_eq_true rfl) hc hs (fun _ _ _ hx => kx_out rfl (hX _ _ _ hx)) (fun v_ σ69017 hq => ?_)
    obtain ⟨v69016, rfl, h⟩ := hq
    refine kx_aload_n dX1_writeTrip_86 rfl rfl ?_
    refine kW_gO dX1_writeTrip_87 (kf1 fl_X1_461_X20) h (fun v69020 h => ?_)
    refine kx_iload_n dX1_writeTrip_90 rfl rfl ?_
    obtain ⟨a69021, rfl, hUa69021⟩ := h
    have h := hUa69021
    refine kW_lI dX1_writeTrip_91 h (fun v69022 h => ?_)
    obtain ⟨a69023, rfl, hUa69023⟩ := h
    have h := hUa69023
    obtain ⟨hr, h⟩ := h
    obtain ⟨c69026, c69027, hc, hs, h⟩ := h
    refine kx_callV dX1_writeTrip_92 lk_X1_492 (kw_J8_append_2 h) rfl (wR_rc hr rfl) rfl (Nat.le_of_ble_eq_true rfl) (Nat.le_of_ble_eq_true rfl) (Nat.le_of_ble_eq_true rfl) hc hs (fun _ _ _ hx => kx_out rfl (hX _ _ _ hx)) (fun v_ σ69025 hq => ?_)
    obtain ⟨v69024, rfl, h⟩ := hq
    refine kx_pop dX1_writeTrip_95 (va_cat _) ?_
    refine kx_iinc2 (v := 1) dX1_writeTrip_96 rfl (by decide) ?_
    refine kx_goto (tgt := 68) dX1_writeTrip_99 (by decide) ?_
    exact kx_lwF [(0, .ref (x0)), (2, .ref (a17)), (3, .int ((l3 + (1 : Int32))))] ⟨rfl, rfl, rfl, trivial⟩ (hI68 _ _ _ _ h)
set_option maxHeartbeats 8000000 in
theorem kw_X7_next {G : KG} {bc bs : Nat} {σ : KHp} {x0 : Nat} {Q : KHp → Prop} {X : String → Nat → KHp → Prop} (h : W_X7_next G bc bs σ x0 Q X) : kx_c G yX7_next (ws_ yX7_next cX7_next 2 (Option.none : Option Jvm.ClassFile.FieldType)) 9 bc bs [.ref (x0)] σ (fun rv σ' => rv = none ∧ Q σ') X := by
  refine kx_mk3 (ini := false) rfl (Nat.le_of_ble_eq_true rfl) (fun h => by cases h) (fun Q1 X1 hQ hX => ?_)
  unfold W_X7_next at h
  refine kx_lwF [(0, .ref (x0))] ⟨rfl, trivial⟩ ?_
  refine loopW2_k (fun (σ : KHp) (bc0 bs0 : Nat)  => kx G (yX7_next.cls, cX7_next, 2, (Option.none : Option Jvm.ClassFile.FieldType), false, []) (9, bc, bs, Q1, X1) (bc0) (bs0) σ 0 (kF [(0, .ref (x0))]) []) (fun kI0 hI0 σ bc0 bs0  h => ?_) 9000 σ bc bs h
  unfold WB_X7_next_0 at h
  refine kx_aload_n dX7_next_0 rfl rfl ?_
  refine kx_bipush (v := 32) dX7_next_1 (by decide) ?_
  refine kx_bipush (v := 32) dX7_next_3 (by decide) ?_
  obtain ⟨hr, h⟩ := h
  refine kx_callV dX7_next_5 lk_X7_64 (kw_X7_isAt h) rfl (wR_rc hr rfl) rfl (Nat.le_of_ble_eq_true rfl) (Nat.le_of_ble_eq_true rfl) (Nat.le_of_ble_eq_true rfl) (Nat.le_of_ble_eq_true rfl) (Nat.le_of_ble_eq_true rfl) (fun _ _ _ hx => kx_out rfl (hX _ _ _ hx)) (fun v_ σ1002 hq => ?_)
  obtain ⟨v1001, rfl, h⟩ := hq
  refine kx_if_ne (tgt := 22) dX7_next_8 (by decide) (fun c => ?_) (fun c => ?_)
  · have h := w_iff c h
    refine kx_aload_n dX7_next_22 rfl rfl ?_
    refine kx_dup dX7_next_23 rfl ?_
    refine kW_gI dX7_next_24 (kf1 fl_X7_49_X7) h (fun v1003 h => ?_)
    refine kx_iconst (v := 1) dX7_next_27 (by decide) ?_
    refine kx_iadd dX7_next_28 ?_
    refine kW_p dX7_next_29 (kp1 ⟨_, _, _, _, kc_X7, fl_X7_49_X7, Or.inl rfl, rfl, rfl⟩) h (fun σ1004 h => ?_)
    refine kx_goto (tgt := 0) dX7_next_32 (by decide) ?_
    exact kx_lwF [(0, .ref (x0))] ⟨rfl, trivial⟩ (hI0 _ _ _ h)
  · have h := w_ift c h
    refine kx_aload_n dX7_next_11 rfl rfl ?_
    refine kx_bipush (v := 10) dX7_next_12 (by decide) ?_
    refine kx_bipush (v := 10) dX7_next_14 (by decide) ?_
    obtain ⟨hr, h⟩ := h
    refine kx_callV dX7_next_16 lk_X7_64 (kw_X7_isAt h) rfl (wR_rc hr rfl) rfl (Nat.le_of_ble_eq_true rfl) (Nat.le_of_ble_eq_true rfl) (Nat.le_of_ble_eq_true rfl) (Nat.le_of_ble_eq_true rfl) (Nat.le_of_ble_eq_true rfl) (fun _ _ _ hx => kx_out rfl (hX _ _ _ hx)) (fun v_ σ1006 hq => ?_)
    obtain ⟨v1005, rfl, h⟩ := hq
    refine kx_if_eq (tgt := 35) dX7_next_19 (by decide) (fun c => ?_) (fun c => ?_)
    · have h := w_ift c h
      refine kx_aload_n dX7_next_35 rfl rfl ?_
      refine kx_aload_n dX7_next_36 rfl rfl ?_
      refine kW_gI dX7_next_37 (kf1 fl_X7_49_X7) h (fun v1007 h => ?_)
      refine kW_p dX7_next_40 (kp1 ⟨_, _, _, _, kc_X7, fl_X7_68_X7, Or.inl rfl, rfl, rfl⟩) h (fun σ1008 h => ?_)
      refine kx_aload_n dX7_next_43 rfl rfl ?_
      refine kx_ldcS dX7_next_44 ks_ArcRecorder_Parser_40 ?_
      refine kW_p dX7_next_46 (kp1 ⟨_, _, _, _, kc_X7, fl_X7_42_X7, Or.inl rfl, rfl, rfl⟩) h (fun σ1009 h => ?_)
      refine kx_aload_n dX7_next_49 rfl rfl ?_
      refine kx_iconst (v := 0) dX7_next_50 (by decide) ?_
      refine kW_p dX7_next_51 (kp1 ⟨_, _, _, _, kc_X7, fl_X7_71_X7, Or.inl rfl, rfl, rfl⟩) h (fun σ1010 h => ?_)
      refine kx_aload_n dX7_next_54 rfl rfl ?_
      refine kW_gI dX7_next_55 (kf1 fl_X7_49_X7) h (fun v1011 h => ?_)
      refine kx_aload_n dX7_next_58 rfl rfl ?_
      refine kW_gO dX7_next_59 (kf1 fl_X7_3_X7) h (fun v1012 h => ?_)
      obtain ⟨a1013, rfl, hUa1013⟩ := h
      have h := hUa1013
      refine kW_gI dX7_next_62 (kf1 fl_X7_53_X1) h (fun v1014 h => ?_)
      refine kx_icmp_ne (tgt := 78) dX7_next_65 (by decide) (fun c => ?_) (fun c => ?_)
      · have h := w_iff c h
        refine kx_aload_n dX7_next_78 rfl rfl ?_
        refine kx_bipush (v := 97) dX7_next_79 (by decide) ?_
        refine kx_bipush (v := 122) dX7_next_81 (by decide) ?_
        obtain ⟨hr, h⟩ := h
        refine kx_callV dX7_next_83 lk_X7_64 (kw_X7_isAt h) rfl (wR_rc hr rfl) rfl (Nat.le_of_ble_eq_true rfl) (Nat.le_of_ble_eq_true rfl) (Nat.le_of_ble_eq_true rfl) (Nat.le_of_ble_eq_true rfl) (Nat.le_of_ble_eq_true rfl) (fun _ _ _ hx => kx_out rfl (hX _ _ _ hx)) (fun v_ σ1016 hq => ?_)
        obtain ⟨v1015, rfl, h⟩ := hq
        refine kx_if_eq (tgt := 157) dX7_next_86 (by decide) (fun c => ?_) (fun c => ?_)
        · have h := w_ift c h
          refine kx_aload_n dX7_next_157 rfl rfl ?_
          refine kx_bipush (v := 48) dX7_next_158 (by decide) ?_
          refine kx_bipush (v := 57) dX7_next_160 (by decide) ?_
          obtain ⟨hr, h⟩ := h
          refine kx_callV dX7_next_162 lk_X7_64 (kw_X7_isAt h) rfl (wR_rc hr rfl) rfl (Nat.le_of_ble_eq_true rfl) (Nat.le_of_ble_eq_true rfl) (Nat.le_of_ble_eq_true rfl) (Nat.le_of_ble_eq_true rfl) (Nat.le_of_ble_eq_true rfl) (fun _ _ _ hx => kx_out rfl (hX _ _ _ hx)) (fun v_ σ1018 hq => ?_)
          obtain ⟨v1017, rfl, h⟩ := hq
          refine kx_if_eq (tgt := 231) dX7_next_165 (by decide) (fun c => ?_) (fun c => ?_)
          · have h := w_ift c h
            refine kx_aload_n dX7_next_231 rfl rfl ?_
            refine kx_gets dX7_next_232 kt_ArcRecorder_Token_SYMBOL q962 (Or.inl rfl) ?_
            refine kW_p dX7_next_235 (kp1 ⟨_, _, _, _, kc_X7, fl_X7_80_X7, Or.inl rfl, rfl, rfl⟩) h (fun σ1019 h => ?_)
            refine kx_aload_n dX7_next_238 rfl rfl ?_
            refine kx_dup dX7_next_239 rfl ?_
            refine kW_gI dX7_next_240 (kf1 fl_X7_49_X7) h (fun v1020 h => ?_)
            refine kx_iconst (v := 1) dX7_next_243 (by decide) ?_
            refine kx_iadd dX7_next_244 ?_
            refine kW_p dX7_next_245 (kp1 ⟨_, _, _, _, kc_X7, fl_X7_49_X7, Or.inl rfl, rfl, rfl⟩) h (fun σ1021 h => ?_)
            exact kx_vret dX7_next_248 rfl (hQ _ _ ⟨rfl, h⟩)
          · have h := w_iff c h
            refine kx_aload_n dX7_next_168 rfl rfl ?_
            refine kx_gets dX7_next_169 kt_ArcRecorder_Token_NUMBER q958 (Or.inl rfl) ?_
            refine kW_p dX7_next_172 (kp1 ⟨_, _, _, _, kc_X7, fl_X7_80_X7, Or.inl rfl, rfl, rfl⟩) h (fun σ1022 h => ?_)
            refine kx_lwF [(0, .ref (x0))] ⟨rfl, trivial⟩ ?_
            refine loopW2_k (fun (σ : KHp) (bc175 bs175 : Nat)  => kx G (yX7_next.cls, cX7_next, 2, (Option.none : Option Jvm.ClassFile.FieldType), false, []) (9, bc, bs, Q1, X1) (bc175) (bs175) σ 175 (kF [(0, .ref (x0))]) []) (fun kI175 hI175 σ bc175 bs175  h => ?_) 9000 σ1022 bc0 bs0 h
            unfold WB_X7_next_175 at h
            refine kx_aload_n dX7_next_175 rfl rfl ?_
            refine kx_bipush (v := 48) dX7_next_176 (by decide) ?_
            refine kx_bipush (v := 57) dX7_next_178 (by decide) ?_
            obtain ⟨hr, h⟩ := h
            refine kx_callV dX7_next_180 lk_X7_64 (kw_X7_isAt h) rfl (wR_rc hr rfl) rfl (Nat.le_of_ble_eq_true rfl) (Nat.le_of_ble_eq_true rfl) (Nat.le_of_ble_eq_true rfl) (Nat.le_of_ble_eq_true rfl) (Nat.le_of_ble_eq_true rfl) (fun _ _ _ hx => kx_out rfl (hX _ _ _ hx)) (fun v_ σ176002 hq => ?_)
            obtain ⟨v176001, rfl, h⟩ := hq
            refine kx_if_eq (tgt := 248) dX7_next_183 (by decide) (fun c => ?_) (fun c => ?_)
            · have h := w_ift c h
              exact kx_vret dX7_next_248 rfl (hQ _ _ ⟨rfl, h⟩)
            · have h := w_iff c h
              refine kx_aload_n dX7_next_186 rfl rfl ?_
              refine kx_ldci dX7_next_187 q960 ?_
              refine kx_bipush (v := 10) dX7_next_189 (by decide) ?_
              refine kx_aload_n dX7_next_191 rfl rfl ?_
              refine kW_gI dX7_next_192 (kf1 fl_X7_71_X7) h (fun v176003 h => ?_)
              refine kx_imul dX7_next_195 ?_
              refine kx_aload_n dX7_next_196 rfl rfl ?_
              refine kW_gO dX7_next_197 (kf1 fl_X7_3_X7) h (fun v176004 h => ?_)
              obtain ⟨a176005, rfl, hUa176005⟩ := h
              have h := hUa176005
              refine kW_gO dX7_next_200 (kf1 fl_X7_56_X1) h (fun v176006 h => ?_)
              refine kx_aload_n dX7_next_203 rfl rfl ?_
              refine kW_gI dX7_next_204 (kf1 fl_X7_49_X7) h (fun v176007 h => ?_)
              obtain ⟨a176008, rfl, hUa176008⟩ := h
              have h := hUa176008
              refine kW_lB dX7_next_207 h (fun v176009 h => ?_)
              refine kx_iadd dX7_next_208 ?_
              refine kx_bipush (v := 48) dX7_next_209 (by decide) ?_
              refine kx_isub dX7_next_211 ?_
              refine kx_callS dX7_next_212 lk_X7_101 (kw_J12_min h) rfl rfl (Nat.le_of_ble_eq_true rfl) (Nat.le_of_ble_eq_true rfl) (Nat.le_of_ble_eq_true rfl) (Nat.le_of_ble_eq_true rfl) (Nat.le_of_ble_eq_true rfl) (fun _ _ _ hx => kx_out rfl (hX _ _ _ hx)) (fun v_ σ176011 hq => ?_)
              obtain ⟨v176010, rfl, h⟩ := hq
              refine kW_p dX7_next_215 (kp1 ⟨_, _, _, _, kc_X7, fl_X7_71_X7, Or.inl rfl, rfl, rfl⟩) h (fun σ176012 h => ?_)
              refine kx_aload_n dX7_next_218 rfl rfl ?_
              refine kx_dup dX7_next_219 rfl ?_
              refine kW_gI dX7_next_220 (kf1 fl_X7_49_X7) h (fun v176013 h => ?_)
              refine kx_iconst (v := 1) dX7_next_223 (by decide) ?_
              refine kx_iadd dX7_next_224 ?_
              refine kW_p dX7_next_225 (kp1 ⟨_, _, _, _, kc_X7, fl_X7_49_X7, Or.inl rfl, rfl, rfl⟩) h (fun σ176014 h => ?_)
              refine kx_goto (tgt := 175) dX7_next_228 (by decide) ?_
              exact kx_lwF [(0, .ref (x0))] ⟨rfl, trivial⟩ (hI175 _ _ _ h)
        · have h := w_iff c h
          refine kx_aload_n dX7_next_89 rfl rfl ?_
          refine kx_gets dX7_next_90 kt_ArcRecorder_Token_WORD q931 (Or.inl rfl) ?_
          refine kW_p dX7_next_93 (kp1 ⟨_, _, _, _, kc_X7, fl_X7_80_X7, Or.inl rfl, rfl, rfl⟩) h (fun σ1024 h => ?_)
          refine kW_new dX7_next_96 kc_J8 q933 q278 q154 rfl h (fun q1025 σ1026 h => ?_)
          refine kx_dup dX7_next_99 rfl ?_
          obtain ⟨c1029, c1030, hc, hs, h⟩ := h
          refine kx_callI dX7_next_100 lk_X7_88 (kw_J8_init h) rfl rfl (Nat.le_of_ble_eq_true rfl) (Nat.le_of_ble_eq_true rfl) (Nat.le_of_ble_eq_true rfl) hc hs (fun _ _ _ hx => kx_out rfl (hX _ _ _ hx)) (fun v_ σ1028 hq => ?_)
          obtain ⟨rfl, h⟩ := hq
          refine kx_astore_n dX7_next_103 rfl (Nat.le_of_ble_eq_true rfl) ?_
          refine kx_lwF [(0, .ref (x0)), (1, .ref (q1025))] ⟨rfl, rfl, trivial⟩ ?_
          refine loopW2_k (fun (σ : KHp) (bc104 bs104 : Nat)  => kx G (yX7_next.cls, cX7_next, 2, (Option.none : Option Jvm.ClassFile.FieldType), false, []) (9, bc, bs, Q1, X1) (bc104) (bs104) σ 104 (kF [(0, .ref (x0)), (1, .ref (q1025))]) []) (fun kI104 hI104 σ bc104 bs104  h => ?_) 9000 σ1028 (bc0 - 1 - c1029) (bs0 - 4 - c1030) h
          unfold WB_X7_next_104 at h
          refine kx_aload_n dX7_next_104 rfl rfl ?_
          refine kx_bipush (v := 97) dX7_next_105 (by decide) ?_
          refine kx_bipush (v := 122) dX7_next_107 (by decide) ?_
          obtain ⟨hr, h⟩ := h
          refine kx_callV dX7_next_109 lk_X7_64 (kw_X7_isAt h) rfl (wR_rc hr rfl) rfl (Nat.le_of_ble_eq_true rfl) (Nat.le_of_ble_eq_true rfl) (Nat.le_of_ble_eq_true rfl) (Nat.le_of_ble_eq_true rfl) (Nat.le_of_ble_eq_true rfl) (fun _ _ _ hx => kx_out rfl (hX _ _ _ hx)) (fun v_ σ105002 hq => ?_)
          obtain ⟨v105001, rfl, h⟩ := hq
          refine kx_if_eq (tgt := 146) dX7_next_112 (by decide) (fun c => ?_) (fun c => ?_)
          · have h := w_ift c h
            refine kx_aload_n dX7_next_146 rfl rfl ?_
            refine kx_aload_n dX7_next_147 rfl rfl ?_
            obtain ⟨hr, h⟩ := h
            obtain ⟨c105005, c105006, hc, hs, h⟩ := h
            refine kx_callV dX7_next_148 lk_X7_93 (kw_J8_toString h) rfl (wR_rc hr rfl) rfl (Nat.le_of_ble_eq_true rfl) (Nat.le_of_ble_eq_true rfl) (Nat.le_of_ble_eq_true rfl) hc hs (fun _ _ _ hx => kx_out rfl (hX _ _ _ hx)) (fun v_ σ105004 hq => ?_)
            obtain ⟨v105003, rfl, h⟩ := hq
            refine kW_p dX7_next_151 (kp1 ⟨_, _, _, _, kc_X7, fl_X7_42_X7, Or.inl rfl, (by cases v105003 <;> rfl), (by cases v105003 <;> rfl)⟩) h (fun σ105007 h => ?_)
            refine kx_goto (tgt := 248) dX7_next_154 (by decide) ?_
            exact kx_vret dX7_next_248 rfl (hQ _ _ ⟨rfl, h⟩)
          · have h := w_iff c h
            refine kx_aload_n dX7_next_115 rfl rfl ?_
            refine kx_aload_n dX7_next_116 rfl rfl ?_
            refine kW_gO dX7_next_117 (kf1 fl_X7_3_X7) h (fun v105008 h => ?_)
            obtain ⟨a105009, rfl, hUa105009⟩ := h
            have h := hUa105009
            refine kW_gO dX7_next_120 (kf1 fl_X7_56_X1) h (fun v105010 h => ?_)
            refine kx_aload_n dX7_next_123 rfl rfl ?_
            refine kW_gI dX7_next_124 (kf1 fl_X7_49_X7) h (fun v105011 h => ?_)
            obtain ⟨a105012, rfl, hUa105012⟩ := h
            have h := hUa105012
            refine kW_lB dX7_next_127 h (fun v105013 h => ?_)
            refine kx_i2c dX7_next_128 rfl ?_
            obtain ⟨hr, h⟩ := h
            obtain ⟨c105016, c105017, hc, hs, h⟩ := h
            refine kx_callV dX7_next_129 lk_X7_89 (kw_J8_append_3 h) rfl (wR_rc hr rfl) rfl (Nat.le_of_ble_eq_true rfl) (Nat.le_of_ble_eq_true rfl) (Nat.le_of_ble_eq_true rfl) hc hs (fun _ _ _ hx => kx_out rfl (hX _ _ _ hx)) (fun v_ σ105015 hq => ?_)
            obtain ⟨v105014, rfl, h⟩ := hq
            refine kx_pop dX7_next_132 (va_cat _) ?_
            refine kx_aload_n dX7_next_133 rfl rfl ?_
            refine kx_dup dX7_next_134 rfl ?_
            refine kW_gI dX7_next_135 (kf1 fl_X7_49_X7) h (fun v105018 h => ?_)
            refine kx_iconst (v := 1) dX7_next_138 (by decide) ?_
            refine kx_iadd dX7_next_139 ?_
            refine kW_p dX7_next_140 (kp1 ⟨_, _, _, _, kc_X7, fl_X7_49_X7, Or.inl rfl, rfl, rfl⟩) h (fun σ105019 h => ?_)
            refine kx_goto (tgt := 104) dX7_next_143 (by decide) ?_
            exact kx_lwF [(0, .ref (x0)), (1, .ref (q1025))] ⟨rfl, rfl, trivial⟩ (hI104 _ _ _ h)
      · have h := w_ift c h
        refine kx_aload_n dX7_next_68 rfl rfl ?_
        refine kx_gets dX7_next_69 kt_ArcRecorder_Token_END q929 (Or.inl rfl) ?_
        refine kW_p dX7_next_72 (kp1 ⟨_, _, _, _, kc_X7, fl_X7_80_X7, Or.inl rfl, rfl, rfl⟩) h (fun σ1032 h => ?_)
        refine kx_goto (tgt := 248) dX7_next_75 (by decide) ?_
        exact kx_vret dX7_next_248 rfl (hQ _ _ ⟨rfl, h⟩)
    · have h := w_iff c h
      refine kx_aload_n dX7_next_22 rfl rfl ?_
      refine kx_dup dX7_next_23 rfl ?_
      refine kW_gI dX7_next_24 (kf1 fl_X7_49_X7) h (fun v1033 h => ?_)
      refine kx_iconst (v := 1) dX7_next_27 (by decide) ?_
      refine kx_iadd dX7_next_28 ?_
      refine kW_p dX7_next_29 (kp1 ⟨_, _, _, _, kc_X7, fl_X7_49_X7, Or.inl rfl, rfl, rfl⟩) h (fun σ1034 h => ?_)
      refine kx_goto (tgt := 0) dX7_next_32 (by decide) ?_
      exact kx_lwF [(0, .ref (x0))] ⟨rfl, trivial⟩ (hI0 _ _ _ h)
set_option maxHeartbeats 8000000 in
theorem kw_X7_accept {G : KG} {bc bs : Nat} {σ : KHp} {x0 : Nat} {x1 : Option Nat} {Q : KHp → Prop} {X : String → Nat → KHp → Prop} (h : W_X7_accept G bc bs σ x0 x1 Q X) : kx_c G yX7_accept (ws_ yX7_accept cX7_accept 2 (Option.none : Option Jvm.ClassFile.FieldType)) 10 bc bs [.ref (x0), va_rf (x1)] σ (fun rv σ' => rv = none ∧ Q σ') X := by
  refine kx_mk3 (ini := false) rfl (by cases x1 <;> exact Nat.le_of_ble_eq_true rfl) (fun h => by cases h) (fun Q1 X1 hQ hX => ?_)
  unfold W_X7_accept at h
  refine kx_lwF [(0, .ref x0), (1, va_rf (x1))] (by cases x1 <;> exact ⟨rfl, rfl, trivial⟩) ?_
  refine kx_aload_n dX7_accept_0 rfl rfl ?_
  refine kx_aload_n dX7_accept_1 rfl rfl ?_
  refine kW_gO dX7_accept_2 (kf1 fl_X7_42_X7) h (fun v1 h => ?_)
  refine kx_aload_nO dX7_accept_5 rfl rfl ?_
  obtain ⟨a2, rfl, hUa2⟩ := h
  have h := hUa2
  obtain ⟨hr, h⟩ := h
  refine kx_callV dX7_accept_6 lk_X7_115 (kw_J9_equals h) rfl (wR_rc hr rfl) rfl (Nat.le_of_ble_eq_true rfl) (Nat.le_of_ble_eq_true rfl) (Nat.le_of_ble_eq_true rfl) (Nat.le_of_ble_eq_true rfl) (Nat.le_of_ble_eq_true rfl) (fun _ _ _ hx => kx_out rfl (hX _ _ _ hx)) (fun v_ σ4 hq => ?_)
  obtain ⟨v3, rfl, h⟩ := hq
  refine kx_iconst (v := 1) dX7_accept_9 (by decide) ?_
  obtain ⟨hr, h⟩ := h
  obtain ⟨c7, c8, hc, hs, h⟩ := h
  refine kx_callV dX7_accept_10 lk_X7_121 (kw_X7_require h) rfl (wR_rc hr rfl) rfl (Nat.le_of_ble_eq_true rfl) (Nat.le_of_ble_eq_true rfl) (Nat.le_of_ble_eq_true rfl) hc hs (fun _ _ _ hx => kx_out rfl (hX _ _ _ hx)) (fun v_ σ6 hq => ?_)
  obtain ⟨rfl, h⟩ := hq
  refine kx_aload_n dX7_accept_13 rfl rfl ?_
  obtain ⟨hr, h⟩ := h
  obtain ⟨c11, c12, hc, hs, h⟩ := h
  refine kx_callV dX7_accept_14 lk_X7_46 (kw_X7_next h) rfl (wR_rc hr rfl) rfl (Nat.le_of_ble_eq_true rfl) (Nat.le_of_ble_eq_true rfl) (Nat.le_of_ble_eq_true rfl) hc hs (fun _ _ _ hx => kx_out rfl (hX _ _ _ hx)) (fun v_ σ10 hq => ?_)
  obtain ⟨rfl, h⟩ := hq
  exact kx_vret dX7_accept_17 rfl (hQ _ _ ⟨rfl, h⟩)
set_option maxHeartbeats 8000000 in
theorem kw_X7_number_2 {G : KG} {bc bs : Nat} {σ : KHp} {x0 : Nat} {x1 : Int32} {x2 : Int32} {Q : Int32 → KHp → Prop} {X : String → Nat → KHp → Prop} (h : W_X7_number_2 G bc bs σ x0 x1 x2 Q X) : kx_c G yX7_number_2 (ws_ yX7_number_2 cX7_number_2 4 (Option.some Jvm.ClassFile.FieldType.int)) 10 bc bs [.ref (x0), .int (x1), .int (x2)] σ (fun rv σ' => ∃ r, rv = some (.int (r)) ∧ Q r σ') X := by
  refine kx_mk3 (ini := false) rfl (Nat.le_of_ble_eq_true rfl) (fun h => by cases h) (fun Q1 X1 hQ hX => ?_)
  unfold W_X7_number_2 at h
  refine kx_aload_n dX7_number_2_0 rfl rfl ?_
  refine kx_aload_n dX7_number_2_1 rfl rfl ?_
  refine kW_gO dX7_number_2_2 (kf1 fl_X7_80_X7) h (fun v1 h => ?_)
  refine kx_gets dX7_number_2_5 kt_ArcRecorder_Token_NUMBER q958 (Or.inl rfl) ?_
  refine kx_acmp_ne (rx := (v1)) (ry := (some (kx_K G 9))) (tgt := 15) dX7_number_2_8 (by decide) (fun c => ?_) (fun c => ?_)
  · have h := w_iff c h
    refine kx_iconst (v := 0) dX7_number_2_15 (by decide) ?_
    refine kx_iconst (v := 1) dX7_number_2_16 (by decide) ?_
    obtain ⟨hr, h⟩ := h
    obtain ⟨c4, c5, hc, hs, h⟩ := h
    refine kx_callV dX7_number_2_17 lk_X7_121 (kw_X7_require h) rfl (wR_rc hr rfl) rfl (Nat.le_of_ble_eq_true rfl) (Nat.le_of_ble_eq_true rfl) (Nat.le_of_ble_eq_true rfl) hc hs (fun _ _ _ hx => kx_out rfl (hX _ _ _ hx)) (fun v_ σ3 hq => ?_)
    obtain ⟨rfl, h⟩ := hq
    refine kx_aload_n dX7_number_2_20 rfl rfl ?_
    refine kx_aload_n dX7_number_2_21 rfl rfl ?_
    refine kW_gI dX7_number_2_22 (kf1 fl_X7_71_X7) h (fun v6 h => ?_)
    refine kx_i2l dX7_number_2_25 rfl ?_
    refine kx_iload_n dX7_number_2_26 rfl rfl ?_
    refine kx_i2l dX7_number_2_27 rfl ?_
    refine kx_iload_n dX7_number_2_28 rfl rfl ?_
    refine kx_i2l dX7_number_2_29 rfl ?_
    refine kx_callSN dX7_number_2_30 lk_X7_60 (kw_X1_inRange h) rfl rfl (Nat.le_of_ble_eq_true rfl) (Nat.le_of_ble_eq_true rfl) (Nat.le_of_ble_eq_true rfl) (Nat.le_of_ble_eq_true rfl) (Nat.le_of_ble_eq_true rfl) (fun _ _ _ hx => kx_out rfl (hX _ _ _ hx)) (fun v_ σ8 hq => ?_)
    obtain ⟨v7, rfl, h⟩ := hq
    refine kx_iconst (v := 2) dX7_number_2_33 (by decide) ?_
    obtain ⟨hr, h⟩ := h
    obtain ⟨c11, c12, hc, hs, h⟩ := h
    refine kx_callV dX7_number_2_34 lk_X7_121 (kw_X7_require h) rfl (wR_rc hr rfl) rfl (Nat.le_of_ble_eq_true rfl) (Nat.le_of_ble_eq_true rfl) (Nat.le_of_ble_eq_true rfl) hc hs (fun _ _ _ hx => kx_out rfl (hX _ _ _ hx)) (fun v_ σ10 hq => ?_)
    obtain ⟨rfl, h⟩ := hq
    refine kx_aload_n dX7_number_2_37 rfl rfl ?_
    refine kW_gI dX7_number_2_38 (kf1 fl_X7_71_X7) h (fun v13 h => ?_)
    refine kx_istore_n dX7_number_2_41 rfl (Nat.le_of_ble_eq_true rfl) ?_
    refine kx_aload_n dX7_number_2_42 rfl rfl ?_
    obtain ⟨hr, h⟩ := h
    obtain ⟨c16, c17, hc, hs, h⟩ := h
    refine kx_callV dX7_number_2_43 lk_X7_46 (kw_X7_next h) rfl (wR_rc hr rfl) rfl (Nat.le_of_ble_eq_true rfl) (Nat.le_of_ble_eq_true rfl) (Nat.le_of_ble_eq_true rfl) hc hs (fun _ _ _ hx => kx_out rfl (hX _ _ _ hx)) (fun v_ σ15 hq => ?_)
    obtain ⟨rfl, h⟩ := hq
    refine kx_iload_n dX7_number_2_46 rfl rfl ?_
    exact kx_iret dX7_number_2_47 rfl (hQ _ _ ⟨_, rfl, h⟩)
  · have h := w_ift c h
    refine kx_iconst (v := 1) dX7_number_2_11 (by decide) ?_
    refine kx_goto (tgt := 16) dX7_number_2_12 (by decide) ?_
    refine kx_iconst (v := 1) dX7_number_2_16 (by decide) ?_
    obtain ⟨hr, h⟩ := h
    obtain ⟨c20, c21, hc, hs, h⟩ := h
    refine kx_callV dX7_number_2_17 lk_X7_121 (kw_X7_require h) rfl (wR_rc hr rfl) rfl (Nat.le_of_ble_eq_true rfl) (Nat.le_of_ble_eq_true rfl) (Nat.le_of_ble_eq_true rfl) hc hs (fun _ _ _ hx => kx_out rfl (hX _ _ _ hx)) (fun v_ σ19 hq => ?_)
    obtain ⟨rfl, h⟩ := hq
    refine kx_aload_n dX7_number_2_20 rfl rfl ?_
    refine kx_aload_n dX7_number_2_21 rfl rfl ?_
    refine kW_gI dX7_number_2_22 (kf1 fl_X7_71_X7) h (fun v22 h => ?_)
    refine kx_i2l dX7_number_2_25 rfl ?_
    refine kx_iload_n dX7_number_2_26 rfl rfl ?_
    refine kx_i2l dX7_number_2_27 rfl ?_
    refine kx_iload_n dX7_number_2_28 rfl rfl ?_
    refine kx_i2l dX7_number_2_29 rfl ?_
    refine kx_callSN dX7_number_2_30 lk_X7_60 (kw_X1_inRange h) rfl rfl (Nat.le_of_ble_eq_true rfl) (Nat.le_of_ble_eq_true rfl) (Nat.le_of_ble_eq_true rfl) (Nat.le_of_ble_eq_true rfl) (Nat.le_of_ble_eq_true rfl) (fun _ _ _ hx => kx_out rfl (hX _ _ _ hx)) (fun v_ σ24 hq => ?_)
    obtain ⟨v23, rfl, h⟩ := hq
    refine kx_iconst (v := 2) dX7_number_2_33 (by decide) ?_
    obtain ⟨hr, h⟩ := h
    obtain ⟨c27, c28, hc, hs, h⟩ := h
    refine kx_callV dX7_number_2_34 lk_X7_121 (kw_X7_require h) rfl (wR_rc hr rfl) rfl (Nat.le_of_ble_eq_true rfl) (Nat.le_of_ble_eq_true rfl) (Nat.le_of_ble_eq_true rfl) hc hs (fun _ _ _ hx => kx_out rfl (hX _ _ _ hx)) (fun v_ σ26 hq => ?_)
    obtain ⟨rfl, h⟩ := hq
    refine kx_aload_n dX7_number_2_37 rfl rfl ?_
    refine kW_gI dX7_number_2_38 (kf1 fl_X7_71_X7) h (fun v29 h => ?_)
    refine kx_istore_n dX7_number_2_41 rfl (Nat.le_of_ble_eq_true rfl) ?_
    refine kx_aload_n dX7_number_2_42 rfl rfl ?_
    obtain ⟨hr, h⟩ := h
    obtain ⟨c32, c33, hc, hs, h⟩ := h
    refine kx_callV dX7_number_2_43 lk_X7_46 (kw_X7_next h) rfl (wR_rc hr rfl) rfl (Nat.le_of_ble_eq_true rfl) (Nat.le_of_ble_eq_true rfl) (Nat.le_of_ble_eq_true rfl) hc hs (fun _ _ _ hx => kx_out rfl (hX _ _ _ hx)) (fun v_ σ31 hq => ?_)
    obtain ⟨rfl, h⟩ := hq
    refine kx_iload_n dX7_number_2_46 rfl rfl ?_
    exact kx_iret dX7_number_2_47 rfl (hQ _ _ ⟨_, rfl, h⟩)
set_option maxHeartbeats 8000000 in
theorem kw_X7_parseEnd {G : KG} {bc bs : Nat} {σ : KHp} {x0 : Nat} {Q : KHp → Prop} {X : String → Nat → KHp → Prop} (h : W_X7_parseEnd G bc bs σ x0 Q X) : kx_c G yX7_parseEnd (ws_ yX7_parseEnd cX7_parseEnd 1 (Option.none : Option Jvm.ClassFile.FieldType)) 10 bc bs [.ref (x0)] σ (fun rv σ' => rv = none ∧ Q σ') X := by
  refine kx_mk3 (ini := false) rfl (Nat.le_of_ble_eq_true rfl) (fun h => by cases h) (fun Q1 X1 hQ hX => ?_)
  unfold W_X7_parseEnd at h
  refine kx_aload_n dX7_parseEnd_0 rfl rfl ?_
  refine kx_aload_n dX7_parseEnd_1 rfl rfl ?_
  refine kx_bipush (v := 59) dX7_parseEnd_2 (by decide) ?_
  obtain ⟨hr, h⟩ := h
  refine kx_callV dX7_parseEnd_4 lk_X7_258 (kw_X7_isSymbol h) rfl (wR_rc hr rfl) rfl (Nat.le_of_ble_eq_true rfl) (Nat.le_of_ble_eq_true rfl) (Nat.le_of_ble_eq_true rfl) (Nat.le_of_ble_eq_true rfl) (Nat.le_of_ble_eq_true rfl) (fun _ _ _ hx => kx_out rfl (hX _ _ _ hx)) (fun v_ σ2 hq => ?_)
  obtain ⟨v1, rfl, h⟩ := hq
  refine kx_iconst (v := 1) dX7_parseEnd_7 (by decide) ?_
  obtain ⟨hr, h⟩ := h
  obtain ⟨c5, c6, hc, hs, h⟩ := h
  refine kx_callV dX7_parseEnd_8 lk_X7_121 (kw_X7_require h) rfl (wR_rc hr rfl) rfl (Nat.le_of_ble_eq_true rfl) (Nat.le_of_ble_eq_true rfl) (Nat.le_of_ble_eq_true rfl) hc hs (fun _ _ _ hx => kx_out rfl (hX _ _ _ hx)) (fun v_ σ4 hq => ?_)
  obtain ⟨rfl, h⟩ := hq
  refine kx_aload_n dX7_parseEnd_11 rfl rfl ?_
  obtain ⟨hr, h⟩ := h
  obtain ⟨c9, c10, hc, hs, h⟩ := h
  refine kx_callV dX7_parseEnd_12 lk_X7_46 (kw_X7_next h) rfl (wR_rc hr rfl) rfl (Nat.le_of_ble_eq_true rfl) (Nat.le_of_ble_eq_true rfl) (Nat.le_of_ble_eq_true rfl) hc hs (fun _ _ _ hx => kx_out rfl (hX _ _ _ hx)) (fun v_ σ8 hq => ?_)
  obtain ⟨rfl, h⟩ := hq
  exact kx_vret dX7_parseEnd_15 rfl (hQ _ _ ⟨rfl, h⟩)
set_option maxHeartbeats 8000000 in
theorem kw_X7_newName {G : KG} {bc bs : Nat} {σ : KHp} {x0 : Nat} {Q : Option Nat → KHp → Prop} {X : String → Nat → KHp → Prop} (h : W_X7_newName G bc bs σ x0 Q X) : kx_c G yX7_newName (ws_ yX7_newName cX7_newName 2 (Option.some (Jvm.ClassFile.FieldType.object "java/lang/String"))) 10 bc bs [.ref (x0)] σ (fun rv σ' => ∃ r, rv = some (va_rf (r)) ∧ Q r σ') X := by
  refine kx_mk3 (ini := false) rfl (Nat.le_of_ble_eq_true rfl) (fun h => by cases h) (fun Q1 X1 hQ hX => ?_)
  unfold W_X7_newName at h
  refine kx_aload_n dX7_newName_0 rfl rfl ?_
  obtain ⟨hr, h⟩ := h
  obtain ⟨c3, c4, hc, hs, h⟩ := h
  refine kx_callV dX7_newName_1 lk_X7_171 (kw_X7_requireName h) rfl (wR_rc hr rfl) rfl (Nat.le_of_ble_eq_true rfl) (Nat.le_of_ble_eq_true rfl) (Nat.le_of_ble_eq_true rfl) hc hs (fun _ _ _ hx => kx_out rfl (hX _ _ _ hx)) (fun v_ σ2 hq => ?_)
  obtain ⟨rfl, h⟩ := hq
  refine kx_aload_n dX7_newName_4 rfl rfl ?_
  refine kx_aload_n dX7_newName_5 rfl rfl ?_
  obtain ⟨hr, h⟩ := h
  refine kx_callV dX7_newName_6 lk_X7_174 (kw_X7_isUsed h) rfl (wR_rc hr rfl) rfl (Nat.le_of_ble_eq_true rfl) (Nat.le_of_ble_eq_true rfl) (Nat.le_of_ble_eq_true rfl) (Nat.le_of_ble_eq_true rfl) (Nat.le_of_ble_eq_true rfl) (fun _ _ _ hx => kx_out rfl (hX _ _ _ hx)) (fun v_ σ6 hq => ?_)
  obtain ⟨v5, rfl, h⟩ := hq
  refine kW_jIa 17 [.ref (x0)] h (fun v8 σ9 bcv8 bsv8 h => ?_) (fun k7 jk7 h => ?_)
  · skip
    refine kx_iconst (v := 3) dX7_newName_17 (by decide) ?_
    obtain ⟨hr, h⟩ := h
    obtain ⟨c12, c13, hc, hs, h⟩ := h
    refine kx_callV dX7_newName_18 lk_X7_121 (kw_X7_require h) rfl (wR_rc hr rfl) rfl (Nat.le_of_ble_eq_true rfl) (Nat.le_of_ble_eq_true rfl) (Nat.le_of_ble_eq_true rfl) hc hs (fun _ _ _ hx => kx_out rfl (hX _ _ _ hx)) (fun v_ σ11 hq => ?_)
    obtain ⟨rfl, h⟩ := hq
    refine kx_aload_n dX7_newName_21 rfl rfl ?_
    refine kW_gO dX7_newName_22 (kf1 fl_X7_42_X7) h (fun v14 h => ?_)
    refine kx_astore_nO dX7_newName_25 rfl (Nat.le_of_ble_eq_true rfl) ?_
    refine kx_aload_n dX7_newName_26 rfl rfl ?_
    obtain ⟨hr, h⟩ := h
    obtain ⟨c17, c18, hc, hs, h⟩ := h
    refine kx_callV dX7_newName_27 lk_X7_46 (kw_X7_next h) rfl (wR_rc hr rfl) rfl (Nat.le_of_ble_eq_true rfl) (Nat.le_of_ble_eq_true rfl) (Nat.le_of_ble_eq_true rfl) hc hs (fun _ _ _ hx => kx_out rfl (hX _ _ _ hx)) (fun v_ σ16 hq => ?_)
    obtain ⟨rfl, h⟩ := hq
    refine kx_aload_nO dX7_newName_30 rfl rfl ?_
    exact kx_aret dX7_newName_31 rfl (Or.inl ⟨_, rfl⟩) (va_rfs _) (hQ _ _ ⟨_, rfl, h⟩)
  · skip
    refine kx_if_ne (tgt := 16) dX7_newName_9 (by decide) (fun c => ?_) (fun c => ?_)
    · have h := w_iff c h
      refine kx_iconst (v := 0) dX7_newName_16 (by decide) ?_
      exact jk7 _ _ _ _ h
    · have h := w_ift c h
      refine kx_iconst (v := 1) dX7_newName_12 (by decide) ?_
      refine kx_goto (tgt := 17) dX7_newName_13 (by decide) ?_
      exact jk7 _ _ _ _ h
set_option maxHeartbeats 8000000 in
theorem kw_X7_parseOf {G : KG} {bc bs : Nat} {σ : KHp} {x0 : Nat} {Q : Int32 → KHp → Prop} {X : String → Nat → KHp → Prop} (h : W_X7_parseOf G bc bs σ x0 Q X) : kx_c G yX7_parseOf (ws_ yX7_parseOf cX7_parseOf 2 (Option.some Jvm.ClassFile.FieldType.int)) 11 bc bs [.ref (x0)] σ (fun rv σ' => ∃ r, rv = some (.int (r)) ∧ Q r σ') X := by
  refine kx_mk3 (ini := false) rfl (Nat.le_of_ble_eq_true rfl) (fun h => by cases h) (fun Q1 X1 hQ hX => ?_)
  unfold W_X7_parseOf at h
  refine kx_aload_n dX7_parseOf_0 rfl rfl ?_
  refine kx_ldcS dX7_parseOf_1 ks_ArcRecorder_Parser_206 ?_
  obtain ⟨hr, h⟩ := h
  obtain ⟨c3, c4, hc, hs, h⟩ := h
  refine kx_callV dX7_parseOf_3 lk_X7_125 (kw_X7_accept h) rfl (wR_rc hr rfl) rfl (Nat.le_of_ble_eq_true rfl) (Nat.le_of_ble_eq_true rfl) (Nat.le_of_ble_eq_true rfl) hc hs (fun _ _ _ hx => kx_out rfl (hX _ _ _ hx)) (fun v_ σ2 hq => ?_)
  obtain ⟨rfl, h⟩ := hq
  refine kx_aload_n dX7_parseOf_6 rfl rfl ?_
  obtain ⟨hr, h⟩ := h
  obtain ⟨c7, c8, hc, hs, h⟩ := h
  refine kx_callV dX7_parseOf_7 lk_X7_171 (kw_X7_requireName h) rfl (wR_rc hr rfl) rfl (Nat.le_of_ble_eq_true rfl) (Nat.le_of_ble_eq_true rfl) (Nat.le_of_ble_eq_true rfl) hc hs (fun _ _ _ hx => kx_out rfl (hX _ _ _ hx)) (fun v_ σ6 hq => ?_)
  obtain ⟨rfl, h⟩ := hq
  refine kx_aload_n dX7_parseOf_10 rfl rfl ?_
  refine kW_gO dX7_parseOf_11 (kf1 fl_X7_18_X7) h (fun v9 h => ?_)
  obtain ⟨a10, rfl, hUa10⟩ := h
  have h := hUa10
  refine kW_gO dX7_parseOf_14 (kf1 fl_X7_140_X3) h (fun v11 h => ?_)
  refine kx_aload_n dX7_parseOf_17 rfl rfl ?_
  refine kW_gO dX7_parseOf_18 (kf1 fl_X7_42_X7) h (fun v12 h => ?_)
  obtain ⟨a13, rfl, hUa13⟩ := h
  have h := hUa13
  obtain ⟨hr, h⟩ := h
  refine kx_callV dX7_parseOf_21 lk_X7_208 (kw_J2_indexOf h) rfl (wR_rc hr rfl) rfl (Nat.le_of_ble_eq_true rfl) (Nat.le_of_ble_eq_true rfl) (Nat.le_of_ble_eq_true rfl) (Nat.le_of_ble_eq_true rfl) (Nat.le_of_ble_eq_true rfl) (fun _ _ _ hx => kx_out rfl (hX _ _ _ hx)) (fun v_ σ15 hq => ?_)
  obtain ⟨v14, rfl, h⟩ := hq
  refine kx_istore_n dX7_parseOf_24 rfl (Nat.le_of_ble_eq_true rfl) ?_
  refine kx_aload_n dX7_parseOf_25 rfl rfl ?_
  refine kx_iload_n dX7_parseOf_26 rfl rfl ?_
  refine kx_iconst (v := -1) dX7_parseOf_27 (by decide) ?_
  refine kW_jIa 36 [.ref (x0)] h (fun v17 σ18 bcv17 bsv17 h => ?_) (fun k16 jk16 h => ?_)
  · skip
    refine kx_iconst (v := 3) dX7_parseOf_36 (by decide) ?_
    obtain ⟨hr, h⟩ := h
    obtain ⟨c21, c22, hc, hs, h⟩ := h
    refine kx_callV dX7_parseOf_37 lk_X7_121 (kw_X7_require h) rfl (wR_rc hr rfl) rfl (Nat.le_of_ble_eq_true rfl) (Nat.le_of_ble_eq_true rfl) (Nat.le_of_ble_eq_true rfl) hc hs (fun _ _ _ hx => kx_out rfl (hX _ _ _ hx)) (fun v_ σ20 hq => ?_)
    obtain ⟨rfl, h⟩ := hq
    refine kx_aload_n dX7_parseOf_40 rfl rfl ?_
    obtain ⟨hr, h⟩ := h
    obtain ⟨c25, c26, hc, hs, h⟩ := h
    refine kx_callV dX7_parseOf_41 lk_X7_46 (kw_X7_next h) rfl (wR_rc hr rfl) rfl (Nat.le_of_ble_eq_true rfl) (Nat.le_of_ble_eq_true rfl) (Nat.le_of_ble_eq_true rfl) hc hs (fun _ _ _ hx => kx_out rfl (hX _ _ _ hx)) (fun v_ σ24 hq => ?_)
    obtain ⟨rfl, h⟩ := hq
    refine kx_iload_n dX7_parseOf_44 rfl rfl ?_
    exact kx_iret dX7_parseOf_45 rfl (hQ _ _ ⟨_, rfl, h⟩)
  · skip
    refine kx_icmp_eq (tgt := 35) dX7_parseOf_28 (by decide) (fun c => ?_) (fun c => ?_)
    · have h := w_ift c h
      refine kx_iconst (v := 0) dX7_parseOf_35 (by decide) ?_
      exact jk16 _ _ _ _ h
    · have h := w_iff c h
      refine kx_iconst (v := 1) dX7_parseOf_31 (by decide) ?_
      refine kx_goto (tgt := 36) dX7_parseOf_32 (by decide) ?_
      exact jk16 _ _ _ _ h
set_option maxHeartbeats 8000000 in
theorem kw_X7_parseSeed {G : KG} {bc bs : Nat} {σ : KHp} {x0 : Nat} {Q : KHp → Prop} {X : String → Nat → KHp → Prop} (h : W_X7_parseSeed G bc bs σ x0 Q X) : kx_c G yX7_parseSeed (ws_ yX7_parseSeed cX7_parseSeed 1 (Option.none : Option Jvm.ClassFile.FieldType)) 11 bc bs [.ref (x0)] σ (fun rv σ' => rv = none ∧ Q σ') X := by
  refine kx_mk3 (ini := false) rfl (Nat.le_of_ble_eq_true rfl) (fun h => by cases h) (fun Q1 X1 hQ hX => ?_)
  unfold W_X7_parseSeed at h
  refine kx_aload_n dX7_parseSeed_0 rfl rfl ?_
  refine kx_aload_n dX7_parseSeed_1 rfl rfl ?_
  refine kW_gJ dX7_parseSeed_2 (kf1 fl_X7_36_X7) h (fun v1 h => ?_)
  refine kx_lconst (v := 0) dX7_parseSeed_5 (by decide) ?_
  refine kx_lcmp dX7_parseSeed_6 ?_
  refine kW_jIa 15 [.ref (x0)] h (fun v3 σ4 bcv3 bsv3 h => ?_) (fun k2 jk2 h => ?_)
  · skip
    refine kx_iconst (v := 3) dX7_parseSeed_15 (by decide) ?_
    obtain ⟨hr, h⟩ := h
    obtain ⟨c7, c8, hc, hs, h⟩ := h
    refine kx_callV dX7_parseSeed_16 lk_X7_121 (kw_X7_require h) rfl (wR_rc hr rfl) rfl (Nat.le_of_ble_eq_true rfl) (Nat.le_of_ble_eq_true rfl) (Nat.le_of_ble_eq_true rfl) hc hs (fun _ _ _ hx => kx_out rfl (hX _ _ _ hx)) (fun v_ σ6 hq => ?_)
    obtain ⟨rfl, h⟩ := hq
    refine kx_aload_n dX7_parseSeed_19 rfl rfl ?_
    obtain ⟨hr, h⟩ := h
    obtain ⟨c11, c12, hc, hs, h⟩ := h
    refine kx_callV dX7_parseSeed_20 lk_X7_46 (kw_X7_next h) rfl (wR_rc hr rfl) rfl (Nat.le_of_ble_eq_true rfl) (Nat.le_of_ble_eq_true rfl) (Nat.le_of_ble_eq_true rfl) hc hs (fun _ _ _ hx => kx_out rfl (hX _ _ _ hx)) (fun v_ σ10 hq => ?_)
    obtain ⟨rfl, h⟩ := hq
    refine kx_aload_n dX7_parseSeed_23 rfl rfl ?_
    refine kx_aload_n dX7_parseSeed_24 rfl rfl ?_
    refine kx_iconst (v := 0) dX7_parseSeed_25 (by decide) ?_
    refine kx_ldcwi dX7_parseSeed_26 q1361 ?_
    obtain ⟨hr, h⟩ := h
    obtain ⟨c15, c16, hc, hs, h⟩ := h
    refine kx_callV dX7_parseSeed_29 lk_X7_129 (kw_X7_number_2 h) rfl (wR_rc hr rfl) rfl (Nat.le_of_ble_eq_true rfl) (Nat.le_of_ble_eq_true rfl) (Nat.le_of_ble_eq_true rfl) hc hs (fun _ _ _ hx => kx_out rfl (hX _ _ _ hx)) (fun v_ σ14 hq => ?_)
    obtain ⟨v13, rfl, h⟩ := hq
    refine kx_i2l dX7_parseSeed_32 rfl ?_
    refine kW_p dX7_parseSeed_33 (kp1 ⟨_, _, _, _, kc_X7, fl_X7_36_X7, Or.inl rfl, rfl, rfl⟩) h (fun σ17 h => ?_)
    exact kx_vret dX7_parseSeed_36 rfl (hQ _ _ ⟨rfl, h⟩)
  · skip
    refine kx_if_ge (tgt := 14) dX7_parseSeed_7 (by decide) (fun c => ?_) (fun c => ?_)
    · have h := w_ift c h
      refine kx_iconst (v := 0) dX7_parseSeed_14 (by decide) ?_
      exact jk2 _ _ _ _ h
    · have h := w_iff c h
      refine kx_iconst (v := 1) dX7_parseSeed_10 (by decide) ?_
      refine kx_goto (tgt := 15) dX7_parseSeed_11 (by decide) ?_
      exact jk2 _ _ _ _ h
set_option maxHeartbeats 8000000 in
theorem kw_X7_accepts {G : KG} {bc bs : Nat} {σ : KHp} {x0 : Nat} {x1 : Option Nat} {Q : Int32 → KHp → Prop} {X : String → Nat → KHp → Prop} (h : W_X7_accepts G bc bs σ x0 x1 Q X) : kx_c G yX7_accepts (ws_ yX7_accepts cX7_accepts 3 (Option.some Jvm.ClassFile.FieldType.boolean)) 10 bc bs [.ref (x0), va_rf (x1)] σ (fun rv σ' => ∃ r, rv = some (.int (r)) ∧ Q r σ') X := by
  refine kx_mk3 (ini := false) rfl (by cases x1 <;> exact Nat.le_of_ble_eq_true rfl) (fun h => by cases h) (fun Q1 X1 hQ hX => ?_)
  unfold W_X7_accepts at h
  refine kx_lwF [(0, .ref x0), (1, va_rf (x1))] (by cases x1 <;> exact ⟨rfl, rfl, trivial⟩) ?_
  refine kx_aload_n dX7_accepts_0 rfl rfl ?_
  refine kW_gO dX7_accepts_1 (kf1 fl_X7_42_X7) h (fun v1 h => ?_)
  refine kx_aload_nO dX7_accepts_4 rfl rfl ?_
  obtain ⟨a2, rfl, hUa2⟩ := h
  have h := hUa2
  obtain ⟨hr, h⟩ := h
  refine kx_callV dX7_accepts_5 lk_X7_115 (kw_J9_equals h) rfl (wR_rc hr rfl) rfl (Nat.le_of_ble_eq_true rfl) (Nat.le_of_ble_eq_true rfl) (Nat.le_of_ble_eq_true rfl) (Nat.le_of_ble_eq_true rfl) (Nat.le_of_ble_eq_true rfl) (fun _ _ _ hx => kx_out rfl (hX _ _ _ hx)) (fun v_ σ4 hq => ?_)
  obtain ⟨v3, rfl, h⟩ := hq
  refine kx_istore_n dX7_accepts_8 rfl (Nat.le_of_ble_eq_true rfl) ?_
  refine kx_iload_n dX7_accepts_9 rfl rfl ?_
  refine kx_if_eq (tgt := 17) dX7_accepts_10 (by decide) (fun c => ?_) (fun c => ?_)
  · have h := w_ift c h
    refine kx_iload_n dX7_accepts_17 rfl rfl ?_
    exact kx_zret dX7_accepts_18 rfl h.1 (hQ _ _ ⟨_, rfl, h.2⟩)
  · have h := w_iff c h
    refine kx_aload_n dX7_accepts_13 rfl rfl ?_
    obtain ⟨hr, h⟩ := h
    obtain ⟨c7, c8, hc, hs, h⟩ := h
    refine kx_callV dX7_accepts_14 lk_X7_46 (kw_X7_next h) rfl (wR_rc hr rfl) rfl (Nat.le_of_ble_eq_true rfl) (Nat.le_of_ble_eq_true rfl) (Nat.le_of_ble_eq_true rfl) hc hs (fun _ _ _ hx => kx_out rfl (hX _ _ _ hx)) (fun v_ σ6 hq => ?_)
    obtain ⟨rfl, h⟩ := hq
    refine kx_iload_n dX7_accepts_17 rfl rfl ?_
    exact kx_zret dX7_accepts_18 rfl h.1 (hQ _ _ ⟨_, rfl, h.2⟩)
set_option maxHeartbeats 8000000 in
theorem kw_X7_parseTest {G : KG} {bc bs : Nat} {σ : KHp} {x0 : Nat} {Q : Option Nat → KHp → Prop} {X : String → Nat → KHp → Prop} (h : W_X7_parseTest G bc bs σ x0 Q X) : kx_c G yX7_parseTest (ws_ yX7_parseTest cX7_parseTest 3 (Option.some (Jvm.ClassFile.FieldType.object "ArcRecorder$Test"))) 11 bc bs [.ref (x0)] σ (fun rv σ' => ∃ r, rv = some (va_rf (r)) ∧ Q r σ') X := by
  refine kx_mk3 (ini := false) rfl (Nat.le_of_ble_eq_true rfl) (fun h => by cases h) (fun Q1 X1 hQ hX => ?_)
  unfold W_X7_parseTest at h
  refine kx_aload_n dX7_parseTest_0 rfl rfl ?_
  refine kW_gO dX7_parseTest_1 (kf1 fl_X7_42_X7) h (fun v1 h => ?_)
  refine kx_callSN dX7_parseTest_4 lk_X7_255 (kw_X1_featureOf h) rfl rfl (Nat.le_of_ble_eq_true rfl) (Nat.le_of_ble_eq_true rfl) (Nat.le_of_ble_eq_true rfl) (Nat.le_of_ble_eq_true rfl) (Nat.le_of_ble_eq_true rfl) (fun _ _ _ hx => kx_out rfl (hX _ _ _ hx)) (fun v_ σ3 hq => ?_)
  obtain ⟨v2, rfl, h⟩ := hq
  refine kx_istore_n dX7_parseTest_7 rfl (Nat.le_of_ble_eq_true rfl) ?_
  refine kx_aload_n dX7_parseTest_8 rfl rfl ?_
  obtain ⟨hr, h⟩ := h
  obtain ⟨c6, c7, hc, hs, h⟩ := h
  refine kx_callV dX7_parseTest_9 lk_X7_46 (kw_X7_next h) rfl (wR_rc hr rfl) rfl (Nat.le_of_ble_eq_true rfl) (Nat.le_of_ble_eq_true rfl) (Nat.le_of_ble_eq_true rfl) hc hs (fun _ _ _ hx => kx_out rfl (hX _ _ _ hx)) (fun v_ σ5 hq => ?_)
  obtain ⟨rfl, h⟩ := hq
  refine kx_aload_n dX7_parseTest_12 rfl rfl ?_
  refine kx_bipush (v := 60) dX7_parseTest_13 (by decide) ?_
  obtain ⟨hr, h⟩ := h
  refine kx_callV dX7_parseTest_15 lk_X7_258 (kw_X7_isSymbol h) rfl (wR_rc hr rfl) rfl (Nat.le_of_ble_eq_true rfl) (Nat.le_of_ble_eq_true rfl) (Nat.le_of_ble_eq_true rfl) (Nat.le_of_ble_eq_true rfl) (Nat.le_of_ble_eq_true rfl) (fun _ _ _ hx => kx_out rfl (hX _ _ _ hx)) (fun v_ σ9 hq => ?_)
  obtain ⟨v8, rfl, h⟩ := hq
  refine kx_istore_n dX7_parseTest_18 rfl (Nat.le_of_ble_eq_true rfl) ?_
  refine kx_aload_n dX7_parseTest_19 rfl rfl ?_
  refine kx_iload_n dX7_parseTest_20 rfl rfl ?_
  refine kW_jIa 38 [.ref (x0)] h (fun v13 σ14 bcv13 bsv13 h => ?_) (fun k10 jk10 h => ?_)
  · skip
    refine kx_iconst (v := 1) dX7_parseTest_38 (by decide) ?_
    obtain ⟨hr, h⟩ := h
    obtain ⟨c17, c18, hc, hs, h⟩ := h
    refine kx_callV dX7_parseTest_39 lk_X7_121 (kw_X7_require h) rfl (wR_rc hr rfl) rfl (Nat.le_of_ble_eq_true rfl) (Nat.le_of_ble_eq_true rfl) (Nat.le_of_ble_eq_true rfl) hc hs (fun _ _ _ hx => kx_out rfl (hX _ _ _ hx)) (fun v_ σ16 hq => ?_)
    obtain ⟨rfl, h⟩ := hq
    refine kx_aload_n dX7_parseTest_42 rfl rfl ?_
    obtain ⟨hr, h⟩ := h
    obtain ⟨c21, c22, hc, hs, h⟩ := h
    refine kx_callV dX7_parseTest_43 lk_X7_46 (kw_X7_next h) rfl (wR_rc hr rfl) rfl (Nat.le_of_ble_eq_true rfl) (Nat.le_of_ble_eq_true rfl) (Nat.le_of_ble_eq_true rfl) hc hs (fun _ _ _ hx => kx_out rfl (hX _ _ _ hx)) (fun v_ σ20 hq => ?_)
    obtain ⟨rfl, h⟩ := hq
    refine kW_new dX7_parseTest_46 kc_X15 q1405 q1406 q183 rfl h (fun q23 σ24 h => ?_)
    refine kx_dup dX7_parseTest_49 rfl ?_
    refine kx_iload_n dX7_parseTest_50 rfl rfl ?_
    refine kx_iload_n dX7_parseTest_51 rfl rfl ?_
    refine kx_aload_n dX7_parseTest_52 rfl rfl ?_
    refine kx_iconst (v := 0) dX7_parseTest_53 (by decide) ?_
    refine kx_ldcwi dX7_parseTest_54 q1361 ?_
    obtain ⟨hr, h⟩ := h
    obtain ⟨c27, c28, hc, hs, h⟩ := h
    refine kx_callV dX7_parseTest_57 lk_X7_129 (kw_X7_number_2 h) rfl (wR_rc hr rfl) rfl (Nat.le_of_ble_eq_true rfl) (Nat.le_of_ble_eq_true rfl) (Nat.le_of_ble_eq_true rfl) hc hs (fun _ _ _ hx => kx_out rfl (hX _ _ _ hx)) (fun v_ σ26 hq => ?_)
    obtain ⟨v25, rfl, h⟩ := hq
    refine kx_callI dX7_parseTest_60 lk_X7_265 (kw_X15_init h) rfl rfl (Nat.le_of_ble_eq_true rfl) (Nat.le_of_ble_eq_true rfl) (Nat.le_of_ble_eq_true rfl) (Nat.le_of_ble_eq_true rfl) (Nat.le_of_ble_eq_true rfl) (fun _ _ _ hx => kx_out rfl (hX _ _ _ hx)) (fun v_ σ30 hq => ?_)
    obtain ⟨rfl, h⟩ := hq
    exact kx_aret dX7_parseTest_63 rfl (Or.inl ⟨_, rfl⟩) (Or.inr ⟨_, rfl⟩) (hQ _ _ ⟨some _, rfl, h⟩)
  · skip
    refine kx_if_ne (tgt := 33) dX7_parseTest_21 (by decide) (fun c => ?_) (fun c => ?_)
    · have h := w_iff c h
      refine kx_iconst (v := 1) dX7_parseTest_33 (by decide) ?_
      refine kx_goto (tgt := 38) dX7_parseTest_34 (by decide) ?_
      exact jk10 _ _ _ _ h
    · have h := w_ift c h
      refine kx_aload_n dX7_parseTest_24 rfl rfl ?_
      refine kx_bipush (v := 62) dX7_parseTest_25 (by decide) ?_
      obtain ⟨hr, h⟩ := h
      refine kx_callV dX7_parseTest_27 lk_X7_258 (kw_X7_isSymbol h) rfl (wR_rc hr rfl) rfl (Nat.le_of_ble_eq_true rfl) (Nat.le_of_ble_eq_true rfl) (Nat.le_of_ble_eq_true rfl) (Nat.le_of_ble_eq_true rfl) (Nat.le_of_ble_eq_true rfl) (fun _ _ _ hx => kx_out rfl (hX _ _ _ hx)) (fun v_ σ12 hq => ?_)
      obtain ⟨v11, rfl, h⟩ := hq
      refine kx_if_eq (tgt := 37) dX7_parseTest_30 (by decide) (fun c => ?_) (fun c => ?_)
      · have h := w_ift c h
        refine kx_iconst (v := 0) dX7_parseTest_37 (by decide) ?_
        exact jk10 _ _ _ _ h
      · have h := w_iff c h
        refine kx_iconst (v := 1) dX7_parseTest_33 (by decide) ?_
        refine kx_goto (tgt := 38) dX7_parseTest_34 (by decide) ?_
        exact jk10 _ _ _ _ h
set_option maxHeartbeats 8000000 in
theorem kw_X7_parseSwitch {G : KG} {bc bs : Nat} {σ : KHp} {x0 : Nat} {Q : KHp → Prop} {X : String → Nat → KHp → Prop} (h : W_X7_parseSwitch G bc bs σ x0 Q X) : kx_c G yX7_parseSwitch (ws_ yX7_parseSwitch cX7_parseSwitch 4 (Option.none : Option Jvm.ClassFile.FieldType)) 11 bc bs [.ref (x0)] σ (fun rv σ' => rv = none ∧ Q σ') X := by
  refine kx_mk3 (ini := false) rfl (Nat.le_of_ble_eq_true rfl) (fun h => by cases h) (fun Q1 X1 hQ hX => ?_)
  unfold W_X7_parseSwitch at h
  refine kx_aload_n dX7_parseSwitch_0 rfl rfl ?_
  refine kx_aload_n dX7_parseSwitch_1 rfl rfl ?_
  refine kW_gO dX7_parseSwitch_2 (kf1 fl_X7_31_X7) h (fun v1 h => ?_)
  obtain ⟨a2, rfl, hUa2⟩ := h
  have h := hUa2
  obtain ⟨hr, h⟩ := h
  refine kx_callV dX7_parseSwitch_5 lk_X7_153 (kw_J2_size h) rfl (wR_rc hr rfl) rfl (Nat.le_of_ble_eq_true rfl) (Nat.le_of_ble_eq_true rfl) (Nat.le_of_ble_eq_true rfl) (Nat.le_of_ble_eq_true rfl) (Nat.le_of_ble_eq_true rfl) (fun _ _ _ hx => kx_out rfl (hX _ _ _ hx)) (fun v_ σ4 hq => ?_)
  obtain ⟨v3, rfl, h⟩ := hq
  refine kx_bipush (v := 20) dX7_parseSwitch_8 (by decide) ?_
  refine kW_jIa 18 [.ref (x0)] h (fun v6 σ7 bcv6 bsv6 h => ?_) (fun k5 jk5 h => ?_)
  · skip
    refine kx_iconst (v := 4) dX7_parseSwitch_18 (by decide) ?_
    obtain ⟨hr, h⟩ := h
    obtain ⟨c10, c11, hc, hs, h⟩ := h
    refine kx_callV dX7_parseSwitch_19 lk_X7_121 (kw_X7_require h) rfl (wR_rc hr rfl) rfl (Nat.le_of_ble_eq_true rfl) (Nat.le_of_ble_eq_true rfl) (Nat.le_of_ble_eq_true rfl) hc hs (fun _ _ _ hx => kx_out rfl (hX _ _ _ hx)) (fun v_ σ9 hq => ?_)
    obtain ⟨rfl, h⟩ := hq
    refine kx_aload_n dX7_parseSwitch_22 rfl rfl ?_
    obtain ⟨hr, h⟩ := h
    obtain ⟨c14, c15, hc, hs, h⟩ := h
    refine kx_callV dX7_parseSwitch_23 lk_X7_46 (kw_X7_next h) rfl (wR_rc hr rfl) rfl (Nat.le_of_ble_eq_true rfl) (Nat.le_of_ble_eq_true rfl) (Nat.le_of_ble_eq_true rfl) hc hs (fun _ _ _ hx => kx_out rfl (hX _ _ _ hx)) (fun v_ σ13 hq => ?_)
    obtain ⟨rfl, h⟩ := hq
    refine kx_aload_n dX7_parseSwitch_26 rfl rfl ?_
    refine kx_iconst (v := 1) dX7_parseSwitch_27 (by decide) ?_
    refine kx_sipush (v := 9999) dX7_parseSwitch_28 (by decide) ?_
    obtain ⟨hr, h⟩ := h
    obtain ⟨c18, c19, hc, hs, h⟩ := h
    refine kx_callV dX7_parseSwitch_31 lk_X7_129 (kw_X7_number_2 h) rfl (wR_rc hr rfl) rfl (Nat.le_of_ble_eq_true rfl) (Nat.le_of_ble_eq_true rfl) (Nat.le_of_ble_eq_true rfl) hc hs (fun _ _ _ hx => kx_out rfl (hX _ _ _ hx)) (fun v_ σ17 hq => ?_)
    obtain ⟨v16, rfl, h⟩ := hq
    refine kx_istore_n dX7_parseSwitch_34 rfl (Nat.le_of_ble_eq_true rfl) ?_
    refine kx_aload_n dX7_parseSwitch_35 rfl rfl ?_
    refine kW_gO dX7_parseSwitch_36 (kf1 fl_X7_42_X7) h (fun v20 h => ?_)
    refine kx_ldcwS dX7_parseSwitch_39 ks_ArcRecorder_Parser_295 ?_
    obtain ⟨a21, rfl, hUa21⟩ := h
    have h := hUa21
    obtain ⟨hr, h⟩ := h
    refine kx_callV dX7_parseSwitch_42 lk_X7_115 (kw_J9_equals h) rfl (wR_rc hr rfl) rfl (Nat.le_of_ble_eq_true rfl) (Nat.le_of_ble_eq_true rfl) (Nat.le_of_ble_eq_true rfl) (Nat.le_of_ble_eq_true rfl) (Nat.le_of_ble_eq_true rfl) (fun _ _ _ hx => kx_out rfl (hX _ _ _ hx)) (fun v_ σ23 hq => ?_)
    obtain ⟨v22, rfl, h⟩ := hq
    refine kx_istore_n dX7_parseSwitch_45 rfl (Nat.le_of_ble_eq_true rfl) ?_
    refine kx_aload_n dX7_parseSwitch_46 rfl rfl ?_
    refine kx_iload_n dX7_parseSwitch_47 rfl rfl ?_
    refine kW_jIa 69 [.ref (x0)] h (fun v29 σ30 bcv29 bsv29 h => ?_) (fun k24 jk24 h => ?_)
    · skip
      refine kx_iconst (v := 1) dX7_parseSwitch_69 (by decide) ?_
      obtain ⟨hr, h⟩ := h
      obtain ⟨c33, c34, hc, hs, h⟩ := h
      refine kx_callV dX7_parseSwitch_70 lk_X7_121 (kw_X7_require h) rfl (wR_rc hr rfl) rfl (Nat.le_of_ble_eq_true rfl) (Nat.le_of_ble_eq_true rfl) (Nat.le_of_ble_eq_true rfl) hc hs (fun _ _ _ hx => kx_out rfl (hX _ _ _ hx)) (fun v_ σ32 hq => ?_)
      obtain ⟨rfl, h⟩ := hq
      refine kx_aload_n dX7_parseSwitch_73 rfl rfl ?_
      obtain ⟨hr, h⟩ := h
      obtain ⟨c37, c38, hc, hs, h⟩ := h
      refine kx_callV dX7_parseSwitch_74 lk_X7_46 (kw_X7_next h) rfl (wR_rc hr rfl) rfl (Nat.le_of_ble_eq_true rfl) (Nat.le_of_ble_eq_true rfl) (Nat.le_of_ble_eq_true rfl) hc hs (fun _ _ _ hx => kx_out rfl (hX _ _ _ hx)) (fun v_ σ36 hq => ?_)
      obtain ⟨rfl, h⟩ := hq
      refine kx_aload_n dX7_parseSwitch_77 rfl rfl ?_
      obtain ⟨hr, h⟩ := h
      obtain ⟨c41, c42, hc, hs, h⟩ := h
      refine kx_callV dX7_parseSwitch_78 lk_X7_171 (kw_X7_requireName h) rfl (wR_rc hr rfl) rfl (Nat.le_of_ble_eq_true rfl) (Nat.le_of_ble_eq_true rfl) (Nat.le_of_ble_eq_true rfl) hc hs (fun _ _ _ hx => kx_out rfl (hX _ _ _ hx)) (fun v_ σ40 hq => ?_)
      obtain ⟨rfl, h⟩ := hq
      refine kx_aload_n dX7_parseSwitch_81 rfl rfl ?_
      refine kW_gO dX7_parseSwitch_82 (kf1 fl_X7_18_X7) h (fun v43 h => ?_)
      refine kx_aload_n dX7_parseSwitch_85 rfl rfl ?_
      refine kW_gO dX7_parseSwitch_86 (kf1 fl_X7_42_X7) h (fun v44 h => ?_)
      obtain ⟨a45, rfl, hUa45⟩ := h
      have h := hUa45
      obtain ⟨hr, h⟩ := h
      refine kx_callV dX7_parseSwitch_89 lk_X7_146 (kw_X3_findLoad h) rfl (wR_rc hr rfl) rfl (Nat.le_of_ble_eq_true rfl) (Nat.le_of_ble_eq_true rfl) (Nat.le_of_ble_eq_true rfl) (Nat.le_of_ble_eq_true rfl) (Nat.le_of_ble_eq_true rfl) (fun _ _ _ hx => kx_out rfl (hX _ _ _ hx)) (fun v_ σ47 hq => ?_)
      obtain ⟨v46, rfl, h⟩ := hq
      refine kx_istore_n dX7_parseSwitch_92 rfl (Nat.le_of_ble_eq_true rfl) ?_
      refine kx_aload_n dX7_parseSwitch_93 rfl rfl ?_
      refine kx_iload_n dX7_parseSwitch_94 rfl rfl ?_
      refine kx_iconst (v := -1) dX7_parseSwitch_95 (by decide) ?_
      refine kW_jIa 104 [.ref (x0)] h (fun v49 σ50 bcv49 bsv49 h => ?_) (fun k48 jk48 h => ?_)
      · skip
        refine kx_iconst (v := 3) dX7_parseSwitch_104 (by decide) ?_
        obtain ⟨hr, h⟩ := h
        obtain ⟨c53, c54, hc, hs, h⟩ := h
        refine kx_callV dX7_parseSwitch_105 lk_X7_121 (kw_X7_require h) rfl (wR_rc hr rfl) rfl (Nat.le_of_ble_eq_true rfl) (Nat.le_of_ble_eq_true rfl) (Nat.le_of_ble_eq_true rfl) hc hs (fun _ _ _ hx => kx_out rfl (hX _ _ _ hx)) (fun v_ σ52 hq => ?_)
        obtain ⟨rfl, h⟩ := hq
        refine kx_aload_n dX7_parseSwitch_108 rfl rfl ?_
        obtain ⟨hr, h⟩ := h
        obtain ⟨c57, c58, hc, hs, h⟩ := h
        refine kx_callV dX7_parseSwitch_109 lk_X7_46 (kw_X7_next h) rfl (wR_rc hr rfl) rfl (Nat.le_of_ble_eq_true rfl) (Nat.le_of_ble_eq_true rfl) (Nat.le_of_ble_eq_true rfl) hc hs (fun _ _ _ hx => kx_out rfl (hX _ _ _ hx)) (fun v_ σ56 hq => ?_)
        obtain ⟨rfl, h⟩ := hq
        refine kx_aload_n dX7_parseSwitch_112 rfl rfl ?_
        refine kW_gO dX7_parseSwitch_113 (kf1 fl_X7_31_X7) h (fun v59 h => ?_)
        refine kW_new dX7_parseSwitch_116 kc_X17 q1448 q1449 q185 rfl h (fun q60 σ61 h => ?_)
        refine kx_dup dX7_parseSwitch_119 rfl ?_
        refine kx_iload_n dX7_parseSwitch_120 rfl rfl ?_
        refine kx_iload_n dX7_parseSwitch_121 rfl rfl ?_
        refine kx_iload_n dX7_parseSwitch_122 rfl rfl ?_
        refine kx_callI dX7_parseSwitch_123 lk_X7_301 (kw_X17_init h) rfl rfl (by cases v59 <;> exact Nat.le_of_ble_eq_true rfl) (Nat.le_of_ble_eq_true rfl) (Nat.le_of_ble_eq_true rfl) (Nat.le_of_ble_eq_true rfl) (Nat.le_of_ble_eq_true rfl) (fun _ _ _ hx => kx_out rfl (hX _ _ _ hx)) (fun v_ σ63 hq => ?_)
        obtain ⟨rfl, h⟩ := hq
        obtain ⟨a64, rfl, hUa64⟩ := h
        have h := hUa64
        obtain ⟨hr, h⟩ := h
        obtain ⟨c67, c68, hc, hs, h⟩ := h
        refine kx_callV dX7_parseSwitch_126 lk_X7_203 (kw_J2_add h) rfl (wR_rc hr rfl) rfl (Nat.le_of_ble_eq_true rfl) (Nat.le_of_ble_eq_true rfl) (Nat.le_of_ble_eq_true rfl) hc hs (fun _ _ _ hx => kx_out rfl (hX _ _ _ hx)) (fun v_ σ66 hq => ?_)
        obtain ⟨v65, rfl, h⟩ := hq
        refine kx_pop dX7_parseSwitch_129 rfl ?_
        exact kx_vret dX7_parseSwitch_130 rfl (hQ _ _ ⟨rfl, h⟩)
      · skip
        refine kx_icmp_eq (tgt := 103) dX7_parseSwitch_96 (by decide) (fun c => ?_) (fun c => ?_)
        · have h := w_ift c h
          refine kx_iconst (v := 0) dX7_parseSwitch_103 (by decide) ?_
          exact jk48 _ _ _ _ h
        · have h := w_iff c h
          refine kx_iconst (v := 1) dX7_parseSwitch_99 (by decide) ?_
          refine kx_goto (tgt := 104) dX7_parseSwitch_100 (by decide) ?_
          exact jk48 _ _ _ _ h
    · skip
      refine kx_if_ne (tgt := 64) dX7_parseSwitch_48 (by decide) (fun c => ?_) (fun c => ?_)
      · have h := w_iff c h
        refine kx_iconst (v := 1) dX7_parseSwitch_64 (by decide) ?_
        refine kx_goto (tgt := 69) dX7_parseSwitch_65 (by decide) ?_
        exact jk24 _ _ _ _ h
      · have h := w_ift c h
        refine kx_aload_n dX7_parseSwitch_51 rfl rfl ?_
        refine kW_gO dX7_parseSwitch_52 (kf1 fl_X7_42_X7) h (fun v25 h => ?_)
        refine kx_ldcwS dX7_parseSwitch_55 ks_ArcRecorder_Parser_297 ?_
        obtain ⟨a26, rfl, hUa26⟩ := h
        have h := hUa26
        obtain ⟨hr, h⟩ := h
        refine kx_callV dX7_parseSwitch_58 lk_X7_115 (kw_J9_equals h) rfl (wR_rc hr rfl) rfl (Nat.le_of_ble_eq_true rfl) (Nat.le_of_ble_eq_true rfl) (Nat.le_of_ble_eq_true rfl) (Nat.le_of_ble_eq_true rfl) (Nat.le_of_ble_eq_true rfl) (fun _ _ _ hx => kx_out rfl (hX _ _ _ hx)) (fun v_ σ28 hq => ?_)
        obtain ⟨v27, rfl, h⟩ := hq
        refine kx_if_eq (tgt := 68) dX7_parseSwitch_61 (by decide) (fun c => ?_) (fun c => ?_)
        · have h := w_ift c h
          refine kx_iconst (v := 0) dX7_parseSwitch_68 (by decide) ?_
          exact jk24 _ _ _ _ h
        · have h := w_iff c h
          refine kx_iconst (v := 1) dX7_parseSwitch_64 (by decide) ?_
          refine kx_goto (tgt := 69) dX7_parseSwitch_65 (by decide) ?_
          exact jk24 _ _ _ _ h
  · skip
    refine kx_icmp_ge (tgt := 17) dX7_parseSwitch_10 (by decide) (fun c => ?_) (fun c => ?_)
    · have h := w_ift c h
      refine kx_iconst (v := 0) dX7_parseSwitch_17 (by decide) ?_
      exact jk5 _ _ _ _ h
    · have h := w_iff c h
      refine kx_iconst (v := 1) dX7_parseSwitch_13 (by decide) ?_
      refine kx_goto (tgt := 18) dX7_parseSwitch_14 (by decide) ?_
      exact jk5 _ _ _ _ h
set_option maxHeartbeats 8000000 in
theorem kw_X1_find {G : KG} {bc bs : Nat} {σ : KHp} {x0 : Nat} {Q : Int32 → KHp → Prop} {X : String → Nat → KHp → Prop} (h : W_X1_find G bc bs σ x0 Q X) : kx_c G yX1_find (ws_ yX1_find cX1_find 2 (Option.some Jvm.ClassFile.FieldType.int)) 10 bc bs [.ref (x0)] σ (fun rv σ' => ∃ r, rv = some (.int (r)) ∧ Q r σ') X := by
  refine kx_mk3 (ini := false) rfl (Nat.le_of_ble_eq_true rfl) (fun h => by cases h) (fun Q1 X1 hQ hX => ?_)
  unfold W_X1_find at h
  refine kx_aload_n dX1_find_0 rfl rfl ?_
  obtain ⟨hr, h⟩ := h
  obtain ⟨c3, c4, hc, hs, h⟩ := h
  refine kx_callV dX1_find_1 lk_X1_199 (kw_X1_text h) rfl (wR_rc hr rfl) rfl (Nat.le_of_ble_eq_true rfl) (Nat.le_of_ble_eq_true rfl) (Nat.le_of_ble_eq_true rfl) hc hs (fun _ _ _ hx => kx_out rfl (hX _ _ _ hx)) (fun v_ σ2 hq => ?_)
  obtain ⟨v1, rfl, h⟩ := hq
  refine kx_astore_nO dX1_find_4 rfl (Nat.le_of_ble_eq_true rfl) ?_
  refine kx_aload_n dX1_find_5 rfl rfl ?_
  refine kx_iconst (v := 0) dX1_find_6 (by decide) ?_
  refine kW_p dX1_find_7 (kp1 ⟨_, _, _, _, kc_X1, fl_X1_129_X1, Or.inl rfl, rfl, rfl⟩) h (fun σ5 h => ?_)
  refine kx_aload_n dX1_find_10 rfl rfl ?_
  refine kW_gO dX1_find_11 (kf1 fl_X1_103_X1) h (fun v6 h => ?_)
  refine kx_aload_nO dX1_find_14 rfl rfl ?_
  obtain ⟨a7, rfl, hUa7⟩ := h
  have h := hUa7
  obtain ⟨hr, h⟩ := h
  refine kx_callV dX1_find_15 lk_X1_202 (kw_X2_find h) rfl (wR_rc hr rfl) rfl (Nat.le_of_ble_eq_true rfl) (Nat.le_of_ble_eq_true rfl) (Nat.le_of_ble_eq_true rfl) (Nat.le_of_ble_eq_true rfl) (Nat.le_of_ble_eq_true rfl) (fun _ _ _ hx => kx_out rfl (hX _ _ _ hx)) (fun v_ σ9 hq => ?_)
  obtain ⟨v8, rfl, h⟩ := hq
  exact kx_iret dX1_find_18 rfl (hQ _ _ ⟨_, rfl, h⟩)
set_option maxHeartbeats 8000000 in
theorem kw_X1_losePower {G : KG} {bc bs : Nat} {σ : KHp} {x0 : Nat} {Q : Int32 → KHp → Prop} {X : String → Nat → KHp → Prop} (h : W_X1_losePower G bc bs σ x0 Q X) : kx_c G yX1_losePower (ws_ yX1_losePower cX1_losePower 2 (Option.some Jvm.ClassFile.FieldType.int)) 10 bc bs [.ref (x0)] σ (fun rv σ' => ∃ r, rv = some (.int (r)) ∧ Q r σ') X := by
  refine kx_mk3 (ini := false) rfl (Nat.le_of_ble_eq_true rfl) (fun h => by cases h) (fun Q1 X1 hQ hX => ?_)
  unfold W_X1_losePower at h
  refine kx_aload_n dX1_losePower_0 rfl rfl ?_
  obtain ⟨hr, h⟩ := h
  obtain ⟨c3, c4, hc, hs, h⟩ := h
  refine kx_callV dX1_losePower_1 lk_X1_283 (kw_X1_remember h) rfl (wR_rc hr rfl) rfl (Nat.le_of_ble_eq_true rfl) (Nat.le_of_ble_eq_true rfl) (Nat.le_of_ble_eq_true rfl) hc hs (fun _ _ _ hx => kx_out rfl (hX _ _ _ hx)) (fun v_ σ2 hq => ?_)
  obtain ⟨v1, rfl, h⟩ := hq
  refine kx_pop dX1_losePower_4 (va_cat _) ?_
  refine kx_iconst (v := 0) dX1_losePower_5 (by decide) ?_
  refine kx_istore_n dX1_losePower_6 rfl (Nat.le_of_ble_eq_true rfl) ?_
  refine kx_lwF [(0, .ref (x0)), (1, .int ((0 : Int32)))] ⟨rfl, rfl, trivial⟩ ?_
  refine loopW3_k (fun (σ : KHp) (bc7 bs7 : Nat) (l1 : Int32) => kx G (yX1_losePower.cls, cX1_losePower, 2, (Option.some Jvm.ClassFile.FieldType.int), false, []) (10, bc, bs, Q1, X1) (bc7) (bs7) σ 7 (kF [(0, .ref (x0)), (1, .int (l1))]) []) (fun kI7 hI7 σ bc7 bs7 l1 h => ?_) 9000 σ2 (bc - c3) (bs - c4) (0 : Int32) h
  unfold WB_X1_losePower_7 at h
  refine kx_iload_n dX1_losePower_7 rfl rfl ?_
  refine kx_aload_n dX1_losePower_8 rfl rfl ?_
  refine kW_gO dX1_losePower_9 (kf1 fl_X1_103_X1) h (fun v8001 h => ?_)
  obtain ⟨a8002, rfl, hUa8002⟩ := h
  have h := hUa8002
  refine kW_gO dX1_losePower_12 (kf1 fl_X1_176_X2) h (fun v8003 h => ?_)
  obtain ⟨a8004, rfl, hUa8004⟩ := h
  have h := hUa8004
  obtain ⟨hr, h⟩ := h
  refine kx_callV dX1_losePower_15 lk_X1_180 (kw_J2_size h) rfl (wR_rc hr rfl) rfl (Nat.le_of_ble_eq_true rfl) (Nat.le_of_ble_eq_true rfl) (Nat.le_of_ble_eq_true rfl) (Nat.le_of_ble_eq_true rfl) (Nat.le_of_ble_eq_true rfl) (fun _ _ _ hx => kx_out rfl (hX _ _ _ hx)) (fun v_ σ8006 hq => ?_)
  obtain ⟨v8005, rfl, h⟩ := hq
  refine kx_icmp_ge (tgt := 44) dX1_losePower_18 (by decide) (fun c => ?_) (fun c => ?_)
  · have h := w_ift c h
    refine kx_aload_n dX1_losePower_44 rfl rfl ?_
    obtain ⟨hr, h⟩ := h
    refine kx_callV dX1_losePower_45 lk_X1_441 (kw_X1_memoryCount h) rfl (wR_rc hr rfl) rfl (Nat.le_of_ble_eq_true rfl) (Nat.le_of_ble_eq_true rfl) (Nat.le_of_ble_eq_true rfl) (Nat.le_of_ble_eq_true rfl) (Nat.le_of_ble_eq_true rfl) (fun _ _ _ hx => kx_out rfl (hX _ _ _ hx)) (fun v_ σ8008 hq => ?_)
    obtain ⟨v8007, rfl, h⟩ := hq
    exact kx_iret dX1_losePower_48 rfl (hQ _ _ ⟨_, rfl, h⟩)
  · have h := w_iff c h
    refine kx_aload_n dX1_losePower_21 rfl rfl ?_
    refine kW_gO dX1_losePower_22 (kf1 fl_X1_103_X1) h (fun v8009 h => ?_)
    obtain ⟨a8010, rfl, hUa8010⟩ := h
    have h := hUa8010
    refine kW_gO dX1_losePower_25 (kf1 fl_X1_176_X2) h (fun v8011 h => ?_)
    refine kx_iload_n dX1_losePower_28 rfl rfl ?_
    obtain ⟨a8012, rfl, hUa8012⟩ := h
    have h := hUa8012
    obtain ⟨hr, h⟩ := h
    refine kx_callV dX1_losePower_29 lk_X1_245 (kw_J2_get h) rfl (wR_rc hr rfl) rfl (Nat.le_of_ble_eq_true rfl) (Nat.le_of_ble_eq_true rfl) (Nat.le_of_ble_eq_true rfl) (Nat.le_of_ble_eq_true rfl) (Nat.le_of_ble_eq_true rfl) (fun _ _ _ hx => kx_out rfl (hX _ _ _ hx)) (fun v_ σ8014 hq => ?_)
    obtain ⟨v8013, rfl, h⟩ := hq
    obtain ⟨a8015, rfl, hUa8015⟩ := h
    have h := hUa8015
    obtain ⟨⟨tc, fc, hr⟩, h⟩ := h
    refine kx_castS dX1_losePower_32 hr rfl q1943 ?_
    obtain ⟨hr, h⟩ := h
    refine kx_callV dX1_losePower_35 lk_X1_438 (kw_X5_forgetWindow h) rfl (wR_rc hr rfl) rfl (Nat.le_of_ble_eq_true rfl) (Nat.le_of_ble_eq_true rfl) (Nat.le_of_ble_eq_true rfl) (Nat.le_of_ble_eq_true rfl) (Nat.le_of_ble_eq_true rfl) (fun _ _ _ hx => kx_out rfl (hX _ _ _ hx)) (fun v_ σ8017 hq => ?_)
    obtain ⟨rfl, h⟩ := hq
    refine kx_iinc2 (v := 1) dX1_losePower_38 rfl (by decide) ?_
    refine kx_goto (tgt := 7) dX1_losePower_41 (by decide) ?_
    exact kx_lwF [(0, .ref (x0)), (1, .int ((l1 + (1 : Int32))))] ⟨rfl, rfl, trivial⟩ (hI7 _ _ _ _ h)
set_option maxHeartbeats 8000000 in
theorem kw_X7_init {G : KG} {bc bs : Nat} {σ : KHp} {x0 : Nat} {x1 : Option Nat} {Q : KHp → Prop} {X : String → Nat → KHp → Prop} (h : W_X7_init G bc bs σ x0 x1 Q X) : kx_c G yX7_init (ws_ yX7_init cX7_init 2 (Option.none : Option Jvm.ClassFile.FieldType)) 10 bc bs [.ref (x0), va_rf (x1)] σ (fun rv σ' => rv = none ∧ Q σ') X := by
  refine kx_mk3 (ini := true) rfl (by cases x1 <;> exact Nat.le_of_ble_eq_true rfl) (fun _ => rfl) (fun Q1 X1 hQ hX => ?_)
  unfold W_X7_init at h
  refine kx_lwF [(0, .ref x0), (1, va_rf (x1))] (by cases x1 <;> exact ⟨rfl, rfl, trivial⟩) ?_
  refine kx_aload_n dX7_init_0 rfl rfl ?_
  refine kx_aload_nO dX7_init_1 rfl rfl ?_
  refine kW_p dX7_init_2 (kp1 ⟨_, _, _, _, kc_X7, fl_X7_3_X7, Or.inr ⟨rfl, rfl, q973⟩, (by cases x1 <;> rfl), (by cases x1 <;> rfl)⟩) h (fun σ1 h => ?_)
  refine kx_aload_n dX7_init_5 rfl rfl ?_
  refine kx_oinit dX7_init_6 q911 q206 q207 (Nat.le_of_ble_eq_true rfl) (Nat.le_of_ble_eq_true rfl) ?_
  refine kx_aload_n dX7_init_9 rfl rfl ?_
  refine kW_new dX7_init_10 kc_X3 q912 q211 q145 rfl h (fun q2 σ3 h => ?_)
  refine kx_dup dX7_init_13 rfl ?_
  obtain ⟨c6, c7, hc, hs, h⟩ := h
  refine kx_callIN dX7_init_14 lk_X7_17 (kw_X3_init h) rfl rfl (Nat.le_of_ble_eq_true rfl) (Nat.le_of_ble_eq_true rfl) (Nat.le_of_ble_eq_true rfl) hc hs (fun _ _ _ hx => kx_out rfl (hX _ _ _ hx)) (fun v_ σ5 hq => ?_)
  obtain ⟨rfl, h⟩ := hq
  refine kW_p dX7_init_17 (kp1 ⟨_, _, _, _, kc_X7, fl_X7_18_X7, Or.inr ⟨rfl, rfl, q964⟩, rfl, rfl⟩) h (fun σ8 h => ?_)
  refine kx_aload_n dX7_init_20 rfl rfl ?_
  refine kW_new dX7_init_21 kc_J2 q914 q217 q148 rfl h (fun q9 σ10 h => ?_)
  refine kx_dup dX7_init_24 rfl ?_
  refine kx_iconst (v := 2) dX7_init_25 (by decide) ?_
  obtain ⟨c13, c14, hc, hs, h⟩ := h
  refine kx_callI dX7_init_26 lk_X7_24 (kw_J2_init h) rfl rfl (Nat.le_of_ble_eq_true rfl) (Nat.le_of_ble_eq_true rfl) (Nat.le_of_ble_eq_true rfl) hc hs (fun _ _ _ hx => kx_out rfl (hX _ _ _ hx)) (fun v_ σ12 hq => ?_)
  obtain ⟨rfl, h⟩ := hq
  refine kW_p dX7_init_29 (kp1 ⟨_, _, _, _, kc_X7, fl_X7_27_X7, Or.inr ⟨rfl, rfl, q965⟩, rfl, rfl⟩) h (fun σ15 h => ?_)
  refine kx_aload_n dX7_init_32 rfl rfl ?_
  refine kW_new dX7_init_33 kc_J2 q914 q217 q148 rfl h (fun q16 σ17 h => ?_)
  refine kx_dup dX7_init_36 rfl ?_
  refine kx_iconst (v := 2) dX7_init_37 (by decide) ?_
  obtain ⟨c20, c21, hc, hs, h⟩ := h
  refine kx_callI dX7_init_38 lk_X7_24 (kw_J2_init h) rfl rfl (Nat.le_of_ble_eq_true rfl) (Nat.le_of_ble_eq_true rfl) (Nat.le_of_ble_eq_true rfl) hc hs (fun _ _ _ hx => kx_out rfl (hX _ _ _ hx)) (fun v_ σ19 hq => ?_)
  obtain ⟨rfl, h⟩ := hq
  refine kW_p dX7_init_41 (kp1 ⟨_, _, _, _, kc_X7, fl_X7_31_X7, Or.inr ⟨rfl, rfl, q966⟩, rfl, rfl⟩) h (fun σ22 h => ?_)
  refine kx_aload_n dX7_init_44 rfl rfl ?_
  refine kx_ldc2 dX7_init_45 q916 ?_
  refine kW_p dX7_init_48 (kp1 ⟨_, _, _, _, kc_X7, fl_X7_36_X7, Or.inl rfl, rfl, rfl⟩) h (fun σ23 h => ?_)
  refine kx_aload_n dX7_init_51 rfl rfl ?_
  refine kx_ldcS dX7_init_52 ks_ArcRecorder_Parser_40 ?_
  refine kW_p dX7_init_54 (kp1 ⟨_, _, _, _, kc_X7, fl_X7_42_X7, Or.inl rfl, rfl, rfl⟩) h (fun σ24 h => ?_)
  refine kx_aload_n dX7_init_57 rfl rfl ?_
  obtain ⟨hr, h⟩ := h
  obtain ⟨c27, c28, hc, hs, h⟩ := h
  refine kx_callV dX7_init_58 lk_X7_46 (kw_X7_next h) rfl (wR_rc hr rfl) rfl (Nat.le_of_ble_eq_true rfl) (Nat.le_of_ble_eq_true rfl) (Nat.le_of_ble_eq_true rfl) hc hs (fun _ _ _ hx => kx_out rfl (hX _ _ _ hx)) (fun v_ σ26 hq => ?_)
  obtain ⟨rfl, h⟩ := hq
  exact kx_vret dX7_init_61 rfl (hQ _ _ ⟨rfl, h⟩)
set_option maxHeartbeats 8000000 in
theorem kw_X7_number {G : KG} {bc bs : Nat} {σ : KHp} {x0 : Nat} {x1 : Option Nat} {x2 : Int32} {x3 : Int32} {Q : Int32 → KHp → Prop} {X : String → Nat → KHp → Prop} (h : W_X7_number G bc bs σ x0 x1 x2 x3 Q X) : kx_c G yX7_number (ws_ yX7_number cX7_number 4 (Option.some Jvm.ClassFile.FieldType.int)) 11 bc bs [.ref (x0), va_rf (x1), .int (x2), .int (x3)] σ (fun rv σ' => ∃ r, rv = some (.int (r)) ∧ Q r σ') X := by
  refine kx_mk3 (ini := false) rfl (by cases x1 <;> exact Nat.le_of_ble_eq_true rfl) (fun h => by cases h) (fun Q1 X1 hQ hX => ?_)
  unfold W_X7_number at h
  refine kx_lwF [(0, .ref x0), (1, va_rf (x1)), (2, .int (x2)), (3, .int (x3))] (by cases x1 <;> exact ⟨rfl, rfl, rfl, rfl, trivial⟩) ?_
  refine kx_aload_n dX7_number_0 rfl rfl ?_
  refine kx_aload_nO dX7_number_1 rfl rfl ?_
  obtain ⟨hr, h⟩ := h
  obtain ⟨c3, c4, hc, hs, h⟩ := h
  refine kx_callV dX7_number_2 lk_X7_125 (kw_X7_accept h) rfl (wR_rc hr rfl) rfl (Nat.le_of_ble_eq_true rfl) (Nat.le_of_ble_eq_true rfl) (Nat.le_of_ble_eq_true rfl) hc hs (fun _ _ _ hx => kx_out rfl (hX _ _ _ hx)) (fun v_ σ2 hq => ?_)
  obtain ⟨rfl, h⟩ := hq
  refine kx_aload_n dX7_number_5 rfl rfl ?_
  refine kx_iload_n dX7_number_6 rfl rfl ?_
  refine kx_iload_n dX7_number_7 rfl rfl ?_
  obtain ⟨hr, h⟩ := h
  obtain ⟨c7, c8, hc, hs, h⟩ := h
  refine kx_callV dX7_number_8 lk_X7_129 (kw_X7_number_2 h) rfl (wR_rc hr rfl) rfl (Nat.le_of_ble_eq_true rfl) (Nat.le_of_ble_eq_true rfl) (Nat.le_of_ble_eq_true rfl) hc hs (fun _ _ _ hx => kx_out rfl (hX _ _ _ hx)) (fun v_ σ6 hq => ?_)
  obtain ⟨v5, rfl, h⟩ := hq
  exact kx_iret dX7_number_11 rfl (hQ _ _ ⟨_, rfl, h⟩)
