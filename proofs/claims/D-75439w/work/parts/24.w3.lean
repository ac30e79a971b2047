set_option maxRecDepth 100000
set_option maxHeartbeats 8000000 in
theorem kw_J2_grow {G : KG} {bc bs : Nat} {σ : KHp} {x0 : Nat} {Q : Option Nat → KHp → Prop} {X : String → Nat → KHp → Prop} (h : W_J2_grow G bc bs σ x0 Q X) : kx_c G yJ2_grow (ws_ yJ2_grow cJ2_grow 1 (Option.some (Jvm.ClassFile.FieldType.array (Jvm.ClassFile.FieldType.object "java/lang/Object")))) 5 bc bs [.ref (x0)] σ (fun rv σ' => ∃ r, rv = some (va_rf (r)) ∧ Q r σ') X := by
  refine kx_mk3 (ini := false) (by decide) (Nat.le_of_ble_eq_true rfl) (fun h => by cases h) (fun Q1 X1 hQ hX => ?_)
  unfold W_J2_grow at h
  refine kx_aload_n dJ2_grow_0 rfl rfl ?_
  refine kx_aload_n dJ2_grow_1 rfl rfl ?_
  refine kW_gI dJ2_grow_2 (kf1 fl_J2_48_J2) h (fun v1 h => ?_)
  refine kx_iconst (v := 1) dJ2_grow_5 (by decide) ?_
  refine kx_iadd dJ2_grow_6 ?_
  obtain ⟨hr, h⟩ := h
  obtain ⟨c4, c5, hc, hs, h⟩ := h
  refine kx_callV dJ2_grow_7 lk_J2_69 (kw_J2_grow_2 h) rfl (wR_rc hr rfl) rfl (Nat.le_of_ble_eq_true rfl) (Nat.le_of_ble_eq_true rfl) (Nat.le_of_ble_eq_true rfl) hc hs (fun _ _ _ hx => kx_out rfl (hX _ _ _ hx)) (fun v_ σ3 hq => ?_)
  obtain ⟨v2, rfl, h⟩ := hq
  exact kx_aret dJ2_grow_10 rfl (Or.inr ⟨_, rfl⟩) (va_rfs _) (hQ _ _ ⟨_, rfl, h⟩)
set_option maxHeartbeats 8000000 in
theorem kw_J2_indexOf {G : KG} {σ : KHp} {x0 : Nat} {x1 : Option Nat} {Q : Int32 → KHp → Prop} {X : String → Nat → KHp → Prop} (h : W_J2_indexOf G σ x0 x1 Q X) : kx_c G yJ2_indexOf (ws_ yJ2_indexOf cJ2_indexOf 2 (Option.some Jvm.ClassFile.FieldType.int)) 4 0 0 [.ref (x0), va_rf (x1)] σ (fun rv σ' => ∃ r, rv = some (.int (r)) ∧ Q r σ') X := by
  refine kx_mk3 (ini := false) (by decide) (by cases x1 <;> exact Nat.le_of_ble_eq_true rfl) (fun h => by cases h) (fun Q1 X1 hQ hX => ?_)
  unfold W_J2_indexOf at h
  refine kx_lwF [(0, .ref x0), (1, va_rf (x1))] (by cases x1 <;> exact ⟨rfl, rfl, trivial⟩) ?_
  refine kx_aload_n dJ2_indexOf_0 rfl rfl ?_
  refine kx_aload_nO dJ2_indexOf_1 rfl rfl ?_
  refine kx_iconst (v := 0) dJ2_indexOf_2 (by decide) ?_
  refine kx_aload_n dJ2_indexOf_3 rfl rfl ?_
  refine kW_gI dJ2_indexOf_4 (kf1 fl_J2_48_J2) h (fun v1 h => ?_)
  obtain ⟨hr, h⟩ := h
  refine kx_callV dJ2_indexOf_7 lk_J2_89 (kw_J2_indexOfRange h) rfl (wR_rc hr rfl) rfl (Nat.le_of_ble_eq_true rfl) (Nat.le_of_ble_eq_true rfl) (Nat.le_of_ble_eq_true rfl) (Nat.le_of_ble_eq_true rfl) (Nat.le_of_ble_eq_true rfl) (fun _ _ _ hx => kx_out rfl (hX _ _ _ hx)) (fun v_ σ3 hq => ?_)
  obtain ⟨v2, rfl, h⟩ := hq
  exact kx_iret dJ2_indexOf_10 rfl (hQ _ _ ⟨_, rfl, h⟩)
set_option maxHeartbeats 8000000 in
theorem kw_J7_ensureCapacityInternal {G : KG} {bc bs : Nat} {σ : KHp} {x0 : Nat} {x1 : Int32} {Q : KHp → Prop} {X : String → Nat → KHp → Prop} (h : W_J7_ensureCapacityInternal G bc bs σ x0 x1 Q X) : kx_c G yJ7_ensureCapacityInternal (ws_ yJ7_ensureCapacityInternal cJ7_ensureCapacityInternal 3 (Option.none : Option Jvm.ClassFile.FieldType)) 4 bc bs [.ref (x0), .int (x1)] σ (fun rv σ' => rv = none ∧ Q σ') X := by
  refine kx_mk3 (ini := false) (by decide) (Nat.le_of_ble_eq_true rfl) (fun h => by cases h) (fun Q1 X1 hQ hX => ?_)
  unfold W_J7_ensureCapacityInternal at h
  refine kx_aload_n dJ7_ensureCapacityInternal_0 rfl rfl ?_
  refine kW_gO dJ7_ensureCapacityInternal_1 (kf1 fl_J7_15_J8) h (fun v1 h => ?_)
  obtain ⟨a2, rfl, hUa2⟩ := h
  have h := hUa2
  refine kW_len dJ7_ensureCapacityInternal_4 h (fun v3 h => ?_)
  refine kx_aload_n dJ7_ensureCapacityInternal_5 rfl rfl ?_
  refine kW_gI dJ7_ensureCapacityInternal_6 (kf1 fl_J7_22_J8) h (fun v4 h => ?_)
  refine kx_ishr dJ7_ensureCapacityInternal_9 ?_
  refine kx_istore_n dJ7_ensureCapacityInternal_10 rfl (Nat.le_of_ble_eq_true rfl) ?_
  refine kx_iload_n dJ7_ensureCapacityInternal_11 rfl rfl ?_
  refine kx_iload_n dJ7_ensureCapacityInternal_12 rfl rfl ?_
  refine kx_isub dJ7_ensureCapacityInternal_13 ?_
  refine kx_if_le (tgt := 38) dJ7_ensureCapacityInternal_14 (by decide) (fun c => ?_) (fun c => ?_)
  · have h := w_ift c h
    exact kx_vret dJ7_ensureCapacityInternal_38 rfl (hQ _ _ ⟨rfl, h⟩)
  · have h := w_iff c h
    refine kx_aload_n dJ7_ensureCapacityInternal_17 rfl rfl ?_
    refine kx_aload_n dJ7_ensureCapacityInternal_18 rfl rfl ?_
    refine kW_gO dJ7_ensureCapacityInternal_19 (kf1 fl_J7_15_J8) h (fun v5 h => ?_)
    refine kx_aload_n dJ7_ensureCapacityInternal_22 rfl rfl ?_
    refine kx_iload_n dJ7_ensureCapacityInternal_23 rfl rfl ?_
    obtain ⟨hr, h⟩ := h
    refine kx_callP dJ7_ensureCapacityInternal_24 lk_J7_104 (kw_J7_newCapacity h) rfl (wR_rc hr rfl) rfl (by cases v5 <;> exact Nat.le_of_ble_eq_true rfl) (Nat.le_of_ble_eq_true rfl) (Nat.le_of_ble_eq_true rfl) (Nat.le_of_ble_eq_true rfl) (Nat.le_of_ble_eq_true rfl) (fun _ _ _ hx => kx_out rfl (hX _ _ _ hx)) (fun v_ σ7 hq => ?_)
    obtain ⟨v6, rfl, h⟩ := hq
    refine kx_aload_n dJ7_ensureCapacityInternal_27 rfl rfl ?_
    refine kW_gI dJ7_ensureCapacityInternal_28 (kf1 fl_J7_22_J8) h (fun v8 h => ?_)
    refine kx_ishl dJ7_ensureCapacityInternal_31 ?_
    obtain ⟨c11, c12, hc, hs, h⟩ := h
    refine kx_callS dJ7_ensureCapacityInternal_32 lk_J7_108 (kw_J13_copyOf h) rfl rfl (Nat.le_of_ble_eq_true rfl) (Nat.le_of_ble_eq_true rfl) (Nat.le_of_ble_eq_true rfl) hc hs (fun _ _ _ hx => kx_out rfl (hX _ _ _ hx)) (fun v_ σ10 hq => ?_)
    obtain ⟨v9, rfl, h⟩ := hq
    refine kW_p dJ7_ensureCapacityInternal_35 (kp1 ⟨_, _, _, _, kc_J8, fl_J7_15_J8, Or.inl rfl, (by cases v9 <;> rfl), (by cases v9 <;> rfl)⟩) h (fun σ13 h => ?_)
    exact kx_vret dJ7_ensureCapacityInternal_38 rfl (hQ _ _ ⟨rfl, h⟩)
set_option maxHeartbeats 8000000 in
theorem kw_J7_inflate {G : KG} {bc bs : Nat} {σ : KHp} {x0 : Nat} {Q : KHp → Prop} {X : String → Nat → KHp → Prop} (h : W_J7_inflate G bc bs σ x0 Q X) : kx_c G yJ7_inflate (ws_ yJ7_inflate cJ7_inflate 2 (Option.none : Option Jvm.ClassFile.FieldType)) 6 bc bs [.ref (x0)] σ (fun rv σ' => rv = none ∧ Q σ') X := by
  refine kx_mk3 (ini := false) (by decide) (Nat.le_of_ble_eq_true rfl) (fun h => by cases h) (fun Q1 X1 hQ hX => ?_)
  unfold W_J7_inflate at h
  refine kx_aload_n dJ7_inflate_0 rfl rfl ?_
  obtain ⟨hr, h⟩ := h
  refine kx_callU dJ7_inflate_1 lk_J7_83_J8 (kw_J7_isLatin1 h) rfl (wR_rc hr rfl) rfl (Nat.le_of_ble_eq_true rfl) (Nat.le_of_ble_eq_true rfl) (Nat.le_of_ble_eq_true rfl) (Nat.le_of_ble_eq_true rfl) (Nat.le_of_ble_eq_true rfl) (fun _ _ _ hx => kx_out rfl (hX _ _ _ hx)) (fun v_ σ2 hq => ?_)
  obtain ⟨v1, rfl, h⟩ := hq
  refine kx_if_ne (tgt := 8) dJ7_inflate_4 (by decide) (fun c => ?_) (fun c => ?_)
  · have h := w_iff c h
    refine kx_aload_n dJ7_inflate_8 rfl rfl ?_
    refine kW_gO dJ7_inflate_9 (kf1 fl_J7_15_J8) h (fun v3 h => ?_)
    obtain ⟨a4, rfl, hUa4⟩ := h
    have h := hUa4
    refine kW_len dJ7_inflate_12 h (fun v5 h => ?_)
    obtain ⟨c8, c9, hc, hs, h⟩ := h
    refine kx_callS dJ7_inflate_13 lk_J7_26 (kw_J10_newBytesFor h) rfl rfl (Nat.le_of_ble_eq_true rfl) (Nat.le_of_ble_eq_true rfl) (Nat.le_of_ble_eq_true rfl) hc hs (fun _ _ _ hx => kx_out rfl (hX _ _ _ hx)) (fun v_ σ7 hq => ?_)
    obtain ⟨v6, rfl, h⟩ := hq
    refine kx_astore_nO dJ7_inflate_16 rfl (Nat.le_of_ble_eq_true rfl) ?_
    refine kx_aload_n dJ7_inflate_17 rfl rfl ?_
    refine kW_gO dJ7_inflate_18 (kf1 fl_J7_15_J8) h (fun v10 h => ?_)
    refine kx_iconst (v := 0) dJ7_inflate_21 (by decide) ?_
    refine kx_aload_nO dJ7_inflate_22 rfl rfl ?_
    refine kx_iconst (v := 0) dJ7_inflate_23 (by decide) ?_
    refine kx_aload_n dJ7_inflate_24 rfl rfl ?_
    refine kW_gI dJ7_inflate_25 (kf1 fl_J7_79_J8) h (fun v11 h => ?_)
    refine kx_callS dJ7_inflate_28 lk_J7_125 (kw_J15_inflate h) rfl rfl (Nat.le_of_ble_eq_true rfl) (Nat.le_of_ble_eq_true rfl) (Nat.le_of_ble_eq_true rfl) (Nat.le_of_ble_eq_true rfl) (Nat.le_of_ble_eq_true rfl) (fun _ _ _ hx => kx_out rfl (hX _ _ _ hx)) (fun v_ σ13 hq => ?_)
    obtain ⟨rfl, h⟩ := hq
    refine kx_aload_n dJ7_inflate_31 rfl rfl ?_
    refine kx_aload_nO dJ7_inflate_32 rfl rfl ?_
    refine kW_p dJ7_inflate_33 (kp1 ⟨_, _, _, _, kc_J8, fl_J7_15_J8, Or.inl rfl, (by cases v6 <;> rfl), (by cases v6 <;> rfl)⟩) h (fun σ14 h => ?_)
    refine kx_aload_n dJ7_inflate_36 rfl rfl ?_
    refine kx_iconst (v := 1) dJ7_inflate_37 (by decide) ?_
    obtain ⟨⟨hb, hb2⟩, h⟩ := h
    refine kW_p dJ7_inflate_38 (kp1 ⟨_, _, _, _, kc_J8, fl_J7_22_J8, Or.inl rfl, hb, hb2⟩) h (fun σ15 h => ?_)
    exact kx_vret dJ7_inflate_41 rfl (hQ _ _ ⟨rfl, h⟩)
  · have h := w_ift c h
    exact kx_vret dJ7_inflate_7 rfl (hQ _ _ ⟨rfl, h⟩)
set_option maxHeartbeats 8000000 in
theorem kw_J7_append_2 {G : KG} {bc bs : Nat} {σ : KHp} {x0 : Nat} {x1 : Int32} {Q : Option Nat → KHp → Prop} {X : String → Nat → KHp → Prop} (h : W_J7_append_2 G bc bs σ x0 x1 Q X) : kx_c G yJ7_append_2 (ws_ yJ7_append_2 cJ7_append_2 4 (Option.some (Jvm.ClassFile.FieldType.object "java/lang/AbstractStringBuilder"))) 5 bc bs [.ref (x0), .int (x1)] σ (fun rv σ' => ∃ r, rv = some (va_rf (r)) ∧ Q r σ') X := by
  refine kx_mk3 (ini := false) (by decide) (Nat.le_of_ble_eq_true rfl) (fun h => by cases h) (fun Q1 X1 hQ hX => ?_)
  unfold W_J7_append_2 at h
  refine kx_aload_n dJ7_append_2_0 rfl rfl ?_
  refine kW_gI dJ7_append_2_1 (kf1 fl_J7_79_J8) h (fun v1 h => ?_)
  refine kx_istore_n dJ7_append_2_4 rfl (Nat.le_of_ble_eq_true rfl) ?_
  refine kx_iload_n dJ7_append_2_5 rfl rfl ?_
  refine kx_iload_n dJ7_append_2_6 rfl rfl ?_
  refine kx_callS dJ7_append_2_7 lk_J7_245 (kw_J16_stringSize h) rfl rfl (Nat.le_of_ble_eq_true rfl) (Nat.le_of_ble_eq_true rfl) (Nat.le_of_ble_eq_true rfl) (Nat.le_of_ble_eq_true rfl) (Nat.le_of_ble_eq_true rfl) (fun _ _ _ hx => kx_out rfl (hX _ _ _ hx)) (fun v_ σ3 hq => ?_)
  obtain ⟨v2, rfl, h⟩ := hq
  refine kx_iadd dJ7_append_2_10 ?_
  refine kx_istore_n dJ7_append_2_11 rfl (Nat.le_of_ble_eq_true rfl) ?_
  refine kx_aload_n dJ7_append_2_12 rfl rfl ?_
  refine kx_iload_n dJ7_append_2_13 rfl rfl ?_
  obtain ⟨hr, h⟩ := h
  obtain ⟨c6, c7, hc, hs, h⟩ := h
  refine kx_callP dJ7_append_2_14 lk_J7_100 (kw_J7_ensureCapacityInternal h) rfl (wR_rc hr rfl) rfl (Nat.le_of_ble_eq_true rfl) (Nat.le_of_ble_eq_true rfl) (Nat.le_of_ble_eq_true rfl) hc hs (fun _ _ _ hx => kx_out rfl (hX _ _ _ hx)) (fun v_ σ5 hq => ?_)
  obtain ⟨rfl, h⟩ := hq
  refine kx_aload_n dJ7_append_2_17 rfl rfl ?_
  obtain ⟨hr, h⟩ := h
  refine kx_callU dJ7_append_2_18 lk_J7_83_J8 (kw_J7_isLatin1 h) rfl (wR_rc hr rfl) rfl (Nat.le_of_ble_eq_true rfl) (Nat.le_of_ble_eq_true rfl) (Nat.le_of_ble_eq_true rfl) (Nat.le_of_ble_eq_true rfl) (Nat.le_of_ble_eq_true rfl) (fun _ _ _ hx => kx_out rfl (hX _ _ _ hx)) (fun v_ σ9 hq => ?_)
  obtain ⟨v8, rfl, h⟩ := hq
  refine kW_jNa 48 [] h (fun σ18 bcv17 bsv17 h => ?_) (fun k10 jk10 h => ?_)
  · skip
    refine kx_aload_n dJ7_append_2_48 rfl rfl ?_
    refine kx_iload_n dJ7_append_2_49 rfl rfl ?_
    refine kW_p dJ7_append_2_50 (kp1 ⟨_, _, _, _, kc_J8, fl_J7_79_J8, Or.inl rfl, rfl, rfl⟩) h (fun σ19 h => ?_)
    refine kx_aload_n dJ7_append_2_53 rfl rfl ?_
    exact kx_aret dJ7_append_2_54 rfl (Or.inl ⟨_, rfl⟩) (Or.inr ⟨_, rfl⟩) (hQ _ _ ⟨some _, rfl, h⟩)
  · skip
    refine kx_if_eq (tgt := 37) dJ7_append_2_21 (by decide) (fun c => ?_) (fun c => ?_)
    · have h := w_ift c h
      refine kx_iload_n dJ7_append_2_37 rfl rfl ?_
      refine kx_iload_n dJ7_append_2_38 rfl rfl ?_
      refine kx_iload_n dJ7_append_2_39 rfl rfl ?_
      refine kx_aload_n dJ7_append_2_40 rfl rfl ?_
      refine kW_gO dJ7_append_2_41 (kf1 fl_J7_15_J8) h (fun v11 h => ?_)
      refine kx_callS dJ7_append_2_44 lk_J7_251 (kw_J10_getChars h) rfl rfl (Nat.le_of_ble_eq_true rfl) (Nat.le_of_ble_eq_true rfl) (Nat.le_of_ble_eq_true rfl) (Nat.le_of_ble_eq_true rfl) (Nat.le_of_ble_eq_true rfl) (fun _ _ _ hx => kx_out rfl (hX _ _ _ hx)) (fun v_ σ13 hq => ?_)
      obtain ⟨v12, rfl, h⟩ := hq
      refine kx_pop dJ7_append_2_47 rfl ?_
      exact jk10 _ _ _ h
    · have h := w_iff c h
      refine kx_iload_n dJ7_append_2_24 rfl rfl ?_
      refine kx_iload_n dJ7_append_2_25 rfl rfl ?_
      refine kx_aload_n dJ7_append_2_26 rfl rfl ?_
      refine kW_gO dJ7_append_2_27 (kf1 fl_J7_15_J8) h (fun v14 h => ?_)
      refine kx_callS dJ7_append_2_30 lk_J7_248 (kw_J16_getChars h) rfl rfl (Nat.le_of_ble_eq_true rfl) (Nat.le_of_ble_eq_true rfl) (Nat.le_of_ble_eq_true rfl) (Nat.le_of_ble_eq_true rfl) (Nat.le_of_ble_eq_true rfl) (fun _ _ _ hx => kx_out rfl (hX _ _ _ hx)) (fun v_ σ16 hq => ?_)
      obtain ⟨v15, rfl, h⟩ := hq
      refine kx_pop dJ7_append_2_33 rfl ?_
      refine kx_goto (tgt := 48) dJ7_append_2_34 (by decide) ?_
      exact jk10 _ _ _ h
set_option maxHeartbeats 8000000 in
theorem kw_J7_append_3 {G : KG} {bc bs : Nat} {σ : KHp} {x0 : Nat} {x1 : Int32} {Q : Option Nat → KHp → Prop} {X : String → Nat → KHp → Prop} (h : W_J7_append_3 G bc bs σ x0 x1 Q X) : kx_c G yJ7_append_3 (ws_ yJ7_append_3 cJ7_append_3 2 (Option.some (Jvm.ClassFile.FieldType.object "java/lang/AbstractStringBuilder"))) 7 bc bs [.ref (x0), .int (x1)] σ (fun rv σ' => ∃ r, rv = some (va_rf (r)) ∧ Q r σ') X := by
  refine kx_mk3 (ini := false) (by decide) (Nat.le_of_ble_eq_true rfl) (fun h => by cases h) (fun Q1 X1 hQ hX => ?_)
  unfold W_J7_append_3 at h
  refine kx_aload_n dJ7_append_3_0 rfl rfl ?_
  refine kx_aload_n dJ7_append_3_1 rfl rfl ?_
  refine kW_gI dJ7_append_3_2 (kf1 fl_J7_79_J8) h (fun v1 h => ?_)
  refine kx_iconst (v := 1) dJ7_append_3_5 (by decide) ?_
  refine kx_iadd dJ7_append_3_6 ?_
  obtain ⟨hr, h⟩ := h
  obtain ⟨c4, c5, hc, hs, h⟩ := h
  refine kx_callP dJ7_append_3_7 lk_J7_100 (kw_J7_ensureCapacityInternal h) rfl (wR_rc hr rfl) rfl (Nat.le_of_ble_eq_true rfl) (Nat.le_of_ble_eq_true rfl) (Nat.le_of_ble_eq_true rfl) hc hs (fun _ _ _ hx => kx_out rfl (hX _ _ _ hx)) (fun v_ σ3 hq => ?_)
  obtain ⟨rfl, h⟩ := hq
  refine kx_aload_n dJ7_append_3_10 rfl rfl ?_
  obtain ⟨hr, h⟩ := h
  refine kx_callU dJ7_append_3_11 lk_J7_83_J8 (kw_J7_isLatin1 h) rfl (wR_rc hr rfl) rfl (Nat.le_of_ble_eq_true rfl) (Nat.le_of_ble_eq_true rfl) (Nat.le_of_ble_eq_true rfl) (Nat.le_of_ble_eq_true rfl) (Nat.le_of_ble_eq_true rfl) (fun _ _ _ hx => kx_out rfl (hX _ _ _ hx)) (fun v_ σ7 hq => ?_)
  obtain ⟨v6, rfl, h⟩ := hq
  refine kx_if_eq (tgt := 45) dJ7_append_3_14 (by decide) (fun c => ?_) (fun c => ?_)
  · have h := w_ift c h
    refine kx_aload_n dJ7_append_3_45 rfl rfl ?_
    obtain ⟨hr, h⟩ := h
    refine kx_callU dJ7_append_3_46 lk_J7_83_J8 (kw_J7_isLatin1 h) rfl (wR_rc hr rfl) rfl (Nat.le_of_ble_eq_true rfl) (Nat.le_of_ble_eq_true rfl) (Nat.le_of_ble_eq_true rfl) (Nat.le_of_ble_eq_true rfl) (Nat.le_of_ble_eq_true rfl) (fun _ _ _ hx => kx_out rfl (hX _ _ _ hx)) (fun v_ σ9 hq => ?_)
    obtain ⟨v8, rfl, h⟩ := hq
    refine kW_jNa 56 [] h (fun σ16 bcv15 bsv15 h => ?_) (fun k10 jk10 h => ?_)
    · skip
      refine kx_aload_n dJ7_append_3_56 rfl rfl ?_
      refine kW_gO dJ7_append_3_57 (kf1 fl_J7_15_J8) h (fun v17 h => ?_)
      refine kx_aload_n dJ7_append_3_60 rfl rfl ?_
      refine kx_dup dJ7_append_3_61 rfl ?_
      refine kW_gI dJ7_append_3_62 (kf1 fl_J7_79_J8) h (fun v18 h => ?_)
      refine kx_dup_x1 dJ7_append_3_65 rfl rfl ?_
      refine kx_iconst (v := 1) dJ7_append_3_66 (by decide) ?_
      refine kx_iadd dJ7_append_3_67 ?_
      refine kW_p dJ7_append_3_68 (kp1 ⟨_, _, _, _, kc_J8, fl_J7_79_J8, Or.inl rfl, rfl, rfl⟩) h (fun σ19 h => ?_)
      refine kx_iload_n dJ7_append_3_71 rfl rfl ?_
      refine kx_callS dJ7_append_3_72 lk_J7_197 (kw_J10_putCharSB h) rfl rfl (Nat.le_of_ble_eq_true rfl) (Nat.le_of_ble_eq_true rfl) (Nat.le_of_ble_eq_true rfl) (Nat.le_of_ble_eq_true rfl) (Nat.le_of_ble_eq_true rfl) (fun _ _ _ hx => kx_out rfl (hX _ _ _ hx)) (fun v_ σ21 hq => ?_)
      obtain ⟨rfl, h⟩ := hq
      refine kx_aload_n dJ7_append_3_75 rfl rfl ?_
      exact kx_aret dJ7_append_3_76 rfl (Or.inl ⟨_, rfl⟩) (Or.inr ⟨_, rfl⟩) (hQ _ _ ⟨some _, rfl, h⟩)
    · skip
      refine kx_if_eq (tgt := 56) dJ7_append_3_49 (by decide) (fun c => ?_) (fun c => ?_)
      · have h := w_ift c h
        exact jk10 _ _ _ h
      · have h := w_iff c h
        refine kx_aload_n dJ7_append_3_52 rfl rfl ?_
        obtain ⟨hr, h⟩ := h
        obtain ⟨c13, c14, hc, hs, h⟩ := h
        refine kx_callP dJ7_append_3_53 lk_J7_195 (kw_J7_inflate h) rfl (wR_rc hr rfl) rfl (Nat.le_of_ble_eq_true rfl) (Nat.le_of_ble_eq_true rfl) (Nat.le_of_ble_eq_true rfl) hc hs (fun _ _ _ hx => kx_out rfl (hX _ _ _ hx)) (fun v_ σ12 hq => ?_)
        obtain ⟨rfl, h⟩ := hq
        exact jk10 _ _ _ h
  · have h := w_iff c h
    refine kx_iload_n dJ7_append_3_17 rfl rfl ?_
    refine kx_callS dJ7_append_3_18 lk_J7_191 (kw_J15_canEncode h) rfl rfl (Nat.le_of_ble_eq_true rfl) (Nat.le_of_ble_eq_true rfl) (Nat.le_of_ble_eq_true rfl) (Nat.le_of_ble_eq_true rfl) (Nat.le_of_ble_eq_true rfl) (fun _ _ _ hx => kx_out rfl (hX _ _ _ hx)) (fun v_ σ23 hq => ?_)
    obtain ⟨v22, rfl, h⟩ := hq
    refine kx_if_eq (tgt := 45) dJ7_append_3_21 (by decide) (fun c => ?_) (fun c => ?_)
    · have h := w_ift c h
      refine kx_aload_n dJ7_append_3_45 rfl rfl ?_
      obtain ⟨hr, h⟩ := h
      refine kx_callU dJ7_append_3_46 lk_J7_83_J8 (kw_J7_isLatin1 h) rfl (wR_rc hr rfl) rfl (Nat.le_of_ble_eq_true rfl) (Nat.le_of_ble_eq_true rfl) (Nat.le_of_ble_eq_true rfl) (Nat.le_of_ble_eq_true rfl) (Nat.le_of_ble_eq_true rfl) (fun _ _ _ hx => kx_out rfl (hX _ _ _ hx)) (fun v_ σ25 hq => ?_)
      obtain ⟨v24, rfl, h⟩ := hq
      refine kW_jNa 56 [] h (fun σ32 bcv31 bsv31 h => ?_) (fun k26 jk26 h => ?_)
      · skip
        refine kx_aload_n dJ7_append_3_56 rfl rfl ?_
        refine kW_gO dJ7_append_3_57 (kf1 fl_J7_15_J8) h (fun v33 h => ?_)
        refine kx_aload_n dJ7_append_3_60 rfl rfl ?_
        refine kx_dup dJ7_append_3_61 rfl ?_
        refine kW_gI dJ7_append_3_62 (kf1 fl_J7_79_J8) h (fun v34 h => ?_)
        refine kx_dup_x1 dJ7_append_3_65 rfl rfl ?_
        refine kx_iconst (v := 1) dJ7_append_3_66 (by decide) ?_
        refine kx_iadd dJ7_append_3_67 ?_
        refine kW_p dJ7_append_3_68 (kp1 ⟨_, _, _, _, kc_J8, fl_J7_79_J8, Or.inl rfl, rfl, rfl⟩) h (fun σ35 h => ?_)
        refine kx_iload_n dJ7_append_3_71 rfl rfl ?_
        refine kx_callS dJ7_append_3_72 lk_J7_197 (kw_J10_putCharSB h) rfl rfl (Nat.le_of_ble_eq_true rfl) (Nat.le_of_ble_eq_true rfl) (Nat.le_of_ble_eq_true rfl) (Nat.le_of_ble_eq_true rfl) (Nat.le_of_ble_eq_true rfl) (fun _ _ _ hx => kx_out rfl (hX _ _ _ hx)) (fun v_ σ37 hq => ?_)
        obtain ⟨rfl, h⟩ := hq
        refine kx_aload_n dJ7_append_3_75 rfl rfl ?_
        exact kx_aret dJ7_append_3_76 rfl (Or.inl ⟨_, rfl⟩) (Or.inr ⟨_, rfl⟩) (hQ _ _ ⟨some _, rfl, h⟩)
      · skip
        refine kx_if_eq (tgt := 56) dJ7_append_3_49 (by decide) (fun c => ?_) (fun c => ?_)
        · have h := w_ift c h
          exact jk26 _ _ _ h
        · have h := w_iff c h
          refine kx_aload_n dJ7_append_3_52 rfl rfl ?_
          obtain ⟨hr, h⟩ := h
          obtain ⟨c29, c30, hc, hs, h⟩ := h
          refine kx_callP dJ7_append_3_53 lk_J7_195 (kw_J7_inflate h) rfl (wR_rc hr rfl) rfl (Nat.le_of_ble_eq_true rfl) (Nat.le_of_ble_eq_true rfl) (Nat.le_of_ble_eq_true rfl) hc hs (fun _ _ _ hx => kx_out rfl (hX _ _ _ hx)) (fun v_ σ28 hq => ?_)
          obtain ⟨rfl, h⟩ := hq
          exact jk26 _ _ _ h
    · have h := w_iff c h
      refine kx_aload_n dJ7_append_3_24 rfl rfl ?_
      refine kW_gO dJ7_append_3_25 (kf1 fl_J7_15_J8) h (fun v38 h => ?_)
      refine kx_aload_n dJ7_append_3_28 rfl rfl ?_
      refine kx_dup dJ7_append_3_29 rfl ?_
      refine kW_gI dJ7_append_3_30 (kf1 fl_J7_79_J8) h (fun v39 h => ?_)
      refine kx_dup_x1 dJ7_append_3_33 rfl rfl ?_
      refine kx_iconst (v := 1) dJ7_append_3_34 (by decide) ?_
      refine kx_iadd dJ7_append_3_35 ?_
      refine kW_p dJ7_append_3_36 (kp1 ⟨_, _, _, _, kc_J8, fl_J7_79_J8, Or.inl rfl, rfl, rfl⟩) h (fun σ40 h => ?_)
      refine kx_iload_n dJ7_append_3_39 rfl rfl ?_
      refine kx_i2b dJ7_append_3_40 rfl ?_
      obtain ⟨a41, rfl, hUa41⟩ := h
      have h := hUa41
      refine kW_sB dJ7_append_3_41 h (fun σ42 h => ?_)
      refine kx_goto (tgt := 75) dJ7_append_3_42 (by decide) ?_
      refine kx_aload_n dJ7_append_3_75 rfl rfl ?_
      exact kx_aret dJ7_append_3_76 rfl (Or.inl ⟨_, rfl⟩) (Or.inr ⟨_, rfl⟩) (hQ _ _ ⟨some _, rfl, h⟩)
set_option maxHeartbeats 8000000 in
theorem kw_J7_setLength {G : KG} {bc bs : Nat} {σ : KHp} {x0 : Nat} {x1 : Int32} {Q : KHp → Prop} {X : String → Nat → KHp → Prop} (h : W_J7_setLength G bc bs σ x0 x1 Q X) : kx_c G yJ7_setLength (ws_ yJ7_setLength cJ7_setLength 2 (Option.none : Option Jvm.ClassFile.FieldType)) 5 bc bs [.ref (x0), .int (x1)] σ (fun rv σ' => rv = none ∧ Q σ') X := by
  refine kx_mk3 (ini := false) (by decide) (Nat.le_of_ble_eq_true rfl) (fun h => by cases h) (fun Q1 X1 hQ hX => ?_)
  unfold W_J7_setLength at h
  refine kx_iload_n dJ7_setLength_0 rfl rfl ?_
  refine kx_if_ge (tgt := 13) dJ7_setLength_1 (by decide) (fun c => ?_) (fun c => ?_)
  · have h := w_ift c h
    refine kx_aload_n dJ7_setLength_13 rfl rfl ?_
    refine kx_iload_n dJ7_setLength_14 rfl rfl ?_
    obtain ⟨hr, h⟩ := h
    obtain ⟨c3, c4, hc, hs, h⟩ := h
    refine kx_callP dJ7_setLength_15 lk_J7_100 (kw_J7_ensureCapacityInternal h) rfl (wR_rc hr rfl) rfl (Nat.le_of_ble_eq_true rfl) (Nat.le_of_ble_eq_true rfl) (Nat.le_of_ble_eq_true rfl) hc hs (fun _ _ _ hx => kx_out rfl (hX _ _ _ hx)) (fun v_ σ2 hq => ?_)
    obtain ⟨rfl, h⟩ := hq
    refine kx_aload_n dJ7_setLength_18 rfl rfl ?_
    refine kW_gI dJ7_setLength_19 (kf1 fl_J7_79_J8) h (fun v5 h => ?_)
    refine kx_iload_n dJ7_setLength_22 rfl rfl ?_
    refine kW_jNa 76 [] h (fun σ20 bcv19 bsv19 h => ?_) (fun k6 jk6 h => ?_)
    · skip
      refine kx_aload_n dJ7_setLength_76 rfl rfl ?_
      refine kx_iload_n dJ7_setLength_77 rfl rfl ?_
      refine kW_p dJ7_setLength_78 (kp1 ⟨_, _, _, _, kc_J8, fl_J7_79_J8, Or.inl rfl, rfl, rfl⟩) h (fun σ21 h => ?_)
      exact kx_vret dJ7_setLength_81 rfl (hQ _ _ ⟨rfl, h⟩)
    · skip
      refine kx_icmp_ge (tgt := 63) dJ7_setLength_23 (by decide) (fun c => ?_) (fun c => ?_)
      · have h := w_ift c h
        refine kx_aload_n dJ7_setLength_63 rfl rfl ?_
        refine kW_gI dJ7_setLength_64 (kf1 fl_J7_79_J8) h (fun v7 h => ?_)
        refine kx_iload_n dJ7_setLength_67 rfl rfl ?_
        refine kx_icmp_le (tgt := 76) dJ7_setLength_68 (by decide) (fun c => ?_) (fun c => ?_)
        · have h := w_ift c h
          exact jk6 _ _ _ h
        · have h := w_iff c h
          refine kx_aload_n dJ7_setLength_71 rfl rfl ?_
          refine kx_iconst (v := 1) dJ7_setLength_72 (by decide) ?_
          refine kW_pZ dJ7_setLength_73 (kp1 ⟨_, _, _, _, kc_J8, fl_J7_73_J8, Or.inl rfl, rfl, rfl⟩) (kp1 ⟨_, _, _, _, kc_J8, fl_J7_73_J8, Or.inl rfl, rfl, rfl⟩) h (fun σ8 h => ?_)
          exact jk6 _ _ _ h
      · have h := w_iff c h
        refine kx_aload_n dJ7_setLength_26 rfl rfl ?_
        obtain ⟨hr, h⟩ := h
        refine kx_callU dJ7_setLength_27 lk_J7_83_J8 (kw_J7_isLatin1 h) rfl (wR_rc hr rfl) rfl (Nat.le_of_ble_eq_true rfl) (Nat.le_of_ble_eq_true rfl) (Nat.le_of_ble_eq_true rfl) (Nat.le_of_ble_eq_true rfl) (Nat.le_of_ble_eq_true rfl) (fun _ _ _ hx => kx_out rfl (hX _ _ _ hx)) (fun v_ σ10 hq => ?_)
        obtain ⟨v9, rfl, h⟩ := hq
        refine kx_if_eq (tgt := 48) dJ7_setLength_30 (by decide) (fun c => ?_) (fun c => ?_)
        · have h := w_ift c h
          refine kx_aload_n dJ7_setLength_48 rfl rfl ?_
          refine kW_gO dJ7_setLength_49 (kf1 fl_J7_15_J8) h (fun v11 h => ?_)
          refine kx_aload_n dJ7_setLength_52 rfl rfl ?_
          refine kW_gI dJ7_setLength_53 (kf1 fl_J7_79_J8) h (fun v12 h => ?_)
          refine kx_iload_n dJ7_setLength_56 rfl rfl ?_
          refine kx_callS dJ7_setLength_57 lk_J7_137 (kw_J10_fillNull h) rfl rfl (Nat.le_of_ble_eq_true rfl) (Nat.le_of_ble_eq_true rfl) (Nat.le_of_ble_eq_true rfl) (Nat.le_of_ble_eq_true rfl) (Nat.le_of_ble_eq_true rfl) (fun _ _ _ hx => kx_out rfl (hX _ _ _ hx)) (fun v_ σ14 hq => ?_)
          obtain ⟨rfl, h⟩ := hq
          refine kx_goto (tgt := 76) dJ7_setLength_60 (by decide) ?_
          exact jk6 _ _ _ h
        · have h := w_iff c h
          refine kx_aload_n dJ7_setLength_33 rfl rfl ?_
          refine kW_gO dJ7_setLength_34 (kf1 fl_J7_15_J8) h (fun v15 h => ?_)
          refine kx_aload_n dJ7_setLength_37 rfl rfl ?_
          refine kW_gI dJ7_setLength_38 (kf1 fl_J7_79_J8) h (fun v16 h => ?_)
          refine kx_iload_n dJ7_setLength_41 rfl rfl ?_
          refine kx_callS dJ7_setLength_42 lk_J7_133 (kw_J15_fillNull h) rfl rfl (Nat.le_of_ble_eq_true rfl) (Nat.le_of_ble_eq_true rfl) (Nat.le_of_ble_eq_true rfl) (Nat.le_of_ble_eq_true rfl) (Nat.le_of_ble_eq_true rfl) (fun _ _ _ hx => kx_out rfl (hX _ _ _ hx)) (fun v_ σ18 hq => ?_)
          obtain ⟨rfl, h⟩ := hq
          refine kx_goto (tgt := 76) dJ7_setLength_45 (by decide) ?_
          exact jk6 _ _ _ h
  · have h := w_iff c h
    exact h.elim
set_option maxHeartbeats 8000000 in
theorem kw_J8_append_2 {G : KG} {bc bs : Nat} {σ : KHp} {x0 : Nat} {x1 : Int32} {Q : Option Nat → KHp → Prop} {X : String → Nat → KHp → Prop} (h : W_J8_append_2 G bc bs σ x0 x1 Q X) : kx_c G yJ8_append_2 (ws_ yJ8_append_2 cJ8_append_2 2 (Option.some (Jvm.ClassFile.FieldType.object "java/lang/StringBuilder"))) 6 bc bs [.ref (x0), .int (x1)] σ (fun rv σ' => ∃ r, rv = some (va_rf (r)) ∧ Q r σ') X := by
  refine kx_mk3 (ini := false) (by decide) (Nat.le_of_ble_eq_true rfl) (fun h => by cases h) (fun Q1 X1 hQ hX => ?_)
  unfold W_J8_append_2 at h
  refine kx_aload_n dJ8_append_2_0 rfl rfl ?_
  refine kx_iload_n dJ8_append_2_1 rfl rfl ?_
  obtain ⟨hr, h⟩ := h
  obtain ⟨c3, c4, hc, hs, h⟩ := h
  refine kx_callSU dJ8_append_2_2 lk_J8_53 (kw_J7_append_2 h) rfl hr.choose_spec.choose_spec rfl rfl (Nat.le_of_ble_eq_true rfl) (Nat.le_of_ble_eq_true rfl) (Nat.le_of_ble_eq_true rfl) hc hs (fun _ _ _ hx => kx_out rfl (hX _ _ _ hx)) (fun v_ σ2 hq => ?_)
  obtain ⟨v1, rfl, h⟩ := hq
  refine kx_pop dJ8_append_2_5 (va_cat _) ?_
  refine kx_aload_n dJ8_append_2_6 rfl rfl ?_
  exact kx_aret dJ8_append_2_7 rfl (Or.inl ⟨_, rfl⟩) (Or.inr ⟨_, rfl⟩) (hQ _ _ ⟨some _, rfl, h⟩)
set_option maxHeartbeats 8000000 in
theorem kw_J8_append_3 {G : KG} {bc bs : Nat} {σ : KHp} {x0 : Nat} {x1 : Int32} {Q : Option Nat → KHp → Prop} {X : String → Nat → KHp → Prop} (h : W_J8_append_3 G bc bs σ x0 x1 Q X) : kx_c G yJ8_append_3 (ws_ yJ8_append_3 cJ8_append_3 2 (Option.some (Jvm.ClassFile.FieldType.object "java/lang/StringBuilder"))) 8 bc bs [.ref (x0), .int (x1)] σ (fun rv σ' => ∃ r, rv = some (va_rf (r)) ∧ Q r σ') X := by
  refine kx_mk3 (ini := false) (by decide) (Nat.le_of_ble_eq_true rfl) (fun h => by cases h) (fun Q1 X1 hQ hX => ?_)
  unfold W_J8_append_3 at h
  refine kx_aload_n dJ8_append_3_0 rfl rfl ?_
  refine kx_iload_n dJ8_append_3_1 rfl rfl ?_
  obtain ⟨hr, h⟩ := h
  obtain ⟨c3, c4, hc, hs, h⟩ := h
  refine kx_callSU dJ8_append_3_2 lk_J8_50 (kw_J7_append_3 h) rfl hr.choose_spec.choose_spec rfl rfl (Nat.le_of_ble_eq_true rfl) (Nat.le_of_ble_eq_true rfl) (Nat.le_of_ble_eq_true rfl) hc hs (fun _ _ _ hx => kx_out rfl (hX _ _ _ hx)) (fun v_ σ2 hq => ?_)
  obtain ⟨v1, rfl, h⟩ := hq
  refine kx_pop dJ8_append_3_5 (va_cat _) ?_
  refine kx_aload_n dJ8_append_3_6 rfl rfl ?_
  exact kx_aret dJ8_append_3_7 rfl (Or.inl ⟨_, rfl⟩) (Or.inr ⟨_, rfl⟩) (hQ _ _ ⟨some _, rfl, h⟩)
set_option maxHeartbeats 8000000 in
theorem kw_J8_setLength {G : KG} {bc bs : Nat} {σ : KHp} {x0 : Nat} {x1 : Int32} {Q : KHp → Prop} {X : String → Nat → KHp → Prop} (h : W_J8_setLength G bc bs σ x0 x1 Q X) : kx_c G yJ8_setLength (ws_ yJ8_setLength cJ8_setLength 2 (Option.none : Option Jvm.ClassFile.FieldType)) 6 bc bs [.ref (x0), .int (x1)] σ (fun rv σ' => rv = none ∧ Q σ') X := by
  refine kx_mk3 (ini := false) (by decide) (Nat.le_of_ble_eq_true rfl) (fun h => by cases h) (fun Q1 X1 hQ hX => ?_)
  unfold W_J8_setLength at h
  refine kx_aload_n dJ8_setLength_0 rfl rfl ?_
  refine kx_iload_n dJ8_setLength_1 rfl rfl ?_
  obtain ⟨hr, h⟩ := h
  obtain ⟨c3, c4, hc, hs, h⟩ := h
  refine kx_callSU dJ8_setLength_2 lk_J8_333 (kw_J7_setLength h) rfl hr.choose_spec.choose_spec rfl rfl (Nat.le_of_ble_eq_true rfl) (Nat.le_of_ble_eq_true rfl) (Nat.le_of_ble_eq_true rfl) hc hs (fun _ _ _ hx => kx_out rfl (hX _ _ _ hx)) (fun v_ σ2 hq => ?_)
  obtain ⟨rfl, h⟩ := hq
  exact kx_vret dJ8_setLength_5 rfl (hQ _ _ ⟨rfl, h⟩)
set_option maxHeartbeats 8000000 in
theorem kw_J9_getBytes {G : KG} {σ : KHp} {x0 : Nat} {x1 : Option Nat} {x2 : Int32} {x3 : Int32} {Q : KHp → Prop} {X : String → Nat → KHp → Prop} (h : W_J9_getBytes G σ x0 x1 x2 x3 Q X) : kx_c G yJ9_getBytes (ws_ yJ9_getBytes cJ9_getBytes 4 (Option.none : Option Jvm.ClassFile.FieldType)) 6 0 0 [.ref (x0), va_rf (x1), .int (x2), .int (x3)] σ (fun rv σ' => rv = none ∧ Q σ') X := by
  refine kx_mk3 (ini := false) (by decide) (by cases x1 <;> exact Nat.le_of_ble_eq_true rfl) (fun h => by cases h) (fun Q1 X1 hQ hX => ?_)
  unfold W_J9_getBytes at h
  refine kx_lwF [(0, .ref x0), (1, va_rf (x1)), (2, .int (x2)), (3, .int (x3))] (by cases x1 <;> exact ⟨rfl, rfl, rfl, rfl, trivial⟩) ?_
  refine kx_aload_n dJ9_getBytes_0 rfl rfl ?_
  obtain ⟨hr, h⟩ := h
  refine kx_callV dJ9_getBytes_1 lk_J9_335 (kw_J9_coder h) rfl (wR_rc hr rfl) rfl (Nat.le_of_ble_eq_true rfl) (Nat.le_of_ble_eq_true rfl) (Nat.le_of_ble_eq_true rfl) (Nat.le_of_ble_eq_true rfl) (Nat.le_of_ble_eq_true rfl) (fun _ _ _ hx => kx_out rfl (hX _ _ _ hx)) (fun v_ σ2 hq => ?_)
  obtain ⟨v1, rfl, h⟩ := hq
  refine kx_iload_n dJ9_getBytes_4 rfl rfl ?_
  refine kx_icmp_ne (tgt := 28) dJ9_getBytes_5 (by decide) (fun c => ?_) (fun c => ?_)
  · have h := w_iff c h
    refine kx_aload_n dJ9_getBytes_28 rfl rfl ?_
    refine kW_gO dJ9_getBytes_29 (kf1 fl_J9_9_J9) h (fun v3 h => ?_)
    refine kx_iconst (v := 0) dJ9_getBytes_32 (by decide) ?_
    refine kx_aload_nO dJ9_getBytes_33 rfl rfl ?_
    refine kx_iload_n dJ9_getBytes_34 rfl rfl ?_
    refine kx_aload_n dJ9_getBytes_35 rfl rfl ?_
    refine kW_gO dJ9_getBytes_36 (kf1 fl_J9_9_J9) h (fun v4 h => ?_)
    obtain ⟨a5, rfl, hUa5⟩ := h
    have h := hUa5
    refine kW_len dJ9_getBytes_39 h (fun v6 h => ?_)
    refine kx_callS dJ9_getBytes_40 lk_J9_106 (kw_J15_inflate h) rfl rfl (Nat.le_of_ble_eq_true rfl) (Nat.le_of_ble_eq_true rfl) (Nat.le_of_ble_eq_true rfl) (Nat.le_of_ble_eq_true rfl) (Nat.le_of_ble_eq_true rfl) (fun _ _ _ hx => kx_out rfl (hX _ _ _ hx)) (fun v_ σ8 hq => ?_)
    obtain ⟨rfl, h⟩ := hq
    exact kx_vret dJ9_getBytes_43 rfl (hQ _ _ ⟨rfl, h⟩)
  · have h := w_ift c h
    refine kx_aload_n dJ9_getBytes_8 rfl rfl ?_
    refine kW_gO dJ9_getBytes_9 (kf1 fl_J9_9_J9) h (fun v9 h => ?_)
    refine kx_iconst (v := 0) dJ9_getBytes_12 (by decide) ?_
    refine kx_aload_nO dJ9_getBytes_13 rfl rfl ?_
    refine kx_iload_n dJ9_getBytes_14 rfl rfl ?_
    refine kx_iload_n dJ9_getBytes_15 rfl rfl ?_
    refine kx_ishl dJ9_getBytes_16 ?_
    refine kx_aload_n dJ9_getBytes_17 rfl rfl ?_
    refine kW_gO dJ9_getBytes_18 (kf1 fl_J9_9_J9) h (fun v10 h => ?_)
    obtain ⟨a11, rfl, hUa11⟩ := h
    have h := hUa11
    refine kW_len dJ9_getBytes_21 h (fun v12 h => ?_)
    obtain ⟨a13, rfl, hUa13⟩ := h
    have h := hUa13
    obtain ⟨a14, rfl, hUa14⟩ := h
    have h := hUa14
    refine kW_cpy dJ9_getBytes_22 ⟨q430, q357, q356, q160⟩ (Nat.le_of_ble_eq_true rfl) (Nat.le_of_ble_eq_true rfl) h (fun σ15 h => ?_)
    refine kx_goto (tgt := 43) dJ9_getBytes_25 (by decide) ?_
    exact kx_vret dJ9_getBytes_43 rfl (hQ _ _ ⟨rfl, h⟩)
set_option maxHeartbeats 8000000 in
theorem kw_J9_hashCode {G : KG} {σ : KHp} {x0 : Nat} {Q : Int32 → KHp → Prop} {X : String → Nat → KHp → Prop} (h : W_J9_hashCode G σ x0 Q X) : kx_c G yJ9_hashCode (ws_ yJ9_hashCode cJ9_hashCode 2 (Option.some Jvm.ClassFile.FieldType.int)) 4 0 0 [.ref (x0)] σ (fun rv σ' => ∃ r, rv = some (.int (r)) ∧ Q r σ') X := by
  refine kx_mk3 (ini := false) (by decide) (Nat.le_of_ble_eq_true rfl) (fun h => by cases h) (fun Q1 X1 hQ hX => ?_)
  unfold W_J9_hashCode at h
  refine kx_aload_n dJ9_hashCode_0 rfl rfl ?_
  refine kW_gI dJ9_hashCode_1 (kf1 fl_J9_19_J9) h (fun v1 h => ?_)
  refine kx_istore_n dJ9_hashCode_4 rfl (Nat.le_of_ble_eq_true rfl) ?_
  refine kx_iload_n dJ9_hashCode_5 rfl rfl ?_
  refine kx_if_ne (tgt := 58) dJ9_hashCode_6 (by decide) (fun c => ?_) (fun c => ?_)
  · have h := w_iff c h
    refine kx_iload_n dJ9_hashCode_58 rfl rfl ?_
    exact kx_iret dJ9_hashCode_59 rfl (hQ _ _ ⟨_, rfl, h⟩)
  · have h := w_ift c h
    refine kx_aload_n dJ9_hashCode_9 rfl rfl ?_
    refine kW_gI dJ9_hashCode_10 (kf1 fl_J9_23_J9) h (fun v2 h => ?_)
    refine kx_if_ne (tgt := 58) dJ9_hashCode_13 (by decide) (fun c => ?_) (fun c => ?_)
    · have h := w_iff c h
      refine kx_iload_n dJ9_hashCode_58 rfl rfl ?_
      exact kx_iret dJ9_hashCode_59 rfl (hQ _ _ ⟨_, rfl, h⟩)
    · have h := w_ift c h
      refine kx_aload_n dJ9_hashCode_16 rfl rfl ?_
      obtain ⟨hr, h⟩ := h
      refine kx_callV dJ9_hashCode_17 lk_J9_492 (kw_J9_isLatin1 h) rfl (wR_rc hr rfl) rfl (Nat.le_of_ble_eq_true rfl) (Nat.le_of_ble_eq_true rfl) (Nat.le_of_ble_eq_true rfl) (Nat.le_of_ble_eq_true rfl) (Nat.le_of_ble_eq_true rfl) (fun _ _ _ hx => kx_out rfl (hX _ _ _ hx)) (fun v_ σ4 hq => ?_)
      obtain ⟨v3, rfl, h⟩ := hq
      refine kW_jI 40 [] h (fun v12 σ13 h => ?_) (fun k5 jk5 h => ?_)
      · skip
        refine kx_istore_n dJ9_hashCode_40 rfl (Nat.le_of_ble_eq_true rfl) ?_
        refine kx_iload_n dJ9_hashCode_41 rfl rfl ?_
        refine kx_if_ne (tgt := 53) dJ9_hashCode_42 (by decide) (fun c => ?_) (fun c => ?_)
        · have h := w_iff c h
          refine kx_aload_n dJ9_hashCode_53 rfl rfl ?_
          refine kx_iload_n dJ9_hashCode_54 rfl rfl ?_
          refine kW_p dJ9_hashCode_55 (kp1 ⟨_, _, _, _, kc_J9, fl_J9_19_J9, Or.inl rfl, rfl, rfl⟩) h (fun σ14 h => ?_)
          refine kx_iload_n dJ9_hashCode_58 rfl rfl ?_
          exact kx_iret dJ9_hashCode_59 rfl (hQ _ _ ⟨_, rfl, h⟩)
        · have h := w_ift c h
          refine kx_aload_n dJ9_hashCode_45 rfl rfl ?_
          refine kx_iconst (v := 1) dJ9_hashCode_46 (by decide) ?_
          refine kW_pZ dJ9_hashCode_47 (kp1 ⟨_, _, _, _, kc_J9, fl_J9_23_J9, Or.inl rfl, rfl, rfl⟩) (kp1 ⟨_, _, _, _, kc_J9, fl_J9_23_J9, Or.inl rfl, rfl, rfl⟩) h (fun σ15 h => ?_)
          refine kx_goto (tgt := 58) dJ9_hashCode_50 (by decide) ?_
          refine kx_iload_n dJ9_hashCode_58 rfl rfl ?_
          exact kx_iret dJ9_hashCode_59 rfl (hQ _ _ ⟨_, rfl, h⟩)
      · skip
        refine kx_if_eq (tgt := 33) dJ9_hashCode_20 (by decide) (fun c => ?_) (fun c => ?_)
        · have h := w_ift c h
          refine kx_aload_n dJ9_hashCode_33 rfl rfl ?_
          refine kW_gO dJ9_hashCode_34 (kf1 fl_J9_9_J9) h (fun v6 h => ?_)
          refine kx_callS dJ9_hashCode_37 lk_J9_632 (kw_J10_hashCode h) rfl rfl (Nat.le_of_ble_eq_true rfl) (Nat.le_of_ble_eq_true rfl) (Nat.le_of_ble_eq_true rfl) (Nat.le_of_ble_eq_true rfl) (Nat.le_of_ble_eq_true rfl) (fun _ _ _ hx => kx_out rfl (hX _ _ _ hx)) (fun v_ σ8 hq => ?_)
          obtain ⟨v7, rfl, h⟩ := hq
          exact jk5 _ _ h
        · have h := w_iff c h
          refine kx_aload_n dJ9_hashCode_23 rfl rfl ?_
          refine kW_gO dJ9_hashCode_24 (kf1 fl_J9_9_J9) h (fun v9 h => ?_)
          refine kx_callS dJ9_hashCode_27 lk_J9_628 (kw_J15_hashCode h) rfl rfl (Nat.le_of_ble_eq_true rfl) (Nat.le_of_ble_eq_true rfl) (Nat.le_of_ble_eq_true rfl) (Nat.le_of_ble_eq_true rfl) (Nat.le_of_ble_eq_true rfl) (fun _ _ _ hx => kx_out rfl (hX _ _ _ hx)) (fun v_ σ11 hq => ?_)
          obtain ⟨v10, rfl, h⟩ := hq
          refine kx_goto (tgt := 40) dJ9_hashCode_30 (by decide) ?_
          exact jk5 _ _ h
set_option maxHeartbeats 8000000 in
theorem kw_J10_compress {G : KG} {bc bs : Nat} {σ : KHp} {x0 : Option Nat} {x1 : Int32} {x2 : Int32} {Q : Option Nat → KHp → Prop} {X : String → Nat → KHp → Prop} (h : W_J10_compress G bc bs σ x0 x1 x2 Q X) : kx_c G yJ10_compress (ws_ yJ10_compress cJ10_compress 6 (Option.some (Jvm.ClassFile.FieldType.array Jvm.ClassFile.FieldType.byte))) 5 bc bs [va_rf (x0), .int (x1), .int (x2)] σ (fun rv σ' => ∃ r, rv = some (va_rf (r)) ∧ Q r σ') X := by
  refine kx_mk3 (ini := false) (by decide) (by cases x0 <;> exact Nat.le_of_ble_eq_true rfl) (fun h => by cases h) (fun Q1 X1 hQ hX => ?_)
  unfold W_J10_compress at h
  refine kx_lwF [(0, va_rf (x0)), (1, .int (x1)), (2, .int (x2))] (by cases x0 <;> exact ⟨rfl, rfl, rfl, trivial⟩) ?_
  refine kx_iload_n dJ10_compress_0 rfl rfl ?_
  refine kW_newa dJ10_compress_1 rfl q310 (fun _ _ => rfl) h (fun n3 q1 σ2 h => ?_)
  refine kx_astore_n dJ10_compress_3 rfl (Nat.le_of_ble_eq_true rfl) ?_
  refine kx_aload_nO dJ10_compress_4 rfl rfl ?_
  refine kx_iload_n dJ10_compress_5 rfl rfl ?_
  refine kx_aload_n dJ10_compress_6 rfl rfl ?_
  refine kx_iconst (v := 0) dJ10_compress_7 (by decide) ?_
  refine kx_iload_n dJ10_compress_8 rfl rfl ?_
  refine kx_callS dJ10_compress_9 lk_J10_123 (kw_J10_compress_2 h) rfl rfl (Nat.le_of_ble_eq_true rfl) (Nat.le_of_ble_eq_true rfl) (Nat.le_of_ble_eq_true rfl) (Nat.le_of_ble_eq_true rfl) (Nat.le_of_ble_eq_true rfl) (fun _ _ _ hx => kx_out rfl (hX _ _ _ hx)) (fun v_ σ5 hq => ?_)
  obtain ⟨v4, rfl, h⟩ := hq
  refine kx_istore dJ10_compress_12 (Nat.le_of_ble_eq_true rfl) ?_
  refine kx_iload dJ10_compress_14 rfl ?_
  refine kx_iload_n dJ10_compress_16 rfl rfl ?_
  refine kx_icmp_eq (tgt := 64) dJ10_compress_17 (by decide) (fun c => ?_) (fun c => ?_)
  · have h := w_ift c h
    refine kx_aload_n dJ10_compress_64 rfl rfl ?_
    exact kx_aret dJ10_compress_65 rfl (Or.inr ⟨_, rfl⟩) (Or.inr ⟨_, rfl⟩) (hQ _ _ ⟨some _, rfl, h⟩)
  · have h := w_iff c h
    refine kx_aload_nO dJ10_compress_20 rfl rfl ?_
    refine kx_iload_n dJ10_compress_21 rfl rfl ?_
    refine kx_iconst (v := 1) dJ10_compress_22 (by decide) ?_
    refine kx_ishl dJ10_compress_23 ?_
    refine kx_iload_n dJ10_compress_24 rfl rfl ?_
    refine kx_iload_n dJ10_compress_25 rfl rfl ?_
    refine kx_iadd dJ10_compress_26 ?_
    refine kx_callS dJ10_compress_27 lk_J10_11 (kw_J10_newBytesLength h) rfl rfl (by cases x0 <;> exact Nat.le_of_ble_eq_true rfl) (Nat.le_of_ble_eq_true rfl) (Nat.le_of_ble_eq_true rfl) (Nat.le_of_ble_eq_true rfl) (Nat.le_of_ble_eq_true rfl) (fun _ _ _ hx => kx_out rfl (hX _ _ _ hx)) (fun v_ σ7 hq => ?_)
    obtain ⟨v6, rfl, h⟩ := hq
    obtain ⟨c10, c11, hc, hs, h⟩ := h
    refine kx_callS dJ10_compress_30 lk_J10_126 (kw_J13_copyOfRange h) rfl rfl (Nat.le_of_ble_eq_true rfl) (Nat.le_of_ble_eq_true rfl) (Nat.le_of_ble_eq_true rfl) hc hs (fun _ _ _ hx => kx_out rfl (hX _ _ _ hx)) (fun v_ σ9 hq => ?_)
    obtain ⟨v8, rfl, h⟩ := hq
    refine kx_astoreO dJ10_compress_33 (Nat.le_of_ble_eq_true rfl) ?_
    refine kx_aloadO dJ10_compress_35 rfl ?_
    refine kx_iload dJ10_compress_37 rfl ?_
    refine kx_callS dJ10_compress_39 lk_J10_71 (kw_J10_getChar h) rfl rfl (Nat.le_of_ble_eq_true rfl) (Nat.le_of_ble_eq_true rfl) (Nat.le_of_ble_eq_true rfl) (Nat.le_of_ble_eq_true rfl) (Nat.le_of_ble_eq_true rfl) (fun _ _ _ hx => kx_out rfl (hX _ _ _ hx)) (fun v_ σ13 hq => ?_)
    obtain ⟨v12, rfl, h⟩ := hq
    refine kx_sipush (v := 255) dJ10_compress_42 (by decide) ?_
    refine kx_icmp_gt (tgt := 61) dJ10_compress_45 (by decide) (fun c => ?_) (fun c => ?_)
    · have h := w_ift c h
      refine kx_aloadO dJ10_compress_61 rfl ?_
      exact kx_aret dJ10_compress_63 rfl (Or.inr ⟨_, rfl⟩) (va_rfs _) (hQ _ _ ⟨_, rfl, h⟩)
    · have h := w_iff c h
      refine kx_aloadO dJ10_compress_48 rfl ?_
      refine kx_iconst (v := 0) dJ10_compress_50 (by decide) ?_
      refine kx_aload_n dJ10_compress_51 rfl rfl ?_
      refine kx_iconst (v := 0) dJ10_compress_52 (by decide) ?_
      refine kx_iload_n dJ10_compress_53 rfl rfl ?_
      refine kx_callS dJ10_compress_54 lk_J10_123 (kw_J10_compress_2 h) rfl rfl (Nat.le_of_ble_eq_true rfl) (Nat.le_of_ble_eq_true rfl) (Nat.le_of_ble_eq_true rfl) (Nat.le_of_ble_eq_true rfl) (Nat.le_of_ble_eq_true rfl) (fun _ _ _ hx => kx_out rfl (hX _ _ _ hx)) (fun v_ σ15 hq => ?_)
      obtain ⟨v14, rfl, h⟩ := hq
      refine kx_iload_n dJ10_compress_57 rfl rfl ?_
      refine kx_icmp_eq (tgt := 64) dJ10_compress_58 (by decide) (fun c => ?_) (fun c => ?_)
      · have h := w_ift c h
        refine kx_aload_n dJ10_compress_64 rfl rfl ?_
        exact kx_aret dJ10_compress_65 rfl (Or.inr ⟨_, rfl⟩) (Or.inr ⟨_, rfl⟩) (hQ _ _ ⟨some _, rfl, h⟩)
      · have h := w_iff c h
        refine kx_aloadO dJ10_compress_61 rfl ?_
        exact kx_aret dJ10_compress_63 rfl (Or.inr ⟨_, rfl⟩) (va_rfs _) (hQ _ _ ⟨_, rfl, h⟩)
set_option maxHeartbeats 8000000 in
theorem kw_J17_iterator {G : KG} {bc bs : Nat} {σ : KHp} {x0 : Nat} {Q : Option Nat → KHp → Prop} {X : String → Nat → KHp → Prop} (h : W_J17_iterator G bc bs σ x0 Q X) : kx_c G yJ17_iterator (ws_ yJ17_iterator cJ17_iterator 1 (Option.some (Jvm.ClassFile.FieldType.object "java/util/Iterator"))) 5 bc bs [.ref (x0)] σ (fun rv σ' => ∃ r, rv = some (va_rf (r)) ∧ Q r σ') X := by
  refine kx_mk3 (ini := false) (by decide) (Nat.le_of_ble_eq_true rfl) (fun h => by cases h) (fun Q1 X1 hQ hX => ?_)
  unfold W_J17_iterator at h
  refine kx_aload_n dJ17_iterator_0 rfl rfl ?_
  obtain ⟨hr, h⟩ := h
  obtain ⟨c3, c4, hc, hs, h⟩ := h
  refine kx_callU dJ17_iterator_1 lk_J17_65_J18 (kw_J1_listIterator h) rfl (wR_rc hr rfl) rfl (Nat.le_of_ble_eq_true rfl) (Nat.le_of_ble_eq_true rfl) (Nat.le_of_ble_eq_true rfl) hc hs (fun _ _ _ hx => kx_out rfl (hX _ _ _ hx)) (fun v_ σ2 hq => ?_)
  obtain ⟨v1, rfl, h⟩ := hq
  exact kx_aret dJ17_iterator_4 rfl (Or.inl ⟨_, rfl⟩) (va_rfs _) (hQ _ _ ⟨_, rfl, h⟩)
set_option maxHeartbeats 8000000 in
theorem kw_X1_featureOf {G : KG} {σ : KHp} {x0 : Option Nat} {Q : Int32 → KHp → Prop} {X : String → Nat → KHp → Prop} (h : W_X1_featureOf G σ x0 Q X) : kx_c G yX1_featureOf (ws_ yX1_featureOf cX1_featureOf 3 (Option.some Jvm.ClassFile.FieldType.int)) 5 0 0 [va_rf (x0)] σ (fun rv σ' => ∃ r, rv = some (.int (r)) ∧ Q r σ') X := by
  refine kx_mk3 (ini := false) rfl (by cases x0 <;> exact Nat.le_of_ble_eq_true rfl) (fun h => by cases h) (fun Q1 X1 hQ hX => ?_)
  unfold W_X1_featureOf at h
  refine kx_lwF [(0, va_rf (x0))] (by cases x0 <;> exact ⟨rfl, trivial⟩) ?_
  refine kx_aload_nO dX1_featureOf_0 rfl rfl ?_
  refine kx_astore_nO dX1_featureOf_1 rfl (Nat.le_of_ble_eq_true rfl) ?_
  refine kx_iconst (v := -1) dX1_featureOf_2 (by decide) ?_
  refine kx_istore_n dX1_featureOf_3 rfl (Nat.le_of_ble_eq_true rfl) ?_
  refine kx_lwF [(1, va_rf (x0)), (2, .int ((-1 : Int32)))] (by cases x0 <;> exact ⟨rfl, rfl, trivial⟩) ?_
  refine kx_aload_nO dX1_featureOf_4 rfl rfl ?_
  obtain ⟨a1, rfl, hUa1⟩ := h
  have h := hUa1
  obtain ⟨hr, h⟩ := h
  refine kx_callV dX1_featureOf_5 lk_X1_16 (kw_J9_hashCode h) rfl (wR_rc hr rfl) rfl (Nat.le_of_ble_eq_true rfl) (Nat.le_of_ble_eq_true rfl) (Nat.le_of_ble_eq_true rfl) (Nat.le_of_ble_eq_true rfl) (Nat.le_of_ble_eq_true rfl) (fun _ _ _ hx => kx_out rfl (hX _ _ _ hx)) (fun v_ σ3 hq => ?_)
  obtain ⟨v2, rfl, h⟩ := hq
  refine kW_jl 149 (fun v17 : Int32 => [(2, .int (v17))]) h (fun v17 σ18 h => ?_) (fun k4 jk4 h => ?_)
  · skip
    refine kx_iload_n dX1_featureOf_149 rfl rfl ?_
    refine kW_jI 213 [] h (fun v20 σ21 h => ?_) (fun k19 jk19 h => ?_)
    · skip
      exact kx_iret dX1_featureOf_213 rfl (hQ _ _ ⟨_, rfl, h⟩)
    · skip
      by_cases c0 : v17 = (0 : Int32)
      · have h := w_ift c0 h
        refine kx_tableIn (tgt := 188) dX1_featureOf_150 (by rw [c0]; decide) (by rw [c0]; decide) (by rw [c0]; rfl) (by decide) ?_
        refine kx_iconst (v := 0) dX1_featureOf_188 (by decide) ?_
        refine kx_goto (tgt := 213) dX1_featureOf_189 (by decide) ?_
        exact jk19 _ _ h
      have h := w_iff c0 h
      by_cases c1 : v17 = (1 : Int32)
      · have h := w_ift c1 h
        refine kx_tableIn (tgt := 192) dX1_featureOf_150 (by rw [c1]; decide) (by rw [c1]; decide) (by rw [c1]; rfl) (by decide) ?_
        refine kx_iconst (v := 1) dX1_featureOf_192 (by decide) ?_
        refine kx_goto (tgt := 213) dX1_featureOf_193 (by decide) ?_
        exact jk19 _ _ h
      have h := w_iff c1 h
      by_cases c2 : v17 = (2 : Int32)
      · have h := w_ift c2 h
        refine kx_tableIn (tgt := 196) dX1_featureOf_150 (by rw [c2]; decide) (by rw [c2]; decide) (by rw [c2]; rfl) (by decide) ?_
        refine kx_iconst (v := 2) dX1_featureOf_196 (by decide) ?_
        refine kx_goto (tgt := 213) dX1_featureOf_197 (by decide) ?_
        exact jk19 _ _ h
      have h := w_iff c2 h
      by_cases c3 : v17 = (3 : Int32)
      · have h := w_ift c3 h
        refine kx_tableIn (tgt := 200) dX1_featureOf_150 (by rw [c3]; decide) (by rw [c3]; decide) (by rw [c3]; rfl) (by decide) ?_
        refine kx_iconst (v := 3) dX1_featureOf_200 (by decide) ?_
        refine kx_goto (tgt := 213) dX1_featureOf_201 (by decide) ?_
        exact jk19 _ _ h
      have h := w_iff c3 h
      by_cases c4 : v17 = (4 : Int32)
      · have h := w_ift c4 h
        refine kx_tableIn (tgt := 204) dX1_featureOf_150 (by rw [c4]; decide) (by rw [c4]; decide) (by rw [c4]; rfl) (by decide) ?_
        refine kx_iconst (v := 4) dX1_featureOf_204 (by decide) ?_
        refine kx_goto (tgt := 213) dX1_featureOf_205 (by decide) ?_
        exact jk19 _ _ h
      have h := w_iff c4 h
      by_cases c5 : v17 = (5 : Int32)
      · have h := w_ift c5 h
        refine kx_tableIn (tgt := 208) dX1_featureOf_150 (by rw [c5]; decide) (by rw [c5]; decide) (by rw [c5]; rfl) (by decide) ?_
        refine kx_iconst (v := 5) dX1_featureOf_208 (by decide) ?_
        refine kx_goto (tgt := 213) dX1_featureOf_209 (by decide) ?_
        exact jk19 _ _ h
      have h := w_iff c5 h
      refine kx_tableOut (tgt := 212) dX1_featureOf_150 (tbN (k := 6) (lo := 0) (by decide) (by intro j hj; rcases (show j = 0 ∨ j = 1 ∨ j = 2 ∨ j = 3 ∨ j = 4 ∨ j = 5 by omega) with rfl | rfl | rfl | rfl | rfl | rfl <;> assumption)) (by decide) ?_
      refine kx_iconst (v := -1) dX1_featureOf_212 (by decide) ?_
      exact jk19 _ _ h
  · skip
    by_cases c0 : v2 = (-1361636432 : Int32)
    · have h := w_ift c0 h
      refine kx_lookup (tgt := 124) (off := 116) dX1_featureOf_8 (by decide) (by rw [c0]; decide) (by decide) ?_
      refine kx_aload_n dX1_featureOf_124 rfl rfl ?_
      refine kx_ldcS dX1_featureOf_125 ks_ArcRecorder_34 ?_
      obtain ⟨hr, h⟩ := h
      refine kx_callV dX1_featureOf_127 lk_X1_24 (kw_J9_equals h) rfl (wR_rc hr rfl) rfl (Nat.le_of_ble_eq_true rfl) (Nat.le_of_ble_eq_true rfl) (Nat.le_of_ble_eq_true rfl) (Nat.le_of_ble_eq_true rfl) (Nat.le_of_ble_eq_true rfl) (fun _ _ _ hx => kx_out rfl (hX _ _ _ hx)) (fun v_ σ6 hq => ?_)
      obtain ⟨v5, rfl, h⟩ := hq
      refine kx_if_eq (tgt := 149) dX1_featureOf_130 (by decide) (fun c => ?_) (fun c => ?_)
      · have h := w_ift c h
        exact kx_lwF [(2, .int ((-1 : Int32)))] ⟨rfl, trivial⟩ (jk4 (-1 : Int32) _ h)
      · have h := w_iff c h
        refine kx_iconst (v := 4) dX1_featureOf_133 (by decide) ?_
        refine kx_istore_n dX1_featureOf_134 rfl (Nat.le_of_ble_eq_true rfl) ?_
        refine kx_goto (tgt := 149) dX1_featureOf_135 (by decide) ?_
        exact kx_lwF [(2, .int ((4 : Int32)))] ⟨rfl, trivial⟩ (jk4 (4 : Int32) _ h)
    have h := w_iff c0 h
    by_cases c1 : v2 = (-1298713976 : Int32)
    · have h := w_ift c1 h
      refine kx_lookup (tgt := 138) (off := 130) dX1_featureOf_8 (by decide) (by rw [c1]; decide) (by decide) ?_
      refine kx_aload_n dX1_featureOf_138 rfl rfl ?_
      refine kx_ldcS dX1_featureOf_139 ks_ArcRecorder_36 ?_
      obtain ⟨hr, h⟩ := h
      refine kx_callV dX1_featureOf_141 lk_X1_24 (kw_J9_equals h) rfl (wR_rc hr rfl) rfl (Nat.le_of_ble_eq_true rfl) (Nat.le_of_ble_eq_true rfl) (Nat.le_of_ble_eq_true rfl) (Nat.le_of_ble_eq_true rfl) (Nat.le_of_ble_eq_true rfl) (fun _ _ _ hx => kx_out rfl (hX _ _ _ hx)) (fun v_ σ8 hq => ?_)
      obtain ⟨v7, rfl, h⟩ := hq
      refine kx_if_eq (tgt := 149) dX1_featureOf_144 (by decide) (fun c => ?_) (fun c => ?_)
      · have h := w_ift c h
        exact kx_lwF [(2, .int ((-1 : Int32)))] ⟨rfl, trivial⟩ (jk4 (-1 : Int32) _ h)
      · have h := w_iff c h
        refine kx_iconst (v := 5) dX1_featureOf_147 (by decide) ?_
        refine kx_istore_n dX1_featureOf_148 rfl (Nat.le_of_ble_eq_true rfl) ?_
        exact kx_lwF [(2, .int ((5 : Int32)))] ⟨rfl, trivial⟩ (jk4 (5 : Int32) _ h)
    have h := w_iff c1 h
    by_cases c2 : v2 = (3145593 : Int32)
    · have h := w_ift c2 h
      refine kx_lookup (tgt := 96) (off := 88) dX1_featureOf_8 (by decide) (by rw [c2]; decide) (by decide) ?_
      refine kx_aload_n dX1_featureOf_96 rfl rfl ?_
      refine kx_ldcS dX1_featureOf_97 ks_ArcRecorder_30 ?_
      obtain ⟨hr, h⟩ := h
      refine kx_callV dX1_featureOf_99 lk_X1_24 (kw_J9_equals h) rfl (wR_rc hr rfl) rfl (Nat.le_of_ble_eq_true rfl) (Nat.le_of_ble_eq_true rfl) (Nat.le_of_ble_eq_true rfl) (Nat.le_of_ble_eq_true rfl) (Nat.le_of_ble_eq_true rfl) (fun _ _ _ hx => kx_out rfl (hX _ _ _ hx)) (fun v_ σ10 hq => ?_)
      obtain ⟨v9, rfl, h⟩ := hq
      refine kx_if_eq (tgt := 149) dX1_featureOf_102 (by decide) (fun c => ?_) (fun c => ?_)
      · have h := w_ift c h
        exact kx_lwF [(2, .int ((-1 : Int32)))] ⟨rfl, trivial⟩ (jk4 (-1 : Int32) _ h)
      · have h := w_iff c h
        refine kx_iconst (v := 2) dX1_featureOf_105 (by decide) ?_
        refine kx_istore_n dX1_featureOf_106 rfl (Nat.le_of_ble_eq_true rfl) ?_
        refine kx_goto (tgt := 149) dX1_featureOf_107 (by decide) ?_
        exact kx_lwF [(2, .int ((2 : Int32)))] ⟨rfl, trivial⟩ (jk4 (2 : Int32) _ h)
    have h := w_iff c2 h
    by_cases c3 : v2 = (3347397 : Int32)
    · have h := w_ift c3 h
      refine kx_lookup (tgt := 82) (off := 74) dX1_featureOf_8 (by decide) (by rw [c3]; decide) (by decide) ?_
      refine kx_aload_n dX1_featureOf_82 rfl rfl ?_
      refine kx_ldcS dX1_featureOf_83 ks_ArcRecorder_28 ?_
      obtain ⟨hr, h⟩ := h
      refine kx_callV dX1_featureOf_85 lk_X1_24 (kw_J9_equals h) rfl (wR_rc hr rfl) rfl (Nat.le_of_ble_eq_true rfl) (Nat.le_of_ble_eq_true rfl) (Nat.le_of_ble_eq_true rfl) (Nat.le_of_ble_eq_true rfl) (Nat.le_of_ble_eq_true rfl) (fun _ _ _ hx => kx_out rfl (hX _ _ _ hx)) (fun v_ σ12 hq => ?_)
      obtain ⟨v11, rfl, h⟩ := hq
      refine kx_if_eq (tgt := 149) dX1_featureOf_88 (by decide) (fun c => ?_) (fun c => ?_)
      · have h := w_ift c h
        exact kx_lwF [(2, .int ((-1 : Int32)))] ⟨rfl, trivial⟩ (jk4 (-1 : Int32) _ h)
      · have h := w_iff c h
        refine kx_iconst (v := 1) dX1_featureOf_91 (by decide) ?_
        refine kx_istore_n dX1_featureOf_92 rfl (Nat.le_of_ble_eq_true rfl) ?_
        refine kx_goto (tgt := 149) dX1_featureOf_93 (by decide) ?_
        exact kx_lwF [(2, .int ((1 : Int32)))] ⟨rfl, trivial⟩ (jk4 (1 : Int32) _ h)
    have h := w_iff c3 h
    by_cases c4 : v2 = (3436767 : Int32)
    · have h := w_ift c4 h
      refine kx_lookup (tgt := 68) (off := 60) dX1_featureOf_8 (by decide) (by rw [c4]; decide) (by decide) ?_
      refine kx_aload_n dX1_featureOf_68 rfl rfl ?_
      refine kx_ldcS dX1_featureOf_69 ks_ArcRecorder_22 ?_
      obtain ⟨hr, h⟩ := h
      refine kx_callV dX1_featureOf_71 lk_X1_24 (kw_J9_equals h) rfl (wR_rc hr rfl) rfl (Nat.le_of_ble_eq_true rfl) (Nat.le_of_ble_eq_true rfl) (Nat.le_of_ble_eq_true rfl) (Nat.le_of_ble_eq_true rfl) (Nat.le_of_ble_eq_true rfl) (fun _ _ _ hx => kx_out rfl (hX _ _ _ hx)) (fun v_ σ14 hq => ?_)
      obtain ⟨v13, rfl, h⟩ := hq
      refine kx_if_eq (tgt := 149) dX1_featureOf_74 (by decide) (fun c => ?_) (fun c => ?_)
      · have h := w_ift c h
        exact kx_lwF [(2, .int ((-1 : Int32)))] ⟨rfl, trivial⟩ (jk4 (-1 : Int32) _ h)
      · have h := w_iff c h
        refine kx_iconst (v := 0) dX1_featureOf_77 (by decide) ?_
        refine kx_istore_n dX1_featureOf_78 rfl (Nat.le_of_ble_eq_true rfl) ?_
        refine kx_goto (tgt := 149) dX1_featureOf_79 (by decide) ?_
        exact kx_lwF [(2, .int ((0 : Int32)))] ⟨rfl, trivial⟩ (jk4 (0 : Int32) _ h)
    have h := w_iff c4 h
    by_cases c5 : v2 = (109760975 : Int32)
    · have h := w_ift c5 h
      refine kx_lookup (tgt := 110) (off := 102) dX1_featureOf_8 (by decide) (by rw [c5]; decide) (by decide) ?_
      refine kx_aload_n dX1_featureOf_110 rfl rfl ?_
      refine kx_ldcS dX1_featureOf_111 ks_ArcRecorder_32 ?_
      obtain ⟨hr, h⟩ := h
      refine kx_callV dX1_featureOf_113 lk_X1_24 (kw_J9_equals h) rfl (wR_rc hr rfl) rfl (Nat.le_of_ble_eq_true rfl) (Nat.le_of_ble_eq_true rfl) (Nat.le_of_ble_eq_true rfl) (Nat.le_of_ble_eq_true rfl) (Nat.le_of_ble_eq_true rfl) (fun _ _ _ hx => kx_out rfl (hX _ _ _ hx)) (fun v_ σ16 hq => ?_)
      obtain ⟨v15, rfl, h⟩ := hq
      refine kx_if_eq (tgt := 149) dX1_featureOf_116 (by decide) (fun c => ?_) (fun c => ?_)
      · have h := w_ift c h
        exact kx_lwF [(2, .int ((-1 : Int32)))] ⟨rfl, trivial⟩ (jk4 (-1 : Int32) _ h)
      · have h := w_iff c h
        refine kx_iconst (v := 3) dX1_featureOf_119 (by decide) ?_
        refine kx_istore_n dX1_featureOf_120 rfl (Nat.le_of_ble_eq_true rfl) ?_
        refine kx_goto (tgt := 149) dX1_featureOf_121 (by decide) ?_
        exact kx_lwF [(2, .int ((3 : Int32)))] ⟨rfl, trivial⟩ (jk4 (3 : Int32) _ h)
    have h := w_iff c5 h
    refine kx_lookup (tgt := 149) (off := 141) dX1_featureOf_8 (by decide) (lk_out (by intro p hp; simp only [List.mem_cons, List.not_mem_nil, or_false] at hp; rcases hp with rfl | rfl | rfl | rfl | rfl | rfl <;> intro hh <;> first | exact c0 (Int32.toInt_inj.mp hh) | exact c1 (Int32.toInt_inj.mp hh) | exact c2 (Int32.toInt_inj.mp hh) | exact c3 (Int32.toInt_inj.mp hh) | exact c4 (Int32.toInt_inj.mp hh) | exact c5 (Int32.toInt_inj.mp hh))) (by decide) ?_
    exact kx_lwF [(2, .int ((-1 : Int32)))] ⟨rfl, trivial⟩ (jk4 (-1 : Int32) _ h)
set_option maxHeartbeats 8000000 in
theorem kw_X1_nextSwitch {G : KG} {bc bs : Nat} {σ : KHp} {x0 : Nat} {x1 : Int32} {Q : Int32 → KHp → Prop} {X : String → Nat → KHp → Prop} (h : W_X1_nextSwitch G bc bs σ x0 x1 Q X) : kx_c G yX1_nextSwitch (ws_ yX1_nextSwitch cX1_nextSwitch 5 (Option.some Jvm.ClassFile.FieldType.int)) 10 bc bs [.ref (x0), .int (x1)] σ (fun rv σ' => ∃ r, rv = some (.int (r)) ∧ Q r σ') X := by
  refine kx_mk3 (ini := false) rfl (Nat.le_of_ble_eq_true rfl) (fun h => by cases h) (fun Q1 X1 hQ hX => ?_)
  unfold W_X1_nextSwitch at h
  refine kx_aload_n dX1_nextSwitch_0 rfl rfl ?_
  refine kx_iload_n dX1_nextSwitch_1 rfl rfl ?_
  obtain ⟨hr, h⟩ := h
  obtain ⟨c3, c4, hc, hs, h⟩ := h
  refine kx_callV dX1_nextSwitch_2 lk_X1_262 (kw_X1_loadAt h) rfl (wR_rc hr rfl) rfl (Nat.le_of_ble_eq_true rfl) (Nat.le_of_ble_eq_true rfl) (Nat.le_of_ble_eq_true rfl) hc hs (fun _ _ _ hx => kx_out rfl (hX _ _ _ hx)) (fun v_ σ2 hq => ?_)
  obtain ⟨v1, rfl, h⟩ := hq
  refine kx_pop dX1_nextSwitch_5 (va_cat _) ?_
  refine kx_iconst (v := -1) dX1_nextSwitch_6 (by decide) ?_
  refine kx_istore_n dX1_nextSwitch_7 rfl (Nat.le_of_ble_eq_true rfl) ?_
  refine kx_aload_n dX1_nextSwitch_8 rfl rfl ?_
  refine kW_gO dX1_nextSwitch_9 (kf1 fl_X1_103_X1) h (fun v5 h => ?_)
  obtain ⟨a6, rfl, hUa6⟩ := h
  have h := hUa6
  refine kW_gO dX1_nextSwitch_12 (kf1 fl_X1_226_X2) h (fun v7 h => ?_)
  obtain ⟨a8, rfl, hUa8⟩ := h
  have h := hUa8
  obtain ⟨hr, h⟩ := h
  obtain ⟨c11, c12, hc, hs, h⟩ := h
  refine kx_callU dX1_nextSwitch_15 lk_X1_294_J18 (kw_J17_iterator h) rfl (wR_rc hr rfl) rfl (Nat.le_of_ble_eq_true rfl) (Nat.le_of_ble_eq_true rfl) (Nat.le_of_ble_eq_true rfl) hc hs (fun _ _ _ hx => kx_out rfl (hX _ _ _ hx)) (fun v_ σ10 hq => ?_)
  obtain ⟨v9, rfl, h⟩ := hq
  refine kx_astore_nO dX1_nextSwitch_18 rfl (Nat.le_of_ble_eq_true rfl) ?_
  refine kx_lwF [(1, .int (x1)), (2, .int ((-1 : Int32))), (3, va_rf (v9))] ⟨rfl, rfl, rfl, trivial⟩ ?_
  refine loopW3_k (fun (σ : KHp) (bc19 bs19 : Nat) (l2 : Int32) => kx G (yX1_nextSwitch.cls, cX1_nextSwitch, 5, (Option.some Jvm.ClassFile.FieldType.int), false, []) (10, bc, bs, Q1, X1) (bc19) (bs19) σ 19 (kF [(1, .int (x1)), (2, .int (l2)), (3, va_rf (v9))]) []) (fun kI19 hI19 σ bc19 bs19 l2 h => ?_) 9000 σ10 (bc - c3 - c11) (bs - c4 - c12) (-1 : Int32) h
  unfold WB_X1_nextSwitch_19 at h
  refine kx_aload_nO dX1_nextSwitch_19 rfl rfl ?_
  obtain ⟨a20001, rfl, hUa20001⟩ := h
  have h := hUa20001
  refine kW_jIa 25 [] h (fun v20002 σ20003 bcv20002 bsv20002 h => ?_) (fun k20004 jk20004 h => ?_)
  · skip
    refine kx_if_eq (tgt := 71) dX1_nextSwitch_25 (by decide) (fun c => ?_) (fun c => ?_)
    · have h := w_ift c h
      refine kx_iload_n dX1_nextSwitch_71 rfl rfl ?_
      exact kx_iret dX1_nextSwitch_72 rfl (hQ _ _ ⟨_, rfl, h⟩)
    · have h := w_iff c h
      refine kx_aload_n dX1_nextSwitch_28 rfl rfl ?_
      refine kW_jOa 34 [] h (fun v20005 σ20006 bcv20005 bsv20005 h => ?_) (fun k20007 jk20007 h => ?_)
      · skip
        obtain ⟨a20008, rfl, hUa20008⟩ := h
        have h := hUa20008
        obtain ⟨⟨tc, fc, hr⟩, h⟩ := h
        refine kx_castS dX1_nextSwitch_34 hr rfl q2135 ?_
        refine kx_astore dX1_nextSwitch_37 (Nat.le_of_ble_eq_true rfl) ?_
        refine kx_aload dX1_nextSwitch_39 rfl ?_
        refine kW_gI dX1_nextSwitch_41 (kf1 fl_X1_307_X17) h (fun v20009 h => ?_)
        refine kx_iload_n dX1_nextSwitch_44 rfl rfl ?_
        refine kW_jla 68 (fun v20014 : Int32 => [(1, .int (x1)), (2, .int (v20014)), (3, .ref (a20001))]) h (fun v20014 σ20015 bcv20014 bsv20014 h => ?_) (fun k20010 jk20010 h => ?_)
        · skip
          refine kx_goto (tgt := 19) dX1_nextSwitch_68 (by decide) ?_
          exact kx_lwF [(1, .int (x1)), (2, .int (v20014)), (3, .ref (a20001))] ⟨rfl, rfl, rfl, trivial⟩ (hI19 _ _ _ _ h)
        · skip
          refine kx_icmp_ne (tgt := 68) dX1_nextSwitch_45 (by decide) (fun c => ?_) (fun c => ?_)
          · have h := w_iff c h
            exact kx_lwF [(1, .int (x1)), (2, .int (l2)), (3, .ref (a20001))] ⟨rfl, rfl, rfl, trivial⟩ (jk20010 l2 _ _ _ h)
          · have h := w_ift c h
            refine kx_iload_n dX1_nextSwitch_48 rfl rfl ?_
            refine kx_iconst (v := -1) dX1_nextSwitch_49 (by decide) ?_
            refine kx_icmp_eq (tgt := 62) dX1_nextSwitch_50 (by decide) (fun c => ?_) (fun c => ?_)
            · have h := w_ift c h
              refine kx_aload dX1_nextSwitch_62 rfl ?_
              refine kW_gI dX1_nextSwitch_64 (kf1 fl_X1_310_X17) h (fun v20011 h => ?_)
              refine kx_istore_n dX1_nextSwitch_67 rfl (Nat.le_of_ble_eq_true rfl) ?_
              exact kx_lwF [(1, .int (x1)), (2, .int (v20011)), (3, .ref (a20001))] ⟨rfl, rfl, rfl, trivial⟩ (jk20010 v20011 _ _ _ h)
            · have h := w_iff c h
              refine kx_aload dX1_nextSwitch_53 rfl ?_
              refine kW_gI dX1_nextSwitch_55 (kf1 fl_X1_310_X17) h (fun v20012 h => ?_)
              refine kx_iload_n dX1_nextSwitch_58 rfl rfl ?_
              refine kx_icmp_ge (tgt := 68) dX1_nextSwitch_59 (by decide) (fun c => ?_) (fun c => ?_)
              · have h := w_ift c h
                exact kx_lwF [(1, .int (x1)), (2, .int (l2)), (3, .ref (a20001))] ⟨rfl, rfl, rfl, trivial⟩ (jk20010 l2 _ _ _ h)
              · have h := w_iff c h
                refine kx_aload dX1_nextSwitch_62 rfl ?_
                refine kW_gI dX1_nextSwitch_64 (kf1 fl_X1_310_X17) h (fun v20013 h => ?_)
                refine kx_istore_n dX1_nextSwitch_67 rfl (Nat.le_of_ble_eq_true rfl) ?_
                exact kx_lwF [(1, .int (x1)), (2, .int (v20013)), (3, .ref (a20001))] ⟨rfl, rfl, rfl, trivial⟩ (jk20010 v20013 _ _ _ h)
      · skip
        rcases h with h | h
        · skip
          obtain ⟨hr, h⟩ := h
          refine kx_callF dX1_nextSwitch_29 lk_X1_304_J30 (kw_J30_next h) rfl hr.choose_spec.choose_spec rfl rfl (Nat.le_of_ble_eq_true rfl) (Nat.le_of_ble_eq_true rfl) (Nat.le_of_ble_eq_true rfl) (Nat.le_of_ble_eq_true rfl) (Nat.le_of_ble_eq_true rfl) (fun _ _ _ hx => kx_out rfl (hX _ _ _ hx)) (fun v_ σ_ hq => ?_)
          obtain ⟨r_, rfl, h⟩ := hq
          exact jk20007 _ _ _ _ h
        · skip
          obtain ⟨hr, h⟩ := h
          refine kx_callF dX1_nextSwitch_29 lk_X1_304_J31 (kw_J31_next h) rfl hr.choose_spec.choose_spec rfl rfl (Nat.le_of_ble_eq_true rfl) (Nat.le_of_ble_eq_true rfl) (Nat.le_of_ble_eq_true rfl) (Nat.le_of_ble_eq_true rfl) (Nat.le_of_ble_eq_true rfl) (fun _ _ _ hx => kx_out rfl (hX _ _ _ hx)) (fun v_ σ_ hq => ?_)
          obtain ⟨r_, rfl, h⟩ := hq
          exact jk20007 _ _ _ _ h
  · skip
    rcases h with h | h
    · skip
      obtain ⟨hr, h⟩ := h
      refine kx_callF dX1_nextSwitch_20 lk_X1_298_J30 (kw_J30_hasNext h) rfl hr.choose_spec.choose_spec rfl rfl (Nat.le_of_ble_eq_true rfl) (Nat.le_of_ble_eq_true rfl) (Nat.le_of_ble_eq_true rfl) (Nat.le_of_ble_eq_true rfl) (Nat.le_of_ble_eq_true rfl) (fun _ _ _ hx => kx_out rfl (hX _ _ _ hx)) (fun v_ σ_ hq => ?_)
      obtain ⟨r_, rfl, h⟩ := hq
      exact jk20004 _ _ _ _ h
    · skip
      obtain ⟨hr, h⟩ := h
      refine kx_callF dX1_nextSwitch_20 lk_X1_298_J31 (kw_J31_hasNext h) rfl hr.choose_spec.choose_spec rfl rfl (Nat.le_of_ble_eq_true rfl) (Nat.le_of_ble_eq_true rfl) (Nat.le_of_ble_eq_true rfl) (Nat.le_of_ble_eq_true rfl) (Nat.le_of_ble_eq_true rfl) (fun _ _ _ hx => kx_out rfl (hX _ _ _ hx)) (fun v_ σ_ hq => ?_)
      obtain ⟨r_, rfl, h⟩ := hq
      exact jk20004 _ _ _ _ h
set_option maxHeartbeats 8000000 in
theorem kw_X1_memory {G : KG} {bc bs : Nat} {σ : KHp} {x0 : Nat} {x1 : Int32} {x2 : Int32} {Q : Int32 → KHp → Prop} {X : String → Nat → KHp → Prop} (h : W_X1_memory G bc bs σ x0 x1 x2 Q X) : kx_c G yX1_memory (ws_ yX1_memory cX1_memory 4 (Option.some Jvm.ClassFile.FieldType.int)) 10 bc bs [.ref (x0), .int (x1), .int (x2)] σ (fun rv σ' => ∃ r, rv = some (.int (r)) ∧ Q r σ') X := by
  refine kx_mk3 (ini := false) rfl (Nat.le_of_ble_eq_true rfl) (fun h => by cases h) (fun Q1 X1 hQ hX => ?_)
  unfold W_X1_memory at h
  refine kx_aload_n dX1_memory_0 rfl rfl ?_
  refine kx_iload_n dX1_memory_1 rfl rfl ?_
  obtain ⟨hr, h⟩ := h
  obtain ⟨c3, c4, hc, hs, h⟩ := h
  refine kx_callV dX1_memory_2 lk_X1_450 (kw_X1_tripAt h) rfl (wR_rc hr rfl) rfl (Nat.le_of_ble_eq_true rfl) (Nat.le_of_ble_eq_true rfl) (Nat.le_of_ble_eq_true rfl) hc hs (fun _ _ _ hx => kx_out rfl (hX _ _ _ hx)) (fun v_ σ2 hq => ?_)
  obtain ⟨v1, rfl, h⟩ := hq
  refine kx_astore_nO dX1_memory_5 rfl (Nat.le_of_ble_eq_true rfl) ?_
  refine kx_iload_n dX1_memory_6 rfl rfl ?_
  refine kx_i2l dX1_memory_7 rfl ?_
  refine kx_lconst (v := 0) dX1_memory_8 (by decide) ?_
  refine kx_ldc2 dX1_memory_9 q2073 ?_
  refine kx_callS dX1_memory_12 lk_X1_140 (kw_X1_inRange h) rfl rfl (Nat.le_of_ble_eq_true rfl) (Nat.le_of_ble_eq_true rfl) (Nat.le_of_ble_eq_true rfl) (Nat.le_of_ble_eq_true rfl) (Nat.le_of_ble_eq_true rfl) (fun _ _ _ hx => kx_out rfl (hX _ _ _ hx)) (fun v_ σ6 hq => ?_)
  obtain ⟨v5, rfl, h⟩ := hq
  obtain ⟨c9, c10, hc, hs, h⟩ := h
  refine kx_callS dX1_memory_15 lk_X1_144 (kw_X1_requireArgument h) rfl rfl (Nat.le_of_ble_eq_true rfl) (Nat.le_of_ble_eq_true rfl) (Nat.le_of_ble_eq_true rfl) hc hs (fun _ _ _ hx => kx_out rfl (hX _ _ _ hx)) (fun v_ σ8 hq => ?_)
  obtain ⟨rfl, h⟩ := hq
  refine kx_iload_n dX1_memory_18 rfl rfl ?_
  refine kW_jIa 70 [] h (fun v24 σ25 bcv24 bsv24 h => ?_) (fun k11 jk11 h => ?_)
  · skip
    exact kx_iret dX1_memory_70 rfl (hQ _ _ ⟨_, rfl, h⟩)
  · skip
    refine kx_if_ne (tgt := 29) dX1_memory_19 (by decide) (fun c => ?_) (fun c => ?_)
    · have h := w_iff c h
      refine kx_iload_n dX1_memory_29 rfl rfl ?_
      refine kx_iconst (v := 1) dX1_memory_30 (by decide) ?_
      refine kx_icmp_ne (tgt := 41) dX1_memory_31 (by decide) (fun c => ?_) (fun c => ?_)
      · have h := w_iff c h
        refine kx_iload_n dX1_memory_41 rfl rfl ?_
        refine kx_iconst (v := 2) dX1_memory_42 (by decide) ?_
        refine kx_icmp_ne (tgt := 53) dX1_memory_43 (by decide) (fun c => ?_) (fun c => ?_)
        · have h := w_iff c h
          refine kx_iload_n dX1_memory_53 rfl rfl ?_
          refine kx_iconst (v := 3) dX1_memory_54 (by decide) ?_
          refine kx_icmp_ne (tgt := 65) dX1_memory_55 (by decide) (fun c => ?_) (fun c => ?_)
          · have h := w_iff c h
            refine kx_aload_nO dX1_memory_65 rfl rfl ?_
            obtain ⟨a12, rfl, hUa12⟩ := h
            have h := hUa12
            refine kW_gO dX1_memory_66 (kf1 fl_X1_461_X20) h (fun v13 h => ?_)
            obtain ⟨a14, rfl, hUa14⟩ := h
            have h := hUa14
            refine kW_len dX1_memory_69 h (fun v15 h => ?_)
            exact jk11 _ _ _ _ h
          · have h := w_ift c h
            refine kx_aload_nO dX1_memory_58 rfl rfl ?_
            obtain ⟨a16, rfl, hUa16⟩ := h
            have h := hUa16
            refine kW_gI dX1_memory_59 (kf1 fl_X1_458_X20) h (fun v17 h => ?_)
            refine kx_goto (tgt := 70) dX1_memory_62 (by decide) ?_
            exact jk11 _ _ _ _ h
        · have h := w_ift c h
          refine kx_aload_nO dX1_memory_46 rfl rfl ?_
          obtain ⟨a18, rfl, hUa18⟩ := h
          have h := hUa18
          refine kW_gI dX1_memory_47 (kf1 fl_X1_456_X20) h (fun v19 h => ?_)
          refine kx_goto (tgt := 70) dX1_memory_50 (by decide) ?_
          exact jk11 _ _ _ _ h
      · have h := w_ift c h
        refine kx_aload_nO dX1_memory_34 rfl rfl ?_
        obtain ⟨a20, rfl, hUa20⟩ := h
        have h := hUa20
        refine kW_gI dX1_memory_35 (kf1 fl_X1_455_X20) h (fun v21 h => ?_)
        refine kx_goto (tgt := 70) dX1_memory_38 (by decide) ?_
        exact jk11 _ _ _ _ h
    · have h := w_ift c h
      refine kx_aload_nO dX1_memory_22 rfl rfl ?_
      obtain ⟨a22, rfl, hUa22⟩ := h
      have h := hUa22
      refine kW_gI dX1_memory_23 (kf1 fl_X1_454_X20) h (fun v23 h => ?_)
      refine kx_goto (tgt := 70) dX1_memory_26 (by decide) ?_
      exact jk11 _ _ _ _ h
set_option maxHeartbeats 8000000 in
theorem kw_X2_find {G : KG} {σ : KHp} {x0 : Nat} {x1 : Option Nat} {Q : Int32 → KHp → Prop} {X : String → Nat → KHp → Prop} (h : W_X2_find G σ x0 x1 Q X) : kx_c G yX2_find (ws_ yX2_find cX2_find 3 (Option.some Jvm.ClassFile.FieldType.int)) 5 0 0 [.ref (x0), va_rf (x1)] σ (fun rv σ' => ∃ r, rv = some (.int (r)) ∧ Q r σ') X := by
  refine kx_mk3 (ini := false) rfl (by cases x1 <;> exact Nat.le_of_ble_eq_true rfl) (fun h => by cases h) (fun Q1 X1 hQ hX => ?_)
  unfold W_X2_find at h
  refine kx_lwF [(0, .ref x0), (1, va_rf (x1))] (by cases x1 <;> exact ⟨rfl, rfl, trivial⟩) ?_
  refine kx_aload_n dX2_find_0 rfl rfl ?_
  refine kW_gO dX2_find_1 (kf1 fl_X2_66_X2) h (fun v1 h => ?_)
  obtain ⟨a2, rfl, hUa2⟩ := h
  have h := hUa2
  refine kW_gO dX2_find_4 (kf1 fl_X2_81_X3) h (fun v3 h => ?_)
  refine kx_aload_nO dX2_find_7 rfl rfl ?_
  obtain ⟨a4, rfl, hUa4⟩ := h
  have h := hUa4
  obtain ⟨hr, h⟩ := h
  refine kx_callV dX2_find_8 lk_X2_312 (kw_J2_indexOf h) rfl (wR_rc hr rfl) rfl (Nat.le_of_ble_eq_true rfl) (Nat.le_of_ble_eq_true rfl) (Nat.le_of_ble_eq_true rfl) (Nat.le_of_ble_eq_true rfl) (Nat.le_of_ble_eq_true rfl) (fun _ _ _ hx => kx_out rfl (hX _ _ _ hx)) (fun v_ σ6 hq => ?_)
  obtain ⟨v5, rfl, h⟩ := hq
  refine kx_istore_n dX2_find_11 rfl (Nat.le_of_ble_eq_true rfl) ?_
  refine kx_lwF [(0, .ref (x0)), (1, va_rf (x1)), (2, .int (v5))] (by cases x1 <;> exact ⟨rfl, rfl, rfl, trivial⟩) ?_
  refine kx_iload_n dX2_find_12 rfl rfl ?_
  refine kx_iconst (v := -1) dX2_find_13 (by decide) ?_
  refine kx_icmp_eq (tgt := 19) dX2_find_14 (by decide) (fun c => ?_) (fun c => ?_)
  · have h := w_ift c h
    refine kx_aload_n dX2_find_19 rfl rfl ?_
    refine kW_gO dX2_find_20 (kf1 fl_X2_66_X2) h (fun v7 h => ?_)
    refine kx_aload_nO dX2_find_23 rfl rfl ?_
    obtain ⟨a8, rfl, hUa8⟩ := h
    have h := hUa8
    obtain ⟨hr, h⟩ := h
    refine kx_callV dX2_find_24 lk_X2_316 (kw_X3_findLoad h) rfl (wR_rc hr rfl) rfl (Nat.le_of_ble_eq_true rfl) (Nat.le_of_ble_eq_true rfl) (Nat.le_of_ble_eq_true rfl) (Nat.le_of_ble_eq_true rfl) (Nat.le_of_ble_eq_true rfl) (fun _ _ _ hx => kx_out rfl (hX _ _ _ hx)) (fun v_ σ10 hq => ?_)
    obtain ⟨v9, rfl, h⟩ := hq
    refine kx_iconst (v := -1) dX2_find_27 (by decide) ?_
    refine kx_icmp_eq (tgt := 43) dX2_find_28 (by decide) (fun c => ?_) (fun c => ?_)
    · have h := w_ift c h
      refine kx_aload_n dX2_find_43 rfl rfl ?_
      refine kW_gO dX2_find_44 (kf1 fl_X2_66_X2) h (fun v11 h => ?_)
      refine kx_aload_nO dX2_find_47 rfl rfl ?_
      obtain ⟨a12, rfl, hUa12⟩ := h
      have h := hUa12
      obtain ⟨hr, h⟩ := h
      refine kx_callV dX2_find_48 lk_X2_320 (kw_X3_findSignature h) rfl (wR_rc hr rfl) rfl (Nat.le_of_ble_eq_true rfl) (Nat.le_of_ble_eq_true rfl) (Nat.le_of_ble_eq_true rfl) (Nat.le_of_ble_eq_true rfl) (Nat.le_of_ble_eq_true rfl) (fun _ _ _ hx => kx_out rfl (hX _ _ _ hx)) (fun v_ σ14 hq => ?_)
      obtain ⟨v13, rfl, h⟩ := hq
      refine kx_iconst (v := -1) dX2_find_51 (by decide) ?_
      refine kx_icmp_eq (tgt := 68) dX2_find_52 (by decide) (fun c => ?_) (fun c => ?_)
      · have h := w_ift c h
        refine kx_aload_n dX2_find_68 rfl rfl ?_
        refine kx_aload_nO dX2_find_69 rfl rfl ?_
        obtain ⟨hr, h⟩ := h
        refine kx_callV dX2_find_70 lk_X2_323 (kw_X2_findNuisance h) rfl (wR_rc hr rfl) rfl (Nat.le_of_ble_eq_true rfl) (Nat.le_of_ble_eq_true rfl) (Nat.le_of_ble_eq_true rfl) (Nat.le_of_ble_eq_true rfl) (Nat.le_of_ble_eq_true rfl) (fun _ _ _ hx => kx_out rfl (hX _ _ _ hx)) (fun v_ σ16 hq => ?_)
        obtain ⟨v15, rfl, h⟩ := hq
        refine kx_iconst (v := -1) dX2_find_73 (by decide) ?_
        refine kW_jI 90 [] h (fun v20 σ21 h => ?_) (fun k17 jk17 h => ?_)
        · skip
          exact kx_iret dX2_find_90 rfl (hQ _ _ ⟨_, rfl, h⟩)
        · skip
          refine kx_icmp_ne (tgt := 81) dX2_find_74 (by decide) (fun c => ?_) (fun c => ?_)
          · have h := w_iff c h
            refine kx_sipush (v := 300) dX2_find_81 (by decide) ?_
            refine kx_aload_n dX2_find_84 rfl rfl ?_
            refine kx_aload_nO dX2_find_85 rfl rfl ?_
            obtain ⟨hr, h⟩ := h
            refine kx_callV dX2_find_86 lk_X2_323 (kw_X2_findNuisance h) rfl (wR_rc hr rfl) rfl (Nat.le_of_ble_eq_true rfl) (Nat.le_of_ble_eq_true rfl) (Nat.le_of_ble_eq_true rfl) (Nat.le_of_ble_eq_true rfl) (Nat.le_of_ble_eq_true rfl) (fun _ _ _ hx => kx_out rfl (hX _ _ _ hx)) (fun v_ σ19 hq => ?_)
            obtain ⟨v18, rfl, h⟩ := hq
            refine kx_iadd dX2_find_89 ?_
            exact jk17 _ _ h
          · have h := w_ift c h
            refine kx_iconst (v := -1) dX2_find_77 (by decide) ?_
            refine kx_goto (tgt := 90) dX2_find_78 (by decide) ?_
            exact jk17 _ _ h
      · have h := w_iff c h
        refine kx_sipush (v := 200) dX2_find_55 (by decide) ?_
        refine kx_aload_n dX2_find_58 rfl rfl ?_
        refine kW_gO dX2_find_59 (kf1 fl_X2_66_X2) h (fun v22 h => ?_)
        refine kx_aload_nO dX2_find_62 rfl rfl ?_
        obtain ⟨a23, rfl, hUa23⟩ := h
        have h := hUa23
        obtain ⟨hr, h⟩ := h
        refine kx_callV dX2_find_63 lk_X2_320 (kw_X3_findSignature h) rfl (wR_rc hr rfl) rfl (Nat.le_of_ble_eq_true rfl) (Nat.le_of_ble_eq_true rfl) (Nat.le_of_ble_eq_true rfl) (Nat.le_of_ble_eq_true rfl) (Nat.le_of_ble_eq_true rfl) (fun _ _ _ hx => kx_out rfl (hX _ _ _ hx)) (fun v_ σ25 hq => ?_)
        obtain ⟨v24, rfl, h⟩ := hq
        refine kx_iadd dX2_find_66 ?_
        exact kx_iret dX2_find_67 rfl (hQ _ _ ⟨_, rfl, h⟩)
    · have h := w_iff c h
      refine kx_bipush (v := 100) dX2_find_31 (by decide) ?_
      refine kx_aload_n dX2_find_33 rfl rfl ?_
      refine kW_gO dX2_find_34 (kf1 fl_X2_66_X2) h (fun v26 h => ?_)
      refine kx_aload_nO dX2_find_37 rfl rfl ?_
      obtain ⟨a27, rfl, hUa27⟩ := h
      have h := hUa27
      obtain ⟨hr, h⟩ := h
      refine kx_callV dX2_find_38 lk_X2_316 (kw_X3_findLoad h) rfl (wR_rc hr rfl) rfl (Nat.le_of_ble_eq_true rfl) (Nat.le_of_ble_eq_true rfl) (Nat.le_of_ble_eq_true rfl) (Nat.le_of_ble_eq_true rfl) (Nat.le_of_ble_eq_true rfl) (fun _ _ _ hx => kx_out rfl (hX _ _ _ hx)) (fun v_ σ29 hq => ?_)
      obtain ⟨v28, rfl, h⟩ := hq
      refine kx_iadd dX2_find_41 ?_
      exact kx_iret dX2_find_42 rfl (hQ _ _ ⟨_, rfl, h⟩)
  · have h := w_iff c h
    refine kx_iload_n dX2_find_17 rfl rfl ?_
    exact kx_iret dX2_find_18 rfl (hQ _ _ ⟨_, rfl, h⟩)
set_option maxHeartbeats 8000000 in
theorem kw_X2_goOn {G : KG} {bc bs : Nat} {σ : KHp} {x0 : Nat} {x1 : Int32} {Q : KHp → Prop} {X : String → Nat → KHp → Prop} (h : W_X2_goOn G bc bs σ x0 x1 Q X) : kx_c G yX2_goOn (ws_ yX2_goOn cX2_goOn 4 (Option.none : Option Jvm.ClassFile.FieldType)) 7 bc bs [.ref (x0), .int (x1)] σ (fun rv σ' => rv = none ∧ Q σ') X := by
  refine kx_mk3 (ini := false) rfl (Nat.le_of_ble_eq_true rfl) (fun h => by cases h) (fun Q1 X1 hQ hX => ?_)
  unfold W_X2_goOn at h
  refine kx_aload_n dX2_goOn_0 rfl rfl ?_
  refine kW_gO dX2_goOn_1 (kf1 fl_X2_14_X2) h (fun v1 h => ?_)
  refine kx_iload_n dX2_goOn_4 rfl rfl ?_
  obtain ⟨a2, rfl, hUa2⟩ := h
  have h := hUa2
  obtain ⟨hr, h⟩ := h
  refine kx_callV dX2_goOn_5 lk_X2_96 (kw_J2_get h) rfl (wR_rc hr rfl) rfl (Nat.le_of_ble_eq_true rfl) (Nat.le_of_ble_eq_true rfl) (Nat.le_of_ble_eq_true rfl) (Nat.le_of_ble_eq_true rfl) (Nat.le_of_ble_eq_true rfl) (fun _ _ _ hx => kx_out rfl (hX _ _ _ hx)) (fun v_ σ4 hq => ?_)
  obtain ⟨v3, rfl, h⟩ := hq
  obtain ⟨a5, rfl, hUa5⟩ := h
  have h := hUa5
  obtain ⟨⟨tc, fc, hr⟩, h⟩ := h
  refine kx_castS dX2_goOn_8 hr rfl q679 ?_
  refine kx_astore_n dX2_goOn_11 rfl (Nat.le_of_ble_eq_true rfl) ?_
  refine kx_aload_n dX2_goOn_12 rfl rfl ?_
  refine kx_iload_n dX2_goOn_13 rfl rfl ?_
  obtain ⟨hr, h⟩ := h
  refine kx_callV dX2_goOn_14 lk_X2_224 (kw_X2_layRow h) rfl (wR_rc hr rfl) rfl (Nat.le_of_ble_eq_true rfl) (Nat.le_of_ble_eq_true rfl) (Nat.le_of_ble_eq_true rfl) (Nat.le_of_ble_eq_true rfl) (Nat.le_of_ble_eq_true rfl) (fun _ _ _ hx => kx_out rfl (hX _ _ _ hx)) (fun v_ σ7 hq => ?_)
  obtain ⟨rfl, h⟩ := hq
  refine kx_aload_n dX2_goOn_17 rfl rfl ?_
  refine kx_aload_n dX2_goOn_18 rfl rfl ?_
  obtain ⟨hr, h⟩ := h
  refine kx_callV dX2_goOn_19 lk_X2_227 (kw_X2_findFeatures h) rfl (wR_rc hr rfl) rfl (Nat.le_of_ble_eq_true rfl) (Nat.le_of_ble_eq_true rfl) (Nat.le_of_ble_eq_true rfl) (Nat.le_of_ble_eq_true rfl) (Nat.le_of_ble_eq_true rfl) (fun _ _ _ hx => kx_out rfl (hX _ _ _ hx)) (fun v_ σ9 hq => ?_)
  obtain ⟨rfl, h⟩ := hq
  refine kx_aload_n dX2_goOn_22 rfl rfl ?_
  refine kx_aload_n dX2_goOn_23 rfl rfl ?_
  obtain ⟨hr, h⟩ := h
  refine kx_callV dX2_goOn_24 lk_X2_230 (kw_X2_match h) rfl (wR_rc hr rfl) rfl (Nat.le_of_ble_eq_true rfl) (Nat.le_of_ble_eq_true rfl) (Nat.le_of_ble_eq_true rfl) (Nat.le_of_ble_eq_true rfl) (Nat.le_of_ble_eq_true rfl) (fun _ _ _ hx => kx_out rfl (hX _ _ _ hx)) (fun v_ σ11 hq => ?_)
  obtain ⟨rfl, h⟩ := hq
  refine kx_aload_n dX2_goOn_27 rfl rfl ?_
  refine kx_aload_n dX2_goOn_28 rfl rfl ?_
  obtain ⟨hr, h⟩ := h
  refine kx_callV dX2_goOn_29 lk_X2_233 (kw_X2_causeOf h) rfl (wR_rc hr rfl) rfl (Nat.le_of_ble_eq_true rfl) (Nat.le_of_ble_eq_true rfl) (Nat.le_of_ble_eq_true rfl) (Nat.le_of_ble_eq_true rfl) (Nat.le_of_ble_eq_true rfl) (fun _ _ _ hx => kx_out rfl (hX _ _ _ hx)) (fun v_ σ13 hq => ?_)
  obtain ⟨v12, rfl, h⟩ := hq
  refine kx_istore_n dX2_goOn_32 rfl (Nat.le_of_ble_eq_true rfl) ?_
  refine kx_aload_n dX2_goOn_33 rfl rfl ?_
  refine kx_aload_n dX2_goOn_34 rfl rfl ?_
  refine kW_gI dX2_goOn_35 (kf1 fl_X2_237_X5) h (fun v14 h => ?_)
  refine kW_jIa 51 [.ref (a5)] h (fun v16 σ17 bcv16 bsv16 h => ?_) (fun k15 jk15 h => ?_)
  · skip
    refine kW_pZ dX2_goOn_51 (kp1 ⟨_, _, _, _, kc_X5, fl_X2_240_X5, Or.inl rfl, rfl, rfl⟩) (kp1 ⟨_, _, _, _, kc_X5, fl_X2_240_X5, Or.inl rfl, rfl, rfl⟩) h (fun σ18 h => ?_)
    refine kx_aload_n dX2_goOn_54 rfl rfl ?_
    refine kx_aload_n dX2_goOn_55 rfl rfl ?_
    refine kW_gJ dX2_goOn_56 (kf1 fl_X2_243_X5) h (fun v19 h => ?_)
    refine kx_iconst (v := 1) dX2_goOn_59 (by decide) ?_
    refine kx_lshl dX2_goOn_60 rfl ?_
    refine kx_aload_n dX2_goOn_61 rfl rfl ?_
    refine kW_gI dX2_goOn_62 (kf1 fl_X2_240_X5) h (fun v20 h => ?_)
    refine kW_jLa 73 [.long ((v19 <<< (((1 : Int32)).toInt64 &&& 63))), .ref (a5)] h (fun v22 σ23 bcv22 bsv22 h => ?_) (fun k21 jk21 h => ?_)
    · skip
      refine kx_lor dX2_goOn_73 ?_
      refine kW_p dX2_goOn_74 (kp1 ⟨_, _, _, _, kc_X5, fl_X2_243_X5, Or.inl rfl, rfl, rfl⟩) h (fun σ24 h => ?_)
      refine kx_aload_n dX2_goOn_77 rfl rfl ?_
      refine kx_dup dX2_goOn_78 rfl ?_
      refine kW_gI dX2_goOn_79 (kf1 fl_X2_246_X5) h (fun v25 h => ?_)
      refine kx_iconst (v := 1) dX2_goOn_82 (by decide) ?_
      refine kx_iadd dX2_goOn_83 ?_
      refine kW_p dX2_goOn_84 (kp1 ⟨_, _, _, _, kc_X5, fl_X2_246_X5, Or.inl rfl, rfl, rfl⟩) h (fun σ26 h => ?_)
      refine kx_aload_n dX2_goOn_87 rfl rfl ?_
      refine kx_dup dX2_goOn_88 rfl ?_
      refine kW_gI dX2_goOn_89 (kf1 fl_X2_249_X5) h (fun v27 h => ?_)
      refine kx_iconst (v := 1) dX2_goOn_92 (by decide) ?_
      refine kx_iadd dX2_goOn_93 ?_
      refine kW_p dX2_goOn_94 (kp1 ⟨_, _, _, _, kc_X5, fl_X2_249_X5, Or.inl rfl, rfl, rfl⟩) h (fun σ28 h => ?_)
      refine kx_aload_n dX2_goOn_97 rfl rfl ?_
      refine kW_gO dX2_goOn_98 (kf1 fl_X2_190_X5) h (fun v29 h => ?_)
      refine kx_iconst (v := 0) dX2_goOn_101 (by decide) ?_
      obtain ⟨a30, rfl, hUa30⟩ := h
      have h := hUa30
      refine kW_lF dX2_goOn_102 h (fun v31 h => ?_)
      refine kx_bipush (v := 10) dX2_goOn_103 (by decide) ?_
      refine kx_aload_n dX2_goOn_105 rfl rfl ?_
      refine kW_gO dX2_goOn_106 (kf1 fl_X2_66_X2) h (fun v32 h => ?_)
      obtain ⟨a33, rfl, hUa33⟩ := h
      have h := hUa33
      refine kW_gO dX2_goOn_109 (kf1 fl_X2_252_X3) h (fun v34 h => ?_)
      refine kx_iload_n dX2_goOn_112 rfl rfl ?_
      obtain ⟨a35, rfl, hUa35⟩ := h
      have h := hUa35
      refine kW_lI dX2_goOn_113 h (fun v36 h => ?_)
      refine kx_imul dX2_goOn_114 ?_
      refine kx_i2f dX2_goOn_115 ?_
      refine kx_fcmp dX2_goOn_116 ?_
      refine kx_if_le (tgt := 130) dX2_goOn_117 (by decide) (fun c => ?_) (fun c => ?_)
      · have h := w_ift c h
        refine kx_aload_n dX2_goOn_130 rfl rfl ?_
        refine kx_aload_n dX2_goOn_131 rfl rfl ?_
        refine kW_gI dX2_goOn_132 (kf1 fl_X2_76_X2) h (fun v37 h => ?_)
        obtain ⟨hr, h⟩ := h
        refine kx_callV dX2_goOn_135 lk_X2_259 (kw_X5_suspects h) rfl (wR_rc hr rfl) rfl (Nat.le_of_ble_eq_true rfl) (Nat.le_of_ble_eq_true rfl) (Nat.le_of_ble_eq_true rfl) (Nat.le_of_ble_eq_true rfl) (Nat.le_of_ble_eq_true rfl) (fun _ _ _ hx => kx_out rfl (hX _ _ _ hx)) (fun v_ σ39 hq => ?_)
        obtain ⟨v38, rfl, h⟩ := hq
        refine kx_aload_n dX2_goOn_138 rfl rfl ?_
        refine kW_gI dX2_goOn_139 (kf1 fl_X2_80_X2) h (fun v40 h => ?_)
        refine kx_icmp_lt (tgt := 163) dX2_goOn_142 (by decide) (fun c => ?_) (fun c => ?_)
        · have h := w_ift c h
          exact kx_vret dX2_goOn_163 rfl (hQ _ _ ⟨rfl, h⟩)
        · have h := w_iff c h
          refine kx_aload_n dX2_goOn_145 rfl rfl ?_
          refine kx_iload_n dX2_goOn_146 rfl rfl ?_
          refine kx_aload_n dX2_goOn_147 rfl rfl ?_
          refine kW_gI dX2_goOn_148 (kf1 fl_X2_237_X5) h (fun v41 h => ?_)
          refine kW_jIa 159 [.int (x1), .ref (x0)] h (fun v43 σ44 bcv43 bsv43 h => ?_) (fun k42 jk42 h => ?_)
          · skip
            refine kx_iload_n dX2_goOn_159 rfl rfl ?_
            obtain ⟨hr, h⟩ := h
            obtain ⟨c47, c48, hc, hs, h⟩ := h
            refine kx_callV dX2_goOn_160 lk_X2_255 (kw_X2_trip h) rfl (wR_rc hr rfl) rfl (Nat.le_of_ble_eq_true rfl) (Nat.le_of_ble_eq_true rfl) (Nat.le_of_ble_eq_true rfl) hc hs (fun _ _ _ hx => kx_out rfl (hX _ _ _ hx)) (fun v_ σ46 hq => ?_)
            obtain ⟨rfl, h⟩ := hq
            exact kx_vret dX2_goOn_163 rfl (hQ _ _ ⟨rfl, h⟩)
          · skip
            refine kx_if_eq (tgt := 158) dX2_goOn_151 (by decide) (fun c => ?_) (fun c => ?_)
            · have h := w_ift c h
              refine kx_iconst (v := 0) dX2_goOn_158 (by decide) ?_
              exact jk42 _ _ _ _ h
            · have h := w_iff c h
              refine kx_iconst (v := 1) dX2_goOn_154 (by decide) ?_
              refine kx_goto (tgt := 159) dX2_goOn_155 (by decide) ?_
              exact jk42 _ _ _ _ h
      · have h := w_iff c h
        refine kx_aload_n dX2_goOn_120 rfl rfl ?_
        refine kx_iload_n dX2_goOn_121 rfl rfl ?_
        refine kx_iconst (v := 2) dX2_goOn_122 (by decide) ?_
        refine kx_iload_n dX2_goOn_123 rfl rfl ?_
        obtain ⟨hr, h⟩ := h
        obtain ⟨c51, c52, hc, hs, h⟩ := h
        refine kx_callV dX2_goOn_124 lk_X2_255 (kw_X2_trip h) rfl (wR_rc hr rfl) rfl (Nat.le_of_ble_eq_true rfl) (Nat.le_of_ble_eq_true rfl) (Nat.le_of_ble_eq_true rfl) hc hs (fun _ _ _ hx => kx_out rfl (hX _ _ _ hx)) (fun v_ σ50 hq => ?_)
        obtain ⟨rfl, h⟩ := hq
        refine kx_goto (tgt := 163) dX2_goOn_127 (by decide) ?_
        exact kx_vret dX2_goOn_163 rfl (hQ _ _ ⟨rfl, h⟩)
    · skip
      refine kx_if_eq (tgt := 72) dX2_goOn_65 (by decide) (fun c => ?_) (fun c => ?_)
      · have h := w_ift c h
        refine kx_lconst (v := 0) dX2_goOn_72 (by decide) ?_
        exact jk21 _ _ _ _ h
      · have h := w_iff c h
        refine kx_lconst (v := 1) dX2_goOn_68 (by decide) ?_
        refine kx_goto (tgt := 73) dX2_goOn_69 (by decide) ?_
        exact jk21 _ _ _ _ h
  · skip
    refine kx_if_ne (tgt := 46) dX2_goOn_38 (by decide) (fun c => ?_) (fun c => ?_)
    · have h := w_iff c h
      refine kx_iconst (v := 1) dX2_goOn_46 (by decide) ?_
      refine kx_goto (tgt := 51) dX2_goOn_47 (by decide) ?_
      exact jk15 _ _ _ _ h
    · have h := w_ift c h
      refine kx_iload_n dX2_goOn_41 rfl rfl ?_
      refine kx_iconst (v := -1) dX2_goOn_42 (by decide) ?_
      refine kx_icmp_eq (tgt := 50) dX2_goOn_43 (by decide) (fun c => ?_) (fun c => ?_)
      · have h := w_ift c h
        refine kx_iconst (v := 0) dX2_goOn_50 (by decide) ?_
        exact jk15 _ _ _ _ h
      · have h := w_iff c h
        refine kx_iconst (v := 1) dX2_goOn_46 (by decide) ?_
        refine kx_goto (tgt := 51) dX2_goOn_47 (by decide) ?_
        exact jk15 _ _ _ _ h
set_option maxHeartbeats 8000000 in
theorem kw_J2_add_2 {G : KG} {bc bs : Nat} {σ : KHp} {x0 : Nat} {x1 : Option Nat} {x2 : Option Nat} {x3 : Int32} {Q : KHp → Prop} {X : String → Nat → KHp → Prop} (h : W_J2_add_2 G bc bs σ x0 x1 x2 x3 Q X) : kx_c G yJ2_add_2 (ws_ yJ2_add_2 cJ2_add_2 4 (Option.none : Option Jvm.ClassFile.FieldType)) 6 bc bs [.ref (x0), va_rf (x1), va_rf (x2), .int (x3)] σ (fun rv σ' => rv = none ∧ Q σ') X := by
  refine kx_mk3 (ini := false) (by decide) (by cases x1 <;> cases x2 <;> exact Nat.le_of_ble_eq_true rfl) (fun h => by cases h) (fun Q1 X1 hQ hX => ?_)
  unfold W_J2_add_2 at h
  refine kx_lwF [(0, .ref x0), (1, va_rf (x1)), (2, va_rf (x2)), (3, .int (x3))] (by cases x1 <;> cases x2 <;> exact ⟨rfl, rfl, rfl, rfl, trivial⟩) ?_
  refine kx_iload_n dJ2_add_2_0 rfl rfl ?_
  refine kx_aload_nO dJ2_add_2_1 rfl rfl ?_
  obtain ⟨a1, rfl, hUa1⟩ := h
  have h := hUa1
  refine kW_len dJ2_add_2_2 h (fun v2 h => ?_)
  refine kx_icmp_ne (tgt := 11) dJ2_add_2_3 (by decide) (fun c => ?_) (fun c => ?_)
  · have h := w_iff c h
    refine kx_aload_n dJ2_add_2_11 rfl rfl ?_
    refine kx_iload_n dJ2_add_2_12 rfl rfl ?_
    refine kx_aload_nO dJ2_add_2_13 rfl rfl ?_
    refine kW_sO dJ2_add_2_14 h (fun σ3 h => ?_)
    refine kx_aload_n dJ2_add_2_15 rfl rfl ?_
    refine kx_iload_n dJ2_add_2_16 rfl rfl ?_
    refine kx_iconst (v := 1) dJ2_add_2_17 (by decide) ?_
    refine kx_iadd dJ2_add_2_18 ?_
    refine kW_p dJ2_add_2_19 (kp1 ⟨_, _, _, _, kc_J2, fl_J2_48_J2, Or.inl rfl, rfl, rfl⟩) h (fun σ4 h => ?_)
    exact kx_vret dJ2_add_2_22 rfl (hQ _ _ ⟨rfl, h⟩)
  · have h := w_ift c h
    refine kx_aload_n dJ2_add_2_6 rfl rfl ?_
    obtain ⟨hr, h⟩ := h
    obtain ⟨c7, c8, hc, hs, h⟩ := h
    refine kx_callV dJ2_add_2_7 lk_J2_129 (kw_J2_grow h) rfl (wR_rc hr rfl) rfl (Nat.le_of_ble_eq_true rfl) (Nat.le_of_ble_eq_true rfl) (Nat.le_of_ble_eq_true rfl) hc hs (fun _ _ _ hx => kx_out rfl (hX _ _ _ hx)) (fun v_ σ6 hq => ?_)
    obtain ⟨v5, rfl, h⟩ := hq
    refine kx_astore_nO dJ2_add_2_10 rfl (Nat.le_of_ble_eq_true rfl) ?_
    refine kx_lwF [(0, .ref (x0)), (1, va_rf (x1)), (2, va_rf (v5)), (3, .int (x3))] (by cases x1 <;> exact ⟨rfl, rfl, rfl, rfl, trivial⟩) ?_
    refine kx_aload_nO dJ2_add_2_11 rfl rfl ?_
    refine kx_iload_n dJ2_add_2_12 rfl rfl ?_
    refine kx_aload_nO dJ2_add_2_13 rfl rfl ?_
    obtain ⟨a9, rfl, hUa9⟩ := h
    have h := hUa9
    refine kW_sO dJ2_add_2_14 h (fun σ10 h => ?_)
    refine kx_aload_n dJ2_add_2_15 rfl rfl ?_
    refine kx_iload_n dJ2_add_2_16 rfl rfl ?_
    refine kx_iconst (v := 1) dJ2_add_2_17 (by decide) ?_
    refine kx_iadd dJ2_add_2_18 ?_
    refine kW_p dJ2_add_2_19 (kp1 ⟨_, _, _, _, kc_J2, fl_J2_48_J2, Or.inl rfl, rfl, rfl⟩) h (fun σ11 h => ?_)
    exact kx_vret dJ2_add_2_22 rfl (hQ _ _ ⟨rfl, h⟩)
set_option maxHeartbeats 8000000 in
theorem kw_J2_contains {G : KG} {σ : KHp} {x0 : Nat} {x1 : Option Nat} {Q : Int32 → KHp → Prop} {X : String → Nat → KHp → Prop} (h : W_J2_contains G σ x0 x1 Q X) : kx_c G yJ2_contains (ws_ yJ2_contains cJ2_contains 2 (Option.some Jvm.ClassFile.FieldType.boolean)) 5 0 0 [.ref (x0), va_rf (x1)] σ (fun rv σ' => ∃ r, rv = some (.int (r)) ∧ Q r σ') X := by
  refine kx_mk3 (ini := false) (by decide) (by cases x1 <;> exact Nat.le_of_ble_eq_true rfl) (fun h => by cases h) (fun Q1 X1 hQ hX => ?_)
  unfold W_J2_contains at h
  refine kx_lwF [(0, .ref x0), (1, va_rf (x1))] (by cases x1 <;> exact ⟨rfl, rfl, trivial⟩) ?_
  refine kx_aload_n dJ2_contains_0 rfl rfl ?_
  refine kx_aload_nO dJ2_contains_1 rfl rfl ?_
  obtain ⟨hr, h⟩ := h
  refine kx_callV dJ2_contains_2 lk_J2_85 (kw_J2_indexOf h) rfl (wR_rc hr rfl) rfl (Nat.le_of_ble_eq_true rfl) (Nat.le_of_ble_eq_true rfl) (Nat.le_of_ble_eq_true rfl) (Nat.le_of_ble_eq_true rfl) (Nat.le_of_ble_eq_true rfl) (fun _ _ _ hx => kx_out rfl (hX _ _ _ hx)) (fun v_ σ2 hq => ?_)
  obtain ⟨v1, rfl, h⟩ := hq
  refine kW_jI 13 [] h (fun v4 σ5 h => ?_) (fun k3 jk3 h => ?_)
  · skip
    exact kx_zret dJ2_contains_13 rfl h.1 (hQ _ _ ⟨_, rfl, h.2⟩)
  · skip
    refine kx_if_lt (tgt := 12) dJ2_contains_5 (by decide) (fun c => ?_) (fun c => ?_)
    · have h := w_ift c h
      refine kx_iconst (v := 0) dJ2_contains_12 (by decide) ?_
      exact jk3 _ _ h
    · have h := w_iff c h
      refine kx_iconst (v := 1) dJ2_contains_8 (by decide) ?_
      refine kx_goto (tgt := 13) dJ2_contains_9 (by decide) ?_
      exact jk3 _ _ h
set_option maxHeartbeats 8000000 in
theorem kw_J7_appendNull {G : KG} {bc bs : Nat} {σ : KHp} {x0 : Nat} {Q : Option Nat → KHp → Prop} {X : String → Nat → KHp → Prop} (h : W_J7_appendNull G bc bs σ x0 Q X) : kx_c G yJ7_appendNull (ws_ yJ7_appendNull cJ7_appendNull 3 (Option.some (Jvm.ClassFile.FieldType.object "java/lang/AbstractStringBuilder"))) 5 bc bs [.ref (x0)] σ (fun rv σ' => ∃ r, rv = some (va_rf (r)) ∧ Q r σ') X := by
  refine kx_mk3 (ini := false) (by decide) (Nat.le_of_ble_eq_true rfl) (fun h => by cases h) (fun Q1 X1 hQ hX => ?_)
  unfold W_J7_appendNull at h
  refine kx_aload_n dJ7_appendNull_0 rfl rfl ?_
  refine kx_aload_n dJ7_appendNull_1 rfl rfl ?_
  refine kW_gI dJ7_appendNull_2 (kf1 fl_J7_79_J8) h (fun v1 h => ?_)
  refine kx_iconst (v := 4) dJ7_appendNull_5 (by decide) ?_
  refine kx_iadd dJ7_appendNull_6 ?_
  obtain ⟨hr, h⟩ := h
  obtain ⟨c4, c5, hc, hs, h⟩ := h
  refine kx_callP dJ7_appendNull_7 lk_J7_100 (kw_J7_ensureCapacityInternal h) rfl (wR_rc hr rfl) rfl (Nat.le_of_ble_eq_true rfl) (Nat.le_of_ble_eq_true rfl) (Nat.le_of_ble_eq_true rfl) hc hs (fun _ _ _ hx => kx_out rfl (hX _ _ _ hx)) (fun v_ σ3 hq => ?_)
  obtain ⟨rfl, h⟩ := hq
  refine kx_aload_n dJ7_appendNull_10 rfl rfl ?_
  refine kW_gI dJ7_appendNull_11 (kf1 fl_J7_79_J8) h (fun v6 h => ?_)
  refine kx_istore_n dJ7_appendNull_14 rfl (Nat.le_of_ble_eq_true rfl) ?_
  refine kx_aload_n dJ7_appendNull_15 rfl rfl ?_
  refine kW_gO dJ7_appendNull_16 (kf1 fl_J7_15_J8) h (fun v7 h => ?_)
  refine kx_astore_nO dJ7_appendNull_19 rfl (Nat.le_of_ble_eq_true rfl) ?_
  refine kx_aload_n dJ7_appendNull_20 rfl rfl ?_
  obtain ⟨hr, h⟩ := h
  refine kx_callU dJ7_appendNull_21 lk_J7_83_J8 (kw_J7_isLatin1 h) rfl (wR_rc hr rfl) rfl (Nat.le_of_ble_eq_true rfl) (Nat.le_of_ble_eq_true rfl) (Nat.le_of_ble_eq_true rfl) (Nat.le_of_ble_eq_true rfl) (Nat.le_of_ble_eq_true rfl) (fun _ _ _ hx => kx_out rfl (hX _ _ _ hx)) (fun v_ σ9 hq => ?_)
  obtain ⟨v8, rfl, h⟩ := hq
  refine kx_if_eq (tgt := 62) dJ7_appendNull_24 (by decide) (fun c => ?_) (fun c => ?_)
  · have h := w_ift c h
    refine kx_aload_nO dJ7_appendNull_62 rfl rfl ?_
    refine kx_iload_n dJ7_appendNull_63 rfl rfl ?_
    refine kx_bipush (v := 110) dJ7_appendNull_64 (by decide) ?_
    refine kx_bipush (v := 117) dJ7_appendNull_66 (by decide) ?_
    refine kx_bipush (v := 108) dJ7_appendNull_68 (by decide) ?_
    refine kx_bipush (v := 108) dJ7_appendNull_70 (by decide) ?_
    refine kx_callS dJ7_appendNull_72 lk_J7_226 (kw_J10_putCharsAt h) rfl rfl (Nat.le_of_ble_eq_true rfl) (Nat.le_of_ble_eq_true rfl) (Nat.le_of_ble_eq_true rfl) (Nat.le_of_ble_eq_true rfl) (Nat.le_of_ble_eq_true rfl) (fun _ _ _ hx => kx_out rfl (hX _ _ _ hx)) (fun v_ σ11 hq => ?_)
    obtain ⟨v10, rfl, h⟩ := hq
    refine kx_istore_n dJ7_appendNull_75 rfl (Nat.le_of_ble_eq_true rfl) ?_
    refine kx_aload_n dJ7_appendNull_76 rfl rfl ?_
    refine kx_iload_n dJ7_appendNull_77 rfl rfl ?_
    refine kW_p dJ7_appendNull_78 (kp1 ⟨_, _, _, _, kc_J8, fl_J7_79_J8, Or.inl rfl, rfl, rfl⟩) h (fun σ12 h => ?_)
    refine kx_aload_n dJ7_appendNull_81 rfl rfl ?_
    exact kx_aret dJ7_appendNull_82 rfl (Or.inl ⟨_, rfl⟩) (Or.inr ⟨_, rfl⟩) (hQ _ _ ⟨some _, rfl, h⟩)
  · have h := w_iff c h
    refine kx_aload_nO dJ7_appendNull_27 rfl rfl ?_
    refine kx_iload_n dJ7_appendNull_28 rfl rfl ?_
    refine kx_iinc2 (v := 1) dJ7_appendNull_29 rfl (by decide) ?_
    refine kx_bipush (v := 110) dJ7_appendNull_32 (by decide) ?_
    obtain ⟨a13, rfl, hUa13⟩ := h
    have h := hUa13
    refine kW_sB dJ7_appendNull_34 h (fun σ14 h => ?_)
    refine kx_aload_n dJ7_appendNull_35 rfl rfl ?_
    refine kx_iload_n dJ7_appendNull_36 rfl rfl ?_
    refine kx_iinc2 (v := 1) dJ7_appendNull_37 rfl (by decide) ?_
    refine kx_bipush (v := 117) dJ7_appendNull_40 (by decide) ?_
    refine kW_sB dJ7_appendNull_42 h (fun σ15 h => ?_)
    refine kx_aload_n dJ7_appendNull_43 rfl rfl ?_
    refine kx_iload_n dJ7_appendNull_44 rfl rfl ?_
    refine kx_iinc2 (v := 1) dJ7_appendNull_45 rfl (by decide) ?_
    refine kx_bipush (v := 108) dJ7_appendNull_48 (by decide) ?_
    refine kW_sB dJ7_appendNull_50 h (fun σ16 h => ?_)
    refine kx_aload_n dJ7_appendNull_51 rfl rfl ?_
    refine kx_iload_n dJ7_appendNull_52 rfl rfl ?_
    refine kx_iinc2 (v := 1) dJ7_appendNull_53 rfl (by decide) ?_
    refine kx_bipush (v := 108) dJ7_appendNull_56 (by decide) ?_
    refine kW_sB dJ7_appendNull_58 h (fun σ17 h => ?_)
    refine kx_goto (tgt := 76) dJ7_appendNull_59 (by decide) ?_
    refine kx_aload_n dJ7_appendNull_76 rfl rfl ?_
    refine kx_iload_n dJ7_appendNull_77 rfl rfl ?_
    refine kW_p dJ7_appendNull_78 (kp1 ⟨_, _, _, _, kc_J8, fl_J7_79_J8, Or.inl rfl, rfl, rfl⟩) h (fun σ18 h => ?_)
    refine kx_aload_n dJ7_appendNull_81 rfl rfl ?_
    exact kx_aret dJ7_appendNull_82 rfl (Or.inl ⟨_, rfl⟩) (Or.inr ⟨_, rfl⟩) (hQ _ _ ⟨some _, rfl, h⟩)
set_option maxHeartbeats 8000000 in
theorem kw_J7_inflateIfNeededFor {G : KG} {bc bs : Nat} {σ : KHp} {x0 : Nat} {x1 : Option Nat} {Q : KHp → Prop} {X : String → Nat → KHp → Prop} (h : W_J7_inflateIfNeededFor G bc bs σ x0 x1 Q X) : kx_c G yJ7_inflateIfNeededFor (ws_ yJ7_inflateIfNeededFor cJ7_inflateIfNeededFor 2 (Option.none : Option Jvm.ClassFile.FieldType)) 7 bc bs [.ref (x0), va_rf (x1)] σ (fun rv σ' => rv = none ∧ Q σ') X := by
  refine kx_mk3 (ini := false) (by decide) (by cases x1 <;> exact Nat.le_of_ble_eq_true rfl) (fun h => by cases h) (fun Q1 X1 hQ hX => ?_)
  unfold W_J7_inflateIfNeededFor at h
  refine kx_lwF [(0, .ref x0), (1, va_rf (x1))] (by cases x1 <;> exact ⟨rfl, rfl, trivial⟩) ?_
  refine kx_gets dJ7_inflateIfNeededFor_0 kt_java_lang_String_COMPACT_STRINGS q286 (Or.inl rfl) ?_
  refine kx_if_eq (tgt := 21) dJ7_inflateIfNeededFor_3 (by decide) (fun c => ?_) (fun c => ?_)
  · have h := w_ift c h
    exact kx_vret dJ7_inflateIfNeededFor_21 rfl (hQ _ _ ⟨rfl, h⟩)
  · have h := w_iff c h
    refine kx_aload_n dJ7_inflateIfNeededFor_6 rfl rfl ?_
    refine kW_gI dJ7_inflateIfNeededFor_7 (kf1 fl_J7_22_J8) h (fun v1 h => ?_)
    refine kx_aload_nO dJ7_inflateIfNeededFor_10 rfl rfl ?_
    obtain ⟨a2, rfl, hUa2⟩ := h
    have h := hUa2
    obtain ⟨hr, h⟩ := h
    refine kx_callV dJ7_inflateIfNeededFor_11 lk_J7_40 (kw_J9_coder h) rfl (wR_rc hr rfl) rfl (Nat.le_of_ble_eq_true rfl) (Nat.le_of_ble_eq_true rfl) (Nat.le_of_ble_eq_true rfl) (Nat.le_of_ble_eq_true rfl) (Nat.le_of_ble_eq_true rfl) (fun _ _ _ hx => kx_out rfl (hX _ _ _ hx)) (fun v_ σ4 hq => ?_)
    obtain ⟨v3, rfl, h⟩ := hq
    refine kx_icmp_eq (tgt := 21) dJ7_inflateIfNeededFor_14 (by decide) (fun c => ?_) (fun c => ?_)
    · have h := w_ift c h
      exact kx_vret dJ7_inflateIfNeededFor_21 rfl (hQ _ _ ⟨rfl, h⟩)
    · have h := w_iff c h
      refine kx_aload_n dJ7_inflateIfNeededFor_17 rfl rfl ?_
      obtain ⟨hr, h⟩ := h
      obtain ⟨c7, c8, hc, hs, h⟩ := h
      refine kx_callP dJ7_inflateIfNeededFor_18 lk_J7_195 (kw_J7_inflate h) rfl (wR_rc hr rfl) rfl (Nat.le_of_ble_eq_true rfl) (Nat.le_of_ble_eq_true rfl) (Nat.le_of_ble_eq_true rfl) hc hs (fun _ _ _ hx => kx_out rfl (hX _ _ _ hx)) (fun v_ σ6 hq => ?_)
      obtain ⟨rfl, h⟩ := hq
      exact kx_vret dJ7_inflateIfNeededFor_21 rfl (hQ _ _ ⟨rfl, h⟩)
set_option maxHeartbeats 8000000 in
theorem kw_J9_init_2 {G : KG} {bc bs : Nat} {σ : KHp} {x0 : Nat} {x1 : Option Nat} {x2 : Option Nat} {Q : KHp → Prop} {X : String → Nat → KHp → Prop} (h : W_J9_init_2 G bc bs σ x0 x1 x2 Q X) : kx_c G yJ9_init_2 (ws_ yJ9_init_2 cJ9_init_2 5 (Option.none : Option Jvm.ClassFile.FieldType)) 6 bc bs [.ref (x0), va_rf (x1), va_rf (x2)] σ (fun rv σ' => rv = none ∧ Q σ') X := by
  refine kx_mk3 (ini := true) (by decide) (by cases x1 <;> cases x2 <;> exact Nat.le_of_ble_eq_true rfl) (fun _ => rfl) (fun Q1 X1 hQ hX => ?_)
  unfold W_J9_init_2 at h
  refine kx_lwF [(0, .ref x0), (1, va_rf (x1)), (2, va_rf (x2))] (by cases x1 <;> cases x2 <;> exact ⟨rfl, rfl, rfl, trivial⟩) ?_
  refine kx_aload_n dJ9_init_2_0 rfl rfl ?_
  refine kx_oinit dJ9_init_2_1 q469 q206 q207 (Nat.le_of_ble_eq_true rfl) (Nat.le_of_ble_eq_true rfl) ?_
  refine kx_aload_nO dJ9_init_2_4 rfl rfl ?_
  obtain ⟨a1, rfl, hUa1⟩ := h
  have h := hUa1
  obtain ⟨hr, h⟩ := h
  refine kx_callU dJ9_init_2_5 lk_J9_552_J8 (kw_J7_getValue h) rfl (wR_rc hr rfl) rfl (Nat.le_of_ble_eq_true rfl) (Nat.le_of_ble_eq_true rfl) (Nat.le_of_ble_eq_true rfl) (Nat.le_of_ble_eq_true rfl) (Nat.le_of_ble_eq_true rfl) (fun _ _ _ hx => kx_out rfl (hX _ _ _ hx)) (fun v_ σ3 hq => ?_)
  obtain ⟨v2, rfl, h⟩ := hq
  refine kx_astore_nO dJ9_init_2_8 rfl (Nat.le_of_ble_eq_true rfl) ?_
  refine kx_aload_n dJ9_init_2_9 rfl rfl ?_
  obtain ⟨hr, h⟩ := h
  refine kx_callU dJ9_init_2_10 lk_J9_549_J8 (kw_J8_length h) rfl (wR_rc hr rfl) rfl (Nat.le_of_ble_eq_true rfl) (Nat.le_of_ble_eq_true rfl) (Nat.le_of_ble_eq_true rfl) (Nat.le_of_ble_eq_true rfl) (Nat.le_of_ble_eq_true rfl) (fun _ _ _ hx => kx_out rfl (hX _ _ _ hx)) (fun v_ σ5 hq => ?_)
  obtain ⟨v4, rfl, h⟩ := hq
  refine kx_istore dJ9_init_2_13 (Nat.le_of_ble_eq_true rfl) ?_
  refine kx_lwF [(0, .ref (x0)), (1, .ref (a1)), (3, va_rf (v2)), (4, .int (v4))] (by cases v2 <;> exact ⟨rfl, rfl, rfl, rfl, trivial⟩) ?_
  refine kx_aload_n dJ9_init_2_15 rfl rfl ?_
  obtain ⟨hr, h⟩ := h
  refine kx_callU dJ9_init_2_16 lk_J9_1047_J8 (kw_J7_isLatin1 h) rfl (wR_rc hr rfl) rfl (Nat.le_of_ble_eq_true rfl) (Nat.le_of_ble_eq_true rfl) (Nat.le_of_ble_eq_true rfl) (Nat.le_of_ble_eq_true rfl) (Nat.le_of_ble_eq_true rfl) (fun _ _ _ hx => kx_out rfl (hX _ _ _ hx)) (fun v_ σ7 hq => ?_)
  obtain ⟨v6, rfl, h⟩ := hq
  refine kx_if_eq (tgt := 41) dJ9_init_2_19 (by decide) (fun c => ?_) (fun c => ?_)
  · have h := w_ift c h
    refine kx_gets dJ9_init_2_41 kt_java_lang_String_COMPACT_STRINGS q397 (Or.inl rfl) ?_
    refine kx_if_eq (tgt := 79) dJ9_init_2_44 (by decide) (fun c => ?_) (fun c => ?_)
    · have h := w_ift c h
      refine kx_aload_n dJ9_init_2_79 rfl rfl ?_
      refine kx_iconst (v := 1) dJ9_init_2_80 (by decide) ?_
      obtain ⟨⟨hb, hb2⟩, h⟩ := h
      refine kW_p dJ9_init_2_81 (kp1 ⟨_, _, _, _, kc_J9, fl_J9_15_J9, Or.inr ⟨rfl, rfl, q539⟩, hb, hb2⟩) h (fun σ8 h => ?_)
      refine kx_aload_n dJ9_init_2_84 rfl rfl ?_
      refine kx_aload_nO dJ9_init_2_85 rfl rfl ?_
      refine kx_iconst (v := 0) dJ9_init_2_86 (by decide) ?_
      refine kx_iload dJ9_init_2_87 rfl ?_
      refine kx_iconst (v := 1) dJ9_init_2_89 (by decide) ?_
      refine kx_ishl dJ9_init_2_90 ?_
      obtain ⟨c11, c12, hc, hs, h⟩ := h
      refine kx_callS dJ9_init_2_91 lk_J9_54 (kw_J13_copyOfRange h) rfl rfl (Nat.le_of_ble_eq_true rfl) (Nat.le_of_ble_eq_true rfl) (Nat.le_of_ble_eq_true rfl) hc hs (fun _ _ _ hx => kx_out rfl (hX _ _ _ hx)) (fun v_ σ10 hq => ?_)
      obtain ⟨v9, rfl, h⟩ := hq
      refine kW_p dJ9_init_2_94 (kp1 ⟨_, _, _, _, kc_J9, fl_J9_9_J9, Or.inr ⟨rfl, rfl, q538⟩, (by cases v9 <;> rfl), (by cases v9 <;> rfl)⟩) h (fun σ13 h => ?_)
      exact kx_vret dJ9_init_2_97 rfl (hQ _ _ ⟨rfl, h⟩)
    · have h := w_iff c h
      refine kx_aload_n dJ9_init_2_47 rfl rfl ?_
      refine kW_gI dJ9_init_2_48 (kf1 fl_J9_1048_J8) h (fun v14 h => ?_)
      refine kx_if_eq (tgt := 79) dJ9_init_2_51 (by decide) (fun c => ?_) (fun c => ?_)
      · have h := w_ift c h
        refine kx_aload_n dJ9_init_2_79 rfl rfl ?_
        refine kx_iconst (v := 1) dJ9_init_2_80 (by decide) ?_
        obtain ⟨⟨hb, hb2⟩, h⟩ := h
        refine kW_p dJ9_init_2_81 (kp1 ⟨_, _, _, _, kc_J9, fl_J9_15_J9, Or.inr ⟨rfl, rfl, q539⟩, hb, hb2⟩) h (fun σ15 h => ?_)
        refine kx_aload_n dJ9_init_2_84 rfl rfl ?_
        refine kx_aload_nO dJ9_init_2_85 rfl rfl ?_
        refine kx_iconst (v := 0) dJ9_init_2_86 (by decide) ?_
        refine kx_iload dJ9_init_2_87 rfl ?_
        refine kx_iconst (v := 1) dJ9_init_2_89 (by decide) ?_
        refine kx_ishl dJ9_init_2_90 ?_
        obtain ⟨c18, c19, hc, hs, h⟩ := h
        refine kx_callS dJ9_init_2_91 lk_J9_54 (kw_J13_copyOfRange h) rfl rfl (Nat.le_of_ble_eq_true rfl) (Nat.le_of_ble_eq_true rfl) (Nat.le_of_ble_eq_true rfl) hc hs (fun _ _ _ hx => kx_out rfl (hX _ _ _ hx)) (fun v_ σ17 hq => ?_)
        obtain ⟨v16, rfl, h⟩ := hq
        refine kW_p dJ9_init_2_94 (kp1 ⟨_, _, _, _, kc_J9, fl_J9_9_J9, Or.inr ⟨rfl, rfl, q538⟩, (by cases v16 <;> rfl), (by cases v16 <;> rfl)⟩) h (fun σ20 h => ?_)
        exact kx_vret dJ9_init_2_97 rfl (hQ _ _ ⟨rfl, h⟩)
      · have h := w_iff c h
        refine kx_aload_n dJ9_init_2_54 rfl rfl ?_
        refine kx_aload_nO dJ9_init_2_55 rfl rfl ?_
        refine kx_iconst (v := 0) dJ9_init_2_56 (by decide) ?_
        refine kx_iload dJ9_init_2_57 rfl ?_
        obtain ⟨c23, c24, hc, hs, h⟩ := h
        refine kx_callS dJ9_init_2_59 lk_J9_1051 (kw_J10_compress h) rfl rfl (Nat.le_of_ble_eq_true rfl) (Nat.le_of_ble_eq_true rfl) (Nat.le_of_ble_eq_true rfl) hc hs (fun _ _ _ hx => kx_out rfl (hX _ _ _ hx)) (fun v_ σ22 hq => ?_)
        obtain ⟨v21, rfl, h⟩ := hq
        refine kW_p dJ9_init_2_62 (kp1 ⟨_, _, _, _, kc_J9, fl_J9_9_J9, Or.inr ⟨rfl, rfl, q538⟩, (by cases v21 <;> rfl), (by cases v21 <;> rfl)⟩) h (fun σ25 h => ?_)
        refine kx_aload_n dJ9_init_2_65 rfl rfl ?_
        refine kx_aload_n dJ9_init_2_66 rfl rfl ?_
        refine kW_gO dJ9_init_2_67 (kf1 fl_J9_9_J9) h (fun v26 h => ?_)
        refine kx_iload dJ9_init_2_70 rfl ?_
        refine kx_callS dJ9_init_2_72 lk_J9_47 (kw_J10_coderFromArrayLen h) rfl rfl (Nat.le_of_ble_eq_true rfl) (Nat.le_of_ble_eq_true rfl) (Nat.le_of_ble_eq_true rfl) (Nat.le_of_ble_eq_true rfl) (Nat.le_of_ble_eq_true rfl) (fun _ _ _ hx => kx_out rfl (hX _ _ _ hx)) (fun v_ σ28 hq => ?_)
        obtain ⟨v27, rfl, h⟩ := hq
        obtain ⟨⟨hb, hb2⟩, h⟩ := h
        refine kW_p dJ9_init_2_75 (kp1 ⟨_, _, _, _, kc_J9, fl_J9_15_J9, Or.inr ⟨rfl, rfl, q539⟩, hb, hb2⟩) h (fun σ29 h => ?_)
        exact kx_vret dJ9_init_2_78 rfl (hQ _ _ ⟨rfl, h⟩)
  · have h := w_iff c h
    refine kx_aload_n dJ9_init_2_22 rfl rfl ?_
    refine kx_iconst (v := 0) dJ9_init_2_23 (by decide) ?_
    obtain ⟨⟨hb, hb2⟩, h⟩ := h
    refine kW_p dJ9_init_2_24 (kp1 ⟨_, _, _, _, kc_J9, fl_J9_15_J9, Or.inr ⟨rfl, rfl, q539⟩, hb, hb2⟩) h (fun σ30 h => ?_)
    refine kx_aload_n dJ9_init_2_27 rfl rfl ?_
    refine kx_aload_nO dJ9_init_2_28 rfl rfl ?_
    refine kx_iconst (v := 0) dJ9_init_2_29 (by decide) ?_
    refine kx_iload dJ9_init_2_30 rfl ?_
    obtain ⟨c33, c34, hc, hs, h⟩ := h
    refine kx_callS dJ9_init_2_32 lk_J9_54 (kw_J13_copyOfRange h) rfl rfl (Nat.le_of_ble_eq_true rfl) (Nat.le_of_ble_eq_true rfl) (Nat.le_of_ble_eq_true rfl) hc hs (fun _ _ _ hx => kx_out rfl (hX _ _ _ hx)) (fun v_ σ32 hq => ?_)
    obtain ⟨v31, rfl, h⟩ := hq
    refine kW_p dJ9_init_2_35 (kp1 ⟨_, _, _, _, kc_J9, fl_J9_9_J9, Or.inr ⟨rfl, rfl, q538⟩, (by cases v31 <;> rfl), (by cases v31 <;> rfl)⟩) h (fun σ35 h => ?_)
    refine kx_goto (tgt := 97) dJ9_init_2_38 (by decide) ?_
    exact kx_vret dJ9_init_2_97 rfl (hQ _ _ ⟨rfl, h⟩)
set_option maxHeartbeats 8000000 in
theorem kw_X1_isKeyword {G : KG} {σ : KHp} {x0 : Option Nat} {Q : Int32 → KHp → Prop} {X : String → Nat → KHp → Prop} (h : W_X1_isKeyword G σ x0 Q X) : kx_c G yX1_isKeyword (ws_ yX1_isKeyword cX1_isKeyword 3 (Option.some Jvm.ClassFile.FieldType.boolean)) 6 0 0 [va_rf (x0)] σ (fun rv σ' => ∃ r, rv = some (.int (r)) ∧ Q r σ') X := by
  refine kx_mk3 (ini := false) rfl (by cases x0 <;> exact Nat.le_of_ble_eq_true rfl) (fun h => by cases h) (fun Q1 X1 hQ hX => ?_)
  unfold W_X1_isKeyword at h
  refine kx_lwF [(0, va_rf (x0))] (by cases x0 <;> exact ⟨rfl, trivial⟩) ?_
  refine kx_aload_nO dX1_isKeyword_0 rfl rfl ?_
  refine kx_astore_nO dX1_isKeyword_1 rfl (Nat.le_of_ble_eq_true rfl) ?_
  refine kx_lwF [(0, va_rf (x0)), (1, va_rf (x0))] (by cases x0 <;> exact ⟨rfl, rfl, trivial⟩) ?_
  refine kx_iconst (v := -1) dX1_isKeyword_2 (by decide) ?_
  refine kx_istore_n dX1_isKeyword_3 rfl (Nat.le_of_ble_eq_true rfl) ?_
  refine kx_lwF [(0, va_rf (x0)), (1, va_rf (x0)), (2, .int ((-1 : Int32)))] (by cases x0 <;> exact ⟨rfl, rfl, rfl, trivial⟩) ?_
  refine kx_aload_nO dX1_isKeyword_4 rfl rfl ?_
  obtain ⟨a1, rfl, hUa1⟩ := h
  have h := hUa1
  obtain ⟨hr, h⟩ := h
  refine kx_callV dX1_isKeyword_5 lk_X1_16 (kw_J9_hashCode h) rfl (wR_rc hr rfl) rfl (Nat.le_of_ble_eq_true rfl) (Nat.le_of_ble_eq_true rfl) (Nat.le_of_ble_eq_true rfl) (Nat.le_of_ble_eq_true rfl) (Nat.le_of_ble_eq_true rfl) (fun _ _ _ hx => kx_out rfl (hX _ _ _ hx)) (fun v_ σ3 hq => ?_)
  obtain ⟨v2, rfl, h⟩ := hq
  refine kW_jl 563 (fun v53 : Int32 => [(0, .ref (a1)), (2, .int (v53))]) h (fun v53 σ54 h => ?_) (fun k4 jk4 h => ?_)
  · skip
    refine kx_iload_n dX1_isKeyword_563 rfl rfl ?_
    refine kW_jI 693 [] h (fun v58 σ59 h => ?_) (fun k55 jk55 h => ?_)
    · skip
      exact kx_zret dX1_isKeyword_693 rfl h.1 (hQ _ _ ⟨_, rfl, h.2⟩)
    · skip
      by_cases c0 : v53 = (0 : Int32)
      · have h := w_ift c0 h
        refine kx_tableIn (tgt := 676) dX1_isKeyword_564 (by rw [c0]; decide) (by rw [c0]; decide) (by rw [c0]; rfl) (by decide) ?_
        refine kx_iconst (v := 1) dX1_isKeyword_676 (by decide) ?_
        refine kx_goto (tgt := 693) dX1_isKeyword_677 (by decide) ?_
        exact jk55 _ _ h
      have h := w_iff c0 h
      by_cases c1 : v53 = (1 : Int32)
      · have h := w_ift c1 h
        refine kx_tableIn (tgt := 676) dX1_isKeyword_564 (by rw [c1]; decide) (by rw [c1]; decide) (by rw [c1]; rfl) (by decide) ?_
        refine kx_iconst (v := 1) dX1_isKeyword_676 (by decide) ?_
        refine kx_goto (tgt := 693) dX1_isKeyword_677 (by decide) ?_
        exact jk55 _ _ h
      have h := w_iff c1 h
      by_cases c2 : v53 = (2 : Int32)
      · have h := w_ift c2 h
        refine kx_tableIn (tgt := 676) dX1_isKeyword_564 (by rw [c2]; decide) (by rw [c2]; decide) (by rw [c2]; rfl) (by decide) ?_
        refine kx_iconst (v := 1) dX1_isKeyword_676 (by decide) ?_
        refine kx_goto (tgt := 693) dX1_isKeyword_677 (by decide) ?_
        exact jk55 _ _ h
      have h := w_iff c2 h
      by_cases c3 : v53 = (3 : Int32)
      · have h := w_ift c3 h
        refine kx_tableIn (tgt := 676) dX1_isKeyword_564 (by rw [c3]; decide) (by rw [c3]; decide) (by rw [c3]; rfl) (by decide) ?_
        refine kx_iconst (v := 1) dX1_isKeyword_676 (by decide) ?_
        refine kx_goto (tgt := 693) dX1_isKeyword_677 (by decide) ?_
        exact jk55 _ _ h
      have h := w_iff c3 h
      by_cases c4 : v53 = (4 : Int32)
      · have h := w_ift c4 h
        refine kx_tableIn (tgt := 676) dX1_isKeyword_564 (by rw [c4]; decide) (by rw [c4]; decide) (by rw [c4]; rfl) (by decide) ?_
        refine kx_iconst (v := 1) dX1_isKeyword_676 (by decide) ?_
        refine kx_goto (tgt := 693) dX1_isKeyword_677 (by decide) ?_
        exact jk55 _ _ h
      have h := w_iff c4 h
      by_cases c5 : v53 = (5 : Int32)
      · have h := w_ift c5 h
        refine kx_tableIn (tgt := 676) dX1_isKeyword_564 (by rw [c5]; decide) (by rw [c5]; decide) (by rw [c5]; rfl) (by decide) ?_
        refine kx_iconst (v := 1) dX1_isKeyword_676 (by decide) ?_
        refine kx_goto (tgt := 693) dX1_isKeyword_677 (by decide) ?_
        exact jk55 _ _ h
      have h := w_iff c5 h
      by_cases c6 : v53 = (6 : Int32)
      · have h := w_ift c6 h
        refine kx_tableIn (tgt := 676) dX1_isKeyword_564 (by rw [c6]; decide) (by rw [c6]; decide) (by rw [c6]; rfl) (by decide) ?_
        refine kx_iconst (v := 1) dX1_isKeyword_676 (by decide) ?_
        refine kx_goto (tgt := 693) dX1_isKeyword_677 (by decide) ?_
        exact jk55 _ _ h
      have h := w_iff c6 h
      by_cases c7 : v53 = (7 : Int32)
      · have h := w_ift c7 h
        refine kx_tableIn (tgt := 676) dX1_isKeyword_564 (by rw [c7]; decide) (by rw [c7]; decide) (by rw [c7]; rfl) (by decide) ?_
        refine kx_iconst (v := 1) dX1_isKeyword_676 (by decide) ?_
        refine kx_goto (tgt := 693) dX1_isKeyword_677 (by decide) ?_
        exact jk55 _ _ h
      have h := w_iff c7 h
      by_cases c8 : v53 = (8 : Int32)
      · have h := w_ift c8 h
        refine kx_tableIn (tgt := 676) dX1_isKeyword_564 (by rw [c8]; decide) (by rw [c8]; decide) (by rw [c8]; rfl) (by decide) ?_
        refine kx_iconst (v := 1) dX1_isKeyword_676 (by decide) ?_
        refine kx_goto (tgt := 693) dX1_isKeyword_677 (by decide) ?_
        exact jk55 _ _ h
      have h := w_iff c8 h
      by_cases c9 : v53 = (9 : Int32)
      · have h := w_ift c9 h
        refine kx_tableIn (tgt := 676) dX1_isKeyword_564 (by rw [c9]; decide) (by rw [c9]; decide) (by rw [c9]; rfl) (by decide) ?_
        refine kx_iconst (v := 1) dX1_isKeyword_676 (by decide) ?_
        refine kx_goto (tgt := 693) dX1_isKeyword_677 (by decide) ?_
        exact jk55 _ _ h
      have h := w_iff c9 h
      by_cases c10 : v53 = (10 : Int32)
      · have h := w_ift c10 h
        refine kx_tableIn (tgt := 676) dX1_isKeyword_564 (by rw [c10]; decide) (by rw [c10]; decide) (by rw [c10]; rfl) (by decide) ?_
        refine kx_iconst (v := 1) dX1_isKeyword_676 (by decide) ?_
        refine kx_goto (tgt := 693) dX1_isKeyword_677 (by decide) ?_
        exact jk55 _ _ h
      have h := w_iff c10 h
      by_cases c11 : v53 = (11 : Int32)
      · have h := w_ift c11 h
        refine kx_tableIn (tgt := 676) dX1_isKeyword_564 (by rw [c11]; decide) (by rw [c11]; decide) (by rw [c11]; rfl) (by decide) ?_
        refine kx_iconst (v := 1) dX1_isKeyword_676 (by decide) ?_
        refine kx_goto (tgt := 693) dX1_isKeyword_677 (by decide) ?_
        exact jk55 _ _ h
      have h := w_iff c11 h
      by_cases c12 : v53 = (12 : Int32)
      · have h := w_ift c12 h
        refine kx_tableIn (tgt := 676) dX1_isKeyword_564 (by rw [c12]; decide) (by rw [c12]; decide) (by rw [c12]; rfl) (by decide) ?_
        refine kx_iconst (v := 1) dX1_isKeyword_676 (by decide) ?_
        refine kx_goto (tgt := 693) dX1_isKeyword_677 (by decide) ?_
        exact jk55 _ _ h
      have h := w_iff c12 h
      by_cases c13 : v53 = (13 : Int32)
      · have h := w_ift c13 h
        refine kx_tableIn (tgt := 676) dX1_isKeyword_564 (by rw [c13]; decide) (by rw [c13]; decide) (by rw [c13]; rfl) (by decide) ?_
        refine kx_iconst (v := 1) dX1_isKeyword_676 (by decide) ?_
        refine kx_goto (tgt := 693) dX1_isKeyword_677 (by decide) ?_
        exact jk55 _ _ h
      have h := w_iff c13 h
      by_cases c14 : v53 = (14 : Int32)
      · have h := w_ift c14 h
        refine kx_tableIn (tgt := 676) dX1_isKeyword_564 (by rw [c14]; decide) (by rw [c14]; decide) (by rw [c14]; rfl) (by decide) ?_
        refine kx_iconst (v := 1) dX1_isKeyword_676 (by decide) ?_
        refine kx_goto (tgt := 693) dX1_isKeyword_677 (by decide) ?_
        exact jk55 _ _ h
      have h := w_iff c14 h
      by_cases c15 : v53 = (15 : Int32)
      · have h := w_ift c15 h
        refine kx_tableIn (tgt := 676) dX1_isKeyword_564 (by rw [c15]; decide) (by rw [c15]; decide) (by rw [c15]; rfl) (by decide) ?_
        refine kx_iconst (v := 1) dX1_isKeyword_676 (by decide) ?_
        refine kx_goto (tgt := 693) dX1_isKeyword_677 (by decide) ?_
        exact jk55 _ _ h
      have h := w_iff c15 h
      by_cases c16 : v53 = (16 : Int32)
      · have h := w_ift c16 h
        refine kx_tableIn (tgt := 676) dX1_isKeyword_564 (by rw [c16]; decide) (by rw [c16]; decide) (by rw [c16]; rfl) (by decide) ?_
        refine kx_iconst (v := 1) dX1_isKeyword_676 (by decide) ?_
        refine kx_goto (tgt := 693) dX1_isKeyword_677 (by decide) ?_
        exact jk55 _ _ h
      have h := w_iff c16 h
      by_cases c17 : v53 = (17 : Int32)
      · have h := w_ift c17 h
        refine kx_tableIn (tgt := 676) dX1_isKeyword_564 (by rw [c17]; decide) (by rw [c17]; decide) (by rw [c17]; rfl) (by decide) ?_
        refine kx_iconst (v := 1) dX1_isKeyword_676 (by decide) ?_
        refine kx_goto (tgt := 693) dX1_isKeyword_677 (by decide) ?_
        exact jk55 _ _ h
      have h := w_iff c17 h
      by_cases c18 : v53 = (18 : Int32)
      · have h := w_ift c18 h
        refine kx_tableIn (tgt := 676) dX1_isKeyword_564 (by rw [c18]; decide) (by rw [c18]; decide) (by rw [c18]; rfl) (by decide) ?_
        refine kx_iconst (v := 1) dX1_isKeyword_676 (by decide) ?_
        refine kx_goto (tgt := 693) dX1_isKeyword_677 (by decide) ?_
        exact jk55 _ _ h
      have h := w_iff c18 h
      by_cases c19 : v53 = (19 : Int32)
      · have h := w_ift c19 h
        refine kx_tableIn (tgt := 676) dX1_isKeyword_564 (by rw [c19]; decide) (by rw [c19]; decide) (by rw [c19]; rfl) (by decide) ?_
        refine kx_iconst (v := 1) dX1_isKeyword_676 (by decide) ?_
        refine kx_goto (tgt := 693) dX1_isKeyword_677 (by decide) ?_
        exact jk55 _ _ h
      have h := w_iff c19 h
      by_cases c20 : v53 = (20 : Int32)
      · have h := w_ift c20 h
        refine kx_tableIn (tgt := 676) dX1_isKeyword_564 (by rw [c20]; decide) (by rw [c20]; decide) (by rw [c20]; rfl) (by decide) ?_
        refine kx_iconst (v := 1) dX1_isKeyword_676 (by decide) ?_
        refine kx_goto (tgt := 693) dX1_isKeyword_677 (by decide) ?_
        exact jk55 _ _ h
      have h := w_iff c20 h
      by_cases c21 : v53 = (21 : Int32)
      · have h := w_ift c21 h
        refine kx_tableIn (tgt := 676) dX1_isKeyword_564 (by rw [c21]; decide) (by rw [c21]; decide) (by rw [c21]; rfl) (by decide) ?_
        refine kx_iconst (v := 1) dX1_isKeyword_676 (by decide) ?_
        refine kx_goto (tgt := 693) dX1_isKeyword_677 (by decide) ?_
        exact jk55 _ _ h
      have h := w_iff c21 h
      by_cases c22 : v53 = (22 : Int32)
      · have h := w_ift c22 h
        refine kx_tableIn (tgt := 676) dX1_isKeyword_564 (by rw [c22]; decide) (by rw [c22]; decide) (by rw [c22]; rfl) (by decide) ?_
        refine kx_iconst (v := 1) dX1_isKeyword_676 (by decide) ?_
        refine kx_goto (tgt := 693) dX1_isKeyword_677 (by decide) ?_
        exact jk55 _ _ h
      have h := w_iff c22 h
      by_cases c23 : v53 = (23 : Int32)
      · have h := w_ift c23 h
        refine kx_tableIn (tgt := 676) dX1_isKeyword_564 (by rw [c23]; decide) (by rw [c23]; decide) (by rw [c23]; rfl) (by decide) ?_
        refine kx_iconst (v := 1) dX1_isKeyword_676 (by decide) ?_
        refine kx_goto (tgt := 693) dX1_isKeyword_677 (by decide) ?_
        exact jk55 _ _ h
      have h := w_iff c23 h
      refine kx_tableOut (tgt := 680) dX1_isKeyword_564 (tbN (k := 24) (lo := 0) (by decide) (by intro j hj; rcases (show j = 0 ∨ j = 1 ∨ j = 2 ∨ j = 3 ∨ j = 4 ∨ j = 5 ∨ j = 6 ∨ j = 7 ∨ j = 8 ∨ j = 9 ∨ j = 10 ∨ j = 11 ∨ j = 12 ∨ j = 13 ∨ j = 14 ∨ j = 15 ∨ j = 16 ∨ j = 17 ∨ j = 18 ∨ j = 19 ∨ j = 20 ∨ j = 21 ∨ j = 22 ∨ j = 23 by omega) with rfl | rfl | rfl | rfl | rfl | rfl | rfl | rfl | rfl | rfl | rfl | rfl | rfl | rfl | rfl | rfl | rfl | rfl | rfl | rfl | rfl | rfl | rfl | rfl <;> assumption)) (by decide) ?_
      refine kx_aload_n dX1_isKeyword_680 rfl rfl ?_
      refine kx_callS dX1_isKeyword_681 lk_X1_88 (kw_X1_featureOf h) rfl rfl (Nat.le_of_ble_eq_true rfl) (Nat.le_of_ble_eq_true rfl) (Nat.le_of_ble_eq_true rfl) (Nat.le_of_ble_eq_true rfl) (Nat.le_of_ble_eq_true rfl) (fun _ _ _ hx => kx_out rfl (hX _ _ _ hx)) (fun v_ σ57 hq => ?_)
      obtain ⟨v56, rfl, h⟩ := hq
      refine kx_iconst (v := -1) dX1_isKeyword_684 (by decide) ?_
      refine kx_icmp_eq (tgt := 692) dX1_isKeyword_685 (by decide) (fun c => ?_) (fun c => ?_)
      · have h := w_ift c h
        refine kx_iconst (v := 0) dX1_isKeyword_692 (by decide) ?_
        exact jk55 _ _ h
      · have h := w_iff c h
        refine kx_iconst (v := 1) dX1_isKeyword_688 (by decide) ?_
        refine kx_goto (tgt := 693) dX1_isKeyword_689 (by decide) ?_
        exact jk55 _ _ h
  · skip
    by_cases c0 : v2 = (-1985378816 : Int32)
    · have h := w_ift c0 h
      refine kx_lookup (tgt := 506) (off := 498) dX1_isKeyword_8 (by decide) (by rw [c0]; decide) (by decide) ?_
      refine kx_aload_n dX1_isKeyword_506 rfl rfl ?_
      refine kx_ldcS dX1_isKeyword_507 ks_ArcRecorder_80 ?_
      obtain ⟨hr, h⟩ := h
      refine kx_callV dX1_isKeyword_509 lk_X1_24 (kw_J9_equals h) rfl (wR_rc hr rfl) rfl (Nat.le_of_ble_eq_true rfl) (Nat.le_of_ble_eq_true rfl) (Nat.le_of_ble_eq_true rfl) (Nat.le_of_ble_eq_true rfl) (Nat.le_of_ble_eq_true rfl) (fun _ _ _ hx => kx_out rfl (hX _ _ _ hx)) (fun v_ σ6 hq => ?_)
      obtain ⟨v5, rfl, h⟩ := hq
      refine kx_if_eq (tgt := 563) dX1_isKeyword_512 (by decide) (fun c => ?_) (fun c => ?_)
      · have h := w_ift c h
        exact kx_lwF [(0, .ref (a1)), (2, .int ((-1 : Int32)))] ⟨rfl, rfl, trivial⟩ (jk4 (-1 : Int32) _ h)
      · have h := w_iff c h
        refine kx_bipush (v := 20) dX1_isKeyword_515 (by decide) ?_
        refine kx_istore_n dX1_isKeyword_517 rfl (Nat.le_of_ble_eq_true rfl) ?_
        refine kx_goto (tgt := 563) dX1_isKeyword_518 (by decide) ?_
        exact kx_lwF [(0, .ref (a1)), (2, .int ((20 : Int32)))] ⟨rfl, rfl, trivial⟩ (jk4 (20 : Int32) _ h)
    have h := w_iff c0 h
    by_cases c1 : v2 = (-1414557169 : Int32)
    · have h := w_ift c1 h
      refine kx_lookup (tgt := 476) (off := 468) dX1_isKeyword_8 (by decide) (by rw [c1]; decide) (by decide) ?_
      refine kx_aload_n dX1_isKeyword_476 rfl rfl ?_
      refine kx_ldcS dX1_isKeyword_477 ks_ArcRecorder_76 ?_
      obtain ⟨hr, h⟩ := h
      refine kx_callV dX1_isKeyword_479 lk_X1_24 (kw_J9_equals h) rfl (wR_rc hr rfl) rfl (Nat.le_of_ble_eq_true rfl) (Nat.le_of_ble_eq_true rfl) (Nat.le_of_ble_eq_true rfl) (Nat.le_of_ble_eq_true rfl) (Nat.le_of_ble_eq_true rfl) (fun _ _ _ hx => kx_out rfl (hX _ _ _ hx)) (fun v_ σ8 hq => ?_)
      obtain ⟨v7, rfl, h⟩ := hq
      refine kx_if_eq (tgt := 563) dX1_isKeyword_482 (by decide) (fun c => ?_) (fun c => ?_)
      · have h := w_ift c h
        exact kx_lwF [(0, .ref (a1)), (2, .int ((-1 : Int32)))] ⟨rfl, rfl, trivial⟩ (jk4 (-1 : Int32) _ h)
      · have h := w_iff c h
        refine kx_bipush (v := 18) dX1_isKeyword_485 (by decide) ?_
        refine kx_istore_n dX1_isKeyword_487 rfl (Nat.le_of_ble_eq_true rfl) ?_
        refine kx_goto (tgt := 563) dX1_isKeyword_488 (by decide) ?_
        exact kx_lwF [(0, .ref (a1)), (2, .int ((18 : Int32)))] ⟨rfl, rfl, trivial⟩ (jk4 (18 : Int32) _ h)
    have h := w_iff c1 h
    by_cases c2 : v2 = (-1381030494 : Int32)
    · have h := w_ift c2 h
      refine kx_lookup (tgt := 268) (off := 260) dX1_isKeyword_8 (by decide) (by rw [c2]; decide) (by decide) ?_
      refine kx_aload_n dX1_isKeyword_268 rfl rfl ?_
      refine kx_ldcS dX1_isKeyword_269 ks_ArcRecorder_48 ?_
      obtain ⟨hr, h⟩ := h
      refine kx_callV dX1_isKeyword_271 lk_X1_24 (kw_J9_equals h) rfl (wR_rc hr rfl) rfl (Nat.le_of_ble_eq_true rfl) (Nat.le_of_ble_eq_true rfl) (Nat.le_of_ble_eq_true rfl) (Nat.le_of_ble_eq_true rfl) (Nat.le_of_ble_eq_true rfl) (fun _ _ _ hx => kx_out rfl (hX _ _ _ hx)) (fun v_ σ10 hq => ?_)
      obtain ⟨v9, rfl, h⟩ := hq
      refine kx_if_eq (tgt := 563) dX1_isKeyword_274 (by decide) (fun c => ?_) (fun c => ?_)
      · have h := w_ift c h
        exact kx_lwF [(0, .ref (a1)), (2, .int ((-1 : Int32)))] ⟨rfl, rfl, trivial⟩ (jk4 (-1 : Int32) _ h)
      · have h := w_iff c h
        refine kx_iconst (v := 4) dX1_isKeyword_277 (by decide) ?_
        refine kx_istore_n dX1_isKeyword_278 rfl (Nat.le_of_ble_eq_true rfl) ?_
        refine kx_goto (tgt := 563) dX1_isKeyword_279 (by decide) ?_
        exact kx_lwF [(0, .ref (a1)), (2, .int ((4 : Int32)))] ⟨rfl, rfl, trivial⟩ (jk4 (4 : Int32) _ h)
    have h := w_iff c2 h
    by_cases c3 : v2 = (-1331727278 : Int32)
    · have h := w_ift c3 h
      refine kx_lookup (tgt := 326) (off := 318) dX1_isKeyword_8 (by decide) (by rw [c3]; decide) (by decide) ?_
      refine kx_aload_n dX1_isKeyword_326 rfl rfl ?_
      refine kx_ldcS dX1_isKeyword_327 ks_ArcRecorder_56 ?_
      obtain ⟨hr, h⟩ := h
      refine kx_callV dX1_isKeyword_329 lk_X1_24 (kw_J9_equals h) rfl (wR_rc hr rfl) rfl (Nat.le_of_ble_eq_true rfl) (Nat.le_of_ble_eq_true rfl) (Nat.le_of_ble_eq_true rfl) (Nat.le_of_ble_eq_true rfl) (Nat.le_of_ble_eq_true rfl) (fun _ _ _ hx => kx_out rfl (hX _ _ _ hx)) (fun v_ σ12 hq => ?_)
      obtain ⟨v11, rfl, h⟩ := hq
      refine kx_if_eq (tgt := 563) dX1_isKeyword_332 (by decide) (fun c => ?_) (fun c => ?_)
      · have h := w_ift c h
        exact kx_lwF [(0, .ref (a1)), (2, .int ((-1 : Int32)))] ⟨rfl, rfl, trivial⟩ (jk4 (-1 : Int32) _ h)
      · have h := w_iff c h
        refine kx_bipush (v := 8) dX1_isKeyword_335 (by decide) ?_
        refine kx_istore_n dX1_isKeyword_337 rfl (Nat.le_of_ble_eq_true rfl) ?_
        refine kx_goto (tgt := 563) dX1_isKeyword_338 (by decide) ?_
        exact kx_lwF [(0, .ref (a1)), (2, .int ((8 : Int32)))] ⟨rfl, rfl, trivial⟩ (jk4 (8 : Int32) _ h)
    have h := w_iff c3 h
    by_cases c4 : v2 = (-1221255523 : Int32)
    · have h := w_ift c4 h
      refine kx_lookup (tgt := 296) (off := 288) dX1_isKeyword_8 (by decide) (by rw [c4]; decide) (by decide) ?_
      refine kx_aload_n dX1_isKeyword_296 rfl rfl ?_
      refine kx_ldcS dX1_isKeyword_297 ks_ArcRecorder_52 ?_
      obtain ⟨hr, h⟩ := h
      refine kx_callV dX1_isKeyword_299 lk_X1_24 (kw_J9_equals h) rfl (wR_rc hr rfl) rfl (Nat.le_of_ble_eq_true rfl) (Nat.le_of_ble_eq_true rfl) (Nat.le_of_ble_eq_true rfl) (Nat.le_of_ble_eq_true rfl) (Nat.le_of_ble_eq_true rfl) (fun _ _ _ hx => kx_out rfl (hX _ _ _ hx)) (fun v_ σ14 hq => ?_)
      obtain ⟨v13, rfl, h⟩ := hq
      refine kx_if_eq (tgt := 563) dX1_isKeyword_302 (by decide) (fun c => ?_) (fun c => ?_)
      · have h := w_ift c h
        exact kx_lwF [(0, .ref (a1)), (2, .int ((-1 : Int32)))] ⟨rfl, rfl, trivial⟩ (jk4 (-1 : Int32) _ h)
      · have h := w_iff c h
        refine kx_bipush (v := 6) dX1_isKeyword_305 (by decide) ?_
        refine kx_istore_n dX1_isKeyword_307 rfl (Nat.le_of_ble_eq_true rfl) ?_
        refine kx_goto (tgt := 563) dX1_isKeyword_308 (by decide) ?_
        exact kx_lwF [(0, .ref (a1)), (2, .int ((6 : Int32)))] ⟨rfl, rfl, trivial⟩ (jk4 (6 : Int32) _ h)
    have h := w_iff c4 h
    by_cases c5 : v2 = (-799233858 : Int32)
    · have h := w_ift c5 h
      refine kx_lookup (tgt := 212) (off := 204) dX1_isKeyword_8 (by decide) (by rw [c5]; decide) (by decide) ?_
      refine kx_aload_n dX1_isKeyword_212 rfl rfl ?_
      refine kx_ldcS dX1_isKeyword_213 ks_ArcRecorder_40 ?_
      obtain ⟨hr, h⟩ := h
      refine kx_callV dX1_isKeyword_215 lk_X1_24 (kw_J9_equals h) rfl (wR_rc hr rfl) rfl (Nat.le_of_ble_eq_true rfl) (Nat.le_of_ble_eq_true rfl) (Nat.le_of_ble_eq_true rfl) (Nat.le_of_ble_eq_true rfl) (Nat.le_of_ble_eq_true rfl) (fun _ _ _ hx => kx_out rfl (hX _ _ _ hx)) (fun v_ σ16 hq => ?_)
      obtain ⟨v15, rfl, h⟩ := hq
      refine kx_if_eq (tgt := 563) dX1_isKeyword_218 (by decide) (fun c => ?_) (fun c => ?_)
      · have h := w_ift c h
        exact kx_lwF [(0, .ref (a1)), (2, .int ((-1 : Int32)))] ⟨rfl, rfl, trivial⟩ (jk4 (-1 : Int32) _ h)
      · have h := w_iff c h
        refine kx_iconst (v := 0) dX1_isKeyword_221 (by decide) ?_
        refine kx_istore_n dX1_isKeyword_222 rfl (Nat.le_of_ble_eq_true rfl) ?_
        refine kx_goto (tgt := 563) dX1_isKeyword_223 (by decide) ?_
        exact kx_lwF [(0, .ref (a1)), (2, .int ((0 : Int32)))] ⟨rfl, rfl, trivial⟩ (jk4 (0 : Int32) _ h)
    have h := w_iff c5 h
    by_cases c6 : v2 = (-787751952 : Int32)
    · have h := w_ift c6 h
      refine kx_lookup (tgt := 240) (off := 232) dX1_isKeyword_8 (by decide) (by rw [c6]; decide) (by decide) ?_
      refine kx_aload_n dX1_isKeyword_240 rfl rfl ?_
      refine kx_ldcS dX1_isKeyword_241 ks_ArcRecorder_44 ?_
      obtain ⟨hr, h⟩ := h
      refine kx_callV dX1_isKeyword_243 lk_X1_24 (kw_J9_equals h) rfl (wR_rc hr rfl) rfl (Nat.le_of_ble_eq_true rfl) (Nat.le_of_ble_eq_true rfl) (Nat.le_of_ble_eq_true rfl) (Nat.le_of_ble_eq_true rfl) (Nat.le_of_ble_eq_true rfl) (fun _ _ _ hx => kx_out rfl (hX _ _ _ hx)) (fun v_ σ18 hq => ?_)
      obtain ⟨v17, rfl, h⟩ := hq
      refine kx_if_eq (tgt := 563) dX1_isKeyword_246 (by decide) (fun c => ?_) (fun c => ?_)
      · have h := w_ift c h
        exact kx_lwF [(0, .ref (a1)), (2, .int ((-1 : Int32)))] ⟨rfl, rfl, trivial⟩ (jk4 (-1 : Int32) _ h)
      · have h := w_iff c h
        refine kx_iconst (v := 2) dX1_isKeyword_249 (by decide) ?_
        refine kx_istore_n dX1_isKeyword_250 rfl (Nat.le_of_ble_eq_true rfl) ?_
        refine kx_goto (tgt := 563) dX1_isKeyword_251 (by decide) ?_
        exact kx_lwF [(0, .ref (a1)), (2, .int ((2 : Int32)))] ⟨rfl, rfl, trivial⟩ (jk4 (2 : Int32) _ h)
    have h := w_iff c6 h
    by_cases c7 : v2 = (3123 : Int32)
    · have h := w_ift c7 h
      refine kx_lookup (tgt := 521) (off := 513) dX1_isKeyword_8 (by decide) (by rw [c7]; decide) (by decide) ?_
      refine kx_aload_n dX1_isKeyword_521 rfl rfl ?_
      refine kx_ldcS dX1_isKeyword_522 ks_ArcRecorder_82 ?_
      obtain ⟨hr, h⟩ := h
      refine kx_callV dX1_isKeyword_524 lk_X1_24 (kw_J9_equals h) rfl (wR_rc hr rfl) rfl (Nat.le_of_ble_eq_true rfl) (Nat.le_of_ble_eq_true rfl) (Nat.le_of_ble_eq_true rfl) (Nat.le_of_ble_eq_true rfl) (Nat.le_of_ble_eq_true rfl) (fun _ _ _ hx => kx_out rfl (hX _ _ _ hx)) (fun v_ σ20 hq => ?_)
      obtain ⟨v19, rfl, h⟩ := hq
      refine kx_if_eq (tgt := 563) dX1_isKeyword_527 (by decide) (fun c => ?_) (fun c => ?_)
      · have h := w_ift c h
        exact kx_lwF [(0, .ref (a1)), (2, .int ((-1 : Int32)))] ⟨rfl, rfl, trivial⟩ (jk4 (-1 : Int32) _ h)
      · have h := w_iff c h
        refine kx_bipush (v := 21) dX1_isKeyword_530 (by decide) ?_
        refine kx_istore_n dX1_isKeyword_532 rfl (Nat.le_of_ble_eq_true rfl) ?_
        refine kx_goto (tgt := 563) dX1_isKeyword_533 (by decide) ?_
        exact kx_lwF [(0, .ref (a1)), (2, .int ((21 : Int32)))] ⟨rfl, rfl, trivial⟩ (jk4 (21 : Int32) _ h)
    have h := w_iff c7 h
    by_cases c8 : v2 = (3543 : Int32)
    · have h := w_ift c8 h
      refine kx_lookup (tgt := 356) (off := 348) dX1_isKeyword_8 (by decide) (by rw [c8]; decide) (by decide) ?_
      refine kx_aload_n dX1_isKeyword_356 rfl rfl ?_
      refine kx_ldcS dX1_isKeyword_357 ks_ArcRecorder_60 ?_
      obtain ⟨hr, h⟩ := h
      refine kx_callV dX1_isKeyword_359 lk_X1_24 (kw_J9_equals h) rfl (wR_rc hr rfl) rfl (Nat.le_of_ble_eq_true rfl) (Nat.le_of_ble_eq_true rfl) (Nat.le_of_ble_eq_true rfl) (Nat.le_of_ble_eq_true rfl) (Nat.le_of_ble_eq_true rfl) (fun _ _ _ hx => kx_out rfl (hX _ _ _ hx)) (fun v_ σ22 hq => ?_)
      obtain ⟨v21, rfl, h⟩ := hq
      refine kx_if_eq (tgt := 563) dX1_isKeyword_362 (by decide) (fun c => ?_) (fun c => ?_)
      · have h := w_ift c h
        exact kx_lwF [(0, .ref (a1)), (2, .int ((-1 : Int32)))] ⟨rfl, rfl, trivial⟩ (jk4 (-1 : Int32) _ h)
      · have h := w_iff c h
        refine kx_bipush (v := 10) dX1_isKeyword_365 (by decide) ?_
        refine kx_istore_n dX1_isKeyword_367 rfl (Nat.le_of_ble_eq_true rfl) ?_
        refine kx_goto (tgt := 563) dX1_isKeyword_368 (by decide) ?_
        exact kx_lwF [(0, .ref (a1)), (2, .int ((10 : Int32)))] ⟨rfl, rfl, trivial⟩ (jk4 (10 : Int32) _ h)
    have h := w_iff c8 h
    by_cases c9 : v2 = (3551 : Int32)
    · have h := w_ift c9 h
      refine kx_lookup (tgt := 536) (off := 528) dX1_isKeyword_8 (by decide) (by rw [c9]; decide) (by decide) ?_
      refine kx_aload_n dX1_isKeyword_536 rfl rfl ?_
      refine kx_ldcS dX1_isKeyword_537 ks_ArcRecorder_84 ?_
      obtain ⟨hr, h⟩ := h
      refine kx_callV dX1_isKeyword_539 lk_X1_24 (kw_J9_equals h) rfl (wR_rc hr rfl) rfl (Nat.le_of_ble_eq_true rfl) (Nat.le_of_ble_eq_true rfl) (Nat.le_of_ble_eq_true rfl) (Nat.le_of_ble_eq_true rfl) (Nat.le_of_ble_eq_true rfl) (fun _ _ _ hx => kx_out rfl (hX _ _ _ hx)) (fun v_ σ24 hq => ?_)
      obtain ⟨v23, rfl, h⟩ := hq
      refine kx_if_eq (tgt := 563) dX1_isKeyword_542 (by decide) (fun c => ?_) (fun c => ?_)
      · have h := w_ift c h
        exact kx_lwF [(0, .ref (a1)), (2, .int ((-1 : Int32)))] ⟨rfl, rfl, trivial⟩ (jk4 (-1 : Int32) _ h)
      · have h := w_iff c h
        refine kx_bipush (v := 22) dX1_isKeyword_545 (by decide) ?_
        refine kx_istore_n dX1_isKeyword_547 rfl (Nat.le_of_ble_eq_true rfl) ?_
        refine kx_goto (tgt := 563) dX1_isKeyword_548 (by decide) ?_
        exact kx_lwF [(0, .ref (a1)), (2, .int ((22 : Int32)))] ⟨rfl, rfl, trivial⟩ (jk4 (22 : Int32) _ h)
    have h := w_iff c9 h
    by_cases c10 : v2 = (96727 : Int32)
    · have h := w_ift c10 h
      refine kx_lookup (tgt := 491) (off := 483) dX1_isKeyword_8 (by decide) (by rw [c10]; decide) (by decide) ?_
      refine kx_aload_n dX1_isKeyword_491 rfl rfl ?_
      refine kx_ldcS dX1_isKeyword_492 ks_ArcRecorder_78 ?_
      obtain ⟨hr, h⟩ := h
      refine kx_callV dX1_isKeyword_494 lk_X1_24 (kw_J9_equals h) rfl (wR_rc hr rfl) rfl (Nat.le_of_ble_eq_true rfl) (Nat.le_of_ble_eq_true rfl) (Nat.le_of_ble_eq_true rfl) (Nat.le_of_ble_eq_true rfl) (Nat.le_of_ble_eq_true rfl) (fun _ _ _ hx => kx_out rfl (hX _ _ _ hx)) (fun v_ σ26 hq => ?_)
      obtain ⟨v25, rfl, h⟩ := hq
      refine kx_if_eq (tgt := 563) dX1_isKeyword_497 (by decide) (fun c => ?_) (fun c => ?_)
      · have h := w_ift c h
        exact kx_lwF [(0, .ref (a1)), (2, .int ((-1 : Int32)))] ⟨rfl, rfl, trivial⟩ (jk4 (-1 : Int32) _ h)
      · have h := w_iff c h
        refine kx_bipush (v := 19) dX1_isKeyword_500 (by decide) ?_
        refine kx_istore_n dX1_isKeyword_502 rfl (Nat.le_of_ble_eq_true rfl) ?_
        refine kx_goto (tgt := 563) dX1_isKeyword_503 (by decide) ?_
        exact kx_lwF [(0, .ref (a1)), (2, .int ((19 : Int32)))] ⟨rfl, rfl, trivial⟩ (jk4 (19 : Int32) _ h)
    have h := w_iff c10 h
    by_cases c11 : v2 = (96850 : Int32)
    · have h := w_ift c11 h
      refine kx_lookup (tgt := 341) (off := 333) dX1_isKeyword_8 (by decide) (by rw [c11]; decide) (by decide) ?_
      refine kx_aload_n dX1_isKeyword_341 rfl rfl ?_
      refine kx_ldcS dX1_isKeyword_342 ks_ArcRecorder_58 ?_
      obtain ⟨hr, h⟩ := h
      refine kx_callV dX1_isKeyword_344 lk_X1_24 (kw_J9_equals h) rfl (wR_rc hr rfl) rfl (Nat.le_of_ble_eq_true rfl) (Nat.le_of_ble_eq_true rfl) (Nat.le_of_ble_eq_true rfl) (Nat.le_of_ble_eq_true rfl) (Nat.le_of_ble_eq_true rfl) (fun _ _ _ hx => kx_out rfl (hX _ _ _ hx)) (fun v_ σ28 hq => ?_)
      obtain ⟨v27, rfl, h⟩ := hq
      refine kx_if_eq (tgt := 563) dX1_isKeyword_347 (by decide) (fun c => ?_) (fun c => ?_)
      · have h := w_ift c h
        exact kx_lwF [(0, .ref (a1)), (2, .int ((-1 : Int32)))] ⟨rfl, rfl, trivial⟩ (jk4 (-1 : Int32) _ h)
      · have h := w_iff c h
        refine kx_bipush (v := 9) dX1_isKeyword_350 (by decide) ?_
        refine kx_istore_n dX1_isKeyword_352 rfl (Nat.le_of_ble_eq_true rfl) ?_
        refine kx_goto (tgt := 563) dX1_isKeyword_353 (by decide) ?_
        exact kx_lwF [(0, .ref (a1)), (2, .int ((9 : Int32)))] ⟨rfl, rfl, trivial⟩ (jk4 (9 : Int32) _ h)
    have h := w_iff c11 h
    by_cases c12 : v2 = (98882 : Int32)
    · have h := w_ift c12 h
      refine kx_lookup (tgt := 401) (off := 393) dX1_isKeyword_8 (by decide) (by rw [c12]; decide) (by decide) ?_
      refine kx_aload_n dX1_isKeyword_401 rfl rfl ?_
      refine kx_ldcS dX1_isKeyword_402 ks_ArcRecorder_66 ?_
      obtain ⟨hr, h⟩ := h
      refine kx_callV dX1_isKeyword_404 lk_X1_24 (kw_J9_equals h) rfl (wR_rc hr rfl) rfl (Nat.le_of_ble_eq_true rfl) (Nat.le_of_ble_eq_true rfl) (Nat.le_of_ble_eq_true rfl) (Nat.le_of_ble_eq_true rfl) (Nat.le_of_ble_eq_true rfl) (fun _ _ _ hx => kx_out rfl (hX _ _ _ hx)) (fun v_ σ30 hq => ?_)
      obtain ⟨v29, rfl, h⟩ := hq
      refine kx_if_eq (tgt := 563) dX1_isKeyword_407 (by decide) (fun c => ?_) (fun c => ?_)
      · have h := w_ift c h
        exact kx_lwF [(0, .ref (a1)), (2, .int ((-1 : Int32)))] ⟨rfl, rfl, trivial⟩ (jk4 (-1 : Int32) _ h)
      · have h := w_iff c h
        refine kx_bipush (v := 13) dX1_isKeyword_410 (by decide) ?_
        refine kx_istore_n dX1_isKeyword_412 rfl (Nat.le_of_ble_eq_true rfl) ?_
        refine kx_goto (tgt := 563) dX1_isKeyword_413 (by decide) ?_
        exact kx_lwF [(0, .ref (a1)), (2, .int ((13 : Int32)))] ⟨rfl, rfl, trivial⟩ (jk4 (13 : Int32) _ h)
    have h := w_iff c12 h
    by_cases c13 : v2 = (102102 : Int32)
    · have h := w_ift c13 h
      refine kx_lookup (tgt := 416) (off := 408) dX1_isKeyword_8 (by decide) (by rw [c13]; decide) (by decide) ?_
      refine kx_aload_n dX1_isKeyword_416 rfl rfl ?_
      refine kx_ldcS dX1_isKeyword_417 ks_ArcRecorder_68 ?_
      obtain ⟨hr, h⟩ := h
      refine kx_callV dX1_isKeyword_419 lk_X1_24 (kw_J9_equals h) rfl (wR_rc hr rfl) rfl (Nat.le_of_ble_eq_true rfl) (Nat.le_of_ble_eq_true rfl) (Nat.le_of_ble_eq_true rfl) (Nat.le_of_ble_eq_true rfl) (Nat.le_of_ble_eq_true rfl) (fun _ _ _ hx => kx_out rfl (hX _ _ _ hx)) (fun v_ σ32 hq => ?_)
      obtain ⟨v31, rfl, h⟩ := hq
      refine kx_if_eq (tgt := 563) dX1_isKeyword_422 (by decide) (fun c => ?_) (fun c => ?_)
      · have h := w_ift c h
        exact kx_lwF [(0, .ref (a1)), (2, .int ((-1 : Int32)))] ⟨rfl, rfl, trivial⟩ (jk4 (-1 : Int32) _ h)
      · have h := w_iff c h
        refine kx_bipush (v := 14) dX1_isKeyword_425 (by decide) ?_
        refine kx_istore_n dX1_isKeyword_427 rfl (Nat.le_of_ble_eq_true rfl) ?_
        refine kx_goto (tgt := 563) dX1_isKeyword_428 (by decide) ?_
        exact kx_lwF [(0, .ref (a1)), (2, .int ((14 : Int32)))] ⟨rfl, rfl, trivial⟩ (jk4 (14 : Int32) _ h)
    have h := w_iff c13 h
    by_cases c14 : v2 = (106898 : Int32)
    · have h := w_ift c14 h
      refine kx_lookup (tgt := 386) (off := 378) dX1_isKeyword_8 (by decide) (by rw [c14]; decide) (by decide) ?_
      refine kx_aload_n dX1_isKeyword_386 rfl rfl ?_
      refine kx_ldcS dX1_isKeyword_387 ks_ArcRecorder_64 ?_
      obtain ⟨hr, h⟩ := h
      refine kx_callV dX1_isKeyword_389 lk_X1_24 (kw_J9_equals h) rfl (wR_rc hr rfl) rfl (Nat.le_of_ble_eq_true rfl) (Nat.le_of_ble_eq_true rfl) (Nat.le_of_ble_eq_true rfl) (Nat.le_of_ble_eq_true rfl) (Nat.le_of_ble_eq_true rfl) (fun _ _ _ hx => kx_out rfl (hX _ _ _ hx)) (fun v_ σ34 hq => ?_)
      obtain ⟨v33, rfl, h⟩ := hq
      refine kx_if_eq (tgt := 563) dX1_isKeyword_392 (by decide) (fun c => ?_) (fun c => ?_)
      · have h := w_ift c h
        exact kx_lwF [(0, .ref (a1)), (2, .int ((-1 : Int32)))] ⟨rfl, rfl, trivial⟩ (jk4 (-1 : Int32) _ h)
      · have h := w_iff c h
        refine kx_bipush (v := 12) dX1_isKeyword_395 (by decide) ?_
        refine kx_istore_n dX1_isKeyword_397 rfl (Nat.le_of_ble_eq_true rfl) ?_
        refine kx_goto (tgt := 563) dX1_isKeyword_398 (by decide) ?_
        exact kx_lwF [(0, .ref (a1)), (2, .int ((12 : Int32)))] ⟨rfl, rfl, trivial⟩ (jk4 (12 : Int32) _ h)
    have h := w_iff c14 h
    by_cases c15 : v2 = (109935 : Int32)
    · have h := w_ift c15 h
      refine kx_lookup (tgt := 551) (off := 543) dX1_isKeyword_8 (by decide) (by rw [c15]; decide) (by decide) ?_
      refine kx_aload_n dX1_isKeyword_551 rfl rfl ?_
      refine kx_ldcS dX1_isKeyword_552 ks_ArcRecorder_86 ?_
      obtain ⟨hr, h⟩ := h
      refine kx_callV dX1_isKeyword_554 lk_X1_24 (kw_J9_equals h) rfl (wR_rc hr rfl) rfl (Nat.le_of_ble_eq_true rfl) (Nat.le_of_ble_eq_true rfl) (Nat.le_of_ble_eq_true rfl) (Nat.le_of_ble_eq_true rfl) (Nat.le_of_ble_eq_true rfl) (fun _ _ _ hx => kx_out rfl (hX _ _ _ hx)) (fun v_ σ36 hq => ?_)
      obtain ⟨v35, rfl, h⟩ := hq
      refine kx_if_eq (tgt := 563) dX1_isKeyword_557 (by decide) (fun c => ?_) (fun c => ?_)
      · have h := w_ift c h
        exact kx_lwF [(0, .ref (a1)), (2, .int ((-1 : Int32)))] ⟨rfl, rfl, trivial⟩ (jk4 (-1 : Int32) _ h)
      · have h := w_iff c h
        refine kx_bipush (v := 23) dX1_isKeyword_560 (by decide) ?_
        refine kx_istore_n dX1_isKeyword_562 rfl (Nat.le_of_ble_eq_true rfl) ?_
        exact kx_lwF [(0, .ref (a1)), (2, .int ((23 : Int32)))] ⟨rfl, rfl, trivial⟩ (jk4 (23 : Int32) _ h)
    have h := w_iff c15 h
    by_cases c16 : v2 = (110414 : Int32)
    · have h := w_ift c16 h
      refine kx_lookup (tgt := 431) (off := 423) dX1_isKeyword_8 (by decide) (by rw [c16]; decide) (by decide) ?_
      refine kx_aload_n dX1_isKeyword_431 rfl rfl ?_
      refine kx_ldcS dX1_isKeyword_432 ks_ArcRecorder_70 ?_
      obtain ⟨hr, h⟩ := h
      refine kx_callV dX1_isKeyword_434 lk_X1_24 (kw_J9_equals h) rfl (wR_rc hr rfl) rfl (Nat.le_of_ble_eq_true rfl) (Nat.le_of_ble_eq_true rfl) (Nat.le_of_ble_eq_true rfl) (Nat.le_of_ble_eq_true rfl) (Nat.le_of_ble_eq_true rfl) (fun _ _ _ hx => kx_out rfl (hX _ _ _ hx)) (fun v_ σ38 hq => ?_)
      obtain ⟨v37, rfl, h⟩ := hq
      refine kx_if_eq (tgt := 563) dX1_isKeyword_437 (by decide) (fun c => ?_) (fun c => ?_)
      · have h := w_ift c h
        exact kx_lwF [(0, .ref (a1)), (2, .int ((-1 : Int32)))] ⟨rfl, rfl, trivial⟩ (jk4 (-1 : Int32) _ h)
      · have h := w_iff c h
        refine kx_bipush (v := 15) dX1_isKeyword_440 (by decide) ?_
        refine kx_istore_n dX1_isKeyword_442 rfl (Nat.le_of_ble_eq_true rfl) ?_
        refine kx_goto (tgt := 563) dX1_isKeyword_443 (by decide) ?_
        exact kx_lwF [(0, .ref (a1)), (2, .int ((15 : Int32)))] ⟨rfl, rfl, trivial⟩ (jk4 (15 : Int32) _ h)
    have h := w_iff c16 h
    by_cases c17 : v2 = (2998063 : Int32)
    · have h := w_ift c17 h
      refine kx_lookup (tgt := 371) (off := 363) dX1_isKeyword_8 (by decide) (by rw [c17]; decide) (by decide) ?_
      refine kx_aload_n dX1_isKeyword_371 rfl rfl ?_
      refine kx_ldcS dX1_isKeyword_372 ks_ArcRecorder_62 ?_
      obtain ⟨hr, h⟩ := h
      refine kx_callV dX1_isKeyword_374 lk_X1_24 (kw_J9_equals h) rfl (wR_rc hr rfl) rfl (Nat.le_of_ble_eq_true rfl) (Nat.le_of_ble_eq_true rfl) (Nat.le_of_ble_eq_true rfl) (Nat.le_of_ble_eq_true rfl) (Nat.le_of_ble_eq_true rfl) (fun _ _ _ hx => kx_out rfl (hX _ _ _ hx)) (fun v_ σ40 hq => ?_)
      obtain ⟨v39, rfl, h⟩ := hq
      refine kx_if_eq (tgt := 563) dX1_isKeyword_377 (by decide) (fun c => ?_) (fun c => ?_)
      · have h := w_ift c h
        exact kx_lwF [(0, .ref (a1)), (2, .int ((-1 : Int32)))] ⟨rfl, rfl, trivial⟩ (jk4 (-1 : Int32) _ h)
      · have h := w_iff c h
        refine kx_bipush (v := 11) dX1_isKeyword_380 (by decide) ?_
        refine kx_istore_n dX1_isKeyword_382 rfl (Nat.le_of_ble_eq_true rfl) ?_
        refine kx_goto (tgt := 563) dX1_isKeyword_383 (by decide) ?_
        exact kx_lwF [(0, .ref (a1)), (2, .int ((11 : Int32)))] ⟨rfl, rfl, trivial⟩ (jk4 (11 : Int32) _ h)
    have h := w_iff c17 h
    by_cases c18 : v2 = (3526257 : Int32)
    · have h := w_ift c18 h
      refine kx_lookup (tgt := 446) (off := 438) dX1_isKeyword_8 (by decide) (by rw [c18]; decide) (by decide) ?_
      refine kx_aload_n dX1_isKeyword_446 rfl rfl ?_
      refine kx_ldcS dX1_isKeyword_447 ks_ArcRecorder_72 ?_
      obtain ⟨hr, h⟩ := h
      refine kx_callV dX1_isKeyword_449 lk_X1_24 (kw_J9_equals h) rfl (wR_rc hr rfl) rfl (Nat.le_of_ble_eq_true rfl) (Nat.le_of_ble_eq_true rfl) (Nat.le_of_ble_eq_true rfl) (Nat.le_of_ble_eq_true rfl) (Nat.le_of_ble_eq_true rfl) (fun _ _ _ hx => kx_out rfl (hX _ _ _ hx)) (fun v_ σ42 hq => ?_)
      obtain ⟨v41, rfl, h⟩ := hq
      refine kx_if_eq (tgt := 563) dX1_isKeyword_452 (by decide) (fun c => ?_) (fun c => ?_)
      · have h := w_ift c h
        exact kx_lwF [(0, .ref (a1)), (2, .int ((-1 : Int32)))] ⟨rfl, rfl, trivial⟩ (jk4 (-1 : Int32) _ h)
      · have h := w_iff c h
        refine kx_bipush (v := 16) dX1_isKeyword_455 (by decide) ?_
        refine kx_istore_n dX1_isKeyword_457 rfl (Nat.le_of_ble_eq_true rfl) ?_
        refine kx_goto (tgt := 563) dX1_isKeyword_458 (by decide) ?_
        exact kx_lwF [(0, .ref (a1)), (2, .int ((16 : Int32)))] ⟨rfl, rfl, trivial⟩ (jk4 (16 : Int32) _ h)
    have h := w_iff c18 h
    by_cases c19 : v2 = (94851343 : Int32)
    · have h := w_ift c19 h
      refine kx_lookup (tgt := 254) (off := 246) dX1_isKeyword_8 (by decide) (by rw [c19]; decide) (by decide) ?_
      refine kx_aload_n dX1_isKeyword_254 rfl rfl ?_
      refine kx_ldcS dX1_isKeyword_255 ks_ArcRecorder_46 ?_
      obtain ⟨hr, h⟩ := h
      refine kx_callV dX1_isKeyword_257 lk_X1_24 (kw_J9_equals h) rfl (wR_rc hr rfl) rfl (Nat.le_of_ble_eq_true rfl) (Nat.le_of_ble_eq_true rfl) (Nat.le_of_ble_eq_true rfl) (Nat.le_of_ble_eq_true rfl) (Nat.le_of_ble_eq_true rfl) (fun _ _ _ hx => kx_out rfl (hX _ _ _ hx)) (fun v_ σ44 hq => ?_)
      obtain ⟨v43, rfl, h⟩ := hq
      refine kx_if_eq (tgt := 563) dX1_isKeyword_260 (by decide) (fun c => ?_) (fun c => ?_)
      · have h := w_ift c h
        exact kx_lwF [(0, .ref (a1)), (2, .int ((-1 : Int32)))] ⟨rfl, rfl, trivial⟩ (jk4 (-1 : Int32) _ h)
      · have h := w_iff c h
        refine kx_iconst (v := 3) dX1_isKeyword_263 (by decide) ?_
        refine kx_istore_n dX1_isKeyword_264 rfl (Nat.le_of_ble_eq_true rfl) ?_
        refine kx_goto (tgt := 563) dX1_isKeyword_265 (by decide) ?_
        exact kx_lwF [(0, .ref (a1)), (2, .int ((3 : Int32)))] ⟨rfl, rfl, trivial⟩ (jk4 (3 : Int32) _ h)
    have h := w_iff c19 h
    by_cases c20 : v2 = (104085621 : Int32)
    · have h := w_ift c20 h
      refine kx_lookup (tgt := 311) (off := 303) dX1_isKeyword_8 (by decide) (by rw [c20]; decide) (by decide) ?_
      refine kx_aload_n dX1_isKeyword_311 rfl rfl ?_
      refine kx_ldcS dX1_isKeyword_312 ks_ArcRecorder_54 ?_
      obtain ⟨hr, h⟩ := h
      refine kx_callV dX1_isKeyword_314 lk_X1_24 (kw_J9_equals h) rfl (wR_rc hr rfl) rfl (Nat.le_of_ble_eq_true rfl) (Nat.le_of_ble_eq_true rfl) (Nat.le_of_ble_eq_true rfl) (Nat.le_of_ble_eq_true rfl) (Nat.le_of_ble_eq_true rfl) (fun _ _ _ hx => kx_out rfl (hX _ _ _ hx)) (fun v_ σ46 hq => ?_)
      obtain ⟨v45, rfl, h⟩ := hq
      refine kx_if_eq (tgt := 563) dX1_isKeyword_317 (by decide) (fun c => ?_) (fun c => ?_)
      · have h := w_ift c h
        exact kx_lwF [(0, .ref (a1)), (2, .int ((-1 : Int32)))] ⟨rfl, rfl, trivial⟩ (jk4 (-1 : Int32) _ h)
      · have h := w_iff c h
        refine kx_bipush (v := 7) dX1_isKeyword_320 (by decide) ?_
        refine kx_istore_n dX1_isKeyword_322 rfl (Nat.le_of_ble_eq_true rfl) ?_
        refine kx_goto (tgt := 563) dX1_isKeyword_323 (by decide) ?_
        exact kx_lwF [(0, .ref (a1)), (2, .int ((7 : Int32)))] ⟨rfl, rfl, trivial⟩ (jk4 (7 : Int32) _ h)
    have h := w_iff c20 h
    by_cases c21 : v2 = (108285828 : Int32)
    · have h := w_ift c21 h
      refine kx_lookup (tgt := 282) (off := 274) dX1_isKeyword_8 (by decide) (by rw [c21]; decide) (by decide) ?_
      refine kx_aload_n dX1_isKeyword_282 rfl rfl ?_
      refine kx_ldcS dX1_isKeyword_283 ks_ArcRecorder_50 ?_
      obtain ⟨hr, h⟩ := h
      refine kx_callV dX1_isKeyword_285 lk_X1_24 (kw_J9_equals h) rfl (wR_rc hr rfl) rfl (Nat.le_of_ble_eq_true rfl) (Nat.le_of_ble_eq_true rfl) (Nat.le_of_ble_eq_true rfl) (Nat.le_of_ble_eq_true rfl) (Nat.le_of_ble_eq_true rfl) (fun _ _ _ hx => kx_out rfl (hX _ _ _ hx)) (fun v_ σ48 hq => ?_)
      obtain ⟨v47, rfl, h⟩ := hq
      refine kx_if_eq (tgt := 563) dX1_isKeyword_288 (by decide) (fun c => ?_) (fun c => ?_)
      · have h := w_ift c h
        exact kx_lwF [(0, .ref (a1)), (2, .int ((-1 : Int32)))] ⟨rfl, rfl, trivial⟩ (jk4 (-1 : Int32) _ h)
      · have h := w_iff c h
        refine kx_iconst (v := 5) dX1_isKeyword_291 (by decide) ?_
        refine kx_istore_n dX1_isKeyword_292 rfl (Nat.le_of_ble_eq_true rfl) ?_
        refine kx_goto (tgt := 563) dX1_isKeyword_293 (by decide) ?_
        exact kx_lwF [(0, .ref (a1)), (2, .int ((5 : Int32)))] ⟨rfl, rfl, trivial⟩ (jk4 (5 : Int32) _ h)
    have h := w_iff c21 h
    by_cases c22 : v2 = (1073584312 : Int32)
    · have h := w_ift c22 h
      refine kx_lookup (tgt := 461) (off := 453) dX1_isKeyword_8 (by decide) (by rw [c22]; decide) (by decide) ?_
      refine kx_aload_n dX1_isKeyword_461 rfl rfl ?_
      refine kx_ldcS dX1_isKeyword_462 ks_ArcRecorder_74 ?_
      obtain ⟨hr, h⟩ := h
      refine kx_callV dX1_isKeyword_464 lk_X1_24 (kw_J9_equals h) rfl (wR_rc hr rfl) rfl (Nat.le_of_ble_eq_true rfl) (Nat.le_of_ble_eq_true rfl) (Nat.le_of_ble_eq_true rfl) (Nat.le_of_ble_eq_true rfl) (Nat.le_of_ble_eq_true rfl) (fun _ _ _ hx => kx_out rfl (hX _ _ _ hx)) (fun v_ σ50 hq => ?_)
      obtain ⟨v49, rfl, h⟩ := hq
      refine kx_if_eq (tgt := 563) dX1_isKeyword_467 (by decide) (fun c => ?_) (fun c => ?_)
      · have h := w_ift c h
        exact kx_lwF [(0, .ref (a1)), (2, .int ((-1 : Int32)))] ⟨rfl, rfl, trivial⟩ (jk4 (-1 : Int32) _ h)
      · have h := w_iff c h
        refine kx_bipush (v := 17) dX1_isKeyword_470 (by decide) ?_
        refine kx_istore_n dX1_isKeyword_472 rfl (Nat.le_of_ble_eq_true rfl) ?_
        refine kx_goto (tgt := 563) dX1_isKeyword_473 (by decide) ?_
        exact kx_lwF [(0, .ref (a1)), (2, .int ((17 : Int32)))] ⟨rfl, rfl, trivial⟩ (jk4 (17 : Int32) _ h)
    have h := w_iff c22 h
    by_cases c23 : v2 = (1864843273 : Int32)
    · have h := w_ift c23 h
      refine kx_lookup (tgt := 226) (off := 218) dX1_isKeyword_8 (by decide) (by rw [c23]; decide) (by decide) ?_
      refine kx_aload_n dX1_isKeyword_226 rfl rfl ?_
      refine kx_ldcS dX1_isKeyword_227 ks_ArcRecorder_42 ?_
      obtain ⟨hr, h⟩ := h
      refine kx_callV dX1_isKeyword_229 lk_X1_24 (kw_J9_equals h) rfl (wR_rc hr rfl) rfl (Nat.le_of_ble_eq_true rfl) (Nat.le_of_ble_eq_true rfl) (Nat.le_of_ble_eq_true rfl) (Nat.le_of_ble_eq_true rfl) (Nat.le_of_ble_eq_true rfl) (fun _ _ _ hx => kx_out rfl (hX _ _ _ hx)) (fun v_ σ52 hq => ?_)
      obtain ⟨v51, rfl, h⟩ := hq
      refine kx_if_eq (tgt := 563) dX1_isKeyword_232 (by decide) (fun c => ?_) (fun c => ?_)
      · have h := w_ift c h
        exact kx_lwF [(0, .ref (a1)), (2, .int ((-1 : Int32)))] ⟨rfl, rfl, trivial⟩ (jk4 (-1 : Int32) _ h)
      · have h := w_iff c h
        refine kx_iconst (v := 1) dX1_isKeyword_235 (by decide) ?_
        refine kx_istore_n dX1_isKeyword_236 rfl (Nat.le_of_ble_eq_true rfl) ?_
        refine kx_goto (tgt := 563) dX1_isKeyword_237 (by decide) ?_
        exact kx_lwF [(0, .ref (a1)), (2, .int ((1 : Int32)))] ⟨rfl, rfl, trivial⟩ (jk4 (1 : Int32) _ h)
    have h := w_iff c23 h
    refine kx_lookup (tgt := 563) (off := 555) dX1_isKeyword_8 (by decide) (lk_out (by intro p hp; simp only [List.mem_cons, List.not_mem_nil, or_false] at hp; rcases hp with rfl | rfl | rfl | rfl | rfl | rfl | rfl | rfl | rfl | rfl | rfl | rfl | rfl | rfl | rfl | rfl | rfl | rfl | rfl | rfl | rfl | rfl | rfl | rfl <;> intro hh <;> first | exact c0 (Int32.toInt_inj.mp hh) | exact c1 (Int32.toInt_inj.mp hh) | exact c2 (Int32.toInt_inj.mp hh) | exact c3 (Int32.toInt_inj.mp hh) | exact c4 (Int32.toInt_inj.mp hh) | exact c5 (Int32.toInt_inj.mp hh) | exact c6 (Int32.toInt_inj.mp hh) | exact c7 (Int32.toInt_inj.mp hh) | exact c8 (Int32.toInt_inj.mp hh) | exact c9 (Int32.toInt_inj.mp hh) | exact c10 (Int32.toInt_inj.mp hh) | exact c11 (Int32.toInt_inj.mp hh) | exact c12 (Int32.toInt_inj.mp hh) | exact c13 (Int32.toInt_inj.mp hh) | exact c14 (Int32.toInt_inj.mp hh) | exact c15 (Int32.toInt_inj.mp hh) | exact c16 (Int32.toInt_inj.mp hh) | exact c17 (Int32.toInt_inj.mp hh) | exact c18 (Int32.toInt_inj.mp hh) | exact c19 (Int32.toInt_inj.mp hh) | exact c20 (Int32.toInt_inj.mp hh) | exact c21 (Int32.toInt_inj.mp hh) | exact c22 (Int32.toInt_inj.mp hh) | exact c23 (Int32.toInt_inj.mp hh))) (by decide) ?_
    exact kx_lwF [(0, .ref (a1)), (2, .int ((-1 : Int32)))] ⟨rfl, rfl, trivial⟩ (jk4 (-1 : Int32) _ h)
set_option maxHeartbeats 8000000 in
theorem kw_X1_isName {G : KG} {σ : KHp} {x0 : Option Nat} {Q : Int32 → KHp → Prop} {X : String → Nat → KHp → Prop} (h : W_X1_isName G σ x0 Q X) : kx_c G yX1_isName (ws_ yX1_isName cX1_isName 3 (Option.some Jvm.ClassFile.FieldType.boolean)) 7 0 0 [va_rf (x0)] σ (fun rv σ' => ∃ r, rv = some (.int (r)) ∧ Q r σ') X := by
  refine kx_mk3 (ini := false) rfl (by cases x0 <;> exact Nat.le_of_ble_eq_true rfl) (fun h => by cases h) (fun Q1 X1 hQ hX => ?_)
  unfold W_X1_isName at h
  refine kx_lwF [(0, va_rf (x0))] (by cases x0 <;> exact ⟨rfl, trivial⟩) ?_
  refine kx_aload_nO dX1_isName_0 rfl rfl ?_
  obtain ⟨a1, rfl, hUa1⟩ := h
  have h := hUa1
  obtain ⟨hr, h⟩ := h
  refine kx_callV dX1_isName_1 lk_X1_388 (kw_J9_length h) rfl (wR_rc hr rfl) rfl (Nat.le_of_ble_eq_true rfl) (Nat.le_of_ble_eq_true rfl) (Nat.le_of_ble_eq_true rfl) (Nat.le_of_ble_eq_true rfl) (Nat.le_of_ble_eq_true rfl) (fun _ _ _ hx => kx_out rfl (hX _ _ _ hx)) (fun v_ σ3 hq => ?_)
  obtain ⟨v2, rfl, h⟩ := hq
  refine kx_i2l dX1_isName_4 rfl ?_
  refine kx_lconst (v := 1) dX1_isName_5 (by decide) ?_
  refine kx_ldc2 dX1_isName_6 q2475 ?_
  refine kx_callS dX1_isName_9 lk_X1_140 (kw_X1_inRange h) rfl rfl (Nat.le_of_ble_eq_true rfl) (Nat.le_of_ble_eq_true rfl) (Nat.le_of_ble_eq_true rfl) (Nat.le_of_ble_eq_true rfl) (Nat.le_of_ble_eq_true rfl) (fun _ _ _ hx => kx_out rfl (hX _ _ _ hx)) (fun v_ σ5 hq => ?_)
  obtain ⟨v4, rfl, h⟩ := hq
  refine kW_jI 27 [] h (fun v9 σ10 h => ?_) (fun k6 jk6 h => ?_)
  · skip
    refine kx_istore_n dX1_isName_27 rfl (Nat.le_of_ble_eq_true rfl) ?_
    refine kx_iconst (v := 0) dX1_isName_28 (by decide) ?_
    refine kx_istore_n dX1_isName_29 rfl (Nat.le_of_ble_eq_true rfl) ?_
    refine kx_lwF [(0, .ref (a1)), (1, .int (v9)), (2, .int ((0 : Int32)))] ⟨rfl, rfl, rfl, trivial⟩ ?_
    refine loopW2_k (fun (σ : KHp) (l1 : Int32) (l2 : Int32) => kx G (yX1_isName.cls, cX1_isName, 3, (Option.some Jvm.ClassFile.FieldType.boolean), false, []) (7, 0, 0, Q1, X1) (0) (0) σ 30 (kF [(0, .ref (a1)), (1, .int (l1)), (2, .int (l2))]) []) (fun kI30 hI30 σ l1 l2 h => ?_) 9000 σ10 v9 (0 : Int32) h
    unfold WB_X1_isName_30 at h
    refine kx_iload_n dX1_isName_30 rfl rfl ?_
    refine kx_aload_n dX1_isName_31 rfl rfl ?_
    obtain ⟨hr, h⟩ := h
    refine kx_callV dX1_isName_32 lk_X1_388 (kw_J9_length h) rfl (wR_rc hr rfl) rfl (Nat.le_of_ble_eq_true rfl) (Nat.le_of_ble_eq_true rfl) (Nat.le_of_ble_eq_true rfl) (Nat.le_of_ble_eq_true rfl) (Nat.le_of_ble_eq_true rfl) (fun _ _ _ hx => kx_out rfl (hX _ _ _ hx)) (fun v_ σ31002 hq => ?_)
    obtain ⟨v31001, rfl, h⟩ := hq
    refine kx_icmp_ge (tgt := 62) dX1_isName_35 (by decide) (fun c => ?_) (fun c => ?_)
    · have h := w_ift c h
      refine kx_iload_n dX1_isName_62 rfl rfl ?_
      exact kx_zret dX1_isName_63 rfl h.1 (hQ _ _ ⟨_, rfl, h.2⟩)
    · have h := w_iff c h
      refine kx_iload_n dX1_isName_38 rfl rfl ?_
      refine kx_aload_n dX1_isName_39 rfl rfl ?_
      refine kx_iload_n dX1_isName_40 rfl rfl ?_
      obtain ⟨hr, h⟩ := h
      refine kx_callV dX1_isName_41 lk_X1_397 (kw_J9_charAt h) rfl (wR_rc hr rfl) rfl (Nat.le_of_ble_eq_true rfl) (Nat.le_of_ble_eq_true rfl) (Nat.le_of_ble_eq_true rfl) (Nat.le_of_ble_eq_true rfl) (Nat.le_of_ble_eq_true rfl) (fun _ _ _ hx => kx_out rfl (hX _ _ _ hx)) (fun v_ σ31004 hq => ?_)
      obtain ⟨v31003, rfl, h⟩ := hq
      refine kx_i2l dX1_isName_44 rfl ?_
      refine kx_ldc2 dX1_isName_45 q2488 ?_
      refine kx_ldc2 dX1_isName_48 q2489 ?_
      refine kx_callS dX1_isName_51 lk_X1_140 (kw_X1_inRange h) rfl rfl (Nat.le_of_ble_eq_true rfl) (Nat.le_of_ble_eq_true rfl) (Nat.le_of_ble_eq_true rfl) (Nat.le_of_ble_eq_true rfl) (Nat.le_of_ble_eq_true rfl) (fun _ _ _ hx => kx_out rfl (hX _ _ _ hx)) (fun v_ σ31006 hq => ?_)
      obtain ⟨v31005, rfl, h⟩ := hq
      refine kx_iand dX1_isName_54 ?_
      refine kx_istore_n dX1_isName_55 rfl (Nat.le_of_ble_eq_true rfl) ?_
      refine kx_iinc2 (v := 1) dX1_isName_56 rfl (by decide) ?_
      refine kx_goto (tgt := 30) dX1_isName_59 (by decide) ?_
      exact kx_lwF [(0, .ref (a1)), (1, .int ((l1 &&& v31005))), (2, .int ((l2 + (1 : Int32))))] ⟨rfl, rfl, rfl, trivial⟩ (hI30 _ _ _ h)
  · skip
    refine kx_if_eq (tgt := 26) dX1_isName_12 (by decide) (fun c => ?_) (fun c => ?_)
    · have h := w_ift c h
      refine kx_iconst (v := 0) dX1_isName_26 (by decide) ?_
      exact jk6 _ _ h
    · have h := w_iff c h
      refine kx_aload_n dX1_isName_15 rfl rfl ?_
      refine kx_callS dX1_isName_16 lk_X1_393 (kw_X1_isKeyword h) rfl rfl (Nat.le_of_ble_eq_true rfl) (Nat.le_of_ble_eq_true rfl) (Nat.le_of_ble_eq_true rfl) (Nat.le_of_ble_eq_true rfl) (Nat.le_of_ble_eq_true rfl) (fun _ _ _ hx => kx_out rfl (hX _ _ _ hx)) (fun v_ σ8 hq => ?_)
      obtain ⟨v7, rfl, h⟩ := hq
      refine kx_if_ne (tgt := 26) dX1_isName_19 (by decide) (fun c => ?_) (fun c => ?_)
      · have h := w_iff c h
        refine kx_iconst (v := 0) dX1_isName_26 (by decide) ?_
        exact jk6 _ _ h
      · have h := w_ift c h
        refine kx_iconst (v := 1) dX1_isName_22 (by decide) ?_
        refine kx_goto (tgt := 27) dX1_isName_23 (by decide) ?_
        exact jk6 _ _ h
set_option maxHeartbeats 8000000 in
theorem kw_X2_step {G : KG} {bc bs : Nat} {σ : KHp} {x0 : Nat} {Q : Int32 → KHp → Prop} {X : String → Nat → KHp → Prop} (h : W_X2_step G bc bs σ x0 Q X) : kx_c G yX2_step (ws_ yX2_step cX2_step 3 (Option.some Jvm.ClassFile.FieldType.int)) 8 bc bs [.ref (x0)] σ (fun rv σ' => ∃ r, rv = some (.int (r)) ∧ Q r σ') X := by
  refine kx_mk3 (ini := false) rfl (Nat.le_of_ble_eq_true rfl) (fun h => by cases h) (fun Q1 X1 hQ hX => ?_)
  unfold W_X2_step at h
  refine kx_aload_n dX2_step_0 rfl rfl ?_
  refine kx_dup dX2_step_1 rfl ?_
  refine kW_gI dX2_step_2 (kf1 fl_X2_144_X2) h (fun v1 h => ?_)
  refine kx_iconst (v := 1) dX2_step_5 (by decide) ?_
  refine kx_iadd dX2_step_6 ?_
  refine kW_p dX2_step_7 (kp1 ⟨_, _, _, _, kc_X2, fl_X2_144_X2, Or.inl rfl, rfl, rfl⟩) h (fun σ2 h => ?_)
  refine kx_aload_n dX2_step_10 rfl rfl ?_
  obtain ⟨hr, h⟩ := h
  refine kx_callV dX2_step_11 lk_X2_291 (kw_X2_doSwitches h) rfl (wR_rc hr rfl) rfl (Nat.le_of_ble_eq_true rfl) (Nat.le_of_ble_eq_true rfl) (Nat.le_of_ble_eq_true rfl) (Nat.le_of_ble_eq_true rfl) (Nat.le_of_ble_eq_true rfl) (fun _ _ _ hx => kx_out rfl (hX _ _ _ hx)) (fun v_ σ4 hq => ?_)
  obtain ⟨rfl, h⟩ := hq
  refine kx_aload_n dX2_step_14 rfl rfl ?_
  obtain ⟨hr, h⟩ := h
  refine kx_callV dX2_step_15 lk_X2_294 (kw_X2_drawArcs h) rfl (wR_rc hr rfl) rfl (Nat.le_of_ble_eq_true rfl) (Nat.le_of_ble_eq_true rfl) (Nat.le_of_ble_eq_true rfl) (Nat.le_of_ble_eq_true rfl) (Nat.le_of_ble_eq_true rfl) (fun _ _ _ hx => kx_out rfl (hX _ _ _ hx)) (fun v_ σ6 hq => ?_)
  obtain ⟨rfl, h⟩ := hq
  refine kx_iconst (v := 0) dX2_step_18 (by decide) ?_
  refine kx_istore_n dX2_step_19 rfl (Nat.le_of_ble_eq_true rfl) ?_
  refine kx_iconst (v := 0) dX2_step_20 (by decide) ?_
  refine kx_istore_n dX2_step_21 rfl (Nat.le_of_ble_eq_true rfl) ?_
  refine kx_lwF [(0, .ref (x0)), (1, .int ((0 : Int32))), (2, .int ((0 : Int32)))] ⟨rfl, rfl, rfl, trivial⟩ ?_
  refine loopW4_k (fun (σ : KHp) (bc22 bs22 : Nat) (l1 : Int32) (l2 : Int32) => kx G (yX2_step.cls, cX2_step, 3, (Option.some Jvm.ClassFile.FieldType.int), false, []) (8, bc, bs, Q1, X1) (bc22) (bs22) σ 22 (kF [(0, .ref (x0)), (1, .int (l1)), (2, .int (l2))]) []) (fun kI22 hI22 σ bc22 bs22 l1 l2 h => ?_) 9000 σ6 bc bs (0 : Int32) (0 : Int32) h
  unfold WB_X2_step_22 at h
  refine kx_iload_n dX2_step_22 rfl rfl ?_
  refine kx_aload_n dX2_step_23 rfl rfl ?_
  refine kW_gO dX2_step_24 (kf1 fl_X2_14_X2) h (fun v23001 h => ?_)
  obtain ⟨a23002, rfl, hUa23002⟩ := h
  have h := hUa23002
  obtain ⟨hr, h⟩ := h
  refine kx_callV dX2_step_27 lk_X2_82 (kw_J2_size h) rfl (wR_rc hr rfl) rfl (Nat.le_of_ble_eq_true rfl) (Nat.le_of_ble_eq_true rfl) (Nat.le_of_ble_eq_true rfl) (Nat.le_of_ble_eq_true rfl) (Nat.le_of_ble_eq_true rfl) (fun _ _ _ hx => kx_out rfl (hX _ _ _ hx)) (fun v_ σ23004 hq => ?_)
  obtain ⟨v23003, rfl, h⟩ := hq
  refine kx_icmp_ge (tgt := 91) dX2_step_30 (by decide) (fun c => ?_) (fun c => ?_)
  · have h := w_ift c h
    refine kx_iload_n dX2_step_91 rfl rfl ?_
    exact kx_iret dX2_step_92 rfl (hQ _ _ ⟨_, rfl, h⟩)
  · have h := w_iff c h
    refine kx_aload_n dX2_step_33 rfl rfl ?_
    refine kW_gO dX2_step_34 (kf1 fl_X2_14_X2) h (fun v23005 h => ?_)
    refine kx_iload_n dX2_step_37 rfl rfl ?_
    obtain ⟨a23006, rfl, hUa23006⟩ := h
    have h := hUa23006
    obtain ⟨hr, h⟩ := h
    refine kx_callV dX2_step_38 lk_X2_96 (kw_J2_get h) rfl (wR_rc hr rfl) rfl (Nat.le_of_ble_eq_true rfl) (Nat.le_of_ble_eq_true rfl) (Nat.le_of_ble_eq_true rfl) (Nat.le_of_ble_eq_true rfl) (Nat.le_of_ble_eq_true rfl) (fun _ _ _ hx => kx_out rfl (hX _ _ _ hx)) (fun v_ σ23008 hq => ?_)
    obtain ⟨v23007, rfl, h⟩ := hq
    obtain ⟨a23009, rfl, hUa23009⟩ := h
    have h := hUa23009
    obtain ⟨⟨tc, fc, hr⟩, h⟩ := h
    refine kx_castS dX2_step_41 hr rfl q679 ?_
    refine kW_gI dX2_step_44 (kf1 fl_X2_167_X5) h (fun v23010 h => ?_)
    refine kW_jla 85 (fun v23025 : Int32 => [(0, .ref (x0)), (1, .int (v23025)), (2, .int (l2))]) h (fun v23025 σ23026 bcv23025 bsv23025 h => ?_) (fun k23011 jk23011 h => ?_)
    · skip
      refine kx_iinc2 (v := 1) dX2_step_85 rfl (by decide) ?_
      refine kx_goto (tgt := 22) dX2_step_88 (by decide) ?_
      exact kx_lwF [(0, .ref (x0)), (1, .int (v23025)), (2, .int ((l2 + (1 : Int32))))] ⟨rfl, rfl, rfl, trivial⟩ (hI22 _ _ _ _ _ h)
    · skip
      refine kx_if_eq (tgt := 53) dX2_step_47 (by decide) (fun c => ?_) (fun c => ?_)
      · have h := w_ift c h
        refine kx_aload_n dX2_step_53 rfl rfl ?_
        refine kx_iload_n dX2_step_54 rfl rfl ?_
        obtain ⟨hr, h⟩ := h
        obtain ⟨c23014, c23015, hc, hs, h⟩ := h
        refine kx_callV dX2_step_55 lk_X2_297 (kw_X2_goOn h) rfl (wR_rc hr rfl) rfl (Nat.le_of_ble_eq_true rfl) (Nat.le_of_ble_eq_true rfl) (Nat.le_of_ble_eq_true rfl) hc hs (fun _ _ _ hx => kx_out rfl (hX _ _ _ hx)) (fun v_ σ23013 hq => ?_)
        obtain ⟨rfl, h⟩ := hq
        refine kx_iload_n dX2_step_58 rfl rfl ?_
        refine kx_aload_n dX2_step_59 rfl rfl ?_
        refine kW_gO dX2_step_60 (kf1 fl_X2_14_X2) h (fun v23016 h => ?_)
        refine kx_iload_n dX2_step_63 rfl rfl ?_
        obtain ⟨a23017, rfl, hUa23017⟩ := h
        have h := hUa23017
        obtain ⟨hr, h⟩ := h
        refine kx_callV dX2_step_64 lk_X2_96 (kw_J2_get h) rfl (wR_rc hr rfl) rfl (Nat.le_of_ble_eq_true rfl) (Nat.le_of_ble_eq_true rfl) (Nat.le_of_ble_eq_true rfl) (Nat.le_of_ble_eq_true rfl) (Nat.le_of_ble_eq_true rfl) (fun _ _ _ hx => kx_out rfl (hX _ _ _ hx)) (fun v_ σ23019 hq => ?_)
        obtain ⟨v23018, rfl, h⟩ := hq
        obtain ⟨a23020, rfl, hUa23020⟩ := h
        have h := hUa23020
        obtain ⟨⟨tc, fc, hr⟩, h⟩ := h
        refine kx_castS dX2_step_67 hr rfl q679 ?_
        refine kW_gI dX2_step_70 (kf1 fl_X2_167_X5) h (fun v23021 h => ?_)
        refine kW_jIa 83 [.int (l1)] h (fun v23023 σ23024 bcv23023 bsv23023 h => ?_) (fun k23022 jk23022 h => ?_)
        · skip
          refine kx_ior dX2_step_83 ?_
          refine kx_istore_n dX2_step_84 rfl (Nat.le_of_ble_eq_true rfl) ?_
          exact kx_lwF [(0, .ref (x0)), (1, .int ((l1 ||| v23023))), (2, .int (l2))] ⟨rfl, rfl, rfl, trivial⟩ (jk23011 (l1 ||| v23023) _ _ _ h)
        · skip
          refine kx_if_eq (tgt := 82) dX2_step_73 (by decide) (fun c => ?_) (fun c => ?_)
          · have h := w_ift c h
            refine kx_iconst (v := 0) dX2_step_82 (by decide) ?_
            exact jk23022 _ _ _ _ h
          · have h := w_iff c h
            refine kx_iconst (v := 1) dX2_step_76 (by decide) ?_
            refine kx_iload_n dX2_step_77 rfl rfl ?_
            refine kx_ishl dX2_step_78 ?_
            refine kx_goto (tgt := 83) dX2_step_79 (by decide) ?_
            exact jk23022 _ _ _ _ h
      · have h := w_iff c h
        refine kx_goto (tgt := 85) dX2_step_50 (by decide) ?_
        exact kx_lwF [(0, .ref (x0)), (1, .int (l1)), (2, .int (l2))] ⟨rfl, rfl, rfl, trivial⟩ (jk23011 l1 _ _ _ h)
set_option maxHeartbeats 8000000 in
theorem kw_X2_tripIn {G : KG} {bc bs : Nat} {σ : KHp} {x0 : Nat} {x1 : Int32} {x2 : Int32} {Q : Int32 → KHp → Prop} {X : String → Nat → KHp → Prop} (h : W_X2_tripIn G bc bs σ x0 x1 x2 Q X) : kx_c G yX2_tripIn (ws_ yX2_tripIn cX2_tripIn 4 (Option.some Jvm.ClassFile.FieldType.int)) 9 bc bs [.ref (x0), .int (x1), .int (x2)] σ (fun rv σ' => ∃ r, rv = some (.int (r)) ∧ Q r σ') X := by
  refine kx_mk3 (ini := false) rfl (Nat.le_of_ble_eq_true rfl) (fun h => by cases h) (fun Q1 X1 hQ hX => ?_)
  unfold W_X2_tripIn at h
  refine kx_aload_n dX2_tripIn_0 rfl rfl ?_
  refine kW_gO dX2_tripIn_1 (kf1 fl_X2_14_X2) h (fun v1 h => ?_)
  refine kx_iload_n dX2_tripIn_4 rfl rfl ?_
  obtain ⟨a2, rfl, hUa2⟩ := h
  have h := hUa2
  obtain ⟨hr, h⟩ := h
  refine kx_callV dX2_tripIn_5 lk_X2_96 (kw_J2_get h) rfl (wR_rc hr rfl) rfl (Nat.le_of_ble_eq_true rfl) (Nat.le_of_ble_eq_true rfl) (Nat.le_of_ble_eq_true rfl) (Nat.le_of_ble_eq_true rfl) (Nat.le_of_ble_eq_true rfl) (fun _ _ _ hx => kx_out rfl (hX _ _ _ hx)) (fun v_ σ4 hq => ?_)
  obtain ⟨v3, rfl, h⟩ := hq
  obtain ⟨a5, rfl, hUa5⟩ := h
  have h := hUa5
  obtain ⟨⟨tc, fc, hr⟩, h⟩ := h
  refine kx_castS dX2_tripIn_8 hr rfl q679 ?_
  refine kW_gI dX2_tripIn_11 (kf1 fl_X2_167_X5) h (fun v6 h => ?_)
  refine kx_if_eq (tgt := 19) dX2_tripIn_14 (by decide) (fun c => ?_) (fun c => ?_)
  · have h := w_ift c h
    refine kx_iconst (v := 1) dX2_tripIn_19 (by decide) ?_
    refine kx_istore_n dX2_tripIn_20 rfl (Nat.le_of_ble_eq_true rfl) ?_
    refine kx_lwF [(0, .ref (x0)), (1, .int (x1)), (2, .int (x2)), (3, .int ((1 : Int32)))] ⟨rfl, rfl, rfl, rfl, trivial⟩ ?_
    refine loopW3_k (fun (σ : KHp) (bc21 bs21 : Nat) (l3 : Int32) => kx G (yX2_tripIn.cls, cX2_tripIn, 4, (Option.some Jvm.ClassFile.FieldType.int), false, []) (9, bc, bs, Q1, X1) (bc21) (bs21) σ 21 (kF [(0, .ref (x0)), (1, .int (x1)), (2, .int (x2)), (3, .int (l3))]) []) (fun kI21 hI21 σ bc21 bs21 l3 h => ?_) 9000 σ4 bc bs (1 : Int32) h
    unfold WB_X2_tripIn_21 at h
    refine kx_iload_n dX2_tripIn_21 rfl rfl ?_
    refine kx_iload_n dX2_tripIn_22 rfl rfl ?_
    refine kx_icmp_gt (tgt := 45) dX2_tripIn_23 (by decide) (fun c => ?_) (fun c => ?_)
    · have h := w_ift c h
      refine kx_iconst (v := -1) dX2_tripIn_45 (by decide) ?_
      exact kx_iret dX2_tripIn_46 rfl (hQ _ _ ⟨_, rfl, h⟩)
    · have h := w_iff c h
      refine kx_aload_n dX2_tripIn_26 rfl rfl ?_
      obtain ⟨hr, h⟩ := h
      obtain ⟨c22003, c22004, hc, hs, h⟩ := h
      refine kx_callV dX2_tripIn_27 lk_X2_300 (kw_X2_step h) rfl (wR_rc hr rfl) rfl (Nat.le_of_ble_eq_true rfl) (Nat.le_of_ble_eq_true rfl) (Nat.le_of_ble_eq_true rfl) hc hs (fun _ _ _ hx => kx_out rfl (hX _ _ _ hx)) (fun v_ σ22002 hq => ?_)
      obtain ⟨v22001, rfl, h⟩ := hq
      refine kx_iload_n dX2_tripIn_30 rfl rfl ?_
      refine kx_callSN dX2_tripIn_31 lk_X2_216 (kw_X1_has h) rfl rfl (Nat.le_of_ble_eq_true rfl) (Nat.le_of_ble_eq_true rfl) (Nat.le_of_ble_eq_true rfl) (Nat.le_of_ble_eq_true rfl) (Nat.le_of_ble_eq_true rfl) (fun _ _ _ hx => kx_out rfl (hX _ _ _ hx)) (fun v_ σ22006 hq => ?_)
      obtain ⟨v22005, rfl, h⟩ := hq
      refine kx_if_eq (tgt := 39) dX2_tripIn_34 (by decide) (fun c => ?_) (fun c => ?_)
      · have h := w_ift c h
        refine kx_iinc2 (v := 1) dX2_tripIn_39 rfl (by decide) ?_
        refine kx_goto (tgt := 21) dX2_tripIn_42 (by decide) ?_
        exact kx_lwF [(0, .ref (x0)), (1, .int (x1)), (2, .int (x2)), (3, .int ((l3 + (1 : Int32))))] ⟨rfl, rfl, rfl, rfl, trivial⟩ (hI21 _ _ _ _ h)
      · have h := w_iff c h
        refine kx_iload_n dX2_tripIn_37 rfl rfl ?_
        exact kx_iret dX2_tripIn_38 rfl (hQ _ _ ⟨_, rfl, h⟩)
  · have h := w_iff c h
    refine kx_iconst (v := -1) dX2_tripIn_17 (by decide) ?_
    exact kx_iret dX2_tripIn_18 rfl (hQ _ _ ⟨_, rfl, h⟩)
set_option maxHeartbeats 8000000 in
theorem kw_X7_requireName {G : KG} {bc bs : Nat} {σ : KHp} {x0 : Nat} {Q : KHp → Prop} {X : String → Nat → KHp → Prop} (h : W_X7_requireName G bc bs σ x0 Q X) : kx_c G yX7_requireName (ws_ yX7_requireName cX7_requireName 1 (Option.none : Option Jvm.ClassFile.FieldType)) 7 bc bs [.ref (x0)] σ (fun rv σ' => rv = none ∧ Q σ') X := by
  refine kx_mk3 (ini := false) rfl (Nat.le_of_ble_eq_true rfl) (fun h => by cases h) (fun Q1 X1 hQ hX => ?_)
  unfold W_X7_requireName at h
  refine kx_aload_n dX7_requireName_0 rfl rfl ?_
  refine kx_aload_n dX7_requireName_1 rfl rfl ?_
  refine kW_gO dX7_requireName_2 (kf1 fl_X7_80_X7) h (fun v1 h => ?_)
  refine kx_gets dX7_requireName_5 kt_ArcRecorder_Token_WORD q931 (Or.inl rfl) ?_
  refine kx_acmp_ne (rx := (v1)) (ry := (some (kx_K G 8))) (tgt := 37) dX7_requireName_8 (by decide) (fun c => ?_) (fun c => ?_)
  · have h := w_iff c h
    refine kx_iconst (v := 0) dX7_requireName_37 (by decide) ?_
    refine kx_iconst (v := 1) dX7_requireName_38 (by decide) ?_
    obtain ⟨hr, h⟩ := h
    obtain ⟨c4, c5, hc, hs, h⟩ := h
    refine kx_callV dX7_requireName_39 lk_X7_121 (kw_X7_require h) rfl (wR_rc hr rfl) rfl (Nat.le_of_ble_eq_true rfl) (Nat.le_of_ble_eq_true rfl) (Nat.le_of_ble_eq_true rfl) hc hs (fun _ _ _ hx => kx_out rfl (hX _ _ _ hx)) (fun v_ σ3 hq => ?_)
    obtain ⟨rfl, h⟩ := hq
    exact kx_vret dX7_requireName_42 rfl (hQ _ _ ⟨rfl, h⟩)
  · have h := w_ift c h
    refine kx_aload_n dX7_requireName_11 rfl rfl ?_
    refine kW_gO dX7_requireName_12 (kf1 fl_X7_42_X7) h (fun v6 h => ?_)
    obtain ⟨a7, rfl, hUa7⟩ := h
    have h := hUa7
    obtain ⟨hr, h⟩ := h
    refine kx_callV dX7_requireName_15 lk_X7_132 (kw_J9_length h) rfl (wR_rc hr rfl) rfl (Nat.le_of_ble_eq_true rfl) (Nat.le_of_ble_eq_true rfl) (Nat.le_of_ble_eq_true rfl) (Nat.le_of_ble_eq_true rfl) (Nat.le_of_ble_eq_true rfl) (fun _ _ _ hx => kx_out rfl (hX _ _ _ hx)) (fun v_ σ9 hq => ?_)
    obtain ⟨v8, rfl, h⟩ := hq
    refine kx_bipush (v := 6) dX7_requireName_18 (by decide) ?_
    refine kW_jIa 38 [.ref (x0)] h (fun v14 σ15 bcv14 bsv14 h => ?_) (fun k10 jk10 h => ?_)
    · skip
      refine kx_iconst (v := 1) dX7_requireName_38 (by decide) ?_
      obtain ⟨hr, h⟩ := h
      obtain ⟨c18, c19, hc, hs, h⟩ := h
      refine kx_callV dX7_requireName_39 lk_X7_121 (kw_X7_require h) rfl (wR_rc hr rfl) rfl (Nat.le_of_ble_eq_true rfl) (Nat.le_of_ble_eq_true rfl) (Nat.le_of_ble_eq_true rfl) hc hs (fun _ _ _ hx => kx_out rfl (hX _ _ _ hx)) (fun v_ σ17 hq => ?_)
      obtain ⟨rfl, h⟩ := hq
      exact kx_vret dX7_requireName_42 rfl (hQ _ _ ⟨rfl, h⟩)
    · skip
      refine kx_icmp_gt (tgt := 37) dX7_requireName_20 (by decide) (fun c => ?_) (fun c => ?_)
      · have h := w_ift c h
        refine kx_iconst (v := 0) dX7_requireName_37 (by decide) ?_
        exact jk10 _ _ _ _ h
      · have h := w_iff c h
        refine kx_aload_n dX7_requireName_23 rfl rfl ?_
        refine kW_gO dX7_requireName_24 (kf1 fl_X7_42_X7) h (fun v11 h => ?_)
        refine kx_callSN dX7_requireName_27 lk_X7_136 (kw_X1_isKeyword h) rfl rfl (Nat.le_of_ble_eq_true rfl) (Nat.le_of_ble_eq_true rfl) (Nat.le_of_ble_eq_true rfl) (Nat.le_of_ble_eq_true rfl) (Nat.le_of_ble_eq_true rfl) (fun _ _ _ hx => kx_out rfl (hX _ _ _ hx)) (fun v_ σ13 hq => ?_)
        obtain ⟨v12, rfl, h⟩ := hq
        refine kx_if_ne (tgt := 37) dX7_requireName_30 (by decide) (fun c => ?_) (fun c => ?_)
        · have h := w_iff c h
          refine kx_iconst (v := 0) dX7_requireName_37 (by decide) ?_
          exact jk10 _ _ _ _ h
        · have h := w_ift c h
          refine kx_iconst (v := 1) dX7_requireName_33 (by decide) ?_
          refine kx_goto (tgt := 38) dX7_requireName_34 (by decide) ?_
          exact jk10 _ _ _ _ h
set_option maxHeartbeats 8000000 in
theorem kw_X7_isUsed {G : KG} {σ : KHp} {x0 : Nat} {Q : Int32 → KHp → Prop} {X : String → Nat → KHp → Prop} (h : W_X7_isUsed G σ x0 Q X) : kx_c G yX7_isUsed (ws_ yX7_isUsed cX7_isUsed 3 (Option.some Jvm.ClassFile.FieldType.boolean)) 6 0 0 [.ref (x0)] σ (fun rv σ' => ∃ r, rv = some (.int (r)) ∧ Q r σ') X := by
  refine kx_mk3 (ini := false) rfl (Nat.le_of_ble_eq_true rfl) (fun h => by cases h) (fun Q1 X1 hQ hX => ?_)
  unfold W_X7_isUsed at h
  refine kx_aload_n dX7_isUsed_0 rfl rfl ?_
  refine kW_gO dX7_isUsed_1 (kf1 fl_X7_18_X7) h (fun v1 h => ?_)
  obtain ⟨a2, rfl, hUa2⟩ := h
  have h := hUa2
  refine kW_gO dX7_isUsed_4 (kf1 fl_X7_140_X3) h (fun v3 h => ?_)
  refine kx_aload_n dX7_isUsed_7 rfl rfl ?_
  refine kW_gO dX7_isUsed_8 (kf1 fl_X7_42_X7) h (fun v4 h => ?_)
  obtain ⟨a5, rfl, hUa5⟩ := h
  have h := hUa5
  obtain ⟨hr, h⟩ := h
  refine kx_callV dX7_isUsed_11 lk_X7_143 (kw_J2_contains h) rfl (wR_rc hr rfl) rfl (Nat.le_of_ble_eq_true rfl) (Nat.le_of_ble_eq_true rfl) (Nat.le_of_ble_eq_true rfl) (Nat.le_of_ble_eq_true rfl) (Nat.le_of_ble_eq_true rfl) (fun _ _ _ hx => kx_out rfl (hX _ _ _ hx)) (fun v_ σ7 hq => ?_)
  obtain ⟨v6, rfl, h⟩ := hq
  refine kW_jI 52 [] h (fun v19 σ20 h => ?_) (fun k8 jk8 h => ?_)
  · skip
    refine kx_istore_n dX7_isUsed_52 rfl (Nat.le_of_ble_eq_true rfl) ?_
    refine kx_iconst (v := 0) dX7_isUsed_53 (by decide) ?_
    refine kx_istore_n dX7_isUsed_54 rfl (Nat.le_of_ble_eq_true rfl) ?_
    refine kx_lwF [(0, .ref (x0)), (1, .int (v19)), (2, .int ((0 : Int32)))] ⟨rfl, rfl, rfl, trivial⟩ ?_
    refine loopW2_k (fun (σ : KHp) (l1 : Int32) (l2 : Int32) => kx G (yX7_isUsed.cls, cX7_isUsed, 3, (Option.some Jvm.ClassFile.FieldType.boolean), false, []) (6, 0, 0, Q1, X1) (0) (0) σ 55 (kF [(0, .ref (x0)), (1, .int (l1)), (2, .int (l2))]) []) (fun kI55 hI55 σ l1 l2 h => ?_) 9000 σ20 v19 (0 : Int32) h
    unfold WB_X7_isUsed_55 at h
    refine kx_iload_n dX7_isUsed_55 rfl rfl ?_
    refine kx_aload_n dX7_isUsed_56 rfl rfl ?_
    refine kW_gO dX7_isUsed_57 (kf1 fl_X7_27_X7) h (fun v56001 h => ?_)
    obtain ⟨a56002, rfl, hUa56002⟩ := h
    have h := hUa56002
    obtain ⟨hr, h⟩ := h
    refine kx_callV dX7_isUsed_60 lk_X7_153 (kw_J2_size h) rfl (wR_rc hr rfl) rfl (Nat.le_of_ble_eq_true rfl) (Nat.le_of_ble_eq_true rfl) (Nat.le_of_ble_eq_true rfl) (Nat.le_of_ble_eq_true rfl) (Nat.le_of_ble_eq_true rfl) (fun _ _ _ hx => kx_out rfl (hX _ _ _ hx)) (fun v_ σ56004 hq => ?_)
    obtain ⟨v56003, rfl, h⟩ := hq
    refine kx_icmp_ge (tgt := 99) dX7_isUsed_63 (by decide) (fun c => ?_) (fun c => ?_)
    · have h := w_ift c h
      refine kx_iload_n dX7_isUsed_99 rfl rfl ?_
      exact kx_zret dX7_isUsed_100 rfl h.1 (hQ _ _ ⟨_, rfl, h.2⟩)
    · have h := w_iff c h
      refine kx_iload_n dX7_isUsed_66 rfl rfl ?_
      refine kx_aload_n dX7_isUsed_67 rfl rfl ?_
      refine kW_gO dX7_isUsed_68 (kf1 fl_X7_27_X7) h (fun v56005 h => ?_)
      refine kx_iload_n dX7_isUsed_71 rfl rfl ?_
      obtain ⟨a56006, rfl, hUa56006⟩ := h
      have h := hUa56006
      obtain ⟨hr, h⟩ := h
      refine kx_callV dX7_isUsed_72 lk_X7_156 (kw_J2_get h) rfl (wR_rc hr rfl) rfl (Nat.le_of_ble_eq_true rfl) (Nat.le_of_ble_eq_true rfl) (Nat.le_of_ble_eq_true rfl) (Nat.le_of_ble_eq_true rfl) (Nat.le_of_ble_eq_true rfl) (fun _ _ _ hx => kx_out rfl (hX _ _ _ hx)) (fun v_ σ56008 hq => ?_)
      obtain ⟨v56007, rfl, h⟩ := hq
      obtain ⟨a56009, rfl, hUa56009⟩ := h
      have h := hUa56009
      obtain ⟨⟨tc, fc, hr⟩, h⟩ := h
      refine kx_castS dX7_isUsed_75 hr rfl q1272 ?_
      refine kW_gO dX7_isUsed_78 (kf1 fl_X7_162_X16) h (fun v56010 h => ?_)
      obtain ⟨a56011, rfl, hUa56011⟩ := h
      have h := hUa56011
      refine kW_gO dX7_isUsed_81 (kf1 fl_X7_166_X14) h (fun v56012 h => ?_)
      refine kx_aload_n dX7_isUsed_84 rfl rfl ?_
      refine kW_gO dX7_isUsed_85 (kf1 fl_X7_42_X7) h (fun v56013 h => ?_)
      obtain ⟨a56014, rfl, hUa56014⟩ := h
      have h := hUa56014
      obtain ⟨hr, h⟩ := h
      refine kx_callV dX7_isUsed_88 lk_X7_115 (kw_J9_equals h) rfl (wR_rc hr rfl) rfl (Nat.le_of_ble_eq_true rfl) (Nat.le_of_ble_eq_true rfl) (Nat.le_of_ble_eq_true rfl) (Nat.le_of_ble_eq_true rfl) (Nat.le_of_ble_eq_true rfl) (fun _ _ _ hx => kx_out rfl (hX _ _ _ hx)) (fun v_ σ56016 hq => ?_)
      obtain ⟨v56015, rfl, h⟩ := hq
      refine kx_ior dX7_isUsed_91 ?_
      refine kx_istore_n dX7_isUsed_92 rfl (Nat.le_of_ble_eq_true rfl) ?_
      refine kx_iinc2 (v := 1) dX7_isUsed_93 rfl (by decide) ?_
      refine kx_goto (tgt := 55) dX7_isUsed_96 (by decide) ?_
      exact kx_lwF [(0, .ref (x0)), (1, .int ((l1 ||| v56015))), (2, .int ((l2 + (1 : Int32))))] ⟨rfl, rfl, rfl, trivial⟩ (hI55 _ _ _ h)
  · skip
    refine kx_if_ne (tgt := 47) dX7_isUsed_14 (by decide) (fun c => ?_) (fun c => ?_)
    · have h := w_iff c h
      refine kx_iconst (v := 1) dX7_isUsed_47 (by decide) ?_
      refine kx_goto (tgt := 52) dX7_isUsed_48 (by decide) ?_
      exact jk8 _ _ h
    · have h := w_ift c h
      refine kx_aload_n dX7_isUsed_17 rfl rfl ?_
      refine kW_gO dX7_isUsed_18 (kf1 fl_X7_18_X7) h (fun v9 h => ?_)
      refine kx_aload_n dX7_isUsed_21 rfl rfl ?_
      refine kW_gO dX7_isUsed_22 (kf1 fl_X7_42_X7) h (fun v10 h => ?_)
      obtain ⟨a11, rfl, hUa11⟩ := h
      have h := hUa11
      obtain ⟨hr, h⟩ := h
      refine kx_callV dX7_isUsed_25 lk_X7_146 (kw_X3_findLoad h) rfl (wR_rc hr rfl) rfl (Nat.le_of_ble_eq_true rfl) (Nat.le_of_ble_eq_true rfl) (Nat.le_of_ble_eq_true rfl) (Nat.le_of_ble_eq_true rfl) (Nat.le_of_ble_eq_true rfl) (fun _ _ _ hx => kx_out rfl (hX _ _ _ hx)) (fun v_ σ13 hq => ?_)
      obtain ⟨v12, rfl, h⟩ := hq
      refine kx_iconst (v := -1) dX7_isUsed_28 (by decide) ?_
      refine kx_icmp_ne (tgt := 47) dX7_isUsed_29 (by decide) (fun c => ?_) (fun c => ?_)
      · have h := w_iff c h
        refine kx_iconst (v := 1) dX7_isUsed_47 (by decide) ?_
        refine kx_goto (tgt := 52) dX7_isUsed_48 (by decide) ?_
        exact jk8 _ _ h
      · have h := w_ift c h
        refine kx_aload_n dX7_isUsed_32 rfl rfl ?_
        refine kW_gO dX7_isUsed_33 (kf1 fl_X7_18_X7) h (fun v14 h => ?_)
        refine kx_aload_n dX7_isUsed_36 rfl rfl ?_
        refine kW_gO dX7_isUsed_37 (kf1 fl_X7_42_X7) h (fun v15 h => ?_)
        obtain ⟨a16, rfl, hUa16⟩ := h
        have h := hUa16
        obtain ⟨hr, h⟩ := h
        refine kx_callV dX7_isUsed_40 lk_X7_150 (kw_X3_findSignature h) rfl (wR_rc hr rfl) rfl (Nat.le_of_ble_eq_true rfl) (Nat.le_of_ble_eq_true rfl) (Nat.le_of_ble_eq_true rfl) (Nat.le_of_ble_eq_true rfl) (Nat.le_of_ble_eq_true rfl) (fun _ _ _ hx => kx_out rfl (hX _ _ _ hx)) (fun v_ σ18 hq => ?_)
        obtain ⟨v17, rfl, h⟩ := hq
        refine kx_iconst (v := -1) dX7_isUsed_43 (by decide) ?_
        refine kx_icmp_eq (tgt := 51) dX7_isUsed_44 (by decide) (fun c => ?_) (fun c => ?_)
        · have h := w_ift c h
          refine kx_iconst (v := 0) dX7_isUsed_51 (by decide) ?_
          exact jk8 _ _ h
        · have h := w_iff c h
          refine kx_iconst (v := 1) dX7_isUsed_47 (by decide) ?_
          refine kx_goto (tgt := 52) dX7_isUsed_48 (by decide) ?_
          exact jk8 _ _ h
set_option maxHeartbeats 8000000 in
theorem kw_J2_add {G : KG} {bc bs : Nat} {σ : KHp} {x0 : Nat} {x1 : Option Nat} {Q : Int32 → KHp → Prop} {X : String → Nat → KHp → Prop} (h : W_J2_add G bc bs σ x0 x1 Q X) : kx_c G yJ2_add (ws_ yJ2_add cJ2_add 2 (Option.some Jvm.ClassFile.FieldType.boolean)) 7 bc bs [.ref (x0), va_rf (x1)] σ (fun rv σ' => ∃ r, rv = some (.int (r)) ∧ Q r σ') X := by
  refine kx_mk3 (ini := false) (by decide) (by cases x1 <;> exact Nat.le_of_ble_eq_true rfl) (fun h => by cases h) (fun Q1 X1 hQ hX => ?_)
  unfold W_J2_add at h
  refine kx_lwF [(0, .ref x0), (1, va_rf (x1))] (by cases x1 <;> exact ⟨rfl, rfl, trivial⟩) ?_
  refine kx_aload_n dJ2_add_0 rfl rfl ?_
  refine kx_dup dJ2_add_1 rfl ?_
  refine kW_gI dJ2_add_2 (kfc fl_J2_63_J2 (kf1 fl_J2_63_J18)) h (fun v1 h => ?_)
  refine kx_iconst (v := 1) dJ2_add_5 (by decide) ?_
  refine kx_iadd dJ2_add_6 ?_
  refine kW_p dJ2_add_7 (kpc ⟨_, _, _, _, kc_J2, fl_J2_63_J2, Or.inl rfl, rfl, rfl⟩ (kp1 ⟨_, _, _, _, kc_J18, fl_J2_63_J18, Or.inl rfl, rfl, rfl⟩)) h (fun σ2 h => ?_)
  refine kx_aload_n dJ2_add_10 rfl rfl ?_
  refine kx_aload_nO dJ2_add_11 rfl rfl ?_
  refine kx_aload_n dJ2_add_12 rfl rfl ?_
  refine kW_gO dJ2_add_13 (kf1 fl_J2_9_J2) h (fun v3 h => ?_)
  refine kx_aload_n dJ2_add_16 rfl rfl ?_
  refine kW_gI dJ2_add_17 (kf1 fl_J2_48_J2) h (fun v4 h => ?_)
  obtain ⟨hr, h⟩ := h
  obtain ⟨c7, c8, hc, hs, h⟩ := h
  refine kx_callV dJ2_add_20 lk_J2_131 (kw_J2_add_2 h) rfl (wR_rc hr rfl) rfl (Nat.le_of_ble_eq_true rfl) (Nat.le_of_ble_eq_true rfl) (Nat.le_of_ble_eq_true rfl) hc hs (fun _ _ _ hx => kx_out rfl (hX _ _ _ hx)) (fun v_ σ6 hq => ?_)
  obtain ⟨rfl, h⟩ := hq
  refine kx_iconst (v := 1) dJ2_add_23 (by decide) ?_
  exact kx_zret dJ2_add_24 rfl rfl (hQ _ _ ⟨_, rfl, h⟩)
set_option maxHeartbeats 8000000 in
theorem kw_J7_putStringAt {G : KG} {bc bs : Nat} {σ : KHp} {x0 : Nat} {x1 : Int32} {x2 : Option Nat} {Q : KHp → Prop} {X : String → Nat → KHp → Prop} (h : W_J7_putStringAt G bc bs σ x0 x1 x2 Q X) : kx_c G yJ7_putStringAt (ws_ yJ7_putStringAt cJ7_putStringAt 3 (Option.none : Option Jvm.ClassFile.FieldType)) 8 bc bs [.ref (x0), .int (x1), va_rf (x2)] σ (fun rv σ' => rv = none ∧ Q σ') X := by
  refine kx_mk3 (ini := false) (by decide) (by cases x2 <;> exact Nat.le_of_ble_eq_true rfl) (fun h => by cases h) (fun Q1 X1 hQ hX => ?_)
  unfold W_J7_putStringAt at h
  refine kx_lwF [(0, .ref x0), (1, .int (x1)), (2, va_rf (x2))] (by cases x2 <;> exact ⟨rfl, rfl, rfl, trivial⟩) ?_
  refine kx_aload_n dJ7_putStringAt_0 rfl rfl ?_
  refine kx_aload_nO dJ7_putStringAt_1 rfl rfl ?_
  obtain ⟨hr, h⟩ := h
  obtain ⟨c3, c4, hc, hs, h⟩ := h
  refine kx_callP dJ7_putStringAt_2 lk_J7_397 (kw_J7_inflateIfNeededFor h) rfl (wR_rc hr rfl) rfl (Nat.le_of_ble_eq_true rfl) (Nat.le_of_ble_eq_true rfl) (Nat.le_of_ble_eq_true rfl) hc hs (fun _ _ _ hx => kx_out rfl (hX _ _ _ hx)) (fun v_ σ2 hq => ?_)
  obtain ⟨rfl, h⟩ := hq
  refine kx_aload_nO dJ7_putStringAt_5 rfl rfl ?_
  refine kx_aload_n dJ7_putStringAt_6 rfl rfl ?_
  refine kW_gO dJ7_putStringAt_7 (kf1 fl_J7_15_J8) h (fun v5 h => ?_)
  refine kx_iload_n dJ7_putStringAt_10 rfl rfl ?_
  refine kx_aload_n dJ7_putStringAt_11 rfl rfl ?_
  refine kW_gI dJ7_putStringAt_12 (kf1 fl_J7_22_J8) h (fun v6 h => ?_)
  obtain ⟨a7, rfl, hUa7⟩ := h
  have h := hUa7
  obtain ⟨hr, h⟩ := h
  refine kx_callV dJ7_putStringAt_15 lk_J7_399 (kw_J9_getBytes h) rfl (wR_rc hr rfl) rfl (Nat.le_of_ble_eq_true rfl) (Nat.le_of_ble_eq_true rfl) (Nat.le_of_ble_eq_true rfl) (Nat.le_of_ble_eq_true rfl) (Nat.le_of_ble_eq_true rfl) (fun _ _ _ hx => kx_out rfl (hX _ _ _ hx)) (fun v_ σ9 hq => ?_)
  obtain ⟨rfl, h⟩ := hq
  exact kx_vret dJ7_putStringAt_18 rfl (hQ _ _ ⟨rfl, h⟩)
set_option maxHeartbeats 8000000 in
theorem kw_J9_init {G : KG} {bc bs : Nat} {σ : KHp} {x0 : Nat} {x1 : Option Nat} {Q : KHp → Prop} {X : String → Nat → KHp → Prop} (h : W_J9_init G bc bs σ x0 x1 Q X) : kx_c G yJ9_init (ws_ yJ9_init cJ9_init 2 (Option.none : Option Jvm.ClassFile.FieldType)) 7 bc bs [.ref (x0), va_rf (x1)] σ (fun rv σ' => rv = none ∧ Q σ') X := by
  refine kx_mk3 (ini := true) (by decide) (by cases x1 <;> exact Nat.le_of_ble_eq_true rfl) (fun _ => rfl) (fun Q1 X1 hQ hX => ?_)
  unfold W_J9_init at h
  refine kx_lwF [(0, .ref x0), (1, va_rf (x1))] (by cases x1 <;> exact ⟨rfl, rfl, trivial⟩) ?_
  refine kx_aload_n dJ9_init_0 rfl rfl ?_
  refine kx_aload_nO dJ9_init_1 rfl rfl ?_
  refine kx_null dJ9_init_2 ?_
  obtain ⟨c3, c4, hc, hs, h⟩ := h
  refine kx_callI dJ9_init_3 lk_J9_489 (kw_J9_init_2 h) rfl rfl (Nat.le_of_ble_eq_true rfl) (Nat.le_of_ble_eq_true rfl) (Nat.le_of_ble_eq_true rfl) hc hs (fun _ _ _ hx => kx_out rfl (hX _ _ _ hx)) (fun v_ σ2 hq => ?_)
  obtain ⟨rfl, h⟩ := hq
  exact kx_vret dJ9_init_6 rfl (hQ _ _ ⟨rfl, h⟩)
set_option maxHeartbeats 8000000 in
theorem kw_X2_init {G : KG} {bc bs : Nat} {σ : KHp} {x0 : Nat} {x1 : Option Nat} {Q : KHp → Prop} {X : String → Nat → KHp → Prop} (h : W_X2_init G bc bs σ x0 x1 Q X) : kx_c G yX2_init (ws_ yX2_init cX2_init 3 (Option.none : Option Jvm.ClassFile.FieldType)) 8 bc bs [.ref (x0), va_rf (x1)] σ (fun rv σ' => rv = none ∧ Q σ') X := by
  refine kx_mk3 (ini := true) rfl (by cases x1 <;> exact Nat.le_of_ble_eq_true rfl) (fun _ => rfl) (fun Q1 X1 hQ hX => ?_)
  unfold W_X2_init at h
  refine kx_lwF [(0, .ref x0), (1, va_rf (x1))] (by cases x1 <;> exact ⟨rfl, rfl, trivial⟩) ?_
  refine kx_aload_n dX2_init_0 rfl rfl ?_
  refine kx_oinit dX2_init_1 q621 q206 q207 (Nat.le_of_ble_eq_true rfl) (Nat.le_of_ble_eq_true rfl) ?_
  refine kx_aload_n dX2_init_4 rfl rfl ?_
  refine kW_new dX2_init_5 kc_J2 q622 q217 q148 rfl h (fun q1 σ2 h => ?_)
  refine kx_dup dX2_init_8 rfl ?_
  refine kx_iconst (v := 2) dX2_init_9 (by decide) ?_
  obtain ⟨c5, c6, hc, hs, h⟩ := h
  refine kx_callI dX2_init_10 lk_X2_11 (kw_J2_init h) rfl rfl (Nat.le_of_ble_eq_true rfl) (Nat.le_of_ble_eq_true rfl) (Nat.le_of_ble_eq_true rfl) hc hs (fun _ _ _ hx => kx_out rfl (hX _ _ _ hx)) (fun v_ σ4 hq => ?_)
  obtain ⟨rfl, h⟩ := hq
  refine kW_p dX2_init_13 (kp1 ⟨_, _, _, _, kc_X2, fl_X2_14_X2, Or.inr ⟨rfl, rfl, q819⟩, rfl, rfl⟩) h (fun σ7 h => ?_)
  refine kx_aload_n dX2_init_16 rfl rfl ?_
  refine kW_new dX2_init_17 kc_J2 q622 q217 q148 rfl h (fun q8 σ9 h => ?_)
  refine kx_dup dX2_init_20 rfl ?_
  refine kx_iconst (v := 2) dX2_init_21 (by decide) ?_
  obtain ⟨c12, c13, hc, hs, h⟩ := h
  refine kx_callI dX2_init_22 lk_X2_11 (kw_J2_init h) rfl rfl (Nat.le_of_ble_eq_true rfl) (Nat.le_of_ble_eq_true rfl) (Nat.le_of_ble_eq_true rfl) hc hs (fun _ _ _ hx => kx_out rfl (hX _ _ _ hx)) (fun v_ σ11 hq => ?_)
  obtain ⟨rfl, h⟩ := hq
  refine kW_p dX2_init_25 (kp1 ⟨_, _, _, _, kc_X2, fl_X2_20_X2, Or.inr ⟨rfl, rfl, q821⟩, rfl, rfl⟩) h (fun σ14 h => ?_)
  refine kx_aload_n dX2_init_28 rfl rfl ?_
  refine kW_new dX2_init_29 kc_J18 q624 q625 q166 rfl h (fun q15 σ16 h => ?_)
  refine kx_dup dX2_init_32 rfl ?_
  refine kx_callI dX2_init_33 lk_X2_25 (kw_J18_init h) rfl rfl (Nat.le_of_ble_eq_true rfl) (Nat.le_of_ble_eq_true rfl) (Nat.le_of_ble_eq_true rfl) (Nat.le_of_ble_eq_true rfl) (Nat.le_of_ble_eq_true rfl) (fun _ _ _ hx => kx_out rfl (hX _ _ _ hx)) (fun v_ σ18 hq => ?_)
  obtain ⟨rfl, h⟩ := hq
  refine kW_p dX2_init_36 (kp1 ⟨_, _, _, _, kc_X2, fl_X2_26_X2, Or.inr ⟨rfl, rfl, q824⟩, rfl, rfl⟩) h (fun σ19 h => ?_)
  refine kx_aload_n dX2_init_39 rfl rfl ?_
  refine kW_new dX2_init_40 kc_J19 q645 q646 q167 rfl h (fun q20 σ21 h => ?_)
  refine kx_dup dX2_init_43 rfl ?_
  obtain ⟨c24, c25, hc, hs, h⟩ := h
  refine kx_callI dX2_init_44 lk_X2_32 (kw_J19_init h) rfl rfl (Nat.le_of_ble_eq_true rfl) (Nat.le_of_ble_eq_true rfl) (Nat.le_of_ble_eq_true rfl) hc hs (fun _ _ _ hx => kx_out rfl (hX _ _ _ hx)) (fun v_ σ23 hq => ?_)
  obtain ⟨rfl, h⟩ := hq
  refine kW_p dX2_init_47 (kp1 ⟨_, _, _, _, kc_X2, fl_X2_33_X2, Or.inr ⟨rfl, rfl, q827⟩, rfl, rfl⟩) h (fun σ26 h => ?_)
  refine kx_aload_n dX2_init_50 rfl rfl ?_
  refine kx_bipush (v := 12) dX2_init_51 (by decide) ?_
  refine kW_newa dX2_init_53 rfl q744 (fun _ _ => rfl) h (fun n29 q27 σ28 h => ?_)
  refine kW_p dX2_init_55 (kp1 ⟨_, _, _, _, kc_X2, fl_X2_37_X2, Or.inr ⟨rfl, rfl, q829⟩, rfl, rfl⟩) h (fun σ30 h => ?_)
  refine kx_aload_n dX2_init_58 rfl rfl ?_
  refine kx_bipush (v := 6) dX2_init_59 (by decide) ?_
  refine kW_newa dX2_init_61 rfl q617 (fun _ _ => rfl) h (fun n33 q31 σ32 h => ?_)
  refine kW_p dX2_init_63 (kp1 ⟨_, _, _, _, kc_X2, fl_X2_41_X2, Or.inr ⟨rfl, rfl, q831⟩, rfl, rfl⟩) h (fun σ34 h => ?_)
  refine kx_aload_n dX2_init_66 rfl rfl ?_
  refine kx_bipush (v := 12) dX2_init_67 (by decide) ?_
  refine kW_newa dX2_init_69 rfl q617 (fun _ _ => rfl) h (fun n37 q35 σ36 h => ?_)
  refine kW_p dX2_init_71 (kp1 ⟨_, _, _, _, kc_X2, fl_X2_45_X2, Or.inr ⟨rfl, rfl, q833⟩, rfl, rfl⟩) h (fun σ38 h => ?_)
  refine kx_aload_n dX2_init_74 rfl rfl ?_
  refine kx_bipush (v := 12) dX2_init_75 (by decide) ?_
  refine kW_newa dX2_init_77 rfl q309 (fun _ _ => rfl) h (fun n41 q39 σ40 h => ?_)
  refine kW_p dX2_init_79 (kp1 ⟨_, _, _, _, kc_X2, fl_X2_48_X2, Or.inr ⟨rfl, rfl, q834⟩, rfl, rfl⟩) h (fun σ42 h => ?_)
  refine kx_aload_n dX2_init_82 rfl rfl ?_
  obtain ⟨c45, c46, hc, hs, h⟩ := h
  refine kx_callS dX2_init_83 lk_X2_52 (kw_X4_values h) rfl rfl (Nat.le_of_ble_eq_true rfl) (Nat.le_of_ble_eq_true rfl) (Nat.le_of_ble_eq_true rfl) hc hs (fun _ _ _ hx => kx_out rfl (hX _ _ _ hx)) (fun v_ σ44 hq => ?_)
  obtain ⟨v43, rfl, h⟩ := hq
  refine kW_p dX2_init_86 (kp1 ⟨_, _, _, _, kc_X2, fl_X2_58_X2, Or.inr ⟨rfl, rfl, q835⟩, (by cases v43 <;> rfl), (by cases v43 <;> rfl)⟩) h (fun σ47 h => ?_)
  refine kx_aload_n dX2_init_89 rfl rfl ?_
  refine kx_lconst (v := 1) dX2_init_90 (by decide) ?_
  refine kW_p dX2_init_91 (kp1 ⟨_, _, _, _, kc_X2, fl_X2_62_X2, Or.inl rfl, rfl, rfl⟩) h (fun σ48 h => ?_)
  refine kx_aload_n dX2_init_94 rfl rfl ?_
  refine kx_aload_nO dX2_init_95 rfl rfl ?_
  refine kW_p dX2_init_96 (kp1 ⟨_, _, _, _, kc_X2, fl_X2_66_X2, Or.inr ⟨rfl, rfl, q817⟩, (by cases x1 <;> rfl), (by cases x1 <;> rfl)⟩) h (fun σ49 h => ?_)
  refine kx_aload_n dX2_init_99 rfl rfl ?_
  refine kx_aload_nO dX2_init_100 rfl rfl ?_
  obtain ⟨a50, rfl, hUa50⟩ := h
  have h := hUa50
  refine kW_gI dX2_init_101 (kf1 fl_X2_70_X3) h (fun v51 h => ?_)
  refine kW_p dX2_init_104 (kp1 ⟨_, _, _, _, kc_X2, fl_X2_76_X2, Or.inl rfl, rfl, rfl⟩) h (fun σ52 h => ?_)
  refine kx_aload_n dX2_init_107 rfl rfl ?_
  refine kx_aload_n dX2_init_108 rfl rfl ?_
  refine kW_gI dX2_init_109 (kf1 fl_X2_77_X3) h (fun v53 h => ?_)
  refine kW_p dX2_init_112 (kp1 ⟨_, _, _, _, kc_X2, fl_X2_80_X2, Or.inl rfl, rfl, rfl⟩) h (fun σ54 h => ?_)
  refine kx_iconst (v := 0) dX2_init_115 (by decide) ?_
  refine kx_istore_n dX2_init_116 rfl (Nat.le_of_ble_eq_true rfl) ?_
  refine kx_lwF [(0, .ref (x0)), (1, .ref (a50)), (2, .int ((0 : Int32)))] ⟨rfl, rfl, rfl, trivial⟩ ?_
  refine loopW3_k (fun (σ : KHp) (bc117 bs117 : Nat) (l2 : Int32) => kx G (yX2_init.cls, cX2_init, 3, (Option.none : Option Jvm.ClassFile.FieldType), true, []) (8, bc, bs, Q1, X1) (bc117) (bs117) σ 117 (kF [(0, .ref (x0)), (1, .ref (a50)), (2, .int (l2))]) []) (fun kI117 hI117 σ bc117 bs117 l2 h => ?_) 9000 σ54 (bc - 1 - c5 - 1 - c12 - 1 - 1 - c24 - 1 - 1 - 1 - 1 - c45) (bs - 3 - c6 - 3 - c13 - 4 - 3 - c25 - n29 - n33 - n37 - n41 - c46) (0 : Int32) h
  unfold WB_X2_init_117 at h
  refine kx_iload_n dX2_init_117 rfl rfl ?_
  refine kx_aload_n dX2_init_118 rfl rfl ?_
  refine kW_gO dX2_init_119 (kf1 fl_X2_81_X3) h (fun v118001 h => ?_)
  obtain ⟨a118002, rfl, hUa118002⟩ := h
  have h := hUa118002
  obtain ⟨hr, h⟩ := h
  refine kx_callV dX2_init_122 lk_X2_82 (kw_J2_size h) rfl (wR_rc hr rfl) rfl (Nat.le_of_ble_eq_true rfl) (Nat.le_of_ble_eq_true rfl) (Nat.le_of_ble_eq_true rfl) (Nat.le_of_ble_eq_true rfl) (Nat.le_of_ble_eq_true rfl) (fun _ _ _ hx => kx_out rfl (hX _ _ _ hx)) (fun v_ σ118004 hq => ?_)
  obtain ⟨v118003, rfl, h⟩ := hq
  refine kx_icmp_ge (tgt := 153) dX2_init_125 (by decide) (fun c => ?_) (fun c => ?_)
  · have h := w_ift c h
    refine kx_iconst (v := 0) dX2_init_153 (by decide) ?_
    refine kx_istore_n dX2_init_154 rfl (Nat.le_of_ble_eq_true rfl) ?_
    refine kx_lwF [(0, .ref (x0)), (2, .int ((0 : Int32)))] ⟨rfl, rfl, trivial⟩ ?_
    refine loopW3_k (fun (σ : KHp) (bc155 bs155 : Nat) (l2 : Int32) => kx G (yX2_init.cls, cX2_init, 3, (Option.none : Option Jvm.ClassFile.FieldType), true, []) (8, bc, bs, Q1, X1) (bc155) (bs155) σ 155 (kF [(0, .ref (x0)), (2, .int (l2))]) []) (fun kI155 hI155 σ bc155 bs155 l2 h => ?_) 9000 σ118004 bc117 bs117 (0 : Int32) h
    unfold WB_X2_init_155 at h
    refine kx_iload_n dX2_init_155 rfl rfl ?_
    refine kx_bipush (v := 12) dX2_init_156 (by decide) ?_
    refine kx_icmp_ge (tgt := 174) dX2_init_158 (by decide) (fun c => ?_) (fun c => ?_)
    · have h := w_ift c h
      exact kx_vret dX2_init_174 rfl (hQ _ _ ⟨rfl, h⟩)
    · have h := w_iff c h
      refine kx_aload_n dX2_init_161 rfl rfl ?_
      refine kW_gO dX2_init_162 (kf1 fl_X2_37_X2) h (fun v156001 h => ?_)
      refine kx_iload_n dX2_init_165 rfl rfl ?_
      refine kx_iconst (v := 1) dX2_init_166 (by decide) ?_
      obtain ⟨a156002, rfl, hUa156002⟩ := h
      have h := hUa156002
      refine kW_sB dX2_init_167 h (fun σ156003 h => ?_)
      refine kx_iinc2 (v := 1) dX2_init_168 rfl (by decide) ?_
      refine kx_goto (tgt := 155) dX2_init_171 (by decide) ?_
      exact kx_lwF [(0, .ref (x0)), (2, .int ((l2 + (1 : Int32))))] ⟨rfl, rfl, trivial⟩ (hI155 _ _ _ _ h)
  · have h := w_iff c h
    refine kx_aload_n dX2_init_128 rfl rfl ?_
    refine kW_gO dX2_init_129 (kf1 fl_X2_14_X2) h (fun v118006 h => ?_)
    refine kW_new dX2_init_132 kc_X5 q679 q680 q170 rfl h (fun q118007 σ118008 h => ?_)
    refine kx_dup dX2_init_135 rfl ?_
    refine kx_aload_n dX2_init_136 rfl rfl ?_
    refine kW_gI dX2_init_137 (kf1 fl_X2_88_X3) h (fun v118009 h => ?_)
    obtain ⟨c118012, c118013, hc, hs, h⟩ := h
    refine kx_callI dX2_init_140 lk_X2_91 (kw_X5_init h) rfl rfl (by cases v118006 <;> exact Nat.le_of_ble_eq_true rfl) (Nat.le_of_ble_eq_true rfl) (Nat.le_of_ble_eq_true rfl) hc hs (fun _ _ _ hx => kx_out rfl (hX _ _ _ hx)) (fun v_ σ118011 hq => ?_)
    obtain ⟨rfl, h⟩ := hq
    obtain ⟨a118014, rfl, hUa118014⟩ := h
    have h := hUa118014
    obtain ⟨hr, h⟩ := h
    obtain ⟨c118017, c118018, hc, hs, h⟩ := h
    refine kx_callV dX2_init_143 lk_X2_92 (kw_J2_add h) rfl (wR_rc hr rfl) rfl (Nat.le_of_ble_eq_true rfl) (Nat.le_of_ble_eq_true rfl) (Nat.le_of_ble_eq_true rfl) hc hs (fun _ _ _ hx => kx_out rfl (hX _ _ _ hx)) (fun v_ σ118016 hq => ?_)
    obtain ⟨v118015, rfl, h⟩ := hq
    refine kx_pop dX2_init_146 rfl ?_
    refine kx_iinc2 (v := 1) dX2_init_147 rfl (by decide) ?_
    refine kx_goto (tgt := 117) dX2_init_150 (by decide) ?_
    exact kx_lwF [(0, .ref (x0)), (1, .ref (a50)), (2, .int ((l2 + (1 : Int32))))] ⟨rfl, rfl, rfl, trivial⟩ (hI117 _ _ _ _ h)
set_option maxHeartbeats 8000000 in
theorem kw_X2_init_2 {G : KG} {bc bs : Nat} {σ : KHp} {x0 : Nat} {x1 : Option Nat} {Q : KHp → Prop} {X : String → Nat → KHp → Prop} (h : W_X2_init_2 G bc bs σ x0 x1 Q X) : kx_c G yX2_init_2 (ws_ yX2_init_2 cX2_init_2 4 (Option.none : Option Jvm.ClassFile.FieldType)) 8 bc bs [.ref (x0), va_rf (x1)] σ (fun rv σ' => rv = none ∧ Q σ') X := by
  refine kx_mk3 (ini := true) rfl (by cases x1 <;> exact Nat.le_of_ble_eq_true rfl) (fun _ => rfl) (fun Q1 X1 hQ hX => ?_)
  unfold W_X2_init_2 at h
  refine kx_lwF [(0, .ref x0), (1, va_rf (x1))] (by cases x1 <;> exact ⟨rfl, rfl, trivial⟩) ?_
  refine kx_aload_n dX2_init_2_0 rfl rfl ?_
  refine kx_oinit dX2_init_2_1 q621 q206 q207 (Nat.le_of_ble_eq_true rfl) (Nat.le_of_ble_eq_true rfl) ?_
  refine kx_aload_n dX2_init_2_4 rfl rfl ?_
  refine kW_new dX2_init_2_5 kc_J2 q622 q217 q148 rfl h (fun q1 σ2 h => ?_)
  refine kx_dup dX2_init_2_8 rfl ?_
  refine kx_iconst (v := 2) dX2_init_2_9 (by decide) ?_
  obtain ⟨c5, c6, hc, hs, h⟩ := h
  refine kx_callI dX2_init_2_10 lk_X2_11 (kw_J2_init h) rfl rfl (Nat.le_of_ble_eq_true rfl) (Nat.le_of_ble_eq_true rfl) (Nat.le_of_ble_eq_true rfl) hc hs (fun _ _ _ hx => kx_out rfl (hX _ _ _ hx)) (fun v_ σ4 hq => ?_)
  obtain ⟨rfl, h⟩ := hq
  refine kW_p dX2_init_2_13 (kp1 ⟨_, _, _, _, kc_X2, fl_X2_14_X2, Or.inr ⟨rfl, rfl, q819⟩, rfl, rfl⟩) h (fun σ7 h => ?_)
  refine kx_aload_n dX2_init_2_16 rfl rfl ?_
  refine kW_new dX2_init_2_17 kc_J2 q622 q217 q148 rfl h (fun q8 σ9 h => ?_)
  refine kx_dup dX2_init_2_20 rfl ?_
  refine kx_iconst (v := 2) dX2_init_2_21 (by decide) ?_
  obtain ⟨c12, c13, hc, hs, h⟩ := h
  refine kx_callI dX2_init_2_22 lk_X2_11 (kw_J2_init h) rfl rfl (Nat.le_of_ble_eq_true rfl) (Nat.le_of_ble_eq_true rfl) (Nat.le_of_ble_eq_true rfl) hc hs (fun _ _ _ hx => kx_out rfl (hX _ _ _ hx)) (fun v_ σ11 hq => ?_)
  obtain ⟨rfl, h⟩ := hq
  refine kW_p dX2_init_2_25 (kp1 ⟨_, _, _, _, kc_X2, fl_X2_20_X2, Or.inr ⟨rfl, rfl, q821⟩, rfl, rfl⟩) h (fun σ14 h => ?_)
  refine kx_aload_n dX2_init_2_28 rfl rfl ?_
  refine kW_new dX2_init_2_29 kc_J18 q624 q625 q166 rfl h (fun q15 σ16 h => ?_)
  refine kx_dup dX2_init_2_32 rfl ?_
  refine kx_callI dX2_init_2_33 lk_X2_25 (kw_J18_init h) rfl rfl (Nat.le_of_ble_eq_true rfl) (Nat.le_of_ble_eq_true rfl) (Nat.le_of_ble_eq_true rfl) (Nat.le_of_ble_eq_true rfl) (Nat.le_of_ble_eq_true rfl) (fun _ _ _ hx => kx_out rfl (hX _ _ _ hx)) (fun v_ σ18 hq => ?_)
  obtain ⟨rfl, h⟩ := hq
  refine kW_p dX2_init_2_36 (kp1 ⟨_, _, _, _, kc_X2, fl_X2_26_X2, Or.inr ⟨rfl, rfl, q824⟩, rfl, rfl⟩) h (fun σ19 h => ?_)
  refine kx_aload_n dX2_init_2_39 rfl rfl ?_
  refine kW_new dX2_init_2_40 kc_J19 q645 q646 q167 rfl h (fun q20 σ21 h => ?_)
  refine kx_dup dX2_init_2_43 rfl ?_
  obtain ⟨c24, c25, hc, hs, h⟩ := h
  refine kx_callI dX2_init_2_44 lk_X2_32 (kw_J19_init h) rfl rfl (Nat.le_of_ble_eq_true rfl) (Nat.le_of_ble_eq_true rfl) (Nat.le_of_ble_eq_true rfl) hc hs (fun _ _ _ hx => kx_out rfl (hX _ _ _ hx)) (fun v_ σ23 hq => ?_)
  obtain ⟨rfl, h⟩ := hq
  refine kW_p dX2_init_2_47 (kp1 ⟨_, _, _, _, kc_X2, fl_X2_33_X2, Or.inr ⟨rfl, rfl, q827⟩, rfl, rfl⟩) h (fun σ26 h => ?_)
  refine kx_aload_n dX2_init_2_50 rfl rfl ?_
  refine kx_bipush (v := 12) dX2_init_2_51 (by decide) ?_
  refine kW_newa dX2_init_2_53 rfl q744 (fun _ _ => rfl) h (fun n29 q27 σ28 h => ?_)
  refine kW_p dX2_init_2_55 (kp1 ⟨_, _, _, _, kc_X2, fl_X2_37_X2, Or.inr ⟨rfl, rfl, q829⟩, rfl, rfl⟩) h (fun σ30 h => ?_)
  refine kx_aload_n dX2_init_2_58 rfl rfl ?_
  refine kx_bipush (v := 6) dX2_init_2_59 (by decide) ?_
  refine kW_newa dX2_init_2_61 rfl q617 (fun _ _ => rfl) h (fun n33 q31 σ32 h => ?_)
  refine kW_p dX2_init_2_63 (kp1 ⟨_, _, _, _, kc_X2, fl_X2_41_X2, Or.inr ⟨rfl, rfl, q831⟩, rfl, rfl⟩) h (fun σ34 h => ?_)
  refine kx_aload_n dX2_init_2_66 rfl rfl ?_
  refine kx_bipush (v := 12) dX2_init_2_67 (by decide) ?_
  refine kW_newa dX2_init_2_69 rfl q617 (fun _ _ => rfl) h (fun n37 q35 σ36 h => ?_)
  refine kW_p dX2_init_2_71 (kp1 ⟨_, _, _, _, kc_X2, fl_X2_45_X2, Or.inr ⟨rfl, rfl, q833⟩, rfl, rfl⟩) h (fun σ38 h => ?_)
  refine kx_aload_n dX2_init_2_74 rfl rfl ?_
  refine kx_bipush (v := 12) dX2_init_2_75 (by decide) ?_
  refine kW_newa dX2_init_2_77 rfl q309 (fun _ _ => rfl) h (fun n41 q39 σ40 h => ?_)
  refine kW_p dX2_init_2_79 (kp1 ⟨_, _, _, _, kc_X2, fl_X2_48_X2, Or.inr ⟨rfl, rfl, q834⟩, rfl, rfl⟩) h (fun σ42 h => ?_)
  refine kx_aload_n dX2_init_2_82 rfl rfl ?_
  obtain ⟨c45, c46, hc, hs, h⟩ := h
  refine kx_callS dX2_init_2_83 lk_X2_52 (kw_X4_values h) rfl rfl (Nat.le_of_ble_eq_true rfl) (Nat.le_of_ble_eq_true rfl) (Nat.le_of_ble_eq_true rfl) hc hs (fun _ _ _ hx => kx_out rfl (hX _ _ _ hx)) (fun v_ σ44 hq => ?_)
  obtain ⟨v43, rfl, h⟩ := hq
  refine kW_p dX2_init_2_86 (kp1 ⟨_, _, _, _, kc_X2, fl_X2_58_X2, Or.inr ⟨rfl, rfl, q835⟩, (by cases v43 <;> rfl), (by cases v43 <;> rfl)⟩) h (fun σ47 h => ?_)
  refine kx_aload_n dX2_init_2_89 rfl rfl ?_
  refine kx_lconst (v := 1) dX2_init_2_90 (by decide) ?_
  refine kW_p dX2_init_2_91 (kp1 ⟨_, _, _, _, kc_X2, fl_X2_62_X2, Or.inl rfl, rfl, rfl⟩) h (fun σ48 h => ?_)
  refine kx_aload_n dX2_init_2_94 rfl rfl ?_
  refine kx_aload_nO dX2_init_2_95 rfl rfl ?_
  obtain ⟨a49, rfl, hUa49⟩ := h
  have h := hUa49
  refine kW_gO dX2_init_2_96 (kf1 fl_X2_66_X2) h (fun v50 h => ?_)
  refine kW_p dX2_init_2_99 (kp1 ⟨_, _, _, _, kc_X2, fl_X2_66_X2, Or.inr ⟨rfl, rfl, q817⟩, (by cases v50 <;> rfl), (by cases v50 <;> rfl)⟩) h (fun σ51 h => ?_)
  refine kx_iconst (v := 0) dX2_init_2_102 (by decide) ?_
  refine kx_istore_n dX2_init_2_103 rfl (Nat.le_of_ble_eq_true rfl) ?_
  refine kx_lwF [(0, .ref (x0)), (1, .ref (a49)), (2, .int ((0 : Int32)))] ⟨rfl, rfl, rfl, trivial⟩ ?_
  refine loopW3_k (fun (σ : KHp) (bc104 bs104 : Nat) (l2 : Int32) => kx G (yX2_init_2.cls, cX2_init_2, 4, (Option.none : Option Jvm.ClassFile.FieldType), true, []) (8, bc, bs, Q1, X1) (bc104) (bs104) σ 104 (kF [(0, .ref (x0)), (1, .ref (a49)), (2, .int (l2))]) []) (fun kI104 hI104 σ bc104 bs104 l2 h => ?_) 9000 σ51 (bc - 1 - c5 - 1 - c12 - 1 - 1 - c24 - 1 - 1 - 1 - 1 - c45) (bs - 3 - c6 - 3 - c13 - 4 - 3 - c25 - n29 - n33 - n37 - n41 - c46) (0 : Int32) h
  unfold WB_X2_init_2_104 at h
  refine kx_iload_n dX2_init_2_104 rfl rfl ?_
  refine kx_aload_n dX2_init_2_105 rfl rfl ?_
  refine kW_gO dX2_init_2_106 (kf1 fl_X2_14_X2) h (fun v105001 h => ?_)
  obtain ⟨a105002, rfl, hUa105002⟩ := h
  have h := hUa105002
  obtain ⟨hr, h⟩ := h
  refine kx_callV dX2_init_2_109 lk_X2_82 (kw_J2_size h) rfl (wR_rc hr rfl) rfl (Nat.le_of_ble_eq_true rfl) (Nat.le_of_ble_eq_true rfl) (Nat.le_of_ble_eq_true rfl) (Nat.le_of_ble_eq_true rfl) (Nat.le_of_ble_eq_true rfl) (fun _ _ _ hx => kx_out rfl (hX _ _ _ hx)) (fun v_ σ105004 hq => ?_)
  obtain ⟨v105003, rfl, h⟩ := hq
  refine kx_icmp_ge (tgt := 147) dX2_init_2_112 (by decide) (fun c => ?_) (fun c => ?_)
  · have h := w_ift c h
    refine kx_iconst (v := 0) dX2_init_2_147 (by decide) ?_
    refine kx_istore_n dX2_init_2_148 rfl (Nat.le_of_ble_eq_true rfl) ?_
    refine kx_lwF [(0, .ref (x0)), (1, .ref (a49)), (2, .int ((0 : Int32)))] ⟨rfl, rfl, rfl, trivial⟩ ?_
    refine loopW3_k (fun (σ : KHp) (bc149 bs149 : Nat) (l2 : Int32) => kx G (yX2_init_2.cls, cX2_init_2, 4, (Option.none : Option Jvm.ClassFile.FieldType), true, []) (8, bc, bs, Q1, X1) (bc149) (bs149) σ 149 (kF [(0, .ref (x0)), (1, .ref (a49)), (2, .int (l2))]) []) (fun kI149 hI149 σ bc149 bs149 l2 h => ?_) 9000 σ105004 bc104 bs104 (0 : Int32) h
    unfold WB_X2_init_2_149 at h
    refine kx_iload_n dX2_init_2_149 rfl rfl ?_
    refine kx_aload_n dX2_init_2_150 rfl rfl ?_
    refine kW_gO dX2_init_2_151 (kf1 fl_X2_20_X2) h (fun v150001 h => ?_)
    obtain ⟨a150002, rfl, hUa150002⟩ := h
    have h := hUa150002
    obtain ⟨hr, h⟩ := h
    refine kx_callV dX2_init_2_154 lk_X2_82 (kw_J2_size h) rfl (wR_rc hr rfl) rfl (Nat.le_of_ble_eq_true rfl) (Nat.le_of_ble_eq_true rfl) (Nat.le_of_ble_eq_true rfl) (Nat.le_of_ble_eq_true rfl) (Nat.le_of_ble_eq_true rfl) (fun _ _ _ hx => kx_out rfl (hX _ _ _ hx)) (fun v_ σ150004 hq => ?_)
    obtain ⟨v150003, rfl, h⟩ := hq
    refine kx_icmp_ge (tgt := 209) dX2_init_2_157 (by decide) (fun c => ?_) (fun c => ?_)
    · have h := w_ift c h
      refine kx_aload_n dX2_init_2_209 rfl rfl ?_
      refine kW_gO dX2_init_2_210 (kf1 fl_X2_26_X2) h (fun v150005 h => ?_)
      obtain ⟨a150006, rfl, hUa150006⟩ := h
      have h := hUa150006
      obtain ⟨hr, h⟩ := h
      obtain ⟨c150009, c150010, hc, hs, h⟩ := h
      refine kx_callU dX2_init_2_213 lk_X2_114_J18 (kw_J17_iterator h) rfl (wR_rc hr rfl) rfl (Nat.le_of_ble_eq_true rfl) (Nat.le_of_ble_eq_true rfl) (Nat.le_of_ble_eq_true rfl) hc hs (fun _ _ _ hx => kx_out rfl (hX _ _ _ hx)) (fun v_ σ150008 hq => ?_)
      obtain ⟨v150007, rfl, h⟩ := hq
      refine kx_astore_nO dX2_init_2_216 rfl (Nat.le_of_ble_eq_true rfl) ?_
      refine kx_lwF [(0, .ref (x0)), (1, .ref (a49)), (2, va_rf (v150007))] ⟨rfl, rfl, rfl, trivial⟩ ?_
      refine loopW2_k (fun (σ : KHp) (bc217 bs217 : Nat)  => kx G (yX2_init_2.cls, cX2_init_2, 4, (Option.none : Option Jvm.ClassFile.FieldType), true, []) (8, bc, bs, Q1, X1) (bc217) (bs217) σ 217 (kF [(0, .ref (x0)), (1, .ref (a49)), (2, va_rf (v150007))]) []) (fun kI217 hI217 σ bc217 bs217  h => ?_) 9000 σ150008 (bc149 - c150009) (bs149 - c150010) h
      unfold WB_X2_init_2_217 at h
      refine kx_aload_nO dX2_init_2_217 rfl rfl ?_
      obtain ⟨a218001, rfl, hUa218001⟩ := h
      have h := hUa218001
      refine kW_jIa 223 [] h (fun v218002 σ218003 bcv218002 bsv218002 h => ?_) (fun k218004 jk218004 h => ?_)
      · skip
        refine kx_if_eq (tgt := 247) dX2_init_2_223 (by decide) (fun c => ?_) (fun c => ?_)
        · have h := w_ift c h
          refine kx_aload_n dX2_init_2_247 rfl rfl ?_
          refine kW_gO dX2_init_2_248 (kf1 fl_X2_33_X2) h (fun v218005 h => ?_)
          obtain ⟨a218006, rfl, hUa218006⟩ := h
          have h := hUa218006
          obtain ⟨hr, h⟩ := h
          obtain ⟨c218009, c218010, hc, hs, h⟩ := h
          refine kx_callV dX2_init_2_251 lk_X2_134 (kw_J19_iterator h) rfl (wR_rc hr rfl) rfl (Nat.le_of_ble_eq_true rfl) (Nat.le_of_ble_eq_true rfl) (Nat.le_of_ble_eq_true rfl) hc hs (fun _ _ _ hx => kx_out rfl (hX _ _ _ hx)) (fun v_ σ218008 hq => ?_)
          obtain ⟨v218007, rfl, h⟩ := hq
          refine kx_astore_nO dX2_init_2_254 rfl (Nat.le_of_ble_eq_true rfl) ?_
          refine kx_lwF [(0, .ref (x0)), (1, .ref (a49)), (2, va_rf (v218007))] ⟨rfl, rfl, rfl, trivial⟩ ?_
          refine loopW2_k (fun (σ : KHp) (bc255 bs255 : Nat)  => kx G (yX2_init_2.cls, cX2_init_2, 4, (Option.none : Option Jvm.ClassFile.FieldType), true, []) (8, bc, bs, Q1, X1) (bc255) (bs255) σ 255 (kF [(0, .ref (x0)), (1, .ref (a49)), (2, va_rf (v218007))]) []) (fun kI255 hI255 σ bc255 bs255  h => ?_) 9000 σ218008 (bcv218002 - c218009) (bsv218002 - c218010) h
          unfold WB_X2_init_2_255 at h
          refine kx_aload_nO dX2_init_2_255 rfl rfl ?_
          obtain ⟨a256001, rfl, hUa256001⟩ := h
          have h := hUa256001
          refine kW_jIa 261 [] h (fun v256002 σ256003 bcv256002 bsv256002 h => ?_) (fun k256004 jk256004 h => ?_)
          · skip
            refine kx_if_eq (tgt := 285) dX2_init_2_261 (by decide) (fun c => ?_) (fun c => ?_)
            · have h := w_ift c h
              refine kx_aload_n dX2_init_2_285 rfl rfl ?_
              refine kW_gO dX2_init_2_286 (kf1 fl_X2_37_X2) h (fun v256005 h => ?_)
              refine kx_iconst (v := 0) dX2_init_2_289 (by decide) ?_
              refine kx_aload_n dX2_init_2_290 rfl rfl ?_
              refine kW_gO dX2_init_2_291 (kf1 fl_X2_37_X2) h (fun v256006 h => ?_)
              refine kx_iconst (v := 0) dX2_init_2_294 (by decide) ?_
              refine kx_bipush (v := 12) dX2_init_2_295 (by decide) ?_
              obtain ⟨a256007, rfl, hUa256007⟩ := h
              have h := hUa256007
              obtain ⟨a256008, rfl, hUa256008⟩ := h
              have h := hUa256008
              refine kW_cpy dX2_init_2_297 ⟨q1941, q357, q356, q160⟩ (Nat.le_of_ble_eq_true rfl) (Nat.le_of_ble_eq_true rfl) h (fun σ256009 h => ?_)
              refine kx_aload_n dX2_init_2_300 rfl rfl ?_
              refine kW_gO dX2_init_2_301 (kf1 fl_X2_41_X2) h (fun v256010 h => ?_)
              refine kx_iconst (v := 0) dX2_init_2_304 (by decide) ?_
              refine kx_aload_n dX2_init_2_305 rfl rfl ?_
              refine kW_gO dX2_init_2_306 (kf1 fl_X2_41_X2) h (fun v256011 h => ?_)
              refine kx_iconst (v := 0) dX2_init_2_309 (by decide) ?_
              refine kx_bipush (v := 6) dX2_init_2_310 (by decide) ?_
              obtain ⟨a256012, rfl, hUa256012⟩ := h
              have h := hUa256012
              obtain ⟨a256013, rfl, hUa256013⟩ := h
              have h := hUa256013
              refine kW_cpy dX2_init_2_312 ⟨q1941, q357, q356, q160⟩ (Nat.le_of_ble_eq_true rfl) (Nat.le_of_ble_eq_true rfl) h (fun σ256014 h => ?_)
              refine kx_aload_n dX2_init_2_315 rfl rfl ?_
              refine kx_aload_n dX2_init_2_316 rfl rfl ?_
              refine kW_gI dX2_init_2_317 (kf1 fl_X2_76_X2) h (fun v256015 h => ?_)
              refine kW_p dX2_init_2_320 (kp1 ⟨_, _, _, _, kc_X2, fl_X2_76_X2, Or.inl rfl, rfl, rfl⟩) h (fun σ256016 h => ?_)
              refine kx_aload_n dX2_init_2_323 rfl rfl ?_
              refine kx_aload_n dX2_init_2_324 rfl rfl ?_
              refine kW_gI dX2_init_2_325 (kf1 fl_X2_80_X2) h (fun v256017 h => ?_)
              refine kW_p dX2_init_2_328 (kp1 ⟨_, _, _, _, kc_X2, fl_X2_80_X2, Or.inl rfl, rfl, rfl⟩) h (fun σ256018 h => ?_)
              refine kx_aload_n dX2_init_2_331 rfl rfl ?_
              refine kx_aload_n dX2_init_2_332 rfl rfl ?_
              refine kW_gI dX2_init_2_333 (kf1 fl_X2_144_X2) h (fun v256019 h => ?_)
              refine kW_p dX2_init_2_336 (kp1 ⟨_, _, _, _, kc_X2, fl_X2_144_X2, Or.inl rfl, rfl, rfl⟩) h (fun σ256020 h => ?_)
              refine kx_aload_n dX2_init_2_339 rfl rfl ?_
              refine kx_aload_n dX2_init_2_340 rfl rfl ?_
              refine kW_gJ dX2_init_2_341 (kf1 fl_X2_62_X2) h (fun v256021 h => ?_)
              refine kW_p dX2_init_2_344 (kp1 ⟨_, _, _, _, kc_X2, fl_X2_62_X2, Or.inl rfl, rfl, rfl⟩) h (fun σ256022 h => ?_)
              exact kx_vret dX2_init_2_347 rfl (hQ _ _ ⟨rfl, h⟩)
            · have h := w_iff c h
              refine kx_aload_n dX2_init_2_264 rfl rfl ?_
              refine kW_jOa 270 [] h (fun v256023 σ256024 bcv256023 bsv256023 h => ?_) (fun k256025 jk256025 h => ?_)
              · skip
                obtain ⟨a256026, rfl, hUa256026⟩ := h
                have h := hUa256026
                obtain ⟨⟨tc, fc, hr⟩, h⟩ := h
                refine kx_castS dX2_init_2_270 hr rfl q1939 ?_
                refine kx_astore_n dX2_init_2_273 rfl (Nat.le_of_ble_eq_true rfl) ?_
                refine kx_aload_n dX2_init_2_274 rfl rfl ?_
                refine kW_gO dX2_init_2_275 (kf1 fl_X2_33_X2) h (fun v256027 h => ?_)
                refine kx_aload_n dX2_init_2_278 rfl rfl ?_
                obtain ⟨a256028, rfl, hUa256028⟩ := h
                have h := hUa256028
                obtain ⟨hr, h⟩ := h
                obtain ⟨c256031, c256032, hc, hs, h⟩ := h
                refine kx_callV dX2_init_2_279 lk_X2_137 (kw_J19_addLast h) rfl (wR_rc hr rfl) rfl (Nat.le_of_ble_eq_true rfl) (Nat.le_of_ble_eq_true rfl) (Nat.le_of_ble_eq_true rfl) hc hs (fun _ _ _ hx => kx_out rfl (hX _ _ _ hx)) (fun v_ σ256030 hq => ?_)
                obtain ⟨rfl, h⟩ := hq
                refine kx_goto (tgt := 255) dX2_init_2_282 (by decide) ?_
                exact kx_lwF [(0, .ref (x0)), (1, .ref (a49)), (2, .ref (a256001))] ⟨rfl, rfl, rfl, trivial⟩ (hI255 _ _ _ h)
              · skip
                rcases h with h | h
                · skip
                  obtain ⟨hr, h⟩ := h
                  refine kx_callF dX2_init_2_265 lk_X2_124_J30 (kw_J30_next h) rfl hr.choose_spec.choose_spec rfl rfl (Nat.le_of_ble_eq_true rfl) (Nat.le_of_ble_eq_true rfl) (Nat.le_of_ble_eq_true rfl) (Nat.le_of_ble_eq_true rfl) (Nat.le_of_ble_eq_true rfl) (fun _ _ _ hx => kx_out rfl (hX _ _ _ hx)) (fun v_ σ_ hq => ?_)
                  obtain ⟨r_, rfl, h⟩ := hq
                  exact jk256025 _ _ _ _ h
                · skip
                  obtain ⟨hr, h⟩ := h
                  refine kx_callF dX2_init_2_265 lk_X2_124_J31 (kw_J31_next h) rfl hr.choose_spec.choose_spec rfl rfl (Nat.le_of_ble_eq_true rfl) (Nat.le_of_ble_eq_true rfl) (Nat.le_of_ble_eq_true rfl) (Nat.le_of_ble_eq_true rfl) (Nat.le_of_ble_eq_true rfl) (fun _ _ _ hx => kx_out rfl (hX _ _ _ hx)) (fun v_ σ_ hq => ?_)
                  obtain ⟨r_, rfl, h⟩ := hq
                  exact jk256025 _ _ _ _ h
          · skip
            rcases h with h | h
            · skip
              obtain ⟨hr, h⟩ := h
              refine kx_callF dX2_init_2_256 lk_X2_118_J30 (kw_J30_hasNext h) rfl hr.choose_spec.choose_spec rfl rfl (Nat.le_of_ble_eq_true rfl) (Nat.le_of_ble_eq_true rfl) (Nat.le_of_ble_eq_true rfl) (Nat.le_of_ble_eq_true rfl) (Nat.le_of_ble_eq_true rfl) (fun _ _ _ hx => kx_out rfl (hX _ _ _ hx)) (fun v_ σ_ hq => ?_)
              obtain ⟨r_, rfl, h⟩ := hq
              exact jk256004 _ _ _ _ h
            · skip
              obtain ⟨hr, h⟩ := h
              refine kx_callF dX2_init_2_256 lk_X2_118_J31 (kw_J31_hasNext h) rfl hr.choose_spec.choose_spec rfl rfl (Nat.le_of_ble_eq_true rfl) (Nat.le_of_ble_eq_true rfl) (Nat.le_of_ble_eq_true rfl) (Nat.le_of_ble_eq_true rfl) (Nat.le_of_ble_eq_true rfl) (fun _ _ _ hx => kx_out rfl (hX _ _ _ hx)) (fun v_ σ_ hq => ?_)
              obtain ⟨r_, rfl, h⟩ := hq
              exact jk256004 _ _ _ _ h
        · have h := w_iff c h
          refine kx_aload_n dX2_init_2_226 rfl rfl ?_
          refine kW_jOa 232 [] h (fun v218012 σ218013 bcv218012 bsv218012 h => ?_) (fun k218014 jk218014 h => ?_)
          · skip
            obtain ⟨a218015, rfl, hUa218015⟩ := h
            have h := hUa218015
            obtain ⟨⟨tc, fc, hr⟩, h⟩ := h
            refine kx_castS dX2_init_2_232 hr rfl q1913 ?_
            refine kx_astore_n dX2_init_2_235 rfl (Nat.le_of_ble_eq_true rfl) ?_
            refine kx_aload_n dX2_init_2_236 rfl rfl ?_
            refine kW_gO dX2_init_2_237 (kf1 fl_X2_26_X2) h (fun v218016 h => ?_)
            refine kx_aload_n dX2_init_2_240 rfl rfl ?_
            obtain ⟨a218017, rfl, hUa218017⟩ := h
            have h := hUa218017
            obtain ⟨hr, h⟩ := h
            obtain ⟨c218020, c218021, hc, hs, h⟩ := h
            refine kx_callV dX2_init_2_241 lk_X2_130 (kw_J18_addLast h) rfl (wR_rc hr rfl) rfl (Nat.le_of_ble_eq_true rfl) (Nat.le_of_ble_eq_true rfl) (Nat.le_of_ble_eq_true rfl) hc hs (fun _ _ _ hx => kx_out rfl (hX _ _ _ hx)) (fun v_ σ218019 hq => ?_)
            obtain ⟨rfl, h⟩ := hq
            refine kx_goto (tgt := 217) dX2_init_2_244 (by decide) ?_
            exact kx_lwF [(0, .ref (x0)), (1, .ref (a49)), (2, .ref (a218001))] ⟨rfl, rfl, rfl, trivial⟩ (hI217 _ _ _ h)
          · skip
            rcases h with h | h
            · skip
              obtain ⟨hr, h⟩ := h
              refine kx_callF dX2_init_2_227 lk_X2_124_J30 (kw_J30_next h) rfl hr.choose_spec.choose_spec rfl rfl (Nat.le_of_ble_eq_true rfl) (Nat.le_of_ble_eq_true rfl) (Nat.le_of_ble_eq_true rfl) (Nat.le_of_ble_eq_true rfl) (Nat.le_of_ble_eq_true rfl) (fun _ _ _ hx => kx_out rfl (hX _ _ _ hx)) (fun v_ σ_ hq => ?_)
              obtain ⟨r_, rfl, h⟩ := hq
              exact jk218014 _ _ _ _ h
            · skip
              obtain ⟨hr, h⟩ := h
              refine kx_callF dX2_init_2_227 lk_X2_124_J31 (kw_J31_next h) rfl hr.choose_spec.choose_spec rfl rfl (Nat.le_of_ble_eq_true rfl) (Nat.le_of_ble_eq_true rfl) (Nat.le_of_ble_eq_true rfl) (Nat.le_of_ble_eq_true rfl) (Nat.le_of_ble_eq_true rfl) (fun _ _ _ hx => kx_out rfl (hX _ _ _ hx)) (fun v_ σ_ hq => ?_)
              obtain ⟨r_, rfl, h⟩ := hq
              exact jk218014 _ _ _ _ h
      · skip
        rcases h with h | h
        · skip
          obtain ⟨hr, h⟩ := h
          refine kx_callF dX2_init_2_218 lk_X2_118_J30 (kw_J30_hasNext h) rfl hr.choose_spec.choose_spec rfl rfl (Nat.le_of_ble_eq_true rfl) (Nat.le_of_ble_eq_true rfl) (Nat.le_of_ble_eq_true rfl) (Nat.le_of_ble_eq_true rfl) (Nat.le_of_ble_eq_true rfl) (fun _ _ _ hx => kx_out rfl (hX _ _ _ hx)) (fun v_ σ_ hq => ?_)
          obtain ⟨r_, rfl, h⟩ := hq
          exact jk218004 _ _ _ _ h
        · skip
          obtain ⟨hr, h⟩ := h
          refine kx_callF dX2_init_2_218 lk_X2_118_J31 (kw_J31_hasNext h) rfl hr.choose_spec.choose_spec rfl rfl (Nat.le_of_ble_eq_true rfl) (Nat.le_of_ble_eq_true rfl) (Nat.le_of_ble_eq_true rfl) (Nat.le_of_ble_eq_true rfl) (Nat.le_of_ble_eq_true rfl) (fun _ _ _ hx => kx_out rfl (hX _ _ _ hx)) (fun v_ σ_ hq => ?_)
          obtain ⟨r_, rfl, h⟩ := hq
          exact jk218004 _ _ _ _ h
    · have h := w_iff c h
      refine kx_aload_n dX2_init_2_160 rfl rfl ?_
      refine kW_gO dX2_init_2_161 (kf1 fl_X2_20_X2) h (fun v150012 h => ?_)
      refine kW_new dX2_init_2_164 kc_X16 q1614 q1426 q184 rfl h (fun q150013 σ150014 h => ?_)
      refine kx_dup dX2_init_2_167 rfl ?_
      refine kx_aload_n dX2_init_2_168 rfl rfl ?_
      refine kW_gO dX2_init_2_169 (kf1 fl_X2_20_X2) h (fun v150015 h => ?_)
      refine kx_iload_n dX2_init_2_172 rfl rfl ?_
      obtain ⟨a150016, rfl, hUa150016⟩ := h
      have h := hUa150016
      obtain ⟨hr, h⟩ := h
      refine kx_callV dX2_init_2_173 lk_X2_96 (kw_J2_get h) rfl (wR_rc hr rfl) rfl (by cases v150012 <;> exact Nat.le_of_ble_eq_true rfl) (Nat.le_of_ble_eq_true rfl) (Nat.le_of_ble_eq_true rfl) (Nat.le_of_ble_eq_true rfl) (Nat.le_of_ble_eq_true rfl) (fun _ _ _ hx => kx_out rfl (hX _ _ _ hx)) (fun v_ σ150018 hq => ?_)
      obtain ⟨v150017, rfl, h⟩ := hq
      obtain ⟨a150019, rfl, hUa150019⟩ := h
      have h := hUa150019
      obtain ⟨⟨tc, fc, hr⟩, h⟩ := h
      refine kx_castS dX2_init_2_176 hr rfl q1614 ?_
      refine kW_gO dX2_init_2_179 (kf1 fl_X2_105_X16) h (fun v150020 h => ?_)
      refine kx_aload_n dX2_init_2_182 rfl rfl ?_
      refine kW_gO dX2_init_2_183 (kf1 fl_X2_20_X2) h (fun v150021 h => ?_)
      refine kx_iload_n dX2_init_2_186 rfl rfl ?_
      obtain ⟨a150022, rfl, hUa150022⟩ := h
      have h := hUa150022
      obtain ⟨hr, h⟩ := h
      refine kx_callV dX2_init_2_187 lk_X2_96 (kw_J2_get h) rfl (wR_rc hr rfl) rfl (by cases v150012 <;> cases v150020 <;> exact Nat.le_of_ble_eq_true rfl) (Nat.le_of_ble_eq_true rfl) (Nat.le_of_ble_eq_true rfl) (Nat.le_of_ble_eq_true rfl) (Nat.le_of_ble_eq_true rfl) (fun _ _ _ hx => kx_out rfl (hX _ _ _ hx)) (fun v_ σ150024 hq => ?_)
      obtain ⟨v150023, rfl, h⟩ := hq
      obtain ⟨a150025, rfl, hUa150025⟩ := h
      have h := hUa150025
      obtain ⟨⟨tc, fc, hr⟩, h⟩ := h
      refine kx_castS dX2_init_2_190 hr rfl q1614 ?_
      refine kW_gI dX2_init_2_193 (kf1 fl_X2_109_X16) h (fun v150026 h => ?_)
      refine kx_callI dX2_init_2_196 lk_X2_111 (kw_X16_init h) rfl rfl (by cases v150012 <;> exact Nat.le_of_ble_eq_true rfl) (Nat.le_of_ble_eq_true rfl) (Nat.le_of_ble_eq_true rfl) (Nat.le_of_ble_eq_true rfl) (Nat.le_of_ble_eq_true rfl) (fun _ _ _ hx => kx_out rfl (hX _ _ _ hx)) (fun v_ σ150028 hq => ?_)
      obtain ⟨rfl, h⟩ := hq
      obtain ⟨a150029, rfl, hUa150029⟩ := h
      have h := hUa150029
      obtain ⟨hr, h⟩ := h
      obtain ⟨c150032, c150033, hc, hs, h⟩ := h
      refine kx_callV dX2_init_2_199 lk_X2_92 (kw_J2_add h) rfl (wR_rc hr rfl) rfl (Nat.le_of_ble_eq_true rfl) (Nat.le_of_ble_eq_true rfl) (Nat.le_of_ble_eq_true rfl) hc hs (fun _ _ _ hx => kx_out rfl (hX _ _ _ hx)) (fun v_ σ150031 hq => ?_)
      obtain ⟨v150030, rfl, h⟩ := hq
      refine kx_pop dX2_init_2_202 rfl ?_
      refine kx_iinc2 (v := 1) dX2_init_2_203 rfl (by decide) ?_
      refine kx_goto (tgt := 149) dX2_init_2_206 (by decide) ?_
      exact kx_lwF [(0, .ref (x0)), (1, .ref (a49)), (2, .int ((l2 + (1 : Int32))))] ⟨rfl, rfl, rfl, trivial⟩ (hI149 _ _ _ _ h)
  · have h := w_iff c h
    refine kx_aload_n dX2_init_2_115 rfl rfl ?_
    refine kW_gO dX2_init_2_116 (kf1 fl_X2_14_X2) h (fun v105006 h => ?_)
    refine kW_new dX2_init_2_119 kc_X5 q679 q680 q170 rfl h (fun q105007 σ105008 h => ?_)
    refine kx_dup dX2_init_2_122 rfl ?_
    refine kx_aload_n dX2_init_2_123 rfl rfl ?_
    refine kW_gO dX2_init_2_124 (kf1 fl_X2_14_X2) h (fun v105009 h => ?_)
    refine kx_iload_n dX2_init_2_127 rfl rfl ?_
    obtain ⟨a105010, rfl, hUa105010⟩ := h
    have h := hUa105010
    obtain ⟨hr, h⟩ := h
    refine kx_callV dX2_init_2_128 lk_X2_96 (kw_J2_get h) rfl (wR_rc hr rfl) rfl (by cases v105006 <;> exact Nat.le_of_ble_eq_true rfl) (Nat.le_of_ble_eq_true rfl) (Nat.le_of_ble_eq_true rfl) (Nat.le_of_ble_eq_true rfl) (Nat.le_of_ble_eq_true rfl) (fun _ _ _ hx => kx_out rfl (hX _ _ _ hx)) (fun v_ σ105012 hq => ?_)
    obtain ⟨v105011, rfl, h⟩ := hq
    obtain ⟨a105013, rfl, hUa105013⟩ := h
    have h := hUa105013
    obtain ⟨⟨tc, fc, hr⟩, h⟩ := h
    refine kx_castS dX2_init_2_131 hr rfl q679 ?_
    obtain ⟨c105016, c105017, hc, hs, h⟩ := h
    refine kx_callI dX2_init_2_134 lk_X2_100 (kw_X5_init_2 h) rfl rfl (by cases v105006 <;> exact Nat.le_of_ble_eq_true rfl) (Nat.le_of_ble_eq_true rfl) (Nat.le_of_ble_eq_true rfl) hc hs (fun _ _ _ hx => kx_out rfl (hX _ _ _ hx)) (fun v_ σ105015 hq => ?_)
    obtain ⟨rfl, h⟩ := hq
    obtain ⟨a105018, rfl, hUa105018⟩ := h
    have h := hUa105018
    obtain ⟨hr, h⟩ := h
    obtain ⟨c105021, c105022, hc, hs, h⟩ := h
    refine kx_callV dX2_init_2_137 lk_X2_92 (kw_J2_add h) rfl (wR_rc hr rfl) rfl (Nat.le_of_ble_eq_true rfl) (Nat.le_of_ble_eq_true rfl) (Nat.le_of_ble_eq_true rfl) hc hs (fun _ _ _ hx => kx_out rfl (hX _ _ _ hx)) (fun v_ σ105020 hq => ?_)
    obtain ⟨v105019, rfl, h⟩ := hq
    refine kx_pop dX2_init_2_140 rfl ?_
    refine kx_iinc2 (v := 1) dX2_init_2_141 rfl (by decide) ?_
    refine kx_goto (tgt := 104) dX2_init_2_144 (by decide) ?_
    exact kx_lwF [(0, .ref (x0)), (1, .ref (a49)), (2, .int ((l2 + (1 : Int32))))] ⟨rfl, rfl, rfl, trivial⟩ (hI104 _ _ _ _ h)
