set_option maxRecDepth 100000
set_option maxHeartbeats 8000000 in
theorem kw_X1_isTested {G : KG} {bc bs : Nat} {σ : KHp} {x0 : Nat} {x1 : Int32} {Q : Int32 → KHp → Prop} {X : String → Nat → KHp → Prop} (h : W_X1_isTested G bc bs σ x0 x1 Q X) : kx_c G yX1_isTested (ws_ yX1_isTested cX1_isTested 2 (Option.some Jvm.ClassFile.FieldType.boolean)) 10 bc bs [.ref (x0), .int (x1)] σ (fun rv σ' => ∃ r, rv = some (.int (r)) ∧ Q r σ') X := by
  refine kx_mk3 (ini := false) rfl (Nat.le_of_ble_eq_true rfl) (fun h => by cases h) (fun Q1 X1 hQ hX => ?_)
  unfold W_X1_isTested at h
  refine kx_aload_n dX1_isTested_0 rfl rfl ?_
  refine kx_iload_n dX1_isTested_1 rfl rfl ?_
  obtain ⟨hr, h⟩ := h
  obtain ⟨c3, c4, hc, hs, h⟩ := h
  refine kx_callV dX1_isTested_2 lk_X1_255 (kw_X1_branchAt h) rfl (wR_rc hr rfl) rfl (Nat.le_of_ble_eq_true rfl) (Nat.le_of_ble_eq_true rfl) (Nat.le_of_ble_eq_true rfl) hc hs (fun _ _ _ hx => kx_out rfl (hX _ _ _ hx)) (fun v_ σ2 hq => ?_)
  obtain ⟨v1, rfl, h⟩ := hq
  obtain ⟨a5, rfl, hUa5⟩ := h
  have h := hUa5
  refine kW_gI dX1_isTested_5 (kf1 fl_X1_433_X5) h (fun v6 h => ?_)
  exact kx_zret dX1_isTested_8 rfl h.1 (hQ _ _ ⟨_, rfl, h.2⟩)
set_option maxHeartbeats 8000000 in
theorem kw_X1_trips {G : KG} {bc bs : Nat} {σ : KHp} {x0 : Nat} {x1 : Int32} {Q : Int32 → KHp → Prop} {X : String → Nat → KHp → Prop} (h : W_X1_trips G bc bs σ x0 x1 Q X) : kx_c G yX1_trips (ws_ yX1_trips cX1_trips 2 (Option.some Jvm.ClassFile.FieldType.int)) 10 bc bs [.ref (x0), .int (x1)] σ (fun rv σ' => ∃ r, rv = some (.int (r)) ∧ Q r σ') X := by
  refine kx_mk3 (ini := false) rfl (Nat.le_of_ble_eq_true rfl) (fun h => by cases h) (fun Q1 X1 hQ hX => ?_)
  unfold W_X1_trips at h
  refine kx_aload_n dX1_trips_0 rfl rfl ?_
  refine kx_iload_n dX1_trips_1 rfl rfl ?_
  obtain ⟨hr, h⟩ := h
  obtain ⟨c3, c4, hc, hs, h⟩ := h
  refine kx_callV dX1_trips_2 lk_X1_255 (kw_X1_branchAt h) rfl (wR_rc hr rfl) rfl (Nat.le_of_ble_eq_true rfl) (Nat.le_of_ble_eq_true rfl) (Nat.le_of_ble_eq_true rfl) hc hs (fun _ _ _ hx => kx_out rfl (hX _ _ _ hx)) (fun v_ σ2 hq => ?_)
  obtain ⟨v1, rfl, h⟩ := hq
  obtain ⟨a5, rfl, hUa5⟩ := h
  have h := hUa5
  refine kW_gI dX1_trips_5 (kf1 fl_X1_430_X5) h (fun v6 h => ?_)
  exact kx_iret dX1_trips_8 rfl (hQ _ _ ⟨_, rfl, h⟩)
set_option maxHeartbeats 8000000 in
theorem kw_X1_loadSample {G : KG} {bc bs : Nat} {σ : KHp} {x0 : Nat} {x1 : Int32} {x2 : Int32} {Q : UInt32 → KHp → Prop} {X : String → Nat → KHp → Prop} (h : W_X1_loadSample G bc bs σ x0 x1 x2 Q X) : kx_c G yX1_loadSample (ws_ yX1_loadSample cX1_loadSample 4 (Option.some Jvm.ClassFile.FieldType.float)) 10 bc bs [.ref (x0), .int (x1), .int (x2)] σ (fun rv σ' => ∃ r, rv = some (.float (r)) ∧ Q r σ') X := by
  refine kx_mk3 (ini := false) rfl (Nat.le_of_ble_eq_true rfl) (fun h => by cases h) (fun Q1 X1 hQ hX => ?_)
  unfold W_X1_loadSample at h
  refine kx_aload_n dX1_loadSample_0 rfl rfl ?_
  refine kx_iload_n dX1_loadSample_1 rfl rfl ?_
  obtain ⟨hr, h⟩ := h
  obtain ⟨c3, c4, hc, hs, h⟩ := h
  refine kx_callV dX1_loadSample_2 lk_X1_262 (kw_X1_loadAt h) rfl (wR_rc hr rfl) rfl (Nat.le_of_ble_eq_true rfl) (Nat.le_of_ble_eq_true rfl) (Nat.le_of_ble_eq_true rfl) hc hs (fun _ _ _ hx => kx_out rfl (hX _ _ _ hx)) (fun v_ σ2 hq => ?_)
  obtain ⟨v1, rfl, h⟩ := hq
  refine kx_astore_nO dX1_loadSample_5 rfl (Nat.le_of_ble_eq_true rfl) ?_
  refine kx_iload_n dX1_loadSample_6 rfl rfl ?_
  refine kx_i2l dX1_loadSample_7 rfl ?_
  refine kx_lconst (v := 0) dX1_loadSample_8 (by decide) ?_
  refine kx_aload_n dX1_loadSample_9 rfl rfl ?_
  refine kW_gO dX1_loadSample_10 (kf1 fl_X1_103_X1) h (fun v5 h => ?_)
  obtain ⟨a6, rfl, hUa6⟩ := h
  have h := hUa6
  refine kW_gO dX1_loadSample_13 (kf1 fl_X1_205_X2) h (fun v7 h => ?_)
  obtain ⟨a8, rfl, hUa8⟩ := h
  have h := hUa8
  refine kW_gI dX1_loadSample_16 (kf1 fl_X1_233_X3) h (fun v9 h => ?_)
  refine kx_iconst (v := 1) dX1_loadSample_19 (by decide) ?_
  refine kx_isub dX1_loadSample_20 ?_
  refine kx_i2l dX1_loadSample_21 rfl ?_
  refine kx_callS dX1_loadSample_22 lk_X1_140 (kw_X1_inRange h) rfl rfl (Nat.le_of_ble_eq_true rfl) (Nat.le_of_ble_eq_true rfl) (Nat.le_of_ble_eq_true rfl) (Nat.le_of_ble_eq_true rfl) (Nat.le_of_ble_eq_true rfl) (fun _ _ _ hx => kx_out rfl (hX _ _ _ hx)) (fun v_ σ11 hq => ?_)
  obtain ⟨v10, rfl, h⟩ := hq
  obtain ⟨c14, c15, hc, hs, h⟩ := h
  refine kx_callS dX1_loadSample_25 lk_X1_144 (kw_X1_requireArgument h) rfl rfl (Nat.le_of_ble_eq_true rfl) (Nat.le_of_ble_eq_true rfl) (Nat.le_of_ble_eq_true rfl) hc hs (fun _ _ _ hx => kx_out rfl (hX _ _ _ hx)) (fun v_ σ13 hq => ?_)
  obtain ⟨rfl, h⟩ := hq
  refine kx_aload_nO dX1_loadSample_28 rfl rfl ?_
  refine kx_aload_n dX1_loadSample_29 rfl rfl ?_
  refine kW_gO dX1_loadSample_30 (kf1 fl_X1_103_X1) h (fun v16 h => ?_)
  obtain ⟨a17, rfl, hUa17⟩ := h
  have h := hUa17
  refine kW_gO dX1_loadSample_33 (kf1 fl_X1_205_X2) h (fun v18 h => ?_)
  obtain ⟨a19, rfl, hUa19⟩ := h
  have h := hUa19
  refine kW_gO dX1_loadSample_36 (kf1 fl_X1_473_X3) h (fun v20 h => ?_)
  refine kx_iload_n dX1_loadSample_39 rfl rfl ?_
  refine kx_aload_nO dX1_loadSample_40 rfl rfl ?_
  obtain ⟨a21, rfl, hUa21⟩ := h
  have h := hUa21
  refine kW_jIa 44 [.int (x2), va_rf (v20), .ref (a21)] h (fun v22 σ23 bcv22 bsv22 h => ?_) (fun k24 jk24 h => ?_)
  · skip
    refine kx_fconst1 dX1_loadSample_44 ?_
    refine kW_jFa 48 [] h (fun v25 σ26 bcv25 bsv25 h => ?_) (fun k27 jk27 h => ?_)
    · skip
      exact kx_fret dX1_loadSample_48 rfl (hQ _ _ ⟨_, rfl, h⟩)
    · skip
      rcases h with h | h | h | h
      · skip
        obtain ⟨hr, h⟩ := h
        refine kx_callU dX1_loadSample_45 lk_X1_476_X10 (kw_X9_at h) rfl (wR_rc hr rfl) rfl (Nat.le_of_ble_eq_true rfl) (Nat.le_of_ble_eq_true rfl) (Nat.le_of_ble_eq_true rfl) (Nat.le_of_ble_eq_true rfl) (Nat.le_of_ble_eq_true rfl) (fun _ _ _ hx => kx_out rfl (hX _ _ _ hx)) (fun v_ σ_ hq => ?_)
        obtain ⟨r_, rfl, h⟩ := hq
        exact jk27 _ _ _ _ h
      · skip
        obtain ⟨hr, h⟩ := h
        refine kx_callU dX1_loadSample_45 lk_X1_476_X11 (kw_X11_at h) rfl (wR_rc hr rfl) rfl (Nat.le_of_ble_eq_true rfl) (Nat.le_of_ble_eq_true rfl) (Nat.le_of_ble_eq_true rfl) (Nat.le_of_ble_eq_true rfl) (Nat.le_of_ble_eq_true rfl) (fun _ _ _ hx => kx_out rfl (hX _ _ _ hx)) (fun v_ σ_ hq => ?_)
        obtain ⟨r_, rfl, h⟩ := hq
        exact jk27 _ _ _ _ h
      · skip
        obtain ⟨hr, h⟩ := h
        refine kx_callU dX1_loadSample_45 lk_X1_476_X12 (kw_X12_at h) rfl (wR_rc hr rfl) rfl (Nat.le_of_ble_eq_true rfl) (Nat.le_of_ble_eq_true rfl) (Nat.le_of_ble_eq_true rfl) (Nat.le_of_ble_eq_true rfl) (Nat.le_of_ble_eq_true rfl) (fun _ _ _ hx => kx_out rfl (hX _ _ _ hx)) (fun v_ σ_ hq => ?_)
        obtain ⟨r_, rfl, h⟩ := hq
        exact jk27 _ _ _ _ h
      · skip
        obtain ⟨hr, h⟩ := h
        refine kx_callU dX1_loadSample_45 lk_X1_476_X13 (kw_X13_at h) rfl (wR_rc hr rfl) rfl (Nat.le_of_ble_eq_true rfl) (Nat.le_of_ble_eq_true rfl) (Nat.le_of_ble_eq_true rfl) (Nat.le_of_ble_eq_true rfl) (Nat.le_of_ble_eq_true rfl) (fun _ _ _ hx => kx_out rfl (hX _ _ _ hx)) (fun v_ σ_ hq => ?_)
        obtain ⟨r_, rfl, h⟩ := hq
        exact jk27 _ _ _ _ h
  · skip
    rcases h with h | h | h | h
    · skip
      obtain ⟨hr, h⟩ := h
      refine kx_callU dX1_loadSample_41 lk_X1_275_X10 (kw_X9_first h) rfl (wR_rc hr rfl) rfl (by cases v20 <;> exact Nat.le_of_ble_eq_true rfl) (Nat.le_of_ble_eq_true rfl) (Nat.le_of_ble_eq_true rfl) (Nat.le_of_ble_eq_true rfl) (Nat.le_of_ble_eq_true rfl) (fun _ _ _ hx => kx_out rfl (hX _ _ _ hx)) (fun v_ σ_ hq => ?_)
      obtain ⟨r_, rfl, h⟩ := hq
      exact jk24 _ _ _ _ h
    · skip
      obtain ⟨hr, h⟩ := h
      refine kx_callU dX1_loadSample_41 lk_X1_275_X11 (kw_X11_first h) rfl (wR_rc hr rfl) rfl (by cases v20 <;> exact Nat.le_of_ble_eq_true rfl) (Nat.le_of_ble_eq_true rfl) (Nat.le_of_ble_eq_true rfl) (Nat.le_of_ble_eq_true rfl) (Nat.le_of_ble_eq_true rfl) (fun _ _ _ hx => kx_out rfl (hX _ _ _ hx)) (fun v_ σ_ hq => ?_)
      obtain ⟨r_, rfl, h⟩ := hq
      exact jk24 _ _ _ _ h
    · skip
      obtain ⟨hr, h⟩ := h
      refine kx_callU dX1_loadSample_41 lk_X1_275_X12 (kw_X12_first h) rfl (wR_rc hr rfl) rfl (by cases v20 <;> exact Nat.le_of_ble_eq_true rfl) (Nat.le_of_ble_eq_true rfl) (Nat.le_of_ble_eq_true rfl) (Nat.le_of_ble_eq_true rfl) (Nat.le_of_ble_eq_true rfl) (fun _ _ _ hx => kx_out rfl (hX _ _ _ hx)) (fun v_ σ_ hq => ?_)
      obtain ⟨r_, rfl, h⟩ := hq
      exact jk24 _ _ _ _ h
    · skip
      obtain ⟨hr, h⟩ := h
      refine kx_callU dX1_loadSample_41 lk_X1_275_X13 (kw_X13_first h) rfl (wR_rc hr rfl) rfl (by cases v20 <;> exact Nat.le_of_ble_eq_true rfl) (Nat.le_of_ble_eq_true rfl) (Nat.le_of_ble_eq_true rfl) (Nat.le_of_ble_eq_true rfl) (Nat.le_of_ble_eq_true rfl) (fun _ _ _ hx => kx_out rfl (hX _ _ _ hx)) (fun v_ σ_ hq => ?_)
      obtain ⟨r_, rfl, h⟩ := hq
      exact jk24 _ _ _ _ h
set_option maxHeartbeats 8000000 in
theorem kw_X2_findNuisance {G : KG} {σ : KHp} {x0 : Nat} {x1 : Option Nat} {Q : Int32 → KHp → Prop} {X : String → Nat → KHp → Prop} (h : W_X2_findNuisance G σ x0 x1 Q X) : kx_c G yX2_findNuisance (ws_ yX2_findNuisance cX2_findNuisance 3 (Option.some Jvm.ClassFile.FieldType.int)) 4 0 0 [.ref (x0), va_rf (x1)] σ (fun rv σ' => ∃ r, rv = some (.int (r)) ∧ Q r σ') X := by
  refine kx_mk3 (ini := false) rfl (by cases x1 <;> exact Nat.le_of_ble_eq_true rfl) (fun h => by cases h) (fun Q1 X1 hQ hX => ?_)
  unfold W_X2_findNuisance at h
  refine kx_lwF [(0, .ref x0), (1, va_rf (x1))] (by cases x1 <;> exact ⟨rfl, rfl, trivial⟩) ?_
  refine kx_iconst (v := 0) dX2_findNuisance_0 (by decide) ?_
  refine kx_istore_n dX2_findNuisance_1 rfl (Nat.le_of_ble_eq_true rfl) ?_
  refine kx_lwF [(0, .ref (x0)), (1, va_rf (x1)), (2, .int ((0 : Int32)))] (by cases x1 <;> exact ⟨rfl, rfl, rfl, trivial⟩) ?_
  refine kx_lwF [(0, .ref (x0)), (1, va_rf (x1)), (2, .int ((0 : Int32)))] ⟨rfl, rfl, rfl, trivial⟩ ?_
  refine loopW1_k (fun (σ : KHp) (l2 : Int32) => kx G (yX2_findNuisance.cls, cX2_findNuisance, 3, (Option.some Jvm.ClassFile.FieldType.int), false, []) (4, 0, 0, Q1, X1) (0) (0) σ 2 (kF [(0, .ref (x0)), (1, va_rf (x1)), (2, .int (l2))]) []) (fun kI2 hI2 σ l2 h => ?_) 9000 σ (0 : Int32) h
  unfold WB_X2_findNuisance_2 at h
  refine kx_iload_n dX2_findNuisance_2 rfl rfl ?_
  refine kx_aload_n dX2_findNuisance_3 rfl rfl ?_
  refine kW_gO dX2_findNuisance_4 (kf1 fl_X2_20_X2) h (fun v3001 h => ?_)
  obtain ⟨a3002, rfl, hUa3002⟩ := h
  have h := hUa3002
  obtain ⟨hr, h⟩ := h
  refine kx_callV dX2_findNuisance_7 lk_X2_82 (kw_J2_size h) rfl (wR_rc hr rfl) rfl (Nat.le_of_ble_eq_true rfl) (Nat.le_of_ble_eq_true rfl) (Nat.le_of_ble_eq_true rfl) (Nat.le_of_ble_eq_true rfl) (Nat.le_of_ble_eq_true rfl) (fun _ _ _ hx => kx_out rfl (hX _ _ _ hx)) (fun v_ σ3004 hq => ?_)
  obtain ⟨v3003, rfl, h⟩ := hq
  refine kx_icmp_ge (tgt := 45) dX2_findNuisance_10 (by decide) (fun c => ?_) (fun c => ?_)
  · have h := w_ift c h
    refine kx_iconst (v := -1) dX2_findNuisance_45 (by decide) ?_
    exact kx_iret dX2_findNuisance_46 rfl (hQ _ _ ⟨_, rfl, h⟩)
  · have h := w_iff c h
    refine kx_aload_n dX2_findNuisance_13 rfl rfl ?_
    refine kW_gO dX2_findNuisance_14 (kf1 fl_X2_20_X2) h (fun v3005 h => ?_)
    refine kx_iload_n dX2_findNuisance_17 rfl rfl ?_
    obtain ⟨a3006, rfl, hUa3006⟩ := h
    have h := hUa3006
    obtain ⟨hr, h⟩ := h
    refine kx_callV dX2_findNuisance_18 lk_X2_96 (kw_J2_get h) rfl (wR_rc hr rfl) rfl (Nat.le_of_ble_eq_true rfl) (Nat.le_of_ble_eq_true rfl) (Nat.le_of_ble_eq_true rfl) (Nat.le_of_ble_eq_true rfl) (Nat.le_of_ble_eq_true rfl) (fun _ _ _ hx => kx_out rfl (hX _ _ _ hx)) (fun v_ σ3008 hq => ?_)
    obtain ⟨v3007, rfl, h⟩ := hq
    obtain ⟨a3009, rfl, hUa3009⟩ := h
    have h := hUa3009
    obtain ⟨⟨tc, fc, hr⟩, h⟩ := h
    refine kx_castS dX2_findNuisance_21 hr rfl q1614 ?_
    refine kW_gO dX2_findNuisance_24 (kf1 fl_X2_105_X16) h (fun v3010 h => ?_)
    obtain ⟨a3011, rfl, hUa3011⟩ := h
    have h := hUa3011
    refine kW_gO dX2_findNuisance_27 (kf1 fl_X2_303_X14) h (fun v3012 h => ?_)
    refine kx_aload_nO dX2_findNuisance_30 rfl rfl ?_
    obtain ⟨a3013, rfl, hUa3013⟩ := h
    have h := hUa3013
    obtain ⟨hr, h⟩ := h
    refine kx_callV dX2_findNuisance_31 lk_X2_307 (kw_J9_equals h) rfl (wR_rc hr rfl) rfl (Nat.le_of_ble_eq_true rfl) (Nat.le_of_ble_eq_true rfl) (Nat.le_of_ble_eq_true rfl) (Nat.le_of_ble_eq_true rfl) (Nat.le_of_ble_eq_true rfl) (fun _ _ _ hx => kx_out rfl (hX _ _ _ hx)) (fun v_ σ3015 hq => ?_)
    obtain ⟨v3014, rfl, h⟩ := hq
    refine kx_if_eq (tgt := 39) dX2_findNuisance_34 (by decide) (fun c => ?_) (fun c => ?_)
    · have h := w_ift c h
      refine kx_iinc2 (v := 1) dX2_findNuisance_39 rfl (by decide) ?_
      refine kx_lwF [(0, .ref (x0)), (1, va_rf (x1)), (2, .int ((l2 + (1 : Int32))))] (by cases x1 <;> exact ⟨rfl, rfl, rfl, trivial⟩) ?_
      refine kx_goto (tgt := 2) dX2_findNuisance_42 (by decide) ?_
      exact kx_lwF [(0, .ref (x0)), (1, va_rf (x1)), (2, .int ((l2 + (1 : Int32))))] ⟨rfl, rfl, rfl, trivial⟩ (hI2 _ _ h)
    · have h := w_iff c h
      refine kx_iload_n dX2_findNuisance_37 rfl rfl ?_
      exact kx_iret dX2_findNuisance_38 rfl (hQ _ _ ⟨_, rfl, h⟩)
set_option maxHeartbeats 8000000 in
theorem kw_X2_drawArcs {G : KG} {σ : KHp} {x0 : Nat} {Q : KHp → Prop} {X : String → Nat → KHp → Prop} (h : W_X2_drawArcs G σ x0 Q X) : kx_c G yX2_drawArcs (ws_ yX2_drawArcs cX2_drawArcs 6 (Option.none : Option Jvm.ClassFile.FieldType)) 4 0 0 [.ref (x0)] σ (fun rv σ' => rv = none ∧ Q σ') X := by
  refine kx_mk3 (ini := false) rfl (Nat.le_of_ble_eq_true rfl) (fun h => by cases h) (fun Q1 X1 hQ hX => ?_)
  unfold W_X2_drawArcs at h
  refine kx_iconst (v := 0) dX2_drawArcs_0 (by decide) ?_
  refine kx_istore_n dX2_drawArcs_1 rfl (Nat.le_of_ble_eq_true rfl) ?_
  refine kx_lwF [(0, .ref (x0)), (1, .int ((0 : Int32)))] ⟨rfl, rfl, trivial⟩ ?_
  refine loopW1_k (fun (σ : KHp) (l1 : Int32) => kx G (yX2_drawArcs.cls, cX2_drawArcs, 6, (Option.none : Option Jvm.ClassFile.FieldType), false, []) (4, 0, 0, Q1, X1) (0) (0) σ 2 (kF [(0, .ref (x0)), (1, .int (l1))]) []) (fun kI2 hI2 σ l1 h => ?_) 9000 σ (0 : Int32) h
  unfold WB_X2_drawArcs_2 at h
  refine kx_iload_n dX2_drawArcs_2 rfl rfl ?_
  refine kx_aload_n dX2_drawArcs_3 rfl rfl ?_
  refine kW_gO dX2_drawArcs_4 (kf1 fl_X2_66_X2) h (fun v3001 h => ?_)
  obtain ⟨a3002, rfl, hUa3002⟩ := h
  have h := hUa3002
  refine kW_gO dX2_drawArcs_7 (kf1 fl_X2_157_X3) h (fun v3003 h => ?_)
  obtain ⟨a3004, rfl, hUa3004⟩ := h
  have h := hUa3004
  obtain ⟨hr, h⟩ := h
  refine kx_callV dX2_drawArcs_10 lk_X2_82 (kw_J2_size h) rfl (wR_rc hr rfl) rfl (Nat.le_of_ble_eq_true rfl) (Nat.le_of_ble_eq_true rfl) (Nat.le_of_ble_eq_true rfl) (Nat.le_of_ble_eq_true rfl) (Nat.le_of_ble_eq_true rfl) (fun _ _ _ hx => kx_out rfl (hX _ _ _ hx)) (fun v_ σ3006 hq => ?_)
  obtain ⟨v3005, rfl, h⟩ := hq
  refine kx_icmp_ge (tgt := 155) dX2_drawArcs_13 (by decide) (fun c => ?_) (fun c => ?_)
  · have h := w_ift c h
    exact kx_vret dX2_drawArcs_155 rfl (hQ _ _ ⟨rfl, h⟩)
  · have h := w_iff c h
    refine kx_aload_n dX2_drawArcs_16 rfl rfl ?_
    refine kW_gO dX2_drawArcs_17 (kf1 fl_X2_66_X2) h (fun v3007 h => ?_)
    obtain ⟨a3008, rfl, hUa3008⟩ := h
    have h := hUa3008
    refine kW_gO dX2_drawArcs_20 (kf1 fl_X2_157_X3) h (fun v3009 h => ?_)
    refine kx_iload_n dX2_drawArcs_23 rfl rfl ?_
    obtain ⟨a3010, rfl, hUa3010⟩ := h
    have h := hUa3010
    obtain ⟨hr, h⟩ := h
    refine kx_callV dX2_drawArcs_24 lk_X2_96 (kw_J2_get h) rfl (wR_rc hr rfl) rfl (Nat.le_of_ble_eq_true rfl) (Nat.le_of_ble_eq_true rfl) (Nat.le_of_ble_eq_true rfl) (Nat.le_of_ble_eq_true rfl) (Nat.le_of_ble_eq_true rfl) (fun _ _ _ hx => kx_out rfl (hX _ _ _ hx)) (fun v_ σ3012 hq => ?_)
    obtain ⟨v3011, rfl, h⟩ := hq
    obtain ⟨a3013, rfl, hUa3013⟩ := h
    have h := hUa3013
    obtain ⟨hr, h⟩ := h
    refine kW_castL dX2_drawArcs_27 (C := "ArcRecorder$Load") (by rcases hr with hr | hr | hr | hr <;> first | exact ⟨_, wR_rc hr rfl, q3475⟩ | exact ⟨_, wR_rc hr rfl, q3476⟩ | exact ⟨_, wR_rc hr rfl, q3474⟩ | exact ⟨_, wR_rc hr rfl, q3473⟩) q2188 ?_
    refine kx_astore_n dX2_drawArcs_30 rfl (Nat.le_of_ble_eq_true rfl) ?_
    refine kx_aload_n dX2_drawArcs_31 rfl rfl ?_
    refine kW_in dX2_drawArcs_32 rfl q2189 (by intro c hc; simp only [List.mem_cons, List.not_mem_nil, or_false] at hc; rcases hc with rfl | rfl | rfl <;> first | exact ⟨_, _, _, rfl, (List.mem_of_getElem? (i := 216) rfl)⟩ | exact ⟨_, _, _, rfl, (List.mem_of_getElem? (i := 217) rfl)⟩ | exact ⟨_, _, _, rfl, (List.mem_of_getElem? (i := 218) rfl)⟩) h (fun v3014 h => ?_)
    refine kx_lwF [(0, .ref (x0)), (1, .int (l1)), (2, .ref (a3013))] ⟨rfl, rfl, rfl, trivial⟩ ?_
    refine kW_jN 149 [] h (fun σ3051 h => ?_) (fun k3015 jk3015 h => ?_)
    · skip
      refine kx_iinc2 (v := 1) dX2_drawArcs_149 rfl (by decide) ?_
      refine kx_goto (tgt := 2) dX2_drawArcs_152 (by decide) ?_
      exact kx_lwF [(0, .ref (x0)), (1, .int ((l1 + (1 : Int32))))] ⟨rfl, rfl, trivial⟩ (hI2 _ _ h)
    · skip
      refine kx_if_eq (tgt := 149) dX2_drawArcs_35 (by decide) (fun c => ?_) (fun c => ?_)
      · have h := w_ift c h
        exact kx_lwF [(0, .ref (x0)), (1, .int (l1)), (2, .ref (a3013))] ⟨rfl, rfl, rfl, trivial⟩ (jk3015 _ h)
      · have h := w_iff c h
        refine kx_aload_n dX2_drawArcs_38 rfl rfl ?_
        obtain ⟨⟨tc, fc, hr⟩, h⟩ := h
        refine kx_castS dX2_drawArcs_39 hr rfl q2189 ?_
        refine kx_astore_n dX2_drawArcs_42 rfl (Nat.le_of_ble_eq_true rfl) ?_
        refine kx_aload_n dX2_drawArcs_43 rfl rfl ?_
        refine kW_gO dX2_drawArcs_44 (kf1 fl_X2_37_X2) h (fun v3016 h => ?_)
        refine kx_iload_n dX2_drawArcs_47 rfl rfl ?_
        obtain ⟨a3017, rfl, hUa3017⟩ := h
        have h := hUa3017
        refine kW_lB dX2_drawArcs_48 h (fun v3018 h => ?_)
        refine kx_if_eq (tgt := 149) dX2_drawArcs_49 (by decide) (fun c => ?_) (fun c => ?_)
        · have h := w_ift c h
          exact kx_lwF [(0, .ref (x0)), (1, .int (l1)), (2, .ref (a3013))] ⟨rfl, rfl, rfl, trivial⟩ (jk3015 _ h)
        · have h := w_iff c h
          refine kx_aload_n dX2_drawArcs_52 rfl rfl ?_
          refine kW_gO dX2_drawArcs_53 (kf1 fl_X2_14_X2) h (fun v3019 h => ?_)
          refine kx_aload_n dX2_drawArcs_56 rfl rfl ?_
          refine kW_gI dX2_drawArcs_57 (kfc fl_X2_164_X10 (kfc fl_X2_164_X11 (kfc fl_X2_164_X12 (kf1 fl_X2_164_X13)))) h (fun v3020 h => ?_)
          obtain ⟨a3021, rfl, hUa3021⟩ := h
          have h := hUa3021
          obtain ⟨hr, h⟩ := h
          refine kx_callV dX2_drawArcs_60 lk_X2_96 (kw_J2_get h) rfl (wR_rc hr rfl) rfl (Nat.le_of_ble_eq_true rfl) (Nat.le_of_ble_eq_true rfl) (Nat.le_of_ble_eq_true rfl) (Nat.le_of_ble_eq_true rfl) (Nat.le_of_ble_eq_true rfl) (fun _ _ _ hx => kx_out rfl (hX _ _ _ hx)) (fun v_ σ3023 hq => ?_)
          obtain ⟨v3022, rfl, h⟩ := hq
          obtain ⟨a3024, rfl, hUa3024⟩ := h
          have h := hUa3024
          obtain ⟨⟨tc, fc, hr⟩, h⟩ := h
          refine kx_castS dX2_drawArcs_63 hr rfl q679 ?_
          refine kW_gI dX2_drawArcs_66 (kf1 fl_X2_167_X5) h (fun v3025 h => ?_)
          refine kx_if_eq (tgt := 75) dX2_drawArcs_69 (by decide) (fun c => ?_) (fun c => ?_)
          · have h := w_ift c h
            refine kx_aload_n dX2_drawArcs_75 rfl rfl ?_
            obtain ⟨hr, h⟩ := h
            refine kx_callV dX2_drawArcs_76 lk_X2_170 (kw_X2_draw h) rfl (wR_rc hr rfl) rfl (Nat.le_of_ble_eq_true rfl) (Nat.le_of_ble_eq_true rfl) (Nat.le_of_ble_eq_true rfl) (Nat.le_of_ble_eq_true rfl) (Nat.le_of_ble_eq_true rfl) (fun _ _ _ hx => kx_out rfl (hX _ _ _ hx)) (fun v_ σ3027 hq => ?_)
            obtain ⟨v3026, rfl, h⟩ := hq
            refine kx_aload_n dX2_drawArcs_79 rfl rfl ?_
            refine kW_gI dX2_drawArcs_80 (kf1 fl_X2_173_X13) h (fun v3028 h => ?_)
            refine kW_jI 91 [] h (fun v3030 σ3031 h => ?_) (fun k3029 jk3029 h => ?_)
            · skip
              refine kx_istore dX2_drawArcs_91 (Nat.le_of_ble_eq_true rfl) ?_
              refine kx_aload_n dX2_drawArcs_93 rfl rfl ?_
              refine kW_gI dX2_drawArcs_94 (kf1 fl_X2_176_X13) h (fun v3032 h => ?_)
              refine kx_aload_n dX2_drawArcs_97 rfl rfl ?_
              obtain ⟨hr, h⟩ := h
              refine kx_callV dX2_drawArcs_98 lk_X2_170 (kw_X2_draw h) rfl (wR_rc hr rfl) rfl (Nat.le_of_ble_eq_true rfl) (Nat.le_of_ble_eq_true rfl) (Nat.le_of_ble_eq_true rfl) (Nat.le_of_ble_eq_true rfl) (Nat.le_of_ble_eq_true rfl) (fun _ _ _ hx => kx_out rfl (hX _ _ _ hx)) (fun v_ σ3034 hq => ?_)
              obtain ⟨v3033, rfl, h⟩ := hq
              refine kx_iconst (v := 3) dX2_drawArcs_101 (by decide) ?_
              obtain ⟨hz, h⟩ := h
              refine kx_irem dX2_drawArcs_102 hz ?_
              refine kx_iadd dX2_drawArcs_103 ?_
              refine kx_istore dX2_drawArcs_104 (Nat.le_of_ble_eq_true rfl) ?_
              refine kx_aload_n dX2_drawArcs_106 rfl rfl ?_
              refine kW_gO dX2_drawArcs_107 (kf1 fl_X2_48_X2) h (fun v3035 h => ?_)
              refine kx_iload_n dX2_drawArcs_110 rfl rfl ?_
              refine kx_bipush (v := 80) dX2_drawArcs_111 (by decide) ?_
              refine kx_aload_n dX2_drawArcs_113 rfl rfl ?_
              obtain ⟨hr, h⟩ := h
              refine kx_callV dX2_drawArcs_114 lk_X2_170 (kw_X2_draw h) rfl (wR_rc hr rfl) rfl (by cases v3035 <;> exact Nat.le_of_ble_eq_true rfl) (Nat.le_of_ble_eq_true rfl) (Nat.le_of_ble_eq_true rfl) (Nat.le_of_ble_eq_true rfl) (Nat.le_of_ble_eq_true rfl) (fun _ _ _ hx => kx_out rfl (hX _ _ _ hx)) (fun v_ σ3037 hq => ?_)
              obtain ⟨v3036, rfl, h⟩ := hq
              refine kx_bipush (v := 21) dX2_drawArcs_117 (by decide) ?_
              obtain ⟨hz, h⟩ := h
              refine kx_irem dX2_drawArcs_119 hz ?_
              refine kx_iadd dX2_drawArcs_120 ?_
              refine kx_i2f dX2_drawArcs_121 ?_
              refine kx_ldcf dX2_drawArcs_122 q2199 ?_
              refine kW_fdiv dX2_drawArcs_124 h (fun v3038 h => ?_)
              obtain ⟨a3039, rfl, hUa3039⟩ := h
              have h := hUa3039
              refine kW_sF dX2_drawArcs_125 h (fun σ3040 h => ?_)
              refine kx_aload_n dX2_drawArcs_126 rfl rfl ?_
              refine kW_gO dX2_drawArcs_127 (kf1 fl_X2_45_X2) h (fun v3041 h => ?_)
              refine kx_iload_n dX2_drawArcs_130 rfl rfl ?_
              refine kx_iload dX2_drawArcs_131 rfl ?_
              refine kW_jI 148 [.int (l1), va_rf (v3041)] h (fun v3046 σ3047 h => ?_) (fun k3042 jk3042 h => ?_)
              · skip
                obtain ⟨a3048, rfl, hUa3048⟩ := h
                have h := hUa3048
                refine kW_sI dX2_drawArcs_148 h (fun σ3049 h => ?_)
                exact kx_lwF [(0, .ref (x0)), (1, .int (l1)), (2, .ref (a3013))] ⟨rfl, rfl, rfl, trivial⟩ (jk3015 _ h)
              · skip
                refine kx_if_eq (tgt := 146) dX2_drawArcs_133 (by decide) (fun c => ?_) (fun c => ?_)
                · have h := w_ift c h
                  refine kx_iload dX2_drawArcs_146 rfl ?_
                  exact jk3042 _ _ h
                · have h := w_iff c h
                  refine kx_aload_n dX2_drawArcs_136 rfl rfl ?_
                  refine kW_gO dX2_drawArcs_137 (kf1 fl_X2_66_X2) h (fun v3043 h => ?_)
                  obtain ⟨a3044, rfl, hUa3044⟩ := h
                  have h := hUa3044
                  refine kW_gI dX2_drawArcs_140 (kf1 fl_X2_88_X3) h (fun v3045 h => ?_)
                  refine kx_goto (tgt := 148) dX2_drawArcs_143 (by decide) ?_
                  exact jk3042 _ _ h
            · skip
              refine kx_icmp_ge (tgt := 90) dX2_drawArcs_83 (by decide) (fun c => ?_) (fun c => ?_)
              · have h := w_ift c h
                refine kx_iconst (v := 0) dX2_drawArcs_90 (by decide) ?_
                exact jk3029 _ _ h
              · have h := w_iff c h
                refine kx_iconst (v := 1) dX2_drawArcs_86 (by decide) ?_
                refine kx_goto (tgt := 91) dX2_drawArcs_87 (by decide) ?_
                exact jk3029 _ _ h
          · have h := w_iff c h
            refine kx_goto (tgt := 149) dX2_drawArcs_72 (by decide) ?_
            exact kx_lwF [(0, .ref (x0)), (1, .int (l1)), (2, .ref (a3013))] ⟨rfl, rfl, rfl, trivial⟩ (jk3015 _ h)
set_option maxHeartbeats 8000000 in
theorem kw_X2_layRow {G : KG} {σ : KHp} {x0 : Nat} {x1 : Int32} {Q : KHp → Prop} {X : String → Nat → KHp → Prop} (h : W_X2_layRow G σ x0 x1 Q X) : kx_c G yX2_layRow (ws_ yX2_layRow cX2_layRow 6 (Option.none : Option Jvm.ClassFile.FieldType)) 4 0 0 [.ref (x0), .int (x1)] σ (fun rv σ' => rv = none ∧ Q σ') X := by
  refine kx_mk3 (ini := false) rfl (Nat.le_of_ble_eq_true rfl) (fun h => by cases h) (fun Q1 X1 hQ hX => ?_)
  unfold W_X2_layRow at h
  refine kx_aload_n dX2_layRow_0 rfl rfl ?_
  refine kW_gO dX2_layRow_1 (kf1 fl_X2_14_X2) h (fun v1 h => ?_)
  refine kx_iload_n dX2_layRow_4 rfl rfl ?_
  obtain ⟨a2, rfl, hUa2⟩ := h
  have h := hUa2
  obtain ⟨hr, h⟩ := h
  refine kx_callV dX2_layRow_5 lk_X2_96 (kw_J2_get h) rfl (wR_rc hr rfl) rfl (Nat.le_of_ble_eq_true rfl) (Nat.le_of_ble_eq_true rfl) (Nat.le_of_ble_eq_true rfl) (Nat.le_of_ble_eq_true rfl) (Nat.le_of_ble_eq_true rfl) (fun _ _ _ hx => kx_out rfl (hX _ _ _ hx)) (fun v_ σ4 hq => ?_)
  obtain ⟨v3, rfl, h⟩ := hq
  obtain ⟨a5, rfl, hUa5⟩ := h
  have h := hUa5
  obtain ⟨⟨tc, fc, hr⟩, h⟩ := h
  refine kx_castS dX2_layRow_8 hr rfl q679 ?_
  refine kW_gO dX2_layRow_11 (kf1 fl_X2_180_X5) h (fun v6 h => ?_)
  refine kx_astore_nO dX2_layRow_14 rfl (Nat.le_of_ble_eq_true rfl) ?_
  refine kx_iconst (v := 0) dX2_layRow_15 (by decide) ?_
  refine kx_istore_n dX2_layRow_16 rfl (Nat.le_of_ble_eq_true rfl) ?_
  refine kx_lwF [(0, .ref (x0)), (1, .int (x1)), (2, va_rf (v6)), (3, .int ((0 : Int32)))] (by cases v6 <;> exact ⟨rfl, rfl, rfl, rfl, trivial⟩) ?_
  refine kx_lwF [(0, .ref (x0)), (1, .int (x1)), (2, va_rf (v6)), (3, .int ((0 : Int32)))] ⟨rfl, rfl, rfl, rfl, trivial⟩ ?_
  refine loopW1_k (fun (σ : KHp) (l3 : Int32) => kx G (yX2_layRow.cls, cX2_layRow, 6, (Option.none : Option Jvm.ClassFile.FieldType), false, []) (4, 0, 0, Q1, X1) (0) (0) σ 17 (kF [(0, .ref (x0)), (1, .int (x1)), (2, va_rf (v6)), (3, .int (l3))]) []) (fun kI17 hI17 σ l3 h => ?_) 9000 σ4 (0 : Int32) h
  unfold WB_X2_layRow_17 at h
  refine kx_iload_n dX2_layRow_17 rfl rfl ?_
  refine kx_aload_nO dX2_layRow_18 rfl rfl ?_
  obtain ⟨a18001, rfl, hUa18001⟩ := h
  have h := hUa18001
  refine kW_len dX2_layRow_19 h (fun v18002 h => ?_)
  refine kx_icmp_ge (tgt := 138) dX2_layRow_20 (by decide) (fun c => ?_) (fun c => ?_)
  · have h := w_ift c h
    exact kx_vret dX2_layRow_138 rfl (hQ _ _ ⟨rfl, h⟩)
  · have h := w_iff c h
    refine kx_fconst0 dX2_layRow_23 ?_
    refine kx_fstore dX2_layRow_24 (Nat.le_of_ble_eq_true rfl) ?_
    refine kx_iconst (v := 0) dX2_layRow_26 (by decide) ?_
    refine kx_istore dX2_layRow_27 (Nat.le_of_ble_eq_true rfl) ?_
    refine kx_lwF [(0, .ref (x0)), (1, .int (x1)), (2, .ref (a18001)), (3, .int (l3)), (4, .float (FP.fconst0)), (5, .int ((0 : Int32)))] ⟨rfl, rfl, rfl, rfl, rfl, rfl, trivial⟩ ?_
    refine loopW2_k (fun (σ : KHp) (l4 : UInt32) (l5 : Int32) => kx G (yX2_layRow.cls, cX2_layRow, 6, (Option.none : Option Jvm.ClassFile.FieldType), false, []) (4, 0, 0, Q1, X1) (0) (0) σ 29 (kF [(0, .ref (x0)), (1, .int (x1)), (2, .ref (a18001)), (3, .int (l3)), (4, .float (l4)), (5, .int (l5))]) []) (fun kI29 hI29 σ l4 l5 h => ?_) 9000 σ FP.fconst0 (0 : Int32) h
    unfold WB_X2_layRow_29 at h
    refine kx_iload dX2_layRow_29 rfl ?_
    refine kx_aload_n dX2_layRow_31 rfl rfl ?_
    refine kW_gO dX2_layRow_32 (kf1 fl_X2_66_X2) h (fun v30001 h => ?_)
    obtain ⟨a30002, rfl, hUa30002⟩ := h
    have h := hUa30002
    refine kW_gO dX2_layRow_35 (kf1 fl_X2_157_X3) h (fun v30003 h => ?_)
    obtain ⟨a30004, rfl, hUa30004⟩ := h
    have h := hUa30004
    obtain ⟨hr, h⟩ := h
    refine kx_callV dX2_layRow_38 lk_X2_82 (kw_J2_size h) rfl (wR_rc hr rfl) rfl (Nat.le_of_ble_eq_true rfl) (Nat.le_of_ble_eq_true rfl) (Nat.le_of_ble_eq_true rfl) (Nat.le_of_ble_eq_true rfl) (Nat.le_of_ble_eq_true rfl) (fun _ _ _ hx => kx_out rfl (hX _ _ _ hx)) (fun v_ σ30006 hq => ?_)
    obtain ⟨v30005, rfl, h⟩ := hq
    refine kx_icmp_ge (tgt := 127) dX2_layRow_41 (by decide) (fun c => ?_) (fun c => ?_)
    · have h := w_ift c h
      refine kx_aload_n dX2_layRow_127 rfl rfl ?_
      refine kx_iload_n dX2_layRow_128 rfl rfl ?_
      refine kx_fload dX2_layRow_129 rfl ?_
      refine kW_sF dX2_layRow_131 h (fun σ30007 h => ?_)
      refine kx_iinc2 (v := 1) dX2_layRow_132 rfl (by decide) ?_
      refine kx_goto (tgt := 17) dX2_layRow_135 (by decide) ?_
      exact kx_lwF [(0, .ref (x0)), (1, .int (x1)), (2, .ref (a18001)), (3, .int ((l3 + (1 : Int32))))] ⟨rfl, rfl, rfl, rfl, trivial⟩ (hI17 _ _ h)
    · have h := w_iff c h
      refine kx_aload_n dX2_layRow_44 rfl rfl ?_
      refine kW_gO dX2_layRow_45 (kf1 fl_X2_37_X2) h (fun v30008 h => ?_)
      refine kx_iload dX2_layRow_48 rfl ?_
      obtain ⟨a30009, rfl, hUa30009⟩ := h
      have h := hUa30009
      refine kW_lB dX2_layRow_50 h (fun v30010 h => ?_)
      refine kW_jl 121 (fun v30040 : UInt32 => [(0, .ref (x0)), (1, .int (x1)), (2, .ref (a18001)), (3, .int (l3)), (4, .float (v30040)), (5, .int (l5))]) h (fun v30040 σ30041 h => ?_) (fun k30011 jk30011 h => ?_)
      · skip
        refine kx_iinc2 (v := 1) dX2_layRow_121 rfl (by decide) ?_
        refine kx_goto (tgt := 29) dX2_layRow_124 (by decide) ?_
        exact kx_lwF [(0, .ref (x0)), (1, .int (x1)), (2, .ref (a18001)), (3, .int (l3)), (4, .float (v30040)), (5, .int ((l5 + (1 : Int32))))] ⟨rfl, rfl, rfl, rfl, rfl, rfl, trivial⟩ (hI29 _ _ _ h)
      · skip
        refine kx_if_eq (tgt := 121) dX2_layRow_51 (by decide) (fun c => ?_) (fun c => ?_)
        · have h := w_ift c h
          exact kx_lwF [(0, .ref (x0)), (1, .int (x1)), (2, .ref (a18001)), (3, .int (l3)), (4, .float (l4)), (5, .int (l5))] ⟨rfl, rfl, rfl, rfl, rfl, rfl, trivial⟩ (jk30011 l4 _ h)
        · have h := w_iff c h
          refine kx_aload_n dX2_layRow_54 rfl rfl ?_
          refine kW_gO dX2_layRow_55 (kf1 fl_X2_66_X2) h (fun v30012 h => ?_)
          obtain ⟨a30013, rfl, hUa30013⟩ := h
          have h := hUa30013
          refine kW_gO dX2_layRow_58 (kf1 fl_X2_157_X3) h (fun v30014 h => ?_)
          refine kx_iload dX2_layRow_61 rfl ?_
          obtain ⟨a30015, rfl, hUa30015⟩ := h
          have h := hUa30015
          obtain ⟨hr, h⟩ := h
          refine kx_callV dX2_layRow_63 lk_X2_96 (kw_J2_get h) rfl (wR_rc hr rfl) rfl (Nat.le_of_ble_eq_true rfl) (Nat.le_of_ble_eq_true rfl) (Nat.le_of_ble_eq_true rfl) (Nat.le_of_ble_eq_true rfl) (Nat.le_of_ble_eq_true rfl) (fun _ _ _ hx => kx_out rfl (hX _ _ _ hx)) (fun v_ σ30017 hq => ?_)
          obtain ⟨v30016, rfl, h⟩ := hq
          obtain ⟨a30018, rfl, hUa30018⟩ := h
          have h := hUa30018
          obtain ⟨hr, h⟩ := h
          refine kW_castL dX2_layRow_66 (C := "ArcRecorder$Load") (by rcases hr with hr | hr | hr | hr <;> first | exact ⟨_, wR_rc hr rfl, q3475⟩ | exact ⟨_, wR_rc hr rfl, q3476⟩ | exact ⟨_, wR_rc hr rfl, q3474⟩ | exact ⟨_, wR_rc hr rfl, q3473⟩) q2188 ?_
          refine kW_gI dX2_layRow_69 (kfc fl_X2_164_X10 (kfc fl_X2_164_X11 (kfc fl_X2_164_X12 (kf1 fl_X2_164_X13)))) h (fun v30019 h => ?_)
          refine kx_iload_n dX2_layRow_72 rfl rfl ?_
          refine kx_icmp_ne (tgt := 121) dX2_layRow_73 (by decide) (fun c => ?_) (fun c => ?_)
          · have h := w_iff c h
            exact kx_lwF [(0, .ref (x0)), (1, .int (x1)), (2, .ref (a18001)), (3, .int (l3)), (4, .float (l4)), (5, .int (l5))] ⟨rfl, rfl, rfl, rfl, rfl, rfl, trivial⟩ (jk30011 l4 _ h)
          · have h := w_ift c h
            refine kx_fload dX2_layRow_76 rfl ?_
            refine kx_aload_n dX2_layRow_78 rfl rfl ?_
            refine kW_gO dX2_layRow_79 (kf1 fl_X2_66_X2) h (fun v30020 h => ?_)
            obtain ⟨a30021, rfl, hUa30021⟩ := h
            have h := hUa30021
            refine kW_gO dX2_layRow_82 (kf1 fl_X2_157_X3) h (fun v30022 h => ?_)
            refine kx_iload dX2_layRow_85 rfl ?_
            obtain ⟨a30023, rfl, hUa30023⟩ := h
            have h := hUa30023
            obtain ⟨hr, h⟩ := h
            refine kx_callV dX2_layRow_87 lk_X2_96 (kw_J2_get h) rfl (wR_rc hr rfl) rfl (Nat.le_of_ble_eq_true rfl) (Nat.le_of_ble_eq_true rfl) (Nat.le_of_ble_eq_true rfl) (Nat.le_of_ble_eq_true rfl) (Nat.le_of_ble_eq_true rfl) (fun _ _ _ hx => kx_out rfl (hX _ _ _ hx)) (fun v_ σ30025 hq => ?_)
            obtain ⟨v30024, rfl, h⟩ := hq
            obtain ⟨a30026, rfl, hUa30026⟩ := h
            have h := hUa30026
            obtain ⟨hr, h⟩ := h
            refine kW_castL dX2_layRow_90 (C := "ArcRecorder$Load") (by rcases hr with hr | hr | hr | hr <;> first | exact ⟨_, wR_rc hr rfl, q3475⟩ | exact ⟨_, wR_rc hr rfl, q3476⟩ | exact ⟨_, wR_rc hr rfl, q3474⟩ | exact ⟨_, wR_rc hr rfl, q3473⟩) q2188 ?_
            refine kx_aload_n dX2_layRow_93 rfl rfl ?_
            refine kW_gO dX2_layRow_94 (kf1 fl_X2_66_X2) h (fun v30027 h => ?_)
            obtain ⟨a30028, rfl, hUa30028⟩ := h
            have h := hUa30028
            refine kW_gO dX2_layRow_97 (kf1 fl_X2_183_X3) h (fun v30029 h => ?_)
            refine kx_iload_n dX2_layRow_100 rfl rfl ?_
            refine kx_aload_n dX2_layRow_101 rfl rfl ?_
            refine kW_gO dX2_layRow_102 (kf1 fl_X2_45_X2) h (fun v30030 h => ?_)
            refine kx_iload dX2_layRow_105 rfl ?_
            obtain ⟨a30031, rfl, hUa30031⟩ := h
            have h := hUa30031
            refine kW_lI dX2_layRow_107 h (fun v30032 h => ?_)
            refine kx_aload_n dX2_layRow_108 rfl rfl ?_
            refine kW_gO dX2_layRow_109 (kf1 fl_X2_48_X2) h (fun v30033 h => ?_)
            refine kx_iload dX2_layRow_112 rfl ?_
            obtain ⟨a30034, rfl, hUa30034⟩ := h
            have h := hUa30034
            refine kW_lF dX2_layRow_114 h (fun v30035 h => ?_)
            refine kW_jF 118 [.float (l4)] h (fun v30036 σ30037 h => ?_) (fun k30038 jk30038 h => ?_)
            · skip
              refine kW_fadd dX2_layRow_118 h (fun v30039 h => ?_)
              refine kx_fstore dX2_layRow_119 (Nat.le_of_ble_eq_true rfl) ?_
              exact kx_lwF [(0, .ref (x0)), (1, .int (x1)), (2, .ref (a18001)), (3, .int (l3)), (4, .float (v30039)), (5, .int (l5))] ⟨rfl, rfl, rfl, rfl, rfl, rfl, trivial⟩ (jk30011 v30039 _ h)
            · skip
              rcases h with h | h | h | h
              · skip
                obtain ⟨hr, h⟩ := h
                refine kx_callU dX2_layRow_115 lk_X2_186_X10 (kw_X9_at h) rfl (wR_rc hr rfl) rfl (Nat.le_of_ble_eq_true rfl) (Nat.le_of_ble_eq_true rfl) (Nat.le_of_ble_eq_true rfl) (Nat.le_of_ble_eq_true rfl) (Nat.le_of_ble_eq_true rfl) (fun _ _ _ hx => kx_out rfl (hX _ _ _ hx)) (fun v_ σ_ hq => ?_)
                obtain ⟨r_, rfl, h⟩ := hq
                exact jk30038 _ _ h
              · skip
                obtain ⟨hr, h⟩ := h
                refine kx_callU dX2_layRow_115 lk_X2_186_X11 (kw_X11_at h) rfl (wR_rc hr rfl) rfl (Nat.le_of_ble_eq_true rfl) (Nat.le_of_ble_eq_true rfl) (Nat.le_of_ble_eq_true rfl) (Nat.le_of_ble_eq_true rfl) (Nat.le_of_ble_eq_true rfl) (fun _ _ _ hx => kx_out rfl (hX _ _ _ hx)) (fun v_ σ_ hq => ?_)
                obtain ⟨r_, rfl, h⟩ := hq
                exact jk30038 _ _ h
              · skip
                obtain ⟨hr, h⟩ := h
                refine kx_callU dX2_layRow_115 lk_X2_186_X12 (kw_X12_at h) rfl (wR_rc hr rfl) rfl (Nat.le_of_ble_eq_true rfl) (Nat.le_of_ble_eq_true rfl) (Nat.le_of_ble_eq_true rfl) (Nat.le_of_ble_eq_true rfl) (Nat.le_of_ble_eq_true rfl) (fun _ _ _ hx => kx_out rfl (hX _ _ _ hx)) (fun v_ σ_ hq => ?_)
                obtain ⟨r_, rfl, h⟩ := hq
                exact jk30038 _ _ h
              · skip
                obtain ⟨hr, h⟩ := h
                refine kx_callU dX2_layRow_115 lk_X2_186_X13 (kw_X13_at h) rfl (wR_rc hr rfl) rfl (Nat.le_of_ble_eq_true rfl) (Nat.le_of_ble_eq_true rfl) (Nat.le_of_ble_eq_true rfl) (Nat.le_of_ble_eq_true rfl) (Nat.le_of_ble_eq_true rfl) (fun _ _ _ hx => kx_out rfl (hX _ _ _ hx)) (fun v_ σ_ hq => ?_)
                obtain ⟨r_, rfl, h⟩ := hq
                exact jk30038 _ _ h
set_option maxHeartbeats 8000000 in
theorem kw_X2_findFeatures {G : KG} {σ : KHp} {x0 : Nat} {x1 : Option Nat} {Q : KHp → Prop} {X : String → Nat → KHp → Prop} (h : W_X2_findFeatures G σ x0 x1 Q X) : kx_c G yX2_findFeatures (ws_ yX2_findFeatures cX2_findFeatures 3 (Option.none : Option Jvm.ClassFile.FieldType)) 4 0 0 [.ref (x0), va_rf (x1)] σ (fun rv σ' => rv = none ∧ Q σ') X := by
  refine kx_mk3 (ini := false) rfl (by cases x1 <;> exact Nat.le_of_ble_eq_true rfl) (fun h => by cases h) (fun Q1 X1 hQ hX => ?_)
  unfold W_X2_findFeatures at h
  refine kx_lwF [(0, .ref x0), (1, va_rf (x1))] (by cases x1 <;> exact ⟨rfl, rfl, trivial⟩) ?_
  refine kx_iconst (v := 0) dX2_findFeatures_0 (by decide) ?_
  refine kx_istore_n dX2_findFeatures_1 rfl (Nat.le_of_ble_eq_true rfl) ?_
  refine kx_lwF [(0, .ref (x0)), (1, va_rf (x1)), (2, .int ((0 : Int32)))] (by cases x1 <;> exact ⟨rfl, rfl, rfl, trivial⟩) ?_
  refine kx_lwF [(0, .ref (x0)), (1, va_rf (x1)), (2, .int ((0 : Int32)))] ⟨rfl, rfl, rfl, trivial⟩ ?_
  refine loopW1_k (fun (σ : KHp) (l2 : Int32) => kx G (yX2_findFeatures.cls, cX2_findFeatures, 3, (Option.none : Option Jvm.ClassFile.FieldType), false, []) (4, 0, 0, Q1, X1) (0) (0) σ 2 (kF [(0, .ref (x0)), (1, va_rf (x1)), (2, .int (l2))]) []) (fun kI2 hI2 σ l2 h => ?_) 9000 σ (0 : Int32) h
  unfold WB_X2_findFeatures_2 at h
  refine kx_iload_n dX2_findFeatures_2 rfl rfl ?_
  refine kx_bipush (v := 6) dX2_findFeatures_3 (by decide) ?_
  refine kx_icmp_ge (tgt := 41) dX2_findFeatures_5 (by decide) (fun c => ?_) (fun c => ?_)
  · have h := w_ift c h
    refine kx_aload_nO dX2_findFeatures_41 rfl rfl ?_
    refine kx_aload_nO dX2_findFeatures_42 rfl rfl ?_
    obtain ⟨a3001, rfl, hUa3001⟩ := h
    have h := hUa3001
    refine kW_gO dX2_findFeatures_43 (kf1 fl_X2_190_X5) h (fun v3002 h => ?_)
    refine kx_iconst (v := 1) dX2_findFeatures_46 (by decide) ?_
    obtain ⟨a3003, rfl, hUa3003⟩ := h
    have h := hUa3003
    refine kW_lF dX2_findFeatures_47 h (fun v3004 h => ?_)
    refine kW_p dX2_findFeatures_48 (kp1 ⟨_, _, _, _, kc_X5, fl_X2_193_X5, Or.inl rfl, rfl, rfl⟩) h (fun σ3005 h => ?_)
    exact kx_vret dX2_findFeatures_51 rfl (hQ _ _ ⟨rfl, h⟩)
  · have h := w_iff c h
    refine kx_aload_nO dX2_findFeatures_8 rfl rfl ?_
    obtain ⟨a3006, rfl, hUa3006⟩ := h
    have h := hUa3006
    refine kW_gO dX2_findFeatures_9 (kf1 fl_X2_190_X5) h (fun v3007 h => ?_)
    refine kx_iload_n dX2_findFeatures_12 rfl rfl ?_
    refine kx_aload_n dX2_findFeatures_13 rfl rfl ?_
    refine kW_gO dX2_findFeatures_14 (kf1 fl_X2_58_X2) h (fun v3008 h => ?_)
    refine kx_iload_n dX2_findFeatures_17 rfl rfl ?_
    obtain ⟨a3009, rfl, hUa3009⟩ := h
    have h := hUa3009
    refine kW_lO dX2_findFeatures_18 h (fun v3010 h => ?_)
    refine kx_aload_n dX2_findFeatures_19 rfl rfl ?_
    refine kW_gO dX2_findFeatures_20 (kf1 fl_X2_180_X5) h (fun v3011 h => ?_)
    refine kx_aload_n dX2_findFeatures_23 rfl rfl ?_
    refine kW_gO dX2_findFeatures_24 (kf1 fl_X2_190_X5) h (fun v3012 h => ?_)
    refine kx_aload_n dX2_findFeatures_27 rfl rfl ?_
    refine kW_gF dX2_findFeatures_28 (kf1 fl_X2_193_X5) h (fun v3013 h => ?_)
    obtain ⟨a3014, rfl, hUa3014⟩ := h
    have h := hUa3014
    refine kW_jF 34 [.int (l2), va_rf (v3007)] h (fun v3015 σ3016 h => ?_) (fun k3017 jk3017 h => ?_)
    · skip
      obtain ⟨a3018, rfl, hUa3018⟩ := h
      have h := hUa3018
      refine kW_sF dX2_findFeatures_34 h (fun σ3019 h => ?_)
      refine kx_iinc2 (v := 1) dX2_findFeatures_35 rfl (by decide) ?_
      refine kx_goto (tgt := 2) dX2_findFeatures_38 (by decide) ?_
      exact kx_lwF [(0, .ref (x0)), (1, .ref (a3006)), (2, .int ((l2 + (1 : Int32))))] ⟨rfl, rfl, rfl, trivial⟩ (hI2 _ _ h)
    · skip
      rcases h with h | h | h | h | h | h
      · skip
        obtain ⟨hr, h⟩ := h
        refine kx_callU dX2_findFeatures_31 lk_X2_197_X18 (kw_X18_of h) rfl (wR_rcE hr (by decide) rfl) rfl (by cases v3007 <;> exact Nat.le_of_ble_eq_true rfl) (Nat.le_of_ble_eq_true rfl) (Nat.le_of_ble_eq_true rfl) (Nat.le_of_ble_eq_true rfl) (Nat.le_of_ble_eq_true rfl) (fun _ _ _ hx => kx_out rfl (hX _ _ _ hx)) (fun v_ σ_ hq => ?_)
        obtain ⟨r_, rfl, h⟩ := hq
        exact jk3017 _ _ h
      · skip
        obtain ⟨hr, h⟩ := h
        refine kx_callU dX2_findFeatures_31 lk_X2_197_X19 (kw_X19_of h) rfl (wR_rcE hr (by decide) rfl) rfl (by cases v3007 <;> exact Nat.le_of_ble_eq_true rfl) (Nat.le_of_ble_eq_true rfl) (Nat.le_of_ble_eq_true rfl) (Nat.le_of_ble_eq_true rfl) (Nat.le_of_ble_eq_true rfl) (fun _ _ _ hx => kx_out rfl (hX _ _ _ hx)) (fun v_ σ_ hq => ?_)
        obtain ⟨r_, rfl, h⟩ := hq
        exact jk3017 _ _ h
      · skip
        obtain ⟨hr, h⟩ := h
        refine kx_callUC dX2_findFeatures_31 lkc_X21 (kw_X21_of h) rfl (wR_rcE hr (by decide) rfl) rfl (by cases v3007 <;> exact Nat.le_of_ble_eq_true rfl) (Nat.le_of_ble_eq_true rfl) (Nat.le_of_ble_eq_true rfl) (Nat.le_of_ble_eq_true rfl) (Nat.le_of_ble_eq_true rfl) (fun _ _ _ hx => kx_out rfl (hX _ _ _ hx)) (fun v_ σ_ hq => ?_)
        obtain ⟨r_, rfl, h⟩ := hq
        exact jk3017 _ _ h
      · skip
        obtain ⟨hr, h⟩ := h
        refine kx_callUC dX2_findFeatures_31 lkc_X22 (kw_X22_of h) rfl (wR_rcE hr (by decide) rfl) rfl (by cases v3007 <;> exact Nat.le_of_ble_eq_true rfl) (Nat.le_of_ble_eq_true rfl) (Nat.le_of_ble_eq_true rfl) (Nat.le_of_ble_eq_true rfl) (Nat.le_of_ble_eq_true rfl) (fun _ _ _ hx => kx_out rfl (hX _ _ _ hx)) (fun v_ σ_ hq => ?_)
        obtain ⟨r_, rfl, h⟩ := hq
        exact jk3017 _ _ h
      · skip
        obtain ⟨hr, h⟩ := h
        refine kx_callUC dX2_findFeatures_31 lkc_X23 (kw_X23_of h) rfl (wR_rcE hr (by decide) rfl) rfl (by cases v3007 <;> exact Nat.le_of_ble_eq_true rfl) (Nat.le_of_ble_eq_true rfl) (Nat.le_of_ble_eq_true rfl) (Nat.le_of_ble_eq_true rfl) (Nat.le_of_ble_eq_true rfl) (fun _ _ _ hx => kx_out rfl (hX _ _ _ hx)) (fun v_ σ_ hq => ?_)
        obtain ⟨r_, rfl, h⟩ := hq
        exact jk3017 _ _ h
      · skip
        obtain ⟨hr, h⟩ := h
        refine kx_callUC dX2_findFeatures_31 lkc_X24 (kw_X24_of h) rfl (wR_rcE hr (by decide) rfl) rfl (by cases v3007 <;> exact Nat.le_of_ble_eq_true rfl) (Nat.le_of_ble_eq_true rfl) (Nat.le_of_ble_eq_true rfl) (Nat.le_of_ble_eq_true rfl) (Nat.le_of_ble_eq_true rfl) (fun _ _ _ hx => kx_out rfl (hX _ _ _ hx)) (fun v_ σ_ hq => ?_)
        obtain ⟨r_, rfl, h⟩ := hq
        exact jk3017 _ _ h
set_option maxHeartbeats 8000000 in
theorem kw_X2_causeOf {G : KG} {σ : KHp} {x0 : Nat} {x1 : Option Nat} {Q : Int32 → KHp → Prop} {X : String → Nat → KHp → Prop} (h : W_X2_causeOf G σ x0 x1 Q X) : kx_c G yX2_causeOf (ws_ yX2_causeOf cX2_causeOf 3 (Option.some Jvm.ClassFile.FieldType.int)) 4 0 0 [.ref (x0), va_rf (x1)] σ (fun rv σ' => ∃ r, rv = some (.int (r)) ∧ Q r σ') X := by
  refine kx_mk3 (ini := false) rfl (by cases x1 <;> exact Nat.le_of_ble_eq_true rfl) (fun h => by cases h) (fun Q1 X1 hQ hX => ?_)
  unfold W_X2_causeOf at h
  refine kx_lwF [(0, .ref x0), (1, va_rf (x1))] (by cases x1 <;> exact ⟨rfl, rfl, trivial⟩) ?_
  refine kx_iconst (v := 0) dX2_causeOf_0 (by decide) ?_
  refine kx_istore_n dX2_causeOf_1 rfl (Nat.le_of_ble_eq_true rfl) ?_
  refine kx_lwF [(0, .ref (x0)), (1, va_rf (x1)), (2, .int ((0 : Int32)))] (by cases x1 <;> exact ⟨rfl, rfl, rfl, trivial⟩) ?_
  refine kx_lwF [(0, .ref (x0)), (1, va_rf (x1)), (2, .int ((0 : Int32)))] ⟨rfl, rfl, rfl, trivial⟩ ?_
  refine loopW1_k (fun (σ : KHp) (l2 : Int32) => kx G (yX2_causeOf.cls, cX2_causeOf, 3, (Option.some Jvm.ClassFile.FieldType.int), false, []) (4, 0, 0, Q1, X1) (0) (0) σ 2 (kF [(0, .ref (x0)), (1, va_rf (x1)), (2, .int (l2))]) []) (fun kI2 hI2 σ l2 h => ?_) 9000 σ (0 : Int32) h
  unfold WB_X2_causeOf_2 at h
  refine kx_iload_n dX2_causeOf_2 rfl rfl ?_
  refine kx_aload_n dX2_causeOf_3 rfl rfl ?_
  refine kW_gO dX2_causeOf_4 (kf1 fl_X2_66_X2) h (fun v3001 h => ?_)
  obtain ⟨a3002, rfl, hUa3002⟩ := h
  have h := hUa3002
  refine kW_gO dX2_causeOf_7 (kf1 fl_X2_207_X3) h (fun v3003 h => ?_)
  obtain ⟨a3004, rfl, hUa3004⟩ := h
  have h := hUa3004
  obtain ⟨hr, h⟩ := h
  refine kx_callV dX2_causeOf_10 lk_X2_82 (kw_J2_size h) rfl (wR_rc hr rfl) rfl (Nat.le_of_ble_eq_true rfl) (Nat.le_of_ble_eq_true rfl) (Nat.le_of_ble_eq_true rfl) (Nat.le_of_ble_eq_true rfl) (Nat.le_of_ble_eq_true rfl) (fun _ _ _ hx => kx_out rfl (hX _ _ _ hx)) (fun v_ σ3006 hq => ?_)
  obtain ⟨v3005, rfl, h⟩ := hq
  refine kx_icmp_ge (tgt := 62) dX2_causeOf_13 (by decide) (fun c => ?_) (fun c => ?_)
  · have h := w_ift c h
    refine kx_iconst (v := -1) dX2_causeOf_62 (by decide) ?_
    exact kx_iret dX2_causeOf_63 rfl (hQ _ _ ⟨_, rfl, h⟩)
  · have h := w_iff c h
    refine kx_aload_nO dX2_causeOf_16 rfl rfl ?_
    obtain ⟨a3007, rfl, hUa3007⟩ := h
    have h := hUa3007
    refine kW_gI dX2_causeOf_17 (kf1 fl_X2_201_X5) h (fun v3008 h => ?_)
    refine kx_iload_n dX2_causeOf_20 rfl rfl ?_
    refine kx_callSN dX2_causeOf_21 lk_X2_216 (kw_X1_has h) rfl rfl (Nat.le_of_ble_eq_true rfl) (Nat.le_of_ble_eq_true rfl) (Nat.le_of_ble_eq_true rfl) (Nat.le_of_ble_eq_true rfl) (Nat.le_of_ble_eq_true rfl) (fun _ _ _ hx => kx_out rfl (hX _ _ _ hx)) (fun v_ σ3010 hq => ?_)
    obtain ⟨v3009, rfl, h⟩ := hq
    refine kx_if_eq (tgt := 56) dX2_causeOf_24 (by decide) (fun c => ?_) (fun c => ?_)
    · have h := w_ift c h
      refine kx_iinc2 (v := 1) dX2_causeOf_56 rfl (by decide) ?_
      refine kx_goto (tgt := 2) dX2_causeOf_59 (by decide) ?_
      exact kx_lwF [(0, .ref (x0)), (1, .ref (a3007)), (2, .int ((l2 + (1 : Int32))))] ⟨rfl, rfl, rfl, trivial⟩ (hI2 _ _ h)
    · have h := w_iff c h
      refine kx_aload_n dX2_causeOf_27 rfl rfl ?_
      refine kW_gI dX2_causeOf_28 (kf1 fl_X2_204_X5) h (fun v3011 h => ?_)
      refine kx_if_eq (tgt := 54) dX2_causeOf_31 (by decide) (fun c => ?_) (fun c => ?_)
      · have h := w_ift c h
        refine kx_iload_n dX2_causeOf_54 rfl rfl ?_
        exact kx_iret dX2_causeOf_55 rfl (hQ _ _ ⟨_, rfl, h⟩)
      · have h := w_iff c h
        refine kx_aload_n dX2_causeOf_34 rfl rfl ?_
        refine kW_gO dX2_causeOf_35 (kf1 fl_X2_66_X2) h (fun v3012 h => ?_)
        obtain ⟨a3013, rfl, hUa3013⟩ := h
        have h := hUa3013
        refine kW_gO dX2_causeOf_38 (kf1 fl_X2_207_X3) h (fun v3014 h => ?_)
        refine kx_iload_n dX2_causeOf_41 rfl rfl ?_
        obtain ⟨a3015, rfl, hUa3015⟩ := h
        have h := hUa3015
        obtain ⟨hr, h⟩ := h
        refine kx_callV dX2_causeOf_42 lk_X2_96 (kw_J2_get h) rfl (wR_rc hr rfl) rfl (Nat.le_of_ble_eq_true rfl) (Nat.le_of_ble_eq_true rfl) (Nat.le_of_ble_eq_true rfl) (Nat.le_of_ble_eq_true rfl) (Nat.le_of_ble_eq_true rfl) (fun _ _ _ hx => kx_out rfl (hX _ _ _ hx)) (fun v_ σ3017 hq => ?_)
        obtain ⟨v3016, rfl, h⟩ := hq
        obtain ⟨a3018, rfl, hUa3018⟩ := h
        have h := hUa3018
        obtain ⟨⟨tc, fc, hr⟩, h⟩ := h
        refine kx_castS dX2_causeOf_45 hr rfl q2280 ?_
        refine kW_gI dX2_causeOf_48 (kf1 fl_X2_220_X14) h (fun v3019 h => ?_)
        refine kx_if_eq (tgt := 56) dX2_causeOf_51 (by decide) (fun c => ?_) (fun c => ?_)
        · have h := w_ift c h
          refine kx_iinc2 (v := 1) dX2_causeOf_56 rfl (by decide) ?_
          refine kx_goto (tgt := 2) dX2_causeOf_59 (by decide) ?_
          exact kx_lwF [(0, .ref (x0)), (1, .ref (a3007)), (2, .int ((l2 + (1 : Int32))))] ⟨rfl, rfl, rfl, trivial⟩ (hI2 _ _ h)
        · have h := w_iff c h
          refine kx_iload_n dX2_causeOf_54 rfl rfl ?_
          exact kx_iret dX2_causeOf_55 rfl (hQ _ _ ⟨_, rfl, h⟩)
set_option maxHeartbeats 8000000 in
theorem kw_X3_findLoad {G : KG} {σ : KHp} {x0 : Nat} {x1 : Option Nat} {Q : Int32 → KHp → Prop} {X : String → Nat → KHp → Prop} (h : W_X3_findLoad G σ x0 x1 Q X) : kx_c G yX3_findLoad (ws_ yX3_findLoad cX3_findLoad 3 (Option.some Jvm.ClassFile.FieldType.int)) 4 0 0 [.ref (x0), va_rf (x1)] σ (fun rv σ' => ∃ r, rv = some (.int (r)) ∧ Q r σ') X := by
  refine kx_mk3 (ini := false) rfl (by cases x1 <;> exact Nat.le_of_ble_eq_true rfl) (fun h => by cases h) (fun Q1 X1 hQ hX => ?_)
  unfold W_X3_findLoad at h
  refine kx_lwF [(0, .ref x0), (1, va_rf (x1))] (by cases x1 <;> exact ⟨rfl, rfl, trivial⟩) ?_
  refine kx_iconst (v := 0) dX3_findLoad_0 (by decide) ?_
  refine kx_istore_n dX3_findLoad_1 rfl (Nat.le_of_ble_eq_true rfl) ?_
  refine kx_lwF [(0, .ref (x0)), (1, va_rf (x1)), (2, .int ((0 : Int32)))] (by cases x1 <;> exact ⟨rfl, rfl, rfl, trivial⟩) ?_
  refine kx_lwF [(0, .ref (x0)), (1, va_rf (x1)), (2, .int ((0 : Int32)))] ⟨rfl, rfl, rfl, trivial⟩ ?_
  refine loopW1_k (fun (σ : KHp) (l2 : Int32) => kx G (yX3_findLoad.cls, cX3_findLoad, 3, (Option.some Jvm.ClassFile.FieldType.int), false, []) (4, 0, 0, Q1, X1) (0) (0) σ 2 (kF [(0, .ref (x0)), (1, va_rf (x1)), (2, .int (l2))]) []) (fun kI2 hI2 σ l2 h => ?_) 9000 σ (0 : Int32) h
  unfold WB_X3_findLoad_2 at h
  refine kx_iload_n dX3_findLoad_2 rfl rfl ?_
  refine kx_aload_n dX3_findLoad_3 rfl rfl ?_
  refine kW_gO dX3_findLoad_4 (kf1 fl_X3_38_X3) h (fun v3001 h => ?_)
  obtain ⟨a3002, rfl, hUa3002⟩ := h
  have h := hUa3002
  obtain ⟨hr, h⟩ := h
  refine kx_callV dX3_findLoad_7 lk_X3_45 (kw_J2_size h) rfl (wR_rc hr rfl) rfl (Nat.le_of_ble_eq_true rfl) (Nat.le_of_ble_eq_true rfl) (Nat.le_of_ble_eq_true rfl) (Nat.le_of_ble_eq_true rfl) (Nat.le_of_ble_eq_true rfl) (fun _ _ _ hx => kx_out rfl (hX _ _ _ hx)) (fun v_ σ3004 hq => ?_)
  obtain ⟨v3003, rfl, h⟩ := hq
  refine kx_icmp_ge (tgt := 42) dX3_findLoad_10 (by decide) (fun c => ?_) (fun c => ?_)
  · have h := w_ift c h
    refine kx_iconst (v := -1) dX3_findLoad_42 (by decide) ?_
    exact kx_iret dX3_findLoad_43 rfl (hQ _ _ ⟨_, rfl, h⟩)
  · have h := w_iff c h
    refine kx_aload_n dX3_findLoad_13 rfl rfl ?_
    refine kW_gO dX3_findLoad_14 (kf1 fl_X3_38_X3) h (fun v3005 h => ?_)
    refine kx_iload_n dX3_findLoad_17 rfl rfl ?_
    obtain ⟨a3006, rfl, hUa3006⟩ := h
    have h := hUa3006
    obtain ⟨hr, h⟩ := h
    refine kx_callV dX3_findLoad_18 lk_X3_49 (kw_J2_get h) rfl (wR_rc hr rfl) rfl (Nat.le_of_ble_eq_true rfl) (Nat.le_of_ble_eq_true rfl) (Nat.le_of_ble_eq_true rfl) (Nat.le_of_ble_eq_true rfl) (Nat.le_of_ble_eq_true rfl) (fun _ _ _ hx => kx_out rfl (hX _ _ _ hx)) (fun v_ σ3008 hq => ?_)
    obtain ⟨v3007, rfl, h⟩ := hq
    obtain ⟨a3009, rfl, hUa3009⟩ := h
    have h := hUa3009
    obtain ⟨hr, h⟩ := h
    refine kW_castL dX3_findLoad_21 (C := "ArcRecorder$Load") (by rcases hr with hr | hr | hr | hr <;> first | exact ⟨_, wR_rc hr rfl, q3475⟩ | exact ⟨_, wR_rc hr rfl, q3476⟩ | exact ⟨_, wR_rc hr rfl, q3474⟩ | exact ⟨_, wR_rc hr rfl, q3473⟩) q1264 ?_
    refine kW_gO dX3_findLoad_24 (kfc fl_X3_55_X10 (kfc fl_X3_55_X11 (kfc fl_X3_55_X12 (kf1 fl_X3_55_X13)))) h (fun v3010 h => ?_)
    refine kx_aload_nO dX3_findLoad_27 rfl rfl ?_
    obtain ⟨a3011, rfl, hUa3011⟩ := h
    have h := hUa3011
    obtain ⟨hr, h⟩ := h
    refine kx_callV dX3_findLoad_28 lk_X3_59 (kw_J9_equals h) rfl (wR_rc hr rfl) rfl (Nat.le_of_ble_eq_true rfl) (Nat.le_of_ble_eq_true rfl) (Nat.le_of_ble_eq_true rfl) (Nat.le_of_ble_eq_true rfl) (Nat.le_of_ble_eq_true rfl) (fun _ _ _ hx => kx_out rfl (hX _ _ _ hx)) (fun v_ σ3013 hq => ?_)
    obtain ⟨v3012, rfl, h⟩ := hq
    refine kx_if_eq (tgt := 36) dX3_findLoad_31 (by decide) (fun c => ?_) (fun c => ?_)
    · have h := w_ift c h
      refine kx_iinc2 (v := 1) dX3_findLoad_36 rfl (by decide) ?_
      refine kx_lwF [(0, .ref (x0)), (1, va_rf (x1)), (2, .int ((l2 + (1 : Int32))))] (by cases x1 <;> exact ⟨rfl, rfl, rfl, trivial⟩) ?_
      refine kx_goto (tgt := 2) dX3_findLoad_39 (by decide) ?_
      exact kx_lwF [(0, .ref (x0)), (1, va_rf (x1)), (2, .int ((l2 + (1 : Int32))))] ⟨rfl, rfl, rfl, trivial⟩ (hI2 _ _ h)
    · have h := w_iff c h
      refine kx_iload_n dX3_findLoad_34 rfl rfl ?_
      exact kx_iret dX3_findLoad_35 rfl (hQ _ _ ⟨_, rfl, h⟩)
set_option maxHeartbeats 8000000 in
theorem kw_X3_findSignature {G : KG} {σ : KHp} {x0 : Nat} {x1 : Option Nat} {Q : Int32 → KHp → Prop} {X : String → Nat → KHp → Prop} (h : W_X3_findSignature G σ x0 x1 Q X) : kx_c G yX3_findSignature (ws_ yX3_findSignature cX3_findSignature 3 (Option.some Jvm.ClassFile.FieldType.int)) 4 0 0 [.ref (x0), va_rf (x1)] σ (fun rv σ' => ∃ r, rv = some (.int (r)) ∧ Q r σ') X := by
  refine kx_mk3 (ini := false) rfl (by cases x1 <;> exact Nat.le_of_ble_eq_true rfl) (fun h => by cases h) (fun Q1 X1 hQ hX => ?_)
  unfold W_X3_findSignature at h
  refine kx_lwF [(0, .ref x0), (1, va_rf (x1))] (by cases x1 <;> exact ⟨rfl, rfl, trivial⟩) ?_
  refine kx_iconst (v := 0) dX3_findSignature_0 (by decide) ?_
  refine kx_istore_n dX3_findSignature_1 rfl (Nat.le_of_ble_eq_true rfl) ?_
  refine kx_lwF [(0, .ref (x0)), (1, va_rf (x1)), (2, .int ((0 : Int32)))] (by cases x1 <;> exact ⟨rfl, rfl, rfl, trivial⟩) ?_
  refine kx_lwF [(0, .ref (x0)), (1, va_rf (x1)), (2, .int ((0 : Int32)))] ⟨rfl, rfl, rfl, trivial⟩ ?_
  refine loopW1_k (fun (σ : KHp) (l2 : Int32) => kx G (yX3_findSignature.cls, cX3_findSignature, 3, (Option.some Jvm.ClassFile.FieldType.int), false, []) (4, 0, 0, Q1, X1) (0) (0) σ 2 (kF [(0, .ref (x0)), (1, va_rf (x1)), (2, .int (l2))]) []) (fun kI2 hI2 σ l2 h => ?_) 9000 σ (0 : Int32) h
  unfold WB_X3_findSignature_2 at h
  refine kx_iload_n dX3_findSignature_2 rfl rfl ?_
  refine kx_aload_n dX3_findSignature_3 rfl rfl ?_
  refine kW_gO dX3_findSignature_4 (kf1 fl_X3_41_X3) h (fun v3001 h => ?_)
  obtain ⟨a3002, rfl, hUa3002⟩ := h
  have h := hUa3002
  obtain ⟨hr, h⟩ := h
  refine kx_callV dX3_findSignature_7 lk_X3_45 (kw_J2_size h) rfl (wR_rc hr rfl) rfl (Nat.le_of_ble_eq_true rfl) (Nat.le_of_ble_eq_true rfl) (Nat.le_of_ble_eq_true rfl) (Nat.le_of_ble_eq_true rfl) (Nat.le_of_ble_eq_true rfl) (fun _ _ _ hx => kx_out rfl (hX _ _ _ hx)) (fun v_ σ3004 hq => ?_)
  obtain ⟨v3003, rfl, h⟩ := hq
  refine kx_icmp_ge (tgt := 42) dX3_findSignature_10 (by decide) (fun c => ?_) (fun c => ?_)
  · have h := w_ift c h
    refine kx_iconst (v := -1) dX3_findSignature_42 (by decide) ?_
    exact kx_iret dX3_findSignature_43 rfl (hQ _ _ ⟨_, rfl, h⟩)
  · have h := w_iff c h
    refine kx_aload_n dX3_findSignature_13 rfl rfl ?_
    refine kW_gO dX3_findSignature_14 (kf1 fl_X3_41_X3) h (fun v3005 h => ?_)
    refine kx_iload_n dX3_findSignature_17 rfl rfl ?_
    obtain ⟨a3006, rfl, hUa3006⟩ := h
    have h := hUa3006
    obtain ⟨hr, h⟩ := h
    refine kx_callV dX3_findSignature_18 lk_X3_49 (kw_J2_get h) rfl (wR_rc hr rfl) rfl (Nat.le_of_ble_eq_true rfl) (Nat.le_of_ble_eq_true rfl) (Nat.le_of_ble_eq_true rfl) (Nat.le_of_ble_eq_true rfl) (Nat.le_of_ble_eq_true rfl) (fun _ _ _ hx => kx_out rfl (hX _ _ _ hx)) (fun v_ σ3008 hq => ?_)
    obtain ⟨v3007, rfl, h⟩ := hq
    obtain ⟨a3009, rfl, hUa3009⟩ := h
    have h := hUa3009
    obtain ⟨⟨tc, fc, hr⟩, h⟩ := h
    refine kx_castS dX3_findSignature_21 hr rfl q1270 ?_
    refine kW_gO dX3_findSignature_24 (kf1 fl_X3_67_X14) h (fun v3010 h => ?_)
    refine kx_aload_nO dX3_findSignature_27 rfl rfl ?_
    obtain ⟨a3011, rfl, hUa3011⟩ := h
    have h := hUa3011
    obtain ⟨hr, h⟩ := h
    refine kx_callV dX3_findSignature_28 lk_X3_59 (kw_J9_equals h) rfl (wR_rc hr rfl) rfl (Nat.le_of_ble_eq_true rfl) (Nat.le_of_ble_eq_true rfl) (Nat.le_of_ble_eq_true rfl) (Nat.le_of_ble_eq_true rfl) (Nat.le_of_ble_eq_true rfl) (fun _ _ _ hx => kx_out rfl (hX _ _ _ hx)) (fun v_ σ3013 hq => ?_)
    obtain ⟨v3012, rfl, h⟩ := hq
    refine kx_if_eq (tgt := 36) dX3_findSignature_31 (by decide) (fun c => ?_) (fun c => ?_)
    · have h := w_ift c h
      refine kx_iinc2 (v := 1) dX3_findSignature_36 rfl (by decide) ?_
      refine kx_lwF [(0, .ref (x0)), (1, va_rf (x1)), (2, .int ((l2 + (1 : Int32))))] (by cases x1 <;> exact ⟨rfl, rfl, rfl, trivial⟩) ?_
      refine kx_goto (tgt := 2) dX3_findSignature_39 (by decide) ?_
      exact kx_lwF [(0, .ref (x0)), (1, va_rf (x1)), (2, .int ((l2 + (1 : Int32))))] ⟨rfl, rfl, rfl, trivial⟩ (hI2 _ _ h)
    · have h := w_iff c h
      refine kx_iload_n dX3_findSignature_34 rfl rfl ?_
      exact kx_iret dX3_findSignature_35 rfl (hQ _ _ ⟨_, rfl, h⟩)
set_option maxHeartbeats 8000000 in
theorem kw_X5_suspects {G : KG} {σ : KHp} {x0 : Nat} {x1 : Int32} {Q : Int32 → KHp → Prop} {X : String → Nat → KHp → Prop} (h : W_X5_suspects G σ x0 x1 Q X) : kx_c G yX5_suspects (ws_ yX5_suspects cX5_suspects 4 (Option.some Jvm.ClassFile.FieldType.int)) 2 0 0 [.ref (x0), .int (x1)] σ (fun rv σ' => ∃ r, rv = some (.int (r)) ∧ Q r σ') X := by
  refine kx_mk3 (ini := false) rfl (Nat.le_of_ble_eq_true rfl) (fun h => by cases h) (fun Q1 X1 hQ hX => ?_)
  unfold W_X5_suspects at h
  refine kx_iconst (v := 0) dX5_suspects_0 (by decide) ?_
  refine kx_istore_n dX5_suspects_1 rfl (Nat.le_of_ble_eq_true rfl) ?_
  refine kx_iconst (v := 0) dX5_suspects_2 (by decide) ?_
  refine kx_istore_n dX5_suspects_3 rfl (Nat.le_of_ble_eq_true rfl) ?_
  refine kx_lwF [(0, .ref (x0)), (1, .int (x1)), (2, .int ((0 : Int32))), (3, .int ((0 : Int32)))] ⟨rfl, rfl, rfl, rfl, trivial⟩ ?_
  refine loopW2_k (fun (σ : KHp) (l2 : Int32) (l3 : Int32) => kx G (yX5_suspects.cls, cX5_suspects, 4, (Option.some Jvm.ClassFile.FieldType.int), false, []) (2, 0, 0, Q1, X1) (0) (0) σ 4 (kF [(0, .ref (x0)), (1, .int (x1)), (2, .int (l2)), (3, .int (l3))]) []) (fun kI4 hI4 σ l2 l3 h => ?_) 9000 σ (0 : Int32) (0 : Int32) h
  unfold WB_X5_suspects_4 at h
  refine kx_iload_n dX5_suspects_4 rfl rfl ?_
  refine kx_iload_n dX5_suspects_5 rfl rfl ?_
  refine kx_icmp_ge (tgt := 31) dX5_suspects_6 (by decide) (fun c => ?_) (fun c => ?_)
  · have h := w_ift c h
    refine kx_iload_n dX5_suspects_31 rfl rfl ?_
    exact kx_iret dX5_suspects_32 rfl (hQ _ _ ⟨_, rfl, h⟩)
  · have h := w_iff c h
    refine kx_iload_n dX5_suspects_9 rfl rfl ?_
    refine kx_aload_n dX5_suspects_10 rfl rfl ?_
    refine kx_iload_n dX5_suspects_11 rfl rfl ?_
    obtain ⟨hr, h⟩ := h
    refine kx_callV dX5_suspects_12 lk_X5_58 (kw_X5_was h) rfl (wR_rc hr rfl) rfl (Nat.le_of_ble_eq_true rfl) (Nat.le_of_ble_eq_true rfl) (Nat.le_of_ble_eq_true rfl) (Nat.le_of_ble_eq_true rfl) (Nat.le_of_ble_eq_true rfl) (fun _ _ _ hx => kx_out rfl (hX _ _ _ hx)) (fun v_ σ5002 hq => ?_)
    obtain ⟨v5001, rfl, h⟩ := hq
    refine kW_jI 23 [.int (l2)] h (fun v5004 σ5005 h => ?_) (fun k5003 jk5003 h => ?_)
    · skip
      refine kx_iadd dX5_suspects_23 ?_
      refine kx_istore_n dX5_suspects_24 rfl (Nat.le_of_ble_eq_true rfl) ?_
      refine kx_iinc2 (v := 1) dX5_suspects_25 rfl (by decide) ?_
      refine kx_goto (tgt := 4) dX5_suspects_28 (by decide) ?_
      exact kx_lwF [(0, .ref (x0)), (1, .int (x1)), (2, .int ((l2 + v5004))), (3, .int ((l3 + (1 : Int32))))] ⟨rfl, rfl, rfl, rfl, trivial⟩ (hI4 _ _ _ h)
    · skip
      refine kx_if_eq (tgt := 22) dX5_suspects_15 (by decide) (fun c => ?_) (fun c => ?_)
      · have h := w_ift c h
        refine kx_iconst (v := 0) dX5_suspects_22 (by decide) ?_
        exact jk5003 _ _ h
      · have h := w_iff c h
        refine kx_iconst (v := 1) dX5_suspects_18 (by decide) ?_
        refine kx_goto (tgt := 23) dX5_suspects_19 (by decide) ?_
        exact jk5003 _ _ h
set_option maxHeartbeats 8000000 in
theorem kw_X5_margin {G : KG} {σ : KHp} {x0 : Nat} {x1 : Int32} {x2 : Int32} {Q : Int32 → KHp → Prop} {X : String → Nat → KHp → Prop} (h : W_X5_margin G σ x0 x1 x2 Q X) : kx_c G yX5_margin (ws_ yX5_margin cX5_margin 4 (Option.some Jvm.ClassFile.FieldType.int)) 3 0 0 [.ref (x0), .int (x1), .int (x2)] σ (fun rv σ' => ∃ r, rv = some (.int (r)) ∧ Q r σ') X := by
  refine kx_mk3 (ini := false) rfl (Nat.le_of_ble_eq_true rfl) (fun h => by cases h) (fun Q1 X1 hQ hX => ?_)
  unfold W_X5_margin at h
  refine kx_iconst (v := 1) dX5_margin_0 (by decide) ?_
  refine kx_istore_n dX5_margin_1 rfl (Nat.le_of_ble_eq_true rfl) ?_
  refine kx_lwF [(0, .ref (x0)), (1, .int (x1)), (2, .int (x2)), (3, .int ((1 : Int32)))] ⟨rfl, rfl, rfl, rfl, trivial⟩ ?_
  refine loopW1_k (fun (σ : KHp) (l3 : Int32) => kx G (yX5_margin.cls, cX5_margin, 4, (Option.some Jvm.ClassFile.FieldType.int), false, []) (3, 0, 0, Q1, X1) (0) (0) σ 2 (kF [(0, .ref (x0)), (1, .int (x1)), (2, .int (x2)), (3, .int (l3))]) []) (fun kI2 hI2 σ l3 h => ?_) 9000 σ (1 : Int32) h
  unfold WB_X5_margin_2 at h
  refine kx_iload_n dX5_margin_2 rfl rfl ?_
  refine kx_aload_n dX5_margin_3 rfl rfl ?_
  refine kx_iload_n dX5_margin_4 rfl rfl ?_
  refine kx_iload_n dX5_margin_5 rfl rfl ?_
  refine kx_isub dX5_margin_6 ?_
  obtain ⟨hr, h⟩ := h
  refine kx_callV dX5_margin_7 lk_X5_62 (kw_X5_suspects h) rfl (wR_rc hr rfl) rfl (Nat.le_of_ble_eq_true rfl) (Nat.le_of_ble_eq_true rfl) (Nat.le_of_ble_eq_true rfl) (Nat.le_of_ble_eq_true rfl) (Nat.le_of_ble_eq_true rfl) (fun _ _ _ hx => kx_out rfl (hX _ _ _ hx)) (fun v_ σ3002 hq => ?_)
  obtain ⟨v3001, rfl, h⟩ := hq
  refine kx_iadd dX5_margin_10 ?_
  refine kx_iload_n dX5_margin_11 rfl rfl ?_
  refine kx_icmp_ge (tgt := 21) dX5_margin_12 (by decide) (fun c => ?_) (fun c => ?_)
  · have h := w_ift c h
    refine kx_iload_n dX5_margin_21 rfl rfl ?_
    exact kx_iret dX5_margin_22 rfl (hQ _ _ ⟨_, rfl, h⟩)
  · have h := w_iff c h
    refine kx_iinc2 (v := 1) dX5_margin_15 rfl (by decide) ?_
    refine kx_goto (tgt := 2) dX5_margin_18 (by decide) ?_
    exact kx_lwF [(0, .ref (x0)), (1, .int (x1)), (2, .int (x2)), (3, .int ((l3 + (1 : Int32))))] ⟨rfl, rfl, rfl, rfl, trivial⟩ (hI2 _ _ h)
set_option maxHeartbeats 8000000 in
theorem kw_X7_require {G : KG} {bc bs : Nat} {σ : KHp} {x0 : Nat} {x1 : Int32} {x2 : Int32} {Q : KHp → Prop} {X : String → Nat → KHp → Prop} (h : W_X7_require G bc bs σ x0 x1 x2 Q X) : kx_c G yX7_require (ws_ yX7_require cX7_require 3 (Option.none : Option Jvm.ClassFile.FieldType)) 4 bc bs [.ref (x0), .int (x1), .int (x2)] σ (fun rv σ' => rv = none ∧ Q σ') X := by
  refine kx_mk3 (ini := false) rfl (Nat.le_of_ble_eq_true rfl) (fun h => by cases h) (fun Q1 X1 hQ hX => ?_)
  unfold W_X7_require at h
  refine kx_iload_n dX7_require_0 rfl rfl ?_
  refine kx_if_ne (tgt := 17) dX7_require_1 (by decide) (fun c => ?_) (fun c => ?_)
  · have h := w_iff c h
    exact kx_vret dX7_require_17 rfl (hQ _ _ ⟨rfl, h⟩)
  · have h := w_ift c h
    refine kW_new dX7_require_4 kc_X8 q1020 q1021 q175 rfl h (fun q1 σ2 h => ?_)
    refine kx_dup dX7_require_7 rfl ?_
    refine kx_iload_n dX7_require_8 rfl rfl ?_
    refine kx_aload_n dX7_require_9 rfl rfl ?_
    refine kW_gI dX7_require_10 (kf1 fl_X7_68_X7) h (fun v3 h => ?_)
    refine kx_callI dX7_require_13 lk_X7_112 (kw_X8_init h) rfl rfl (Nat.le_of_ble_eq_true rfl) (Nat.le_of_ble_eq_true rfl) (Nat.le_of_ble_eq_true rfl) (Nat.le_of_ble_eq_true rfl) (Nat.le_of_ble_eq_true rfl) (fun _ _ _ hx => kx_out rfl (hX _ _ _ hx)) (fun v_ σ5 hq => ?_)
    obtain ⟨rfl, h⟩ := hq
    obtain ⟨⟨tc, fc, hr⟩, h⟩ := h
    exact kx_athrow dX7_require_16 hr rfl (kx_out rfl (hX _ _ _ h))
set_option maxHeartbeats 8000000 in
theorem kw_X14_matches {G : KG} {σ : KHp} {x0 : Nat} {x1 : Option Nat} {Q : Int32 → KHp → Prop} {X : String → Nat → KHp → Prop} (h : W_X14_matches G σ x0 x1 Q X) : kx_c G yX14_matches (ws_ yX14_matches cX14_matches 3 (Option.some Jvm.ClassFile.FieldType.boolean)) 4 0 0 [.ref (x0), va_rf (x1)] σ (fun rv σ' => ∃ r, rv = some (.int (r)) ∧ Q r σ') X := by
  refine kx_mk3 (ini := false) rfl (by cases x1 <;> exact Nat.le_of_ble_eq_true rfl) (fun h => by cases h) (fun Q1 X1 hQ hX => ?_)
  unfold W_X14_matches at h
  refine kx_lwF [(0, .ref x0), (1, va_rf (x1))] (by cases x1 <;> exact ⟨rfl, rfl, trivial⟩) ?_
  refine kx_iconst (v := 0) dX14_matches_0 (by decide) ?_
  refine kx_istore_n dX14_matches_1 rfl (Nat.le_of_ble_eq_true rfl) ?_
  refine kx_lwF [(0, .ref (x0)), (1, va_rf (x1)), (2, .int ((0 : Int32)))] (by cases x1 <;> exact ⟨rfl, rfl, rfl, trivial⟩) ?_
  refine kx_lwF [(0, .ref (x0)), (1, va_rf (x1)), (2, .int ((0 : Int32)))] ⟨rfl, rfl, rfl, trivial⟩ ?_
  refine loopW1_k (fun (σ : KHp) (l2 : Int32) => kx G (yX14_matches.cls, cX14_matches, 3, (Option.some Jvm.ClassFile.FieldType.boolean), false, []) (4, 0, 0, Q1, X1) (0) (0) σ 2 (kF [(0, .ref (x0)), (1, va_rf (x1)), (2, .int (l2))]) []) (fun kI2 hI2 σ l2 h => ?_) 9000 σ (0 : Int32) h
  unfold WB_X14_matches_2 at h
  refine kx_iload_n dX14_matches_2 rfl rfl ?_
  refine kx_aload_n dX14_matches_3 rfl rfl ?_
  refine kW_gO dX14_matches_4 (kf1 fl_X14_12_X14) h (fun v3001 h => ?_)
  obtain ⟨a3002, rfl, hUa3002⟩ := h
  have h := hUa3002
  obtain ⟨hr, h⟩ := h
  refine kx_callV dX14_matches_7 lk_X14_26 (kw_J2_size h) rfl (wR_rc hr rfl) rfl (Nat.le_of_ble_eq_true rfl) (Nat.le_of_ble_eq_true rfl) (Nat.le_of_ble_eq_true rfl) (Nat.le_of_ble_eq_true rfl) (Nat.le_of_ble_eq_true rfl) (fun _ _ _ hx => kx_out rfl (hX _ _ _ hx)) (fun v_ σ3004 hq => ?_)
  obtain ⟨v3003, rfl, h⟩ := hq
  refine kx_icmp_ge (tgt := 39) dX14_matches_10 (by decide) (fun c => ?_) (fun c => ?_)
  · have h := w_ift c h
    refine kx_iconst (v := 1) dX14_matches_39 (by decide) ?_
    exact kx_zret dX14_matches_40 rfl rfl (hQ _ _ ⟨_, rfl, h⟩)
  · have h := w_iff c h
    refine kx_aload_n dX14_matches_13 rfl rfl ?_
    refine kW_gO dX14_matches_14 (kf1 fl_X14_12_X14) h (fun v3005 h => ?_)
    refine kx_iload_n dX14_matches_17 rfl rfl ?_
    obtain ⟨a3006, rfl, hUa3006⟩ := h
    have h := hUa3006
    obtain ⟨hr, h⟩ := h
    refine kx_callV dX14_matches_18 lk_X14_30 (kw_J2_get h) rfl (wR_rc hr rfl) rfl (Nat.le_of_ble_eq_true rfl) (Nat.le_of_ble_eq_true rfl) (Nat.le_of_ble_eq_true rfl) (Nat.le_of_ble_eq_true rfl) (Nat.le_of_ble_eq_true rfl) (fun _ _ _ hx => kx_out rfl (hX _ _ _ hx)) (fun v_ σ3008 hq => ?_)
    obtain ⟨v3007, rfl, h⟩ := hq
    obtain ⟨a3009, rfl, hUa3009⟩ := h
    have h := hUa3009
    obtain ⟨⟨tc, fc, hr⟩, h⟩ := h
    refine kx_castS dX14_matches_21 hr rfl q2287 ?_
    refine kx_aload_nO dX14_matches_24 rfl rfl ?_
    obtain ⟨hr, h⟩ := h
    refine kx_callV dX14_matches_25 lk_X14_36 (kw_X15_holds h) rfl (wR_rc hr rfl) rfl (Nat.le_of_ble_eq_true rfl) (Nat.le_of_ble_eq_true rfl) (Nat.le_of_ble_eq_true rfl) (Nat.le_of_ble_eq_true rfl) (Nat.le_of_ble_eq_true rfl) (fun _ _ _ hx => kx_out rfl (hX _ _ _ hx)) (fun v_ σ3011 hq => ?_)
    obtain ⟨v3010, rfl, h⟩ := hq
    refine kx_if_ne (tgt := 33) dX14_matches_28 (by decide) (fun c => ?_) (fun c => ?_)
    · have h := w_iff c h
      refine kx_iinc2 (v := 1) dX14_matches_33 rfl (by decide) ?_
      refine kx_lwF [(0, .ref (x0)), (1, va_rf (x1)), (2, .int ((l2 + (1 : Int32))))] (by cases x1 <;> exact ⟨rfl, rfl, rfl, trivial⟩) ?_
      refine kx_goto (tgt := 2) dX14_matches_36 (by decide) ?_
      exact kx_lwF [(0, .ref (x0)), (1, va_rf (x1)), (2, .int ((l2 + (1 : Int32))))] ⟨rfl, rfl, rfl, trivial⟩ (hI2 _ _ h)
    · have h := w_ift c h
      refine kx_iconst (v := 0) dX14_matches_31 (by decide) ?_
      exact kx_zret dX14_matches_32 rfl rfl (hQ _ _ ⟨_, rfl, h⟩)
set_option maxHeartbeats 8000000 in
theorem kw_J2_grow_2 {G : KG} {bc bs : Nat} {σ : KHp} {x0 : Nat} {x1 : Int32} {Q : Option Nat → KHp → Prop} {X : String → Nat → KHp → Prop} (h : W_J2_grow_2 G bc bs σ x0 x1 Q X) : kx_c G yJ2_grow_2 (ws_ yJ2_grow_2 cJ2_grow_2 4 (Option.some (Jvm.ClassFile.FieldType.array (Jvm.ClassFile.FieldType.object "java/lang/Object")))) 4 bc bs [.ref (x0), .int (x1)] σ (fun rv σ' => ∃ r, rv = some (va_rf (r)) ∧ Q r σ') X := by
  refine kx_mk3 (ini := false) (by decide) (Nat.le_of_ble_eq_true rfl) (fun h => by cases h) (fun Q1 X1 hQ hX => ?_)
  unfold W_J2_grow_2 at h
  refine kx_aload_n dJ2_grow_2_0 rfl rfl ?_
  refine kW_gO dJ2_grow_2_1 (kf1 fl_J2_9_J2) h (fun v1 h => ?_)
  obtain ⟨a2, rfl, hUa2⟩ := h
  have h := hUa2
  refine kW_len dJ2_grow_2_4 h (fun v3 h => ?_)
  refine kx_istore_n dJ2_grow_2_5 rfl (Nat.le_of_ble_eq_true rfl) ?_
  refine kx_iload_n dJ2_grow_2_6 rfl rfl ?_
  refine kx_if_gt (tgt := 20) dJ2_grow_2_7 (by decide) (fun c => ?_) (fun c => ?_)
  · have h := w_ift c h
    refine kx_iload_n dJ2_grow_2_20 rfl rfl ?_
    refine kx_iload_n dJ2_grow_2_21 rfl rfl ?_
    refine kx_iload_n dJ2_grow_2_22 rfl rfl ?_
    refine kx_isub dJ2_grow_2_23 ?_
    refine kx_iload_n dJ2_grow_2_24 rfl rfl ?_
    refine kx_iconst (v := 1) dJ2_grow_2_25 (by decide) ?_
    refine kx_ishr dJ2_grow_2_26 ?_
    refine kx_callS dJ2_grow_2_27 lk_J2_73 (kw_J11_newLength h) rfl rfl (Nat.le_of_ble_eq_true rfl) (Nat.le_of_ble_eq_true rfl) (Nat.le_of_ble_eq_true rfl) (Nat.le_of_ble_eq_true rfl) (Nat.le_of_ble_eq_true rfl) (fun _ _ _ hx => kx_out rfl (hX _ _ _ hx)) (fun v_ σ5 hq => ?_)
    obtain ⟨v4, rfl, h⟩ := hq
    refine kx_istore_n dJ2_grow_2_30 rfl (Nat.le_of_ble_eq_true rfl) ?_
    refine kx_aload_n dJ2_grow_2_31 rfl rfl ?_
    refine kx_aload_n dJ2_grow_2_32 rfl rfl ?_
    refine kW_gO dJ2_grow_2_33 (kf1 fl_J2_9_J2) h (fun v6 h => ?_)
    refine kx_iload_n dJ2_grow_2_36 rfl rfl ?_
    obtain ⟨c9, c10, hc, hs, h⟩ := h
    refine kx_callS dJ2_grow_2_37 lk_J2_66 (kw_J13_copyOf_2 h) rfl rfl (Nat.le_of_ble_eq_true rfl) (Nat.le_of_ble_eq_true rfl) (Nat.le_of_ble_eq_true rfl) hc hs (fun _ _ _ hx => kx_out rfl (hX _ _ _ hx)) (fun v_ σ8 hq => ?_)
    obtain ⟨v7, rfl, h⟩ := hq
    refine kx_dup_x1 dJ2_grow_2_40 (va_cat _) rfl ?_
    refine kW_p dJ2_grow_2_41 (kp1 ⟨_, _, _, _, kc_J2, fl_J2_9_J2, Or.inl rfl, (by cases v7 <;> rfl), (by cases v7 <;> rfl)⟩) h (fun σ11 h => ?_)
    exact kx_aret dJ2_grow_2_44 rfl (Or.inr ⟨_, rfl⟩) (va_rfs _) (hQ _ _ ⟨_, rfl, h⟩)
  · have h := w_iff c h
    refine kx_aload_n dJ2_grow_2_10 rfl rfl ?_
    refine kW_gO dJ2_grow_2_11 (kf1 fl_J2_9_J2) h (fun v12 h => ?_)
    refine kx_gets dJ2_grow_2_14 kt_java_util_ArrayList_DEFAULTCAPACITY_EMPTY_ELEMENTDATA q761 (Or.inl rfl) ?_
    refine kx_acmp_eq (rx := (v12)) (ry := (some (kx_K G 1))) (tgt := 45) dJ2_grow_2_17 (by decide) (fun c => ?_) (fun c => ?_)
    · have h := w_ift c h
      refine kx_aload_n dJ2_grow_2_45 rfl rfl ?_
      refine kx_bipush (v := 10) dJ2_grow_2_46 (by decide) ?_
      refine kx_iload_n dJ2_grow_2_48 rfl rfl ?_
      refine kx_callS dJ2_grow_2_49 lk_J2_79 (kw_J12_max h) rfl rfl (Nat.le_of_ble_eq_true rfl) (Nat.le_of_ble_eq_true rfl) (Nat.le_of_ble_eq_true rfl) (Nat.le_of_ble_eq_true rfl) (Nat.le_of_ble_eq_true rfl) (fun _ _ _ hx => kx_out rfl (hX _ _ _ hx)) (fun v_ σ14 hq => ?_)
      obtain ⟨v13, rfl, h⟩ := hq
      refine kW_newq dJ2_grow_2_52 q228 q229 h (fun n17 q15 σ16 h => ?_)
      refine kx_dup_x1 dJ2_grow_2_55 rfl rfl ?_
      refine kW_p dJ2_grow_2_56 (kp1 ⟨_, _, _, _, kc_J2, fl_J2_9_J2, Or.inl rfl, rfl, rfl⟩) h (fun σ18 h => ?_)
      exact kx_aret dJ2_grow_2_59 rfl (Or.inr ⟨_, rfl⟩) (Or.inr ⟨_, rfl⟩) (hQ _ _ ⟨some _, rfl, h⟩)
    · have h := w_iff c h
      refine kx_iload_n dJ2_grow_2_20 rfl rfl ?_
      refine kx_iload_n dJ2_grow_2_21 rfl rfl ?_
      refine kx_iload_n dJ2_grow_2_22 rfl rfl ?_
      refine kx_isub dJ2_grow_2_23 ?_
      refine kx_iload_n dJ2_grow_2_24 rfl rfl ?_
      refine kx_iconst (v := 1) dJ2_grow_2_25 (by decide) ?_
      refine kx_ishr dJ2_grow_2_26 ?_
      refine kx_callS dJ2_grow_2_27 lk_J2_73 (kw_J11_newLength h) rfl rfl (Nat.le_of_ble_eq_true rfl) (Nat.le_of_ble_eq_true rfl) (Nat.le_of_ble_eq_true rfl) (Nat.le_of_ble_eq_true rfl) (Nat.le_of_ble_eq_true rfl) (fun _ _ _ hx => kx_out rfl (hX _ _ _ hx)) (fun v_ σ20 hq => ?_)
      obtain ⟨v19, rfl, h⟩ := hq
      refine kx_istore_n dJ2_grow_2_30 rfl (Nat.le_of_ble_eq_true rfl) ?_
      refine kx_aload_n dJ2_grow_2_31 rfl rfl ?_
      refine kx_aload_n dJ2_grow_2_32 rfl rfl ?_
      refine kW_gO dJ2_grow_2_33 (kf1 fl_J2_9_J2) h (fun v21 h => ?_)
      refine kx_iload_n dJ2_grow_2_36 rfl rfl ?_
      obtain ⟨c24, c25, hc, hs, h⟩ := h
      refine kx_callS dJ2_grow_2_37 lk_J2_66 (kw_J13_copyOf_2 h) rfl rfl (Nat.le_of_ble_eq_true rfl) (Nat.le_of_ble_eq_true rfl) (Nat.le_of_ble_eq_true rfl) hc hs (fun _ _ _ hx => kx_out rfl (hX _ _ _ hx)) (fun v_ σ23 hq => ?_)
      obtain ⟨v22, rfl, h⟩ := hq
      refine kx_dup_x1 dJ2_grow_2_40 (va_cat _) rfl ?_
      refine kW_p dJ2_grow_2_41 (kp1 ⟨_, _, _, _, kc_J2, fl_J2_9_J2, Or.inl rfl, (by cases v22 <;> rfl), (by cases v22 <;> rfl)⟩) h (fun σ26 h => ?_)
      exact kx_aret dJ2_grow_2_44 rfl (Or.inr ⟨_, rfl⟩) (va_rfs _) (hQ _ _ ⟨_, rfl, h⟩)
set_option maxHeartbeats 8000000 in
theorem kw_J2_indexOfRange {G : KG} {σ : KHp} {x0 : Nat} {x1 : Option Nat} {x2 : Int32} {x3 : Int32} {Q : Int32 → KHp → Prop} {X : String → Nat → KHp → Prop} (h : W_J2_indexOfRange G σ x0 x1 x2 x3 Q X) : kx_c G yJ2_indexOfRange (ws_ yJ2_indexOfRange cJ2_indexOfRange 6 (Option.some Jvm.ClassFile.FieldType.int)) 3 0 0 [.ref (x0), va_rf (x1), .int (x2), .int (x3)] σ (fun rv σ' => ∃ r, rv = some (.int (r)) ∧ Q r σ') X := by
  refine kx_mk3 (ini := false) (by decide) (by cases x1 <;> exact Nat.le_of_ble_eq_true rfl) (fun h => by cases h) (fun Q1 X1 hQ hX => ?_)
  unfold W_J2_indexOfRange at h
  refine kx_lwF [(0, .ref x0), (1, va_rf (x1)), (2, .int (x2)), (3, .int (x3))] (by cases x1 <;> exact ⟨rfl, rfl, rfl, rfl, trivial⟩) ?_
  refine kx_aload_n dJ2_indexOfRange_0 rfl rfl ?_
  refine kW_gO dJ2_indexOfRange_1 (kf1 fl_J2_9_J2) h (fun v1 h => ?_)
  refine kx_astoreO dJ2_indexOfRange_4 (Nat.le_of_ble_eq_true rfl) ?_
  refine kx_aload_nO dJ2_indexOfRange_6 rfl rfl ?_
  refine kx_ifnonnullO (tgt := 39) dJ2_indexOfRange_7 (by decide) (fun c => ?_) (fun c => ?_)
  · have h := w_ift c h
    refine kx_iload_n dJ2_indexOfRange_10 rfl rfl ?_
    refine kx_istore dJ2_indexOfRange_11 (Nat.le_of_ble_eq_true rfl) ?_
    refine kx_lwF [(3, .int (x3)), (4, va_rf (v1)), (5, .int (x2))] (by cases v1 <;> exact ⟨rfl, rfl, rfl, trivial⟩) ?_
    refine kx_lwF [(3, .int (x3)), (4, va_rf (v1)), (5, .int (x2))] ⟨rfl, rfl, rfl, trivial⟩ ?_
    refine loopW1_k (fun (σ : KHp) (l5 : Int32) => kx G (yJ2_indexOfRange.cls, cJ2_indexOfRange, 6, (Option.some Jvm.ClassFile.FieldType.int), false, []) (3, 0, 0, Q1, X1) (0) (0) σ 13 (kF [(3, .int (x3)), (4, va_rf (v1)), (5, .int (l5))]) []) (fun kI13 hI13 σ l5 h => ?_) 9000 σ x2 h
    unfold WB_J2_indexOfRange_13 at h
    refine kx_iload dJ2_indexOfRange_13 rfl ?_
    refine kx_iload_n dJ2_indexOfRange_15 rfl rfl ?_
    refine kx_icmp_ge (tgt := 36) dJ2_indexOfRange_16 (by decide) (fun c => ?_) (fun c => ?_)
    · have h := w_ift c h
      refine kx_goto (tgt := 69) dJ2_indexOfRange_36 (by decide) ?_
      refine kx_iconst (v := -1) dJ2_indexOfRange_69 (by decide) ?_
      exact kx_iret dJ2_indexOfRange_70 rfl (hQ _ _ ⟨_, rfl, h⟩)
    · have h := w_iff c h
      refine kx_aloadO dJ2_indexOfRange_19 rfl ?_
      refine kx_iload dJ2_indexOfRange_21 rfl ?_
      obtain ⟨a14001, rfl, hUa14001⟩ := h
      have h := hUa14001
      refine kW_lO dJ2_indexOfRange_23 h (fun v14002 h => ?_)
      refine kx_ifnonnullO (tgt := 30) dJ2_indexOfRange_24 (by decide) (fun c => ?_) (fun c => ?_)
      · have h := w_ift c h
        refine kx_iload dJ2_indexOfRange_27 rfl ?_
        exact kx_iret dJ2_indexOfRange_29 rfl (hQ _ _ ⟨_, rfl, h⟩)
      · have h := w_iff c h
        refine kx_iinc2 (v := 1) dJ2_indexOfRange_30 rfl (by decide) ?_
        refine kx_goto (tgt := 13) dJ2_indexOfRange_33 (by decide) ?_
        exact kx_lwF [(3, .int (x3)), (4, .ref (a14001)), (5, .int ((l5 + (1 : Int32))))] ⟨rfl, rfl, rfl, trivial⟩ (hI13 _ _ h)
  · have h := w_iff c h
    refine kx_iload_n dJ2_indexOfRange_39 rfl rfl ?_
    refine kx_istore dJ2_indexOfRange_40 (Nat.le_of_ble_eq_true rfl) ?_
    refine kx_lwF [(1, va_rf (x1)), (3, .int (x3)), (4, va_rf (v1)), (5, .int (x2))] (by cases v1 <;> exact ⟨rfl, rfl, rfl, rfl, trivial⟩) ?_
    refine kx_lwF [(1, va_rf (x1)), (3, .int (x3)), (4, va_rf (v1)), (5, .int (x2))] ⟨rfl, rfl, rfl, rfl, trivial⟩ ?_
    refine loopW1_k (fun (σ : KHp) (l5 : Int32) => kx G (yJ2_indexOfRange.cls, cJ2_indexOfRange, 6, (Option.some Jvm.ClassFile.FieldType.int), false, []) (3, 0, 0, Q1, X1) (0) (0) σ 42 (kF [(1, va_rf (x1)), (3, .int (x3)), (4, va_rf (v1)), (5, .int (l5))]) []) (fun kI42 hI42 σ l5 h => ?_) 9000 σ x2 h
    unfold WB_J2_indexOfRange_42 at h
    refine kx_iload dJ2_indexOfRange_42 rfl ?_
    refine kx_iload_n dJ2_indexOfRange_44 rfl rfl ?_
    refine kx_icmp_ge (tgt := 69) dJ2_indexOfRange_45 (by decide) (fun c => ?_) (fun c => ?_)
    · have h := w_ift c h
      refine kx_iconst (v := -1) dJ2_indexOfRange_69 (by decide) ?_
      exact kx_iret dJ2_indexOfRange_70 rfl (hQ _ _ ⟨_, rfl, h⟩)
    · have h := w_iff c h
      refine kx_aload_nO dJ2_indexOfRange_48 rfl rfl ?_
      refine kx_aloadO dJ2_indexOfRange_49 rfl ?_
      refine kx_iload dJ2_indexOfRange_51 rfl ?_
      obtain ⟨a43001, rfl, hUa43001⟩ := h
      have h := hUa43001
      refine kW_lO dJ2_indexOfRange_53 h (fun v43002 h => ?_)
      obtain ⟨a43003, rfl, hUa43003⟩ := h
      have h := hUa43003
      obtain ⟨hr, h⟩ := h
      refine kx_callU dJ2_indexOfRange_54 lk_J2_93_J9 (kw_J9_equals h) rfl (wR_rc hr rfl) rfl (Nat.le_of_ble_eq_true rfl) (Nat.le_of_ble_eq_true rfl) (Nat.le_of_ble_eq_true rfl) (Nat.le_of_ble_eq_true rfl) (Nat.le_of_ble_eq_true rfl) (fun _ _ _ hx => kx_out rfl (hX _ _ _ hx)) (fun v_ σ43005 hq => ?_)
      obtain ⟨v43004, rfl, h⟩ := hq
      refine kx_if_eq (tgt := 63) dJ2_indexOfRange_57 (by decide) (fun c => ?_) (fun c => ?_)
      · have h := w_ift c h
        refine kx_iinc2 (v := 1) dJ2_indexOfRange_63 rfl (by decide) ?_
        refine kx_goto (tgt := 42) dJ2_indexOfRange_66 (by decide) ?_
        exact kx_lwF [(1, .ref (a43003)), (3, .int (x3)), (4, .ref (a43001)), (5, .int ((l5 + (1 : Int32))))] ⟨rfl, rfl, rfl, rfl, trivial⟩ (hI42 _ _ h)
      · have h := w_iff c h
        refine kx_iload dJ2_indexOfRange_60 rfl ?_
        exact kx_iret dJ2_indexOfRange_62 rfl (hQ _ _ ⟨_, rfl, h⟩)
set_option maxHeartbeats 8000000 in
theorem kw_J7_init {G : KG} {bc bs : Nat} {σ : KHp} {x0 : Nat} {x1 : Int32} {Q : KHp → Prop} {X : String → Nat → KHp → Prop} (h : W_J7_init G bc bs σ x0 x1 Q X) : kx_c G yJ7_init (ws_ yJ7_init cJ7_init 2 (Option.none : Option Jvm.ClassFile.FieldType)) 3 bc bs [.ref (x0), .int (x1)] σ (fun rv σ' => rv = none ∧ Q σ') X := by
  refine kx_mk3 (ini := true) (by decide) (Nat.le_of_ble_eq_true rfl) (fun _ => rfl) (fun Q1 X1 hQ hX => ?_)
  unfold W_J7_init at h
  refine kx_aload_n dJ7_init_0 rfl rfl ?_
  refine kx_oinit dJ7_init_1 q285 q206 q207 (Nat.le_of_ble_eq_true rfl) (Nat.le_of_ble_eq_true rfl) ?_
  refine kx_gets dJ7_init_4 kt_java_lang_String_COMPACT_STRINGS q286 (Or.inl rfl) ?_
  refine kx_if_eq (tgt := 25) dJ7_init_7 (by decide) (fun c => ?_) (fun c => ?_)
  · have h := w_ift c h
    refine kx_aload_n dJ7_init_25 rfl rfl ?_
    refine kx_iload_n dJ7_init_26 rfl rfl ?_
    obtain ⟨c3, c4, hc, hs, h⟩ := h
    refine kx_callS dJ7_init_27 lk_J7_26 (kw_J10_newBytesFor h) rfl rfl (Nat.le_of_ble_eq_true rfl) (Nat.le_of_ble_eq_true rfl) (Nat.le_of_ble_eq_true rfl) hc hs (fun _ _ _ hx => kx_out rfl (hX _ _ _ hx)) (fun v_ σ2 hq => ?_)
    obtain ⟨v1, rfl, h⟩ := hq
    refine kW_p dJ7_init_30 (kp1 ⟨_, _, _, _, kc_J8, fl_J7_15_J8, Or.inl rfl, (by cases v1 <;> rfl), (by cases v1 <;> rfl)⟩) h (fun σ5 h => ?_)
    refine kx_aload_n dJ7_init_33 rfl rfl ?_
    refine kx_iconst (v := 1) dJ7_init_34 (by decide) ?_
    obtain ⟨⟨hb, hb2⟩, h⟩ := h
    refine kW_p dJ7_init_35 (kp1 ⟨_, _, _, _, kc_J8, fl_J7_22_J8, Or.inl rfl, hb, hb2⟩) h (fun σ6 h => ?_)
    exact kx_vret dJ7_init_38 rfl (hQ _ _ ⟨rfl, h⟩)
  · have h := w_iff c h
    refine kx_aload_n dJ7_init_10 rfl rfl ?_
    refine kx_iload_n dJ7_init_11 rfl rfl ?_
    refine kW_newa dJ7_init_12 rfl q310 (fun _ _ => rfl) h (fun n9 q7 σ8 h => ?_)
    refine kW_p dJ7_init_14 (kp1 ⟨_, _, _, _, kc_J8, fl_J7_15_J8, Or.inl rfl, rfl, rfl⟩) h (fun σ10 h => ?_)
    refine kx_aload_n dJ7_init_17 rfl rfl ?_
    refine kx_iconst (v := 0) dJ7_init_18 (by decide) ?_
    obtain ⟨⟨hb, hb2⟩, h⟩ := h
    refine kW_p dJ7_init_19 (kp1 ⟨_, _, _, _, kc_J8, fl_J7_22_J8, Or.inl rfl, hb, hb2⟩) h (fun σ11 h => ?_)
    refine kx_goto (tgt := 38) dJ7_init_22 (by decide) ?_
    exact kx_vret dJ7_init_38 rfl (hQ _ _ ⟨rfl, h⟩)
set_option maxHeartbeats 8000000 in
theorem kw_J7_newCapacity {G : KG} {σ : KHp} {x0 : Nat} {x1 : Int32} {Q : Int32 → KHp → Prop} {X : String → Nat → KHp → Prop} (h : W_J7_newCapacity G σ x0 x1 Q X) : kx_c G yJ7_newCapacity (ws_ yJ7_newCapacity cJ7_newCapacity 6 (Option.some Jvm.ClassFile.FieldType.int)) 3 0 0 [.ref (x0), .int (x1)] σ (fun rv σ' => ∃ r, rv = some (.int (r)) ∧ Q r σ') X := by
  refine kx_mk3 (ini := false) (by decide) (Nat.le_of_ble_eq_true rfl) (fun h => by cases h) (fun Q1 X1 hQ hX => ?_)
  unfold W_J7_newCapacity at h
  refine kx_aload_n dJ7_newCapacity_0 rfl rfl ?_
  refine kW_gO dJ7_newCapacity_1 (kf1 fl_J7_15_J8) h (fun v1 h => ?_)
  obtain ⟨a2, rfl, hUa2⟩ := h
  have h := hUa2
  refine kW_len dJ7_newCapacity_4 h (fun v3 h => ?_)
  refine kx_istore_n dJ7_newCapacity_5 rfl (Nat.le_of_ble_eq_true rfl) ?_
  refine kx_iload_n dJ7_newCapacity_6 rfl rfl ?_
  refine kx_aload_n dJ7_newCapacity_7 rfl rfl ?_
  refine kW_gI dJ7_newCapacity_8 (kf1 fl_J7_22_J8) h (fun v4 h => ?_)
  refine kx_ishl dJ7_newCapacity_11 ?_
  refine kx_istore_n dJ7_newCapacity_12 rfl (Nat.le_of_ble_eq_true rfl) ?_
  refine kx_iload_n dJ7_newCapacity_13 rfl rfl ?_
  refine kx_iload_n dJ7_newCapacity_14 rfl rfl ?_
  refine kx_isub dJ7_newCapacity_15 ?_
  refine kx_istore dJ7_newCapacity_16 (Nat.le_of_ble_eq_true rfl) ?_
  refine kx_iload_n dJ7_newCapacity_18 rfl rfl ?_
  refine kx_iload dJ7_newCapacity_19 rfl ?_
  refine kx_iload_n dJ7_newCapacity_21 rfl rfl ?_
  refine kx_iconst (v := 2) dJ7_newCapacity_22 (by decide) ?_
  refine kx_aload_n dJ7_newCapacity_23 rfl rfl ?_
  refine kW_gI dJ7_newCapacity_24 (kf1 fl_J7_22_J8) h (fun v5 h => ?_)
  refine kx_ishl dJ7_newCapacity_27 ?_
  refine kx_iadd dJ7_newCapacity_28 ?_
  refine kx_callS dJ7_newCapacity_29 lk_J7_114 (kw_J11_newLength h) rfl rfl (Nat.le_of_ble_eq_true rfl) (Nat.le_of_ble_eq_true rfl) (Nat.le_of_ble_eq_true rfl) (Nat.le_of_ble_eq_true rfl) (Nat.le_of_ble_eq_true rfl) (fun _ _ _ hx => kx_out rfl (hX _ _ _ hx)) (fun v_ σ7 hq => ?_)
  obtain ⟨v6, rfl, h⟩ := hq
  refine kx_istore dJ7_newCapacity_32 (Nat.le_of_ble_eq_true rfl) ?_
  refine kx_iload dJ7_newCapacity_34 rfl ?_
  refine kx_ldci dJ7_newCapacity_36 q341 ?_
  refine kx_icmp_ne (tgt := 51) dJ7_newCapacity_38 (by decide) (fun c => ?_) (fun c => ?_)
  · have h := w_iff c h
    refine kx_iload dJ7_newCapacity_51 rfl ?_
    refine kx_aload_n dJ7_newCapacity_53 rfl rfl ?_
    refine kW_gI dJ7_newCapacity_54 (kf1 fl_J7_22_J8) h (fun v8 h => ?_)
    refine kx_ishr dJ7_newCapacity_57 ?_
    exact kx_iret dJ7_newCapacity_58 rfl (hQ _ _ ⟨_, rfl, h⟩)
  · have h := w_ift c h
    exact h.elim
set_option maxHeartbeats 8000000 in
theorem kw_J7_charAt {G : KG} {σ : KHp} {x0 : Nat} {x1 : Int32} {Q : Int32 → KHp → Prop} {X : String → Nat → KHp → Prop} (h : W_J7_charAt G σ x0 x1 Q X) : kx_c G yJ7_charAt (ws_ yJ7_charAt cJ7_charAt 5 (Option.some Jvm.ClassFile.FieldType.char)) 3 0 0 [.ref (x0), .int (x1)] σ (fun rv σ' => ∃ r, rv = some (.int (r)) ∧ Q r σ') X := by
  refine kx_mk3 (ini := false) (by decide) (Nat.le_of_ble_eq_true rfl) (fun h => by cases h) (fun Q1 X1 hQ hX => ?_)
  unfold W_J7_charAt at h
  refine kx_aload_n dJ7_charAt_0 rfl rfl ?_
  refine kW_gI dJ7_charAt_1 (kf1 fl_J7_22_J8) h (fun v1 h => ?_)
  refine kx_istore_n dJ7_charAt_4 rfl (Nat.le_of_ble_eq_true rfl) ?_
  refine kx_aload_n dJ7_charAt_5 rfl rfl ?_
  refine kW_gO dJ7_charAt_6 (kf1 fl_J7_15_J8) h (fun v2 h => ?_)
  refine kx_astore_nO dJ7_charAt_9 rfl (Nat.le_of_ble_eq_true rfl) ?_
  refine kx_aload_n dJ7_charAt_10 rfl rfl ?_
  refine kW_gI dJ7_charAt_11 (kf1 fl_J7_79_J8) h (fun v3 h => ?_)
  refine kx_aload_nO dJ7_charAt_14 rfl rfl ?_
  obtain ⟨a4, rfl, hUa4⟩ := h
  have h := hUa4
  refine kW_len dJ7_charAt_15 h (fun v5 h => ?_)
  refine kx_iload_n dJ7_charAt_16 rfl rfl ?_
  refine kx_ishr dJ7_charAt_17 ?_
  refine kx_callS dJ7_charAt_18 lk_J7_138 (kw_J12_min h) rfl rfl (Nat.le_of_ble_eq_true rfl) (Nat.le_of_ble_eq_true rfl) (Nat.le_of_ble_eq_true rfl) (Nat.le_of_ble_eq_true rfl) (Nat.le_of_ble_eq_true rfl) (fun _ _ _ hx => kx_out rfl (hX _ _ _ hx)) (fun v_ σ7 hq => ?_)
  obtain ⟨v6, rfl, h⟩ := hq
  refine kx_istore dJ7_charAt_21 (Nat.le_of_ble_eq_true rfl) ?_
  refine kx_iload_n dJ7_charAt_23 rfl rfl ?_
  refine kx_iload dJ7_charAt_24 rfl ?_
  refine kx_callS dJ7_charAt_26 lk_J7_144 (kw_J9_checkIndex h) rfl rfl (Nat.le_of_ble_eq_true rfl) (Nat.le_of_ble_eq_true rfl) (Nat.le_of_ble_eq_true rfl) (Nat.le_of_ble_eq_true rfl) (Nat.le_of_ble_eq_true rfl) (fun _ _ _ hx => kx_out rfl (hX _ _ _ hx)) (fun v_ σ9 hq => ?_)
  obtain ⟨rfl, h⟩ := hq
  refine kx_iload_n dJ7_charAt_29 rfl rfl ?_
  refine kx_if_ne (tgt := 42) dJ7_charAt_30 (by decide) (fun c => ?_) (fun c => ?_)
  · have h := w_iff c h
    refine kx_aload_n dJ7_charAt_42 rfl rfl ?_
    refine kx_iload_n dJ7_charAt_43 rfl rfl ?_
    refine kx_callS dJ7_charAt_44 lk_J7_148 (kw_J10_getChar h) rfl rfl (Nat.le_of_ble_eq_true rfl) (Nat.le_of_ble_eq_true rfl) (Nat.le_of_ble_eq_true rfl) (Nat.le_of_ble_eq_true rfl) (Nat.le_of_ble_eq_true rfl) (fun _ _ _ hx => kx_out rfl (hX _ _ _ hx)) (fun v_ σ11 hq => ?_)
    obtain ⟨v10, rfl, h⟩ := hq
    exact kx_zret dJ7_charAt_47 rfl h.1 (hQ _ _ ⟨_, rfl, h.2⟩)
  · have h := w_ift c h
    refine kx_aload_n dJ7_charAt_33 rfl rfl ?_
    refine kx_iload_n dJ7_charAt_34 rfl rfl ?_
    refine kW_lB dJ7_charAt_35 h (fun v12 h => ?_)
    refine kx_sipush (v := 255) dJ7_charAt_36 (by decide) ?_
    refine kx_iand dJ7_charAt_39 ?_
    refine kx_i2c dJ7_charAt_40 rfl ?_
    exact kx_zret dJ7_charAt_41 rfl h.1 (hQ _ _ ⟨_, rfl, h.2⟩)
set_option maxHeartbeats 8000000 in
theorem kw_J8_init {G : KG} {bc bs : Nat} {σ : KHp} {x0 : Nat} {Q : KHp → Prop} {X : String → Nat → KHp → Prop} (h : W_J8_init G bc bs σ x0 Q X) : kx_c G yJ8_init (ws_ yJ8_init cJ8_init 1 (Option.none : Option Jvm.ClassFile.FieldType)) 4 bc bs [.ref (x0)] σ (fun rv σ' => rv = none ∧ Q σ') X := by
  refine kx_mk3 (ini := true) (by decide) (Nat.le_of_ble_eq_true rfl) (fun _ => rfl) (fun Q1 X1 hQ hX => ?_)
  unfold W_J8_init at h
  refine kx_aload_n dJ8_init_0 rfl rfl ?_
  refine kx_bipush (v := 16) dJ8_init_1 (by decide) ?_
  obtain ⟨c3, c4, hc, hs, h⟩ := h
  refine kx_callI dJ8_init_3 lk_J8_1 (kw_J7_init h) rfl rfl (Nat.le_of_ble_eq_true rfl) (Nat.le_of_ble_eq_true rfl) (Nat.le_of_ble_eq_true rfl) hc hs (fun _ _ _ hx => kx_out rfl (hX _ _ _ hx)) (fun v_ σ2 hq => ?_)
  obtain ⟨rfl, h⟩ := hq
  exact kx_vret dJ8_init_6 rfl (hQ _ _ ⟨rfl, h⟩)
set_option maxHeartbeats 8000000 in
theorem kw_J8_charAt {G : KG} {σ : KHp} {x0 : Nat} {x1 : Int32} {Q : Int32 → KHp → Prop} {X : String → Nat → KHp → Prop} (h : W_J8_charAt G σ x0 x1 Q X) : kx_c G yJ8_charAt (ws_ yJ8_charAt cJ8_charAt 2 (Option.some Jvm.ClassFile.FieldType.char)) 4 0 0 [.ref (x0), .int (x1)] σ (fun rv σ' => ∃ r, rv = some (.int (r)) ∧ Q r σ') X := by
  refine kx_mk3 (ini := false) (by decide) (Nat.le_of_ble_eq_true rfl) (fun h => by cases h) (fun Q1 X1 hQ hX => ?_)
  unfold W_J8_charAt at h
  refine kx_aload_n dJ8_charAt_0 rfl rfl ?_
  refine kx_iload_n dJ8_charAt_1 rfl rfl ?_
  obtain ⟨hr, h⟩ := h
  refine kx_callSU dJ8_charAt_2 lk_J8_329 (kw_J7_charAt h) rfl hr.choose_spec.choose_spec rfl rfl (Nat.le_of_ble_eq_true rfl) (Nat.le_of_ble_eq_true rfl) (Nat.le_of_ble_eq_true rfl) (Nat.le_of_ble_eq_true rfl) (Nat.le_of_ble_eq_true rfl) (fun _ _ _ hx => kx_out rfl (hX _ _ _ hx)) (fun v_ σ2 hq => ?_)
  obtain ⟨v1, rfl, h⟩ := hq
  exact kx_zret dJ8_charAt_5 rfl h.1 (hQ _ _ ⟨_, rfl, h.2⟩)
set_option maxHeartbeats 8000000 in
theorem kw_J9_charAt {G : KG} {σ : KHp} {x0 : Nat} {x1 : Int32} {Q : Int32 → KHp → Prop} {X : String → Nat → KHp → Prop} (h : W_J9_charAt G σ x0 x1 Q X) : kx_c G yJ9_charAt (ws_ yJ9_charAt cJ9_charAt 2 (Option.some Jvm.ClassFile.FieldType.char)) 5 0 0 [.ref (x0), .int (x1)] σ (fun rv σ' => ∃ r, rv = some (.int (r)) ∧ Q r σ') X := by
  refine kx_mk3 (ini := false) (by decide) (Nat.le_of_ble_eq_true rfl) (fun h => by cases h) (fun Q1 X1 hQ hX => ?_)
  unfold W_J9_charAt at h
  refine kx_aload_n dJ9_charAt_0 rfl rfl ?_
  obtain ⟨hr, h⟩ := h
  refine kx_callV dJ9_charAt_1 lk_J9_492 (kw_J9_isLatin1 h) rfl (wR_rc hr rfl) rfl (Nat.le_of_ble_eq_true rfl) (Nat.le_of_ble_eq_true rfl) (Nat.le_of_ble_eq_true rfl) (Nat.le_of_ble_eq_true rfl) (Nat.le_of_ble_eq_true rfl) (fun _ _ _ hx => kx_out rfl (hX _ _ _ hx)) (fun v_ σ2 hq => ?_)
  obtain ⟨v1, rfl, h⟩ := hq
  refine kx_if_eq (tgt := 16) dJ9_charAt_4 (by decide) (fun c => ?_) (fun c => ?_)
  · have h := w_ift c h
    refine kx_aload_n dJ9_charAt_16 rfl rfl ?_
    refine kW_gO dJ9_charAt_17 (kf1 fl_J9_9_J9) h (fun v3 h => ?_)
    refine kx_iload_n dJ9_charAt_20 rfl rfl ?_
    refine kx_callS dJ9_charAt_21 lk_J9_498 (kw_J10_charAt h) rfl rfl (Nat.le_of_ble_eq_true rfl) (Nat.le_of_ble_eq_true rfl) (Nat.le_of_ble_eq_true rfl) (Nat.le_of_ble_eq_true rfl) (Nat.le_of_ble_eq_true rfl) (fun _ _ _ hx => kx_out rfl (hX _ _ _ hx)) (fun v_ σ5 hq => ?_)
    obtain ⟨v4, rfl, h⟩ := hq
    exact kx_zret dJ9_charAt_24 rfl h.1 (hQ _ _ ⟨_, rfl, h.2⟩)
  · have h := w_iff c h
    refine kx_aload_n dJ9_charAt_7 rfl rfl ?_
    refine kW_gO dJ9_charAt_8 (kf1 fl_J9_9_J9) h (fun v6 h => ?_)
    refine kx_iload_n dJ9_charAt_11 rfl rfl ?_
    refine kx_callS dJ9_charAt_12 lk_J9_495 (kw_J15_charAt h) rfl rfl (Nat.le_of_ble_eq_true rfl) (Nat.le_of_ble_eq_true rfl) (Nat.le_of_ble_eq_true rfl) (Nat.le_of_ble_eq_true rfl) (Nat.le_of_ble_eq_true rfl) (fun _ _ _ hx => kx_out rfl (hX _ _ _ hx)) (fun v_ σ8 hq => ?_)
    obtain ⟨v7, rfl, h⟩ := hq
    exact kx_zret dJ9_charAt_15 rfl h.1 (hQ _ _ ⟨_, rfl, h.2⟩)
set_option maxHeartbeats 8000000 in
theorem kw_J10_putCharsAt {G : KG} {σ : KHp} {x0 : Option Nat} {x1 : Int32} {x2 : Int32} {x3 : Int32} {x4 : Int32} {x5 : Int32} {Q : Int32 → KHp → Prop} {X : String → Nat → KHp → Prop} (h : W_J10_putCharsAt G σ x0 x1 x2 x3 x4 x5 Q X) : kx_c G yJ10_putCharsAt (ws_ yJ10_putCharsAt cJ10_putCharsAt 7 (Option.some Jvm.ClassFile.FieldType.int)) 4 0 0 [va_rf (x0), .int (x1), .int (x2), .int (x3), .int (x4), .int (x5)] σ (fun rv σ' => ∃ r, rv = some (.int (r)) ∧ Q r σ') X := by
  refine kx_mk3 (ini := false) (by decide) (by cases x0 <;> exact Nat.le_of_ble_eq_true rfl) (fun h => by cases h) (fun Q1 X1 hQ hX => ?_)
  unfold W_J10_putCharsAt at h
  refine kx_lwF [(0, va_rf (x0)), (1, .int (x1)), (2, .int (x2)), (3, .int (x3)), (4, .int (x4)), (5, .int (x5))] (by cases x0 <;> exact ⟨rfl, rfl, rfl, rfl, rfl, rfl, trivial⟩) ?_
  refine kx_iload_n dJ10_putCharsAt_0 rfl rfl ?_
  refine kx_iconst (v := 4) dJ10_putCharsAt_1 (by decide) ?_
  refine kx_iadd dJ10_putCharsAt_2 ?_
  refine kx_istore dJ10_putCharsAt_3 (Nat.le_of_ble_eq_true rfl) ?_
  refine kx_iload_n dJ10_putCharsAt_5 rfl rfl ?_
  refine kx_iload dJ10_putCharsAt_6 rfl ?_
  refine kx_aload_nO dJ10_putCharsAt_8 rfl rfl ?_
  refine kx_callS dJ10_putCharsAt_9 lk_J10_96 (kw_J10_checkBoundsBeginEnd h) rfl rfl (Nat.le_of_ble_eq_true rfl) (Nat.le_of_ble_eq_true rfl) (Nat.le_of_ble_eq_true rfl) (Nat.le_of_ble_eq_true rfl) (Nat.le_of_ble_eq_true rfl) (fun _ _ _ hx => kx_out rfl (hX _ _ _ hx)) (fun v_ σ2 hq => ?_)
  obtain ⟨rfl, h⟩ := hq
  refine kx_aload_nO dJ10_putCharsAt_12 rfl rfl ?_
  refine kx_iload_n dJ10_putCharsAt_13 rfl rfl ?_
  refine kx_iinc2 (v := 1) dJ10_putCharsAt_14 rfl (by decide) ?_
  refine kx_lwF [(0, va_rf (x0)), (1, .int ((x1 + (1 : Int32)))), (2, .int (x2)), (3, .int (x3)), (4, .int (x4)), (5, .int (x5)), (6, .int ((x1 + (4 : Int32))))] (by cases x0 <;> exact ⟨rfl, rfl, rfl, rfl, rfl, rfl, rfl, trivial⟩) ?_
  refine kx_iload_n dJ10_putCharsAt_17 rfl rfl ?_
  refine kx_callS dJ10_putCharsAt_18 lk_J10_111 (kw_J10_putChar h) rfl rfl (Nat.le_of_ble_eq_true rfl) (Nat.le_of_ble_eq_true rfl) (Nat.le_of_ble_eq_true rfl) (Nat.le_of_ble_eq_true rfl) (Nat.le_of_ble_eq_true rfl) (fun _ _ _ hx => kx_out rfl (hX _ _ _ hx)) (fun v_ σ4 hq => ?_)
  obtain ⟨rfl, h⟩ := hq
  refine kx_aload_nO dJ10_putCharsAt_21 rfl rfl ?_
  refine kx_iload_n dJ10_putCharsAt_22 rfl rfl ?_
  refine kx_iinc2 (v := 1) dJ10_putCharsAt_23 rfl (by decide) ?_
  refine kx_lwF [(0, va_rf (x0)), (1, .int (((x1 + (1 : Int32)) + (1 : Int32)))), (3, .int (x3)), (4, .int (x4)), (5, .int (x5)), (6, .int ((x1 + (4 : Int32))))] (by cases x0 <;> exact ⟨rfl, rfl, rfl, rfl, rfl, rfl, trivial⟩) ?_
  refine kx_iload_n dJ10_putCharsAt_26 rfl rfl ?_
  refine kx_callS dJ10_putCharsAt_27 lk_J10_111 (kw_J10_putChar h) rfl rfl (Nat.le_of_ble_eq_true rfl) (Nat.le_of_ble_eq_true rfl) (Nat.le_of_ble_eq_true rfl) (Nat.le_of_ble_eq_true rfl) (Nat.le_of_ble_eq_true rfl) (fun _ _ _ hx => kx_out rfl (hX _ _ _ hx)) (fun v_ σ6 hq => ?_)
  obtain ⟨rfl, h⟩ := hq
  refine kx_aload_nO dJ10_putCharsAt_30 rfl rfl ?_
  refine kx_iload_n dJ10_putCharsAt_31 rfl rfl ?_
  refine kx_iinc2 (v := 1) dJ10_putCharsAt_32 rfl (by decide) ?_
  refine kx_lwF [(0, va_rf (x0)), (1, .int ((((x1 + (1 : Int32)) + (1 : Int32)) + (1 : Int32)))), (4, .int (x4)), (5, .int (x5)), (6, .int ((x1 + (4 : Int32))))] (by cases x0 <;> exact ⟨rfl, rfl, rfl, rfl, rfl, trivial⟩) ?_
  refine kx_iload dJ10_putCharsAt_35 rfl ?_
  refine kx_callS dJ10_putCharsAt_37 lk_J10_111 (kw_J10_putChar h) rfl rfl (Nat.le_of_ble_eq_true rfl) (Nat.le_of_ble_eq_true rfl) (Nat.le_of_ble_eq_true rfl) (Nat.le_of_ble_eq_true rfl) (Nat.le_of_ble_eq_true rfl) (fun _ _ _ hx => kx_out rfl (hX _ _ _ hx)) (fun v_ σ8 hq => ?_)
  obtain ⟨rfl, h⟩ := hq
  refine kx_aload_nO dJ10_putCharsAt_40 rfl rfl ?_
  refine kx_iload_n dJ10_putCharsAt_41 rfl rfl ?_
  refine kx_iinc2 (v := 1) dJ10_putCharsAt_42 rfl (by decide) ?_
  refine kx_iload dJ10_putCharsAt_45 rfl ?_
  refine kx_callS dJ10_putCharsAt_47 lk_J10_111 (kw_J10_putChar h) rfl rfl (Nat.le_of_ble_eq_true rfl) (Nat.le_of_ble_eq_true rfl) (Nat.le_of_ble_eq_true rfl) (Nat.le_of_ble_eq_true rfl) (Nat.le_of_ble_eq_true rfl) (fun _ _ _ hx => kx_out rfl (hX _ _ _ hx)) (fun v_ σ10 hq => ?_)
  obtain ⟨rfl, h⟩ := hq
  refine kx_gets dJ10_putCharsAt_50 kt_java_lang_StringUTF16__assertionsDisabled q383 (Or.inl rfl) ?_
  refine kx_if_ne (tgt := 70) dJ10_putCharsAt_53 (by decide) (fun c => ?_) (fun c => ?_)
  · have h := w_iff c h
    refine kx_iload dJ10_putCharsAt_70 rfl ?_
    exact kx_iret dJ10_putCharsAt_72 rfl (hQ _ _ ⟨_, rfl, h⟩)
  · have h := w_ift c h
    refine kx_iload_n dJ10_putCharsAt_56 rfl rfl ?_
    refine kx_iload dJ10_putCharsAt_57 rfl ?_
    refine kx_icmp_eq (tgt := 70) dJ10_putCharsAt_59 (by decide) (fun c => ?_) (fun c => ?_)
    · have h := w_ift c h
      refine kx_iload dJ10_putCharsAt_70 rfl ?_
      exact kx_iret dJ10_putCharsAt_72 rfl (hQ _ _ ⟨_, rfl, h⟩)
    · have h := w_iff c h
      exact h.elim
set_option maxHeartbeats 8000000 in
theorem kw_J10_inflate {G : KG} {σ : KHp} {x0 : Option Nat} {x1 : Int32} {x2 : Option Nat} {x3 : Int32} {x4 : Int32} {Q : KHp → Prop} {X : String → Nat → KHp → Prop} (h : W_J10_inflate G σ x0 x1 x2 x3 x4 Q X) : kx_c G yJ10_inflate (ws_ yJ10_inflate cJ10_inflate 6 (Option.none : Option Jvm.ClassFile.FieldType)) 4 0 0 [va_rf (x0), .int (x1), va_rf (x2), .int (x3), .int (x4)] σ (fun rv σ' => rv = none ∧ Q σ') X := by
  refine kx_mk3 (ini := false) (by decide) (by cases x0 <;> cases x2 <;> exact Nat.le_of_ble_eq_true rfl) (fun h => by cases h) (fun Q1 X1 hQ hX => ?_)
  unfold W_J10_inflate at h
  refine kx_lwF [(0, va_rf (x0)), (1, .int (x1)), (2, va_rf (x2)), (3, .int (x3)), (4, .int (x4))] (by cases x0 <;> cases x2 <;> exact ⟨rfl, rfl, rfl, rfl, rfl, trivial⟩) ?_
  refine kx_iload_n dJ10_inflate_0 rfl rfl ?_
  refine kx_iload dJ10_inflate_1 rfl ?_
  refine kx_aload_nO dJ10_inflate_3 rfl rfl ?_
  refine kx_callS dJ10_inflate_4 lk_J10_173 (kw_J10_checkBoundsOffCount h) rfl rfl (Nat.le_of_ble_eq_true rfl) (Nat.le_of_ble_eq_true rfl) (Nat.le_of_ble_eq_true rfl) (Nat.le_of_ble_eq_true rfl) (Nat.le_of_ble_eq_true rfl) (fun _ _ _ hx => kx_out rfl (hX _ _ _ hx)) (fun v_ σ2 hq => ?_)
  obtain ⟨rfl, h⟩ := hq
  refine kx_iconst (v := 0) dJ10_inflate_7 (by decide) ?_
  refine kx_istore dJ10_inflate_8 (Nat.le_of_ble_eq_true rfl) ?_
  refine kx_lwF [(0, va_rf (x0)), (1, .int (x1)), (2, va_rf (x2)), (3, .int (x3)), (4, .int (x4)), (5, .int ((0 : Int32)))] ⟨rfl, rfl, rfl, rfl, rfl, rfl, trivial⟩ ?_
  refine loopW3_k (fun (σ : KHp) (l1 : Int32) (l3 : Int32) (l5 : Int32) => kx G (yJ10_inflate.cls, cJ10_inflate, 6, (Option.none : Option Jvm.ClassFile.FieldType), false, []) (4, 0, 0, Q1, X1) (0) (0) σ 10 (kF [(0, va_rf (x0)), (1, .int (l1)), (2, va_rf (x2)), (3, .int (l3)), (4, .int (x4)), (5, .int (l5))]) []) (fun kI10 hI10 σ l1 l3 l5 h => ?_) 9000 σ2 x1 x3 (0 : Int32) h
  unfold WB_J10_inflate_10 at h
  refine kx_iload dJ10_inflate_10 rfl ?_
  refine kx_iload dJ10_inflate_12 rfl ?_
  refine kx_icmp_ge (tgt := 41) dJ10_inflate_14 (by decide) (fun c => ?_) (fun c => ?_)
  · have h := w_ift c h
    exact kx_vret dJ10_inflate_41 rfl (hQ _ _ ⟨rfl, h⟩)
  · have h := w_iff c h
    refine kx_aload_nO dJ10_inflate_17 rfl rfl ?_
    refine kx_iload_n dJ10_inflate_18 rfl rfl ?_
    refine kx_iinc2 (v := 1) dJ10_inflate_19 rfl (by decide) ?_
    refine kx_lwF [(0, va_rf (x0)), (1, .int (l1)), (2, va_rf (x2)), (3, .int ((l3 + (1 : Int32)))), (4, .int (x4)), (5, .int (l5))] (by cases x2 <;> exact ⟨rfl, rfl, rfl, rfl, rfl, rfl, trivial⟩) ?_
    refine kx_aload_nO dJ10_inflate_22 rfl rfl ?_
    refine kx_iload_n dJ10_inflate_23 rfl rfl ?_
    refine kx_iinc2 (v := 1) dJ10_inflate_24 rfl (by decide) ?_
    refine kx_lwF [(0, va_rf (x0)), (1, .int ((l1 + (1 : Int32)))), (2, va_rf (x2)), (3, .int ((l3 + (1 : Int32)))), (4, .int (x4)), (5, .int (l5))] (by cases x0 <;> exact ⟨rfl, rfl, rfl, rfl, rfl, rfl, trivial⟩) ?_
    obtain ⟨a11001, rfl, hUa11001⟩ := h
    have h := hUa11001
    refine kW_lB dJ10_inflate_27 h (fun v11002 h => ?_)
    refine kx_sipush (v := 255) dJ10_inflate_28 (by decide) ?_
    refine kx_iand dJ10_inflate_31 ?_
    refine kx_callS dJ10_inflate_32 lk_J10_111 (kw_J10_putChar h) rfl rfl (Nat.le_of_ble_eq_true rfl) (Nat.le_of_ble_eq_true rfl) (Nat.le_of_ble_eq_true rfl) (Nat.le_of_ble_eq_true rfl) (Nat.le_of_ble_eq_true rfl) (fun _ _ _ hx => kx_out rfl (hX _ _ _ hx)) (fun v_ σ11004 hq => ?_)
    obtain ⟨rfl, h⟩ := hq
    refine kx_iinc2 (v := 1) dJ10_inflate_35 rfl (by decide) ?_
    refine kx_goto (tgt := 10) dJ10_inflate_38 (by decide) ?_
    exact kx_lwF [(0, .ref (a11001)), (1, .int ((l1 + (1 : Int32)))), (2, va_rf (x2)), (3, .int ((l3 + (1 : Int32)))), (4, .int (x4)), (5, .int ((l5 + (1 : Int32))))] ⟨rfl, rfl, rfl, rfl, rfl, rfl, trivial⟩ (hI10 _ _ _ _ h)
set_option maxHeartbeats 8000000 in
theorem kw_J10_putCharSB {G : KG} {σ : KHp} {x0 : Option Nat} {x1 : Int32} {x2 : Int32} {Q : KHp → Prop} {X : String → Nat → KHp → Prop} (h : W_J10_putCharSB G σ x0 x1 x2 Q X) : kx_c G yJ10_putCharSB (ws_ yJ10_putCharSB cJ10_putCharSB 3 (Option.none : Option Jvm.ClassFile.FieldType)) 4 0 0 [va_rf (x0), .int (x1), .int (x2)] σ (fun rv σ' => rv = none ∧ Q σ') X := by
  refine kx_mk3 (ini := false) (by decide) (by cases x0 <;> exact Nat.le_of_ble_eq_true rfl) (fun h => by cases h) (fun Q1 X1 hQ hX => ?_)
  unfold W_J10_putCharSB at h
  refine kx_lwF [(0, va_rf (x0)), (1, .int (x1)), (2, .int (x2))] (by cases x0 <;> exact ⟨rfl, rfl, rfl, trivial⟩) ?_
  refine kx_iload_n dJ10_putCharSB_0 rfl rfl ?_
  refine kx_aload_nO dJ10_putCharSB_1 rfl rfl ?_
  refine kx_callS dJ10_putCharSB_2 lk_J10_67 (kw_J10_checkIndex h) rfl rfl (Nat.le_of_ble_eq_true rfl) (Nat.le_of_ble_eq_true rfl) (Nat.le_of_ble_eq_true rfl) (Nat.le_of_ble_eq_true rfl) (Nat.le_of_ble_eq_true rfl) (fun _ _ _ hx => kx_out rfl (hX _ _ _ hx)) (fun v_ σ2 hq => ?_)
  obtain ⟨rfl, h⟩ := hq
  refine kx_aload_nO dJ10_putCharSB_5 rfl rfl ?_
  refine kx_iload_n dJ10_putCharSB_6 rfl rfl ?_
  refine kx_iload_n dJ10_putCharSB_7 rfl rfl ?_
  refine kx_callS dJ10_putCharSB_8 lk_J10_111 (kw_J10_putChar h) rfl rfl (Nat.le_of_ble_eq_true rfl) (Nat.le_of_ble_eq_true rfl) (Nat.le_of_ble_eq_true rfl) (Nat.le_of_ble_eq_true rfl) (Nat.le_of_ble_eq_true rfl) (fun _ _ _ hx => kx_out rfl (hX _ _ _ hx)) (fun v_ σ4 hq => ?_)
  obtain ⟨rfl, h⟩ := hq
  exact kx_vret dJ10_putCharSB_11 rfl (hQ _ _ ⟨rfl, h⟩)
set_option maxHeartbeats 8000000 in
theorem kw_J10_hashCode {G : KG} {σ : KHp} {x0 : Option Nat} {Q : Int32 → KHp → Prop} {X : String → Nat → KHp → Prop} (h : W_J10_hashCode G σ x0 Q X) : kx_c G yJ10_hashCode (ws_ yJ10_hashCode cJ10_hashCode 1 (Option.some Jvm.ClassFile.FieldType.int)) 3 0 0 [va_rf (x0)] σ (fun rv σ' => ∃ r, rv = some (.int (r)) ∧ Q r σ') X := by
  refine kx_mk3 (ini := false) (by decide) (by cases x0 <;> exact Nat.le_of_ble_eq_true rfl) (fun h => by cases h) (fun Q1 X1 hQ hX => ?_)
  unfold W_J10_hashCode at h
  refine kx_lwF [(0, va_rf (x0))] (by cases x0 <;> exact ⟨rfl, trivial⟩) ?_
  refine kx_aload_nO dJ10_hashCode_0 rfl rfl ?_
  obtain ⟨a1, rfl, hUa1⟩ := h
  have h := hUa1
  refine kW_len dJ10_hashCode_1 h (fun v2 h => ?_)
  refine kW_jI 51 [] h (fun v9 σ10 h => ?_) (fun k3 jk3 h => ?_)
  · skip
    exact kx_iret dJ10_hashCode_51 rfl (hQ _ _ ⟨_, rfl, h⟩)
  · skip
    by_cases c0 : v2 = (0 : Int32)
    · have h := w_ift c0 h
      refine kx_lookup (tgt := 28) (off := 26) dJ10_hashCode_2 (by decide) (by rw [c0]; decide) (by decide) ?_
      refine kx_iconst (v := 0) dJ10_hashCode_28 (by decide) ?_
      refine kx_goto (tgt := 51) dJ10_hashCode_29 (by decide) ?_
      exact jk3 _ _ h
    have h := w_iff c0 h
    by_cases c1 : v2 = (2 : Int32)
    · have h := w_ift c1 h
      refine kx_lookup (tgt := 32) (off := 30) dJ10_hashCode_2 (by decide) (by rw [c1]; decide) (by decide) ?_
      refine kx_aload_n dJ10_hashCode_32 rfl rfl ?_
      refine kx_iconst (v := 0) dJ10_hashCode_33 (by decide) ?_
      refine kx_callS dJ10_hashCode_34 lk_J10_71 (kw_J10_getChar h) rfl rfl (Nat.le_of_ble_eq_true rfl) (Nat.le_of_ble_eq_true rfl) (Nat.le_of_ble_eq_true rfl) (Nat.le_of_ble_eq_true rfl) (Nat.le_of_ble_eq_true rfl) (fun _ _ _ hx => kx_out rfl (hX _ _ _ hx)) (fun v_ σ5 hq => ?_)
      obtain ⟨v4, rfl, h⟩ := hq
      refine kx_goto (tgt := 51) dJ10_hashCode_37 (by decide) ?_
      exact jk3 _ _ h
    have h := w_iff c1 h
    refine kx_lookup (tgt := 40) (off := 38) dJ10_hashCode_2 (by decide) (lk_out (by intro p hp; simp only [List.mem_cons, List.not_mem_nil, or_false] at hp; rcases hp with rfl | rfl <;> intro hh <;> first | exact c0 (Int32.toInt_inj.mp hh) | exact c1 (Int32.toInt_inj.mp hh))) (by decide) ?_
    refine kx_aload_n dJ10_hashCode_40 rfl rfl ?_
    refine kx_iconst (v := 0) dJ10_hashCode_41 (by decide) ?_
    refine kx_aload_n dJ10_hashCode_42 rfl rfl ?_
    refine kW_len dJ10_hashCode_43 h (fun v6 h => ?_)
    refine kx_iconst (v := 1) dJ10_hashCode_44 (by decide) ?_
    refine kx_ishr dJ10_hashCode_45 ?_
    refine kx_iconst (v := 0) dJ10_hashCode_46 (by decide) ?_
    refine kx_iconst (v := 5) dJ10_hashCode_47 (by decide) ?_
    refine kx_callS dJ10_hashCode_48 lk_J10_220 (kw_J11_vectorizedHashCode h) rfl rfl (Nat.le_of_ble_eq_true rfl) (Nat.le_of_ble_eq_true rfl) (Nat.le_of_ble_eq_true rfl) (Nat.le_of_ble_eq_true rfl) (Nat.le_of_ble_eq_true rfl) (fun _ _ _ hx => kx_out rfl (hX _ _ _ hx)) (fun v_ σ8 hq => ?_)
    obtain ⟨v7, rfl, h⟩ := hq
    exact jk3 _ _ h
set_option maxHeartbeats 8000000 in
theorem kw_J10_fillNull {G : KG} {σ : KHp} {x0 : Option Nat} {x1 : Int32} {x2 : Int32} {Q : KHp → Prop} {X : String → Nat → KHp → Prop} (h : W_J10_fillNull G σ x0 x1 x2 Q X) : kx_c G yJ10_fillNull (ws_ yJ10_fillNull cJ10_fillNull 3 (Option.none : Option Jvm.ClassFile.FieldType)) 3 0 0 [va_rf (x0), .int (x1), .int (x2)] σ (fun rv σ' => rv = none ∧ Q σ') X := by
  refine kx_mk3 (ini := false) (by decide) (by cases x0 <;> exact Nat.le_of_ble_eq_true rfl) (fun h => by cases h) (fun Q1 X1 hQ hX => ?_)
  unfold W_J10_fillNull at h
  refine kx_lwF [(0, va_rf (x0)), (1, .int (x1)), (2, .int (x2))] (by cases x0 <;> exact ⟨rfl, rfl, rfl, trivial⟩) ?_
  refine kx_aload_nO dJ10_fillNull_0 rfl rfl ?_
  refine kx_iload_n dJ10_fillNull_1 rfl rfl ?_
  refine kx_iconst (v := 1) dJ10_fillNull_2 (by decide) ?_
  refine kx_ishl dJ10_fillNull_3 ?_
  refine kx_iload_n dJ10_fillNull_4 rfl rfl ?_
  refine kx_iconst (v := 1) dJ10_fillNull_5 (by decide) ?_
  refine kx_ishl dJ10_fillNull_6 ?_
  refine kx_iconst (v := 0) dJ10_fillNull_7 (by decide) ?_
  refine kx_callS dJ10_fillNull_8 lk_J10_380 (kw_J13_fill h) rfl rfl (Nat.le_of_ble_eq_true rfl) (Nat.le_of_ble_eq_true rfl) (Nat.le_of_ble_eq_true rfl) (Nat.le_of_ble_eq_true rfl) (Nat.le_of_ble_eq_true rfl) (fun _ _ _ hx => kx_out rfl (hX _ _ _ hx)) (fun v_ σ2 hq => ?_)
  obtain ⟨rfl, h⟩ := hq
  exact kx_vret dJ10_fillNull_11 rfl (hQ _ _ ⟨rfl, h⟩)
set_option maxHeartbeats 8000000 in
theorem kw_J13_copyOfRange {G : KG} {bc bs : Nat} {σ : KHp} {x0 : Option Nat} {x1 : Int32} {x2 : Int32} {Q : Option Nat → KHp → Prop} {X : String → Nat → KHp → Prop} (h : W_J13_copyOfRange G bc bs σ x0 x1 x2 Q X) : kx_c G yJ13_copyOfRange (ws_ yJ13_copyOfRange cJ13_copyOfRange 3 (Option.some (Jvm.ClassFile.FieldType.array Jvm.ClassFile.FieldType.byte))) 3 bc bs [va_rf (x0), .int (x1), .int (x2)] σ (fun rv σ' => ∃ r, rv = some (va_rf (r)) ∧ Q r σ') X := by
  refine kx_mk3 (ini := false) (by decide) (by cases x0 <;> exact Nat.le_of_ble_eq_true rfl) (fun h => by cases h) (fun Q1 X1 hQ hX => ?_)
  unfold W_J13_copyOfRange at h
  refine kx_lwF [(0, va_rf (x0)), (1, .int (x1)), (2, .int (x2))] (by cases x0 <;> exact ⟨rfl, rfl, rfl, trivial⟩) ?_
  refine kx_iload_n dJ13_copyOfRange_0 rfl rfl ?_
  refine kx_if_ne (tgt := 10) dJ13_copyOfRange_1 (by decide) (fun c => ?_) (fun c => ?_)
  · have h := w_iff c h
    refine kx_aload_nO dJ13_copyOfRange_10 rfl rfl ?_
    refine kx_iload_n dJ13_copyOfRange_11 rfl rfl ?_
    refine kx_iload_n dJ13_copyOfRange_12 rfl rfl ?_
    obtain ⟨c3, c4, hc, hs, h⟩ := h
    refine kx_callS dJ13_copyOfRange_13 lk_J13_339 (kw_J13_copyOfRangeByte h) rfl rfl (Nat.le_of_ble_eq_true rfl) (Nat.le_of_ble_eq_true rfl) (Nat.le_of_ble_eq_true rfl) hc hs (fun _ _ _ hx => kx_out rfl (hX _ _ _ hx)) (fun v_ σ2 hq => ?_)
    obtain ⟨v1, rfl, h⟩ := hq
    exact kx_aret dJ13_copyOfRange_16 rfl (Or.inr ⟨_, rfl⟩) (va_rfs _) (hQ _ _ ⟨_, rfl, h⟩)
  · have h := w_ift c h
    refine kx_iload_n dJ13_copyOfRange_4 rfl rfl ?_
    refine kx_aload_nO dJ13_copyOfRange_5 rfl rfl ?_
    obtain ⟨a5, rfl, hUa5⟩ := h
    have h := hUa5
    refine kW_len dJ13_copyOfRange_6 h (fun v6 h => ?_)
    refine kx_icmp_eq (tgt := 17) dJ13_copyOfRange_7 (by decide) (fun c => ?_) (fun c => ?_)
    · have h := w_ift c h
      refine kx_aload_n dJ13_copyOfRange_17 rfl rfl ?_
      refine kW_clB dJ13_copyOfRange_18 q345 q346 q347 q348 q349 q350 (Nat.le_of_ble_eq_true rfl) (Nat.le_of_ble_eq_true rfl) h (fun n9 q7 σ8 h => ?_)
      obtain ⟨⟨ta, tya, xa, hra, hna⟩, h⟩ := h
      refine kx_castA dJ13_copyOfRange_21 hra hna q351 ?_
      exact kx_aret dJ13_copyOfRange_24 rfl (Or.inr ⟨_, rfl⟩) (Or.inr ⟨_, rfl⟩) (hQ _ _ ⟨some _, rfl, h⟩)
    · have h := w_iff c h
      refine kx_aload_n dJ13_copyOfRange_10 rfl rfl ?_
      refine kx_iload_n dJ13_copyOfRange_11 rfl rfl ?_
      refine kx_iload_n dJ13_copyOfRange_12 rfl rfl ?_
      obtain ⟨c12, c13, hc, hs, h⟩ := h
      refine kx_callS dJ13_copyOfRange_13 lk_J13_339 (kw_J13_copyOfRangeByte h) rfl rfl (Nat.le_of_ble_eq_true rfl) (Nat.le_of_ble_eq_true rfl) (Nat.le_of_ble_eq_true rfl) hc hs (fun _ _ _ hx => kx_out rfl (hX _ _ _ hx)) (fun v_ σ11 hq => ?_)
      obtain ⟨v10, rfl, h⟩ := hq
      exact kx_aret dJ13_copyOfRange_16 rfl (Or.inr ⟨_, rfl⟩) (va_rfs _) (hQ _ _ ⟨_, rfl, h⟩)
set_option maxHeartbeats 8000000 in
theorem kw_J15_inflate {G : KG} {σ : KHp} {x0 : Option Nat} {x1 : Int32} {x2 : Option Nat} {x3 : Int32} {x4 : Int32} {Q : KHp → Prop} {X : String → Nat → KHp → Prop} (h : W_J15_inflate G σ x0 x1 x2 x3 x4 Q X) : kx_c G yJ15_inflate (ws_ yJ15_inflate cJ15_inflate 5 (Option.none : Option Jvm.ClassFile.FieldType)) 5 0 0 [va_rf (x0), .int (x1), va_rf (x2), .int (x3), .int (x4)] σ (fun rv σ' => rv = none ∧ Q σ') X := by
  refine kx_mk3 (ini := false) (by decide) (by cases x0 <;> cases x2 <;> exact Nat.le_of_ble_eq_true rfl) (fun h => by cases h) (fun Q1 X1 hQ hX => ?_)
  unfold W_J15_inflate at h
  refine kx_lwF [(0, va_rf (x0)), (1, .int (x1)), (2, va_rf (x2)), (3, .int (x3)), (4, .int (x4))] (by cases x0 <;> cases x2 <;> exact ⟨rfl, rfl, rfl, rfl, rfl, trivial⟩) ?_
  refine kx_aload_nO dJ15_inflate_0 rfl rfl ?_
  refine kx_iload_n dJ15_inflate_1 rfl rfl ?_
  refine kx_aload_nO dJ15_inflate_2 rfl rfl ?_
  refine kx_iload_n dJ15_inflate_3 rfl rfl ?_
  refine kx_iload dJ15_inflate_4 rfl ?_
  refine kx_callS dJ15_inflate_6 lk_J15_240 (kw_J10_inflate h) rfl rfl (Nat.le_of_ble_eq_true rfl) (Nat.le_of_ble_eq_true rfl) (Nat.le_of_ble_eq_true rfl) (Nat.le_of_ble_eq_true rfl) (Nat.le_of_ble_eq_true rfl) (fun _ _ _ hx => kx_out rfl (hX _ _ _ hx)) (fun v_ σ2 hq => ?_)
  obtain ⟨rfl, h⟩ := hq
  exact kx_vret dJ15_inflate_9 rfl (hQ _ _ ⟨rfl, h⟩)
set_option maxHeartbeats 8000000 in
theorem kw_J18_addLast {G : KG} {bc bs : Nat} {σ : KHp} {x0 : Nat} {x1 : Option Nat} {Q : KHp → Prop} {X : String → Nat → KHp → Prop} (h : W_J18_addLast G bc bs σ x0 x1 Q X) : kx_c G yJ18_addLast (ws_ yJ18_addLast cJ18_addLast 2 (Option.none : Option Jvm.ClassFile.FieldType)) 3 bc bs [.ref (x0), va_rf (x1)] σ (fun rv σ' => rv = none ∧ Q σ') X := by
  refine kx_mk3 (ini := false) (by decide) (by cases x1 <;> exact Nat.le_of_ble_eq_true rfl) (fun h => by cases h) (fun Q1 X1 hQ hX => ?_)
  unfold W_J18_addLast at h
  refine kx_lwF [(0, .ref x0), (1, va_rf (x1))] (by cases x1 <;> exact ⟨rfl, rfl, trivial⟩) ?_
  refine kx_aload_n dJ18_addLast_0 rfl rfl ?_
  refine kx_aload_nO dJ18_addLast_1 rfl rfl ?_
  obtain ⟨hr, h⟩ := h
  obtain ⟨c3, c4, hc, hs, h⟩ := h
  refine kx_callV dJ18_addLast_2 lk_J18_57 (kw_J18_linkLast h) rfl (wR_rc hr rfl) rfl (Nat.le_of_ble_eq_true rfl) (Nat.le_of_ble_eq_true rfl) (Nat.le_of_ble_eq_true rfl) hc hs (fun _ _ _ hx => kx_out rfl (hX _ _ _ hx)) (fun v_ σ2 hq => ?_)
  obtain ⟨rfl, h⟩ := hq
  exact kx_vret dJ18_addLast_5 rfl (hQ _ _ ⟨rfl, h⟩)
set_option maxHeartbeats 8000000 in
theorem kw_J18_listIterator {G : KG} {bc bs : Nat} {σ : KHp} {x0 : Nat} {x1 : Int32} {Q : Option Nat → KHp → Prop} {X : String → Nat → KHp → Prop} (h : W_J18_listIterator G bc bs σ x0 x1 Q X) : kx_c G yJ18_listIterator (ws_ yJ18_listIterator cJ18_listIterator 2 (Option.some (Jvm.ClassFile.FieldType.object "java/util/ListIterator"))) 3 bc bs [.ref (x0), .int (x1)] σ (fun rv σ' => ∃ r, rv = some (va_rf (r)) ∧ Q r σ') X := by
  refine kx_mk3 (ini := false) (by decide) (Nat.le_of_ble_eq_true rfl) (fun h => by cases h) (fun Q1 X1 hQ hX => ?_)
  unfold W_J18_listIterator at h
  refine kx_aload_n dJ18_listIterator_0 rfl rfl ?_
  refine kx_iload_n dJ18_listIterator_1 rfl rfl ?_
  obtain ⟨hr, h⟩ := h
  refine kx_callV dJ18_listIterator_2 lk_J18_76 (kw_J18_checkPositionIndex h) rfl (wR_rc hr rfl) rfl (Nat.le_of_ble_eq_true rfl) (Nat.le_of_ble_eq_true rfl) (Nat.le_of_ble_eq_true rfl) (Nat.le_of_ble_eq_true rfl) (Nat.le_of_ble_eq_true rfl) (fun _ _ _ hx => kx_out rfl (hX _ _ _ hx)) (fun v_ σ2 hq => ?_)
  obtain ⟨rfl, h⟩ := hq
  refine kW_new dJ18_listIterator_5 kc_J30 q1734 q1735 q194 rfl h (fun q3 σ4 h => ?_)
  refine kx_dup dJ18_listIterator_8 rfl ?_
  refine kx_aload_n dJ18_listIterator_9 rfl rfl ?_
  refine kx_iload_n dJ18_listIterator_10 rfl rfl ?_
  refine kx_callI dJ18_listIterator_11 lk_J18_152 (kw_J30_init h) rfl rfl (Nat.le_of_ble_eq_true rfl) (Nat.le_of_ble_eq_true rfl) (Nat.le_of_ble_eq_true rfl) (Nat.le_of_ble_eq_true rfl) (Nat.le_of_ble_eq_true rfl) (fun _ _ _ hx => kx_out rfl (hX _ _ _ hx)) (fun v_ σ6 hq => ?_)
  obtain ⟨rfl, h⟩ := hq
  exact kx_aret dJ18_listIterator_14 rfl (Or.inl ⟨_, rfl⟩) (Or.inr ⟨_, rfl⟩) (hQ _ _ ⟨some _, rfl, h⟩)
set_option maxHeartbeats 8000000 in
theorem kw_J18_get {G : KG} {σ : KHp} {x0 : Nat} {x1 : Int32} {Q : Option Nat → KHp → Prop} {X : String → Nat → KHp → Prop} (h : W_J18_get G σ x0 x1 Q X) : kx_c G yJ18_get (ws_ yJ18_get cJ18_get 2 (Option.some (Jvm.ClassFile.FieldType.object "java/lang/Object"))) 3 0 0 [.ref (x0), .int (x1)] σ (fun rv σ' => ∃ r, rv = some (va_rf (r)) ∧ Q r σ') X := by
  refine kx_mk3 (ini := false) (by decide) (Nat.le_of_ble_eq_true rfl) (fun h => by cases h) (fun Q1 X1 hQ hX => ?_)
  unfold W_J18_get at h
  refine kx_aload_n dJ18_get_0 rfl rfl ?_
  refine kx_iload_n dJ18_get_1 rfl rfl ?_
  obtain ⟨hr, h⟩ := h
  refine kx_callV dJ18_get_2 lk_J18_90 (kw_J18_checkElementIndex h) rfl (wR_rc hr rfl) rfl (Nat.le_of_ble_eq_true rfl) (Nat.le_of_ble_eq_true rfl) (Nat.le_of_ble_eq_true rfl) (Nat.le_of_ble_eq_true rfl) (Nat.le_of_ble_eq_true rfl) (fun _ _ _ hx => kx_out rfl (hX _ _ _ hx)) (fun v_ σ2 hq => ?_)
  obtain ⟨rfl, h⟩ := hq
  refine kx_aload_n dJ18_get_5 rfl rfl ?_
  refine kx_iload_n dJ18_get_6 rfl rfl ?_
  obtain ⟨hr, h⟩ := h
  refine kx_callV dJ18_get_7 lk_J18_86 (kw_J18_node h) rfl (wR_rc hr rfl) rfl (Nat.le_of_ble_eq_true rfl) (Nat.le_of_ble_eq_true rfl) (Nat.le_of_ble_eq_true rfl) (Nat.le_of_ble_eq_true rfl) (Nat.le_of_ble_eq_true rfl) (fun _ _ _ hx => kx_out rfl (hX _ _ _ hx)) (fun v_ σ4 hq => ?_)
  obtain ⟨v3, rfl, h⟩ := hq
  obtain ⟨a5, rfl, hUa5⟩ := h
  have h := hUa5
  refine kW_gO dJ18_get_10 (kf1 fl_J18_39_J23) h (fun v6 h => ?_)
  exact kx_aret dJ18_get_13 rfl (Or.inl ⟨_, rfl⟩) (va_rfs _) (hQ _ _ ⟨_, rfl, h⟩)
set_option maxHeartbeats 8000000 in
theorem kw_J19_removeFirst {G : KG} {σ : KHp} {x0 : Nat} {Q : Option Nat → KHp → Prop} {X : String → Nat → KHp → Prop} (h : W_J19_removeFirst G σ x0 Q X) : kx_c G yJ19_removeFirst (ws_ yJ19_removeFirst cJ19_removeFirst 2 (Option.some (Jvm.ClassFile.FieldType.object "java/lang/Object"))) 3 0 0 [.ref (x0)] σ (fun rv σ' => ∃ r, rv = some (va_rf (r)) ∧ Q r σ') X := by
  refine kx_mk3 (ini := false) (by decide) (Nat.le_of_ble_eq_true rfl) (fun h => by cases h) (fun Q1 X1 hQ hX => ?_)
  unfold W_J19_removeFirst at h
  refine kx_aload_n dJ19_removeFirst_0 rfl rfl ?_
  obtain ⟨hr, h⟩ := h
  refine kx_callV dJ19_removeFirst_1 lk_J19_93 (kw_J19_pollFirst h) rfl (wR_rc hr rfl) rfl (Nat.le_of_ble_eq_true rfl) (Nat.le_of_ble_eq_true rfl) (Nat.le_of_ble_eq_true rfl) (Nat.le_of_ble_eq_true rfl) (Nat.le_of_ble_eq_true rfl) (fun _ _ _ hx => kx_out rfl (hX _ _ _ hx)) (fun v_ σ2 hq => ?_)
  obtain ⟨v1, rfl, h⟩ := hq
  refine kx_astore_nO dJ19_removeFirst_4 rfl (Nat.le_of_ble_eq_true rfl) ?_
  refine kx_aload_nO dJ19_removeFirst_5 rfl rfl ?_
  refine kx_ifnonnullO (tgt := 17) dJ19_removeFirst_6 (by decide) (fun c => ?_) (fun c => ?_)
  · have h := w_ift c h
    exact h.elim
  · have h := w_iff c h
    refine kx_aload_nO dJ19_removeFirst_17 rfl rfl ?_
    exact kx_aret dJ19_removeFirst_18 rfl (Or.inl ⟨_, rfl⟩) (va_rfs _) (hQ _ _ ⟨_, rfl, h⟩)
set_option maxHeartbeats 8000000 in
theorem kw_J19_addLast {G : KG} {bc bs : Nat} {σ : KHp} {x0 : Nat} {x1 : Option Nat} {Q : KHp → Prop} {X : String → Nat → KHp → Prop} (h : W_J19_addLast G bc bs σ x0 x1 Q X) : kx_c G yJ19_addLast (ws_ yJ19_addLast cJ19_addLast 3 (Option.none : Option Jvm.ClassFile.FieldType)) 5 bc bs [.ref (x0), va_rf (x1)] σ (fun rv σ' => rv = none ∧ Q σ') X := by
  refine kx_mk3 (ini := false) (by decide) (by cases x1 <;> exact Nat.le_of_ble_eq_true rfl) (fun h => by cases h) (fun Q1 X1 hQ hX => ?_)
  unfold W_J19_addLast at h
  refine kx_lwF [(0, .ref x0), (1, va_rf (x1))] (by cases x1 <;> exact ⟨rfl, rfl, trivial⟩) ?_
  refine kx_aload_nO dJ19_addLast_0 rfl rfl ?_
  refine kx_ifnonnullO (tgt := 12) dJ19_addLast_1 (by decide) (fun c => ?_) (fun c => ?_)
  · have h := w_ift c h
    exact h.elim
  · have h := w_iff c h
    refine kx_aload_n dJ19_addLast_12 rfl rfl ?_
    refine kW_gO dJ19_addLast_13 (kf1 fl_J19_3_J19) h (fun v1 h => ?_)
    refine kx_astore_nO dJ19_addLast_16 rfl (Nat.le_of_ble_eq_true rfl) ?_
    refine kx_lwF [(0, .ref (x0)), (1, va_rf (x1)), (2, va_rf (v1))] (by cases x1 <;> exact ⟨rfl, rfl, rfl, trivial⟩) ?_
    refine kx_aload_nO dJ19_addLast_17 rfl rfl ?_
    refine kx_aload_n dJ19_addLast_18 rfl rfl ?_
    refine kW_gI dJ19_addLast_19 (kf1 fl_J19_20_J19) h (fun v2 h => ?_)
    refine kx_aload_nO dJ19_addLast_22 rfl rfl ?_
    obtain ⟨a3, rfl, hUa3⟩ := h
    have h := hUa3
    refine kW_sO dJ19_addLast_23 h (fun σ4 h => ?_)
    refine kx_aload_n dJ19_addLast_24 rfl rfl ?_
    refine kW_gI dJ19_addLast_25 (kf1 fl_J19_24_J19) h (fun v5 h => ?_)
    refine kx_aload_n dJ19_addLast_28 rfl rfl ?_
    refine kx_aload_n dJ19_addLast_29 rfl rfl ?_
    refine kW_gI dJ19_addLast_30 (kf1 fl_J19_20_J19) h (fun v6 h => ?_)
    refine kx_aload_n dJ19_addLast_33 rfl rfl ?_
    refine kW_len dJ19_addLast_34 h (fun v7 h => ?_)
    refine kx_callS dJ19_addLast_35 lk_J19_74 (kw_J19_inc h) rfl rfl (Nat.le_of_ble_eq_true rfl) (Nat.le_of_ble_eq_true rfl) (Nat.le_of_ble_eq_true rfl) (Nat.le_of_ble_eq_true rfl) (Nat.le_of_ble_eq_true rfl) (fun _ _ _ hx => kx_out rfl (hX _ _ _ hx)) (fun v_ σ9 hq => ?_)
    obtain ⟨v8, rfl, h⟩ := hq
    refine kx_dup_x1 dJ19_addLast_38 rfl rfl ?_
    refine kW_p dJ19_addLast_39 (kp1 ⟨_, _, _, _, kc_J19, fl_J19_20_J19, Or.inl rfl, rfl, rfl⟩) h (fun σ10 h => ?_)
    refine kx_icmp_ne (tgt := 50) dJ19_addLast_42 (by decide) (fun c => ?_) (fun c => ?_)
    · have h := w_iff c h
      exact kx_vret dJ19_addLast_50 rfl (hQ _ _ ⟨rfl, h⟩)
    · have h := w_ift c h
      refine kx_aload_n dJ19_addLast_45 rfl rfl ?_
      refine kx_iconst (v := 1) dJ19_addLast_46 (by decide) ?_
      obtain ⟨hr, h⟩ := h
      obtain ⟨c13, c14, hc, hs, h⟩ := h
      refine kx_callV dJ19_addLast_47 lk_J19_71 (kw_J19_grow h) rfl (wR_rc hr rfl) rfl (Nat.le_of_ble_eq_true rfl) (Nat.le_of_ble_eq_true rfl) (Nat.le_of_ble_eq_true rfl) hc hs (fun _ _ _ hx => kx_out rfl (hX _ _ _ hx)) (fun v_ σ12 hq => ?_)
      obtain ⟨rfl, h⟩ := hq
      exact kx_vret dJ19_addLast_50 rfl (hQ _ _ ⟨rfl, h⟩)
set_option maxHeartbeats 8000000 in
theorem kw_J19_iterator {G : KG} {bc bs : Nat} {σ : KHp} {x0 : Nat} {Q : Option Nat → KHp → Prop} {X : String → Nat → KHp → Prop} (h : W_J19_iterator G bc bs σ x0 Q X) : kx_c G yJ19_iterator (ws_ yJ19_iterator cJ19_iterator 1 (Option.some (Jvm.ClassFile.FieldType.object "java/util/Iterator"))) 4 bc bs [.ref (x0)] σ (fun rv σ' => ∃ r, rv = some (va_rf (r)) ∧ Q r σ') X := by
  refine kx_mk3 (ini := false) (by decide) (Nat.le_of_ble_eq_true rfl) (fun h => by cases h) (fun Q1 X1 hQ hX => ?_)
  unfold W_J19_iterator at h
  refine kW_new dJ19_iterator_0 kc_J31 q1919 q1920 q195 rfl h (fun q1 σ2 h => ?_)
  refine kx_dup dJ19_iterator_3 rfl ?_
  refine kx_aload_n dJ19_iterator_4 rfl rfl ?_
  refine kx_callI dJ19_iterator_5 lk_J19_133 (kw_J31_init h) rfl rfl (Nat.le_of_ble_eq_true rfl) (Nat.le_of_ble_eq_true rfl) (Nat.le_of_ble_eq_true rfl) (Nat.le_of_ble_eq_true rfl) (Nat.le_of_ble_eq_true rfl) (fun _ _ _ hx => kx_out rfl (hX _ _ _ hx)) (fun v_ σ4 hq => ?_)
  obtain ⟨rfl, h⟩ := hq
  exact kx_aret dJ19_iterator_8 rfl (Or.inl ⟨_, rfl⟩) (Or.inr ⟨_, rfl⟩) (hQ _ _ ⟨some _, rfl, h⟩)
set_option maxHeartbeats 8000000 in
theorem kw_J19_removeLast {G : KG} {σ : KHp} {x0 : Nat} {Q : Option Nat → KHp → Prop} {X : String → Nat → KHp → Prop} (h : W_J19_removeLast G σ x0 Q X) : kx_c G yJ19_removeLast (ws_ yJ19_removeLast cJ19_removeLast 2 (Option.some (Jvm.ClassFile.FieldType.object "java/lang/Object"))) 3 0 0 [.ref (x0)] σ (fun rv σ' => ∃ r, rv = some (va_rf (r)) ∧ Q r σ') X := by
  refine kx_mk3 (ini := false) (by decide) (Nat.le_of_ble_eq_true rfl) (fun h => by cases h) (fun Q1 X1 hQ hX => ?_)
  unfold W_J19_removeLast at h
  refine kx_aload_n dJ19_removeLast_0 rfl rfl ?_
  obtain ⟨hr, h⟩ := h
  refine kx_callV dJ19_removeLast_1 lk_J19_100 (kw_J19_pollLast h) rfl (wR_rc hr rfl) rfl (Nat.le_of_ble_eq_true rfl) (Nat.le_of_ble_eq_true rfl) (Nat.le_of_ble_eq_true rfl) (Nat.le_of_ble_eq_true rfl) (Nat.le_of_ble_eq_true rfl) (fun _ _ _ hx => kx_out rfl (hX _ _ _ hx)) (fun v_ σ2 hq => ?_)
  obtain ⟨v1, rfl, h⟩ := hq
  refine kx_astore_nO dJ19_removeLast_4 rfl (Nat.le_of_ble_eq_true rfl) ?_
  refine kx_aload_nO dJ19_removeLast_5 rfl rfl ?_
  refine kx_ifnonnullO (tgt := 17) dJ19_removeLast_6 (by decide) (fun c => ?_) (fun c => ?_)
  · have h := w_ift c h
    exact h.elim
  · have h := w_iff c h
    refine kx_aload_nO dJ19_removeLast_17 rfl rfl ?_
    exact kx_aret dJ19_removeLast_18 rfl (Or.inl ⟨_, rfl⟩) (va_rfs _) (hQ _ _ ⟨_, rfl, h⟩)
set_option maxHeartbeats 8000000 in
theorem kw_X1_keep {G : KG} {bc bs : Nat} {σ : KHp} {x0 : Nat} {x1 : Option Nat} {Q : KHp → Prop} {X : String → Nat → KHp → Prop} (h : W_X1_keep G bc bs σ x0 x1 Q X) : kx_c G yX1_keep (ws_ yX1_keep cX1_keep 2 (Option.none : Option Jvm.ClassFile.FieldType)) 6 bc bs [.ref (x0), va_rf (x1)] σ (fun rv σ' => rv = none ∧ Q σ') X := by
  refine kx_mk3 (ini := false) rfl (by cases x1 <;> exact Nat.le_of_ble_eq_true rfl) (fun h => by cases h) (fun Q1 X1 hQ hX => ?_)
  unfold W_X1_keep at h
  refine kx_lwF [(0, .ref x0), (1, va_rf (x1))] (by cases x1 <;> exact ⟨rfl, rfl, trivial⟩) ?_
  refine kx_aload_n dX1_keep_0 rfl rfl ?_
  refine kW_gO dX1_keep_1 (kf1 fl_X1_110_X1) h (fun v1 h => ?_)
  obtain ⟨a2, rfl, hUa2⟩ := h
  have h := hUa2
  obtain ⟨hr, h⟩ := h
  refine kx_callV dX1_keep_4 lk_X1_147 (kw_J19_size h) rfl (wR_rc hr rfl) rfl (Nat.le_of_ble_eq_true rfl) (Nat.le_of_ble_eq_true rfl) (Nat.le_of_ble_eq_true rfl) (Nat.le_of_ble_eq_true rfl) (Nat.le_of_ble_eq_true rfl) (fun _ _ _ hx => kx_out rfl (hX _ _ _ hx)) (fun v_ σ4 hq => ?_)
  obtain ⟨v3, rfl, h⟩ := hq
  refine kx_bipush (v := 6) dX1_keep_7 (by decide) ?_
  refine kW_jNa 20 [] h (fun σ11 bcv10 bsv10 h => ?_) (fun k5 jk5 h => ?_)
  · skip
    refine kx_aload_n dX1_keep_20 rfl rfl ?_
    refine kW_gO dX1_keep_21 (kf1 fl_X1_110_X1) h (fun v12 h => ?_)
    refine kx_aload_nO dX1_keep_24 rfl rfl ?_
    obtain ⟨a13, rfl, hUa13⟩ := h
    have h := hUa13
    obtain ⟨hr, h⟩ := h
    obtain ⟨c16, c17, hc, hs, h⟩ := h
    refine kx_callV dX1_keep_25 lk_X1_154 (kw_J19_addLast h) rfl (wR_rc hr rfl) rfl (Nat.le_of_ble_eq_true rfl) (Nat.le_of_ble_eq_true rfl) (Nat.le_of_ble_eq_true rfl) hc hs (fun _ _ _ hx => kx_out rfl (hX _ _ _ hx)) (fun v_ σ15 hq => ?_)
    obtain ⟨rfl, h⟩ := hq
    exact kx_vret dX1_keep_28 rfl (hQ _ _ ⟨rfl, h⟩)
  · skip
    refine kx_icmp_ne (tgt := 20) dX1_keep_9 (by decide) (fun c => ?_) (fun c => ?_)
    · have h := w_iff c h
      exact jk5 _ _ _ h
    · have h := w_ift c h
      refine kx_aload_n dX1_keep_12 rfl rfl ?_
      refine kW_gO dX1_keep_13 (kf1 fl_X1_110_X1) h (fun v6 h => ?_)
      obtain ⟨a7, rfl, hUa7⟩ := h
      have h := hUa7
      obtain ⟨hr, h⟩ := h
      refine kx_callV dX1_keep_16 lk_X1_150 (kw_J19_removeFirst h) rfl (wR_rc hr rfl) rfl (Nat.le_of_ble_eq_true rfl) (Nat.le_of_ble_eq_true rfl) (Nat.le_of_ble_eq_true rfl) (Nat.le_of_ble_eq_true rfl) (Nat.le_of_ble_eq_true rfl) (fun _ _ _ hx => kx_out rfl (hX _ _ _ hx)) (fun v_ σ9 hq => ?_)
      obtain ⟨v8, rfl, h⟩ := hq
      refine kx_pop dX1_keep_19 (va_cat _) ?_
      exact jk5 _ _ _ h
set_option maxHeartbeats 8000000 in
theorem kw_X1_rated {G : KG} {bc bs : Nat} {σ : KHp} {x0 : Nat} {x1 : Int32} {Q : Int32 → KHp → Prop} {X : String → Nat → KHp → Prop} (h : W_X1_rated G bc bs σ x0 x1 Q X) : kx_c G yX1_rated (ws_ yX1_rated cX1_rated 2 (Option.some Jvm.ClassFile.FieldType.int)) 10 bc bs [.ref (x0), .int (x1)] σ (fun rv σ' => ∃ r, rv = some (.int (r)) ∧ Q r σ') X := by
  refine kx_mk3 (ini := false) rfl (Nat.le_of_ble_eq_true rfl) (fun h => by cases h) (fun Q1 X1 hQ hX => ?_)
  unfold W_X1_rated at h
  refine kx_aload_n dX1_rated_0 rfl rfl ?_
  refine kx_iload_n dX1_rated_1 rfl rfl ?_
  obtain ⟨hr, h⟩ := h
  obtain ⟨c3, c4, hc, hs, h⟩ := h
  refine kx_callV dX1_rated_2 lk_X1_255 (kw_X1_branchAt h) rfl (wR_rc hr rfl) rfl (Nat.le_of_ble_eq_true rfl) (Nat.le_of_ble_eq_true rfl) (Nat.le_of_ble_eq_true rfl) hc hs (fun _ _ _ hx => kx_out rfl (hX _ _ _ hx)) (fun v_ σ2 hq => ?_)
  obtain ⟨v1, rfl, h⟩ := hq
  refine kx_pop dX1_rated_5 (va_cat _) ?_
  refine kx_aload_n dX1_rated_6 rfl rfl ?_
  refine kW_gO dX1_rated_7 (kf1 fl_X1_103_X1) h (fun v5 h => ?_)
  obtain ⟨a6, rfl, hUa6⟩ := h
  have h := hUa6
  refine kW_gO dX1_rated_10 (kf1 fl_X1_205_X2) h (fun v7 h => ?_)
  obtain ⟨a8, rfl, hUa8⟩ := h
  have h := hUa8
  refine kW_gO dX1_rated_13 (kf1 fl_X1_259_X3) h (fun v9 h => ?_)
  refine kx_iload_n dX1_rated_16 rfl rfl ?_
  obtain ⟨a10, rfl, hUa10⟩ := h
  have h := hUa10
  refine kW_lI dX1_rated_17 h (fun v11 h => ?_)
  exact kx_iret dX1_rated_18 rfl (hQ _ _ ⟨_, rfl, h⟩)
set_option maxHeartbeats 8000000 in
theorem kw_X1_loadOf {G : KG} {bc bs : Nat} {σ : KHp} {x0 : Nat} {x1 : Int32} {x2 : Int32} {Q : Int32 → KHp → Prop} {X : String → Nat → KHp → Prop} (h : W_X1_loadOf G bc bs σ x0 x1 x2 Q X) : kx_c G yX1_loadOf (ws_ yX1_loadOf cX1_loadOf 4 (Option.some Jvm.ClassFile.FieldType.int)) 10 bc bs [.ref (x0), .int (x1), .int (x2)] σ (fun rv σ' => ∃ r, rv = some (.int (r)) ∧ Q r σ') X := by
  refine kx_mk3 (ini := false) rfl (Nat.le_of_ble_eq_true rfl) (fun h => by cases h) (fun Q1 X1 hQ hX => ?_)
  unfold W_X1_loadOf at h
  refine kx_aload_n dX1_loadOf_0 rfl rfl ?_
  refine kx_iload_n dX1_loadOf_1 rfl rfl ?_
  obtain ⟨hr, h⟩ := h
  obtain ⟨c3, c4, hc, hs, h⟩ := h
  refine kx_callV dX1_loadOf_2 lk_X1_262 (kw_X1_loadAt h) rfl (wR_rc hr rfl) rfl (Nat.le_of_ble_eq_true rfl) (Nat.le_of_ble_eq_true rfl) (Nat.le_of_ble_eq_true rfl) hc hs (fun _ _ _ hx => kx_out rfl (hX _ _ _ hx)) (fun v_ σ2 hq => ?_)
  obtain ⟨v1, rfl, h⟩ := hq
  refine kx_astore_nO dX1_loadOf_5 rfl (Nat.le_of_ble_eq_true rfl) ?_
  refine kx_iload_n dX1_loadOf_6 rfl rfl ?_
  refine kx_i2l dX1_loadOf_7 rfl ?_
  refine kx_lconst (v := 0) dX1_loadOf_8 (by decide) ?_
  refine kx_ldc2 dX1_loadOf_9 q2073 ?_
  refine kx_callS dX1_loadOf_12 lk_X1_140 (kw_X1_inRange h) rfl rfl (Nat.le_of_ble_eq_true rfl) (Nat.le_of_ble_eq_true rfl) (Nat.le_of_ble_eq_true rfl) (Nat.le_of_ble_eq_true rfl) (Nat.le_of_ble_eq_true rfl) (fun _ _ _ hx => kx_out rfl (hX _ _ _ hx)) (fun v_ σ6 hq => ?_)
  obtain ⟨v5, rfl, h⟩ := hq
  obtain ⟨c9, c10, hc, hs, h⟩ := h
  refine kx_callS dX1_loadOf_15 lk_X1_144 (kw_X1_requireArgument h) rfl rfl (Nat.le_of_ble_eq_true rfl) (Nat.le_of_ble_eq_true rfl) (Nat.le_of_ble_eq_true rfl) hc hs (fun _ _ _ hx => kx_out rfl (hX _ _ _ hx)) (fun v_ σ8 hq => ?_)
  obtain ⟨rfl, h⟩ := hq
  refine kx_iload_n dX1_loadOf_18 rfl rfl ?_
  refine kW_jIa 69 [] h (fun v28 σ29 bcv28 bsv28 h => ?_) (fun k11 jk11 h => ?_)
  · skip
    exact kx_iret dX1_loadOf_69 rfl (hQ _ _ ⟨_, rfl, h⟩)
  · skip
    refine kx_if_ne (tgt := 29) dX1_loadOf_19 (by decide) (fun c => ?_) (fun c => ?_)
    · have h := w_iff c h
      refine kx_iload_n dX1_loadOf_29 rfl rfl ?_
      refine kx_iconst (v := 1) dX1_loadOf_30 (by decide) ?_
      refine kx_icmp_ne (tgt := 41) dX1_loadOf_31 (by decide) (fun c => ?_) (fun c => ?_)
      · have h := w_iff c h
        refine kx_iload_n dX1_loadOf_41 rfl rfl ?_
        refine kx_iconst (v := 2) dX1_loadOf_42 (by decide) ?_
        refine kx_icmp_ne (tgt := 53) dX1_loadOf_43 (by decide) (fun c => ?_) (fun c => ?_)
        · have h := w_iff c h
          refine kx_iload_n dX1_loadOf_53 rfl rfl ?_
          refine kx_iconst (v := 3) dX1_loadOf_54 (by decide) ?_
          refine kx_icmp_ne (tgt := 65) dX1_loadOf_55 (by decide) (fun c => ?_) (fun c => ?_)
          · have h := w_iff c h
            refine kx_aload_nO dX1_loadOf_65 rfl rfl ?_
            obtain ⟨a12, rfl, hUa12⟩ := h
            have h := hUa12
            refine kW_jIa 69 [] h (fun v13 σ14 bcv13 bsv13 h => ?_) (fun k15 jk15 h => ?_)
            · skip
              exact jk11 _ _ _ _ h
            · skip
              rcases h with h | h | h | h
              · skip
                obtain ⟨hr, h⟩ := h
                refine kx_callU dX1_loadOf_66 lk_X1_278_X10 (kw_X9_out h) rfl (wR_rc hr rfl) rfl (Nat.le_of_ble_eq_true rfl) (Nat.le_of_ble_eq_true rfl) (Nat.le_of_ble_eq_true rfl) (Nat.le_of_ble_eq_true rfl) (Nat.le_of_ble_eq_true rfl) (fun _ _ _ hx => kx_out rfl (hX _ _ _ hx)) (fun v_ σ_ hq => ?_)
                obtain ⟨r_, rfl, h⟩ := hq
                exact jk15 _ _ _ _ h
              · skip
                obtain ⟨hr, h⟩ := h
                refine kx_callU dX1_loadOf_66 lk_X1_278_X11 (kw_X9_out h) rfl (wR_rc hr rfl) rfl (Nat.le_of_ble_eq_true rfl) (Nat.le_of_ble_eq_true rfl) (Nat.le_of_ble_eq_true rfl) (Nat.le_of_ble_eq_true rfl) (Nat.le_of_ble_eq_true rfl) (fun _ _ _ hx => kx_out rfl (hX _ _ _ hx)) (fun v_ σ_ hq => ?_)
                obtain ⟨r_, rfl, h⟩ := hq
                exact jk15 _ _ _ _ h
              · skip
                obtain ⟨hr, h⟩ := h
                refine kx_callU dX1_loadOf_66 lk_X1_278_X12 (kw_X9_out h) rfl (wR_rc hr rfl) rfl (Nat.le_of_ble_eq_true rfl) (Nat.le_of_ble_eq_true rfl) (Nat.le_of_ble_eq_true rfl) (Nat.le_of_ble_eq_true rfl) (Nat.le_of_ble_eq_true rfl) (fun _ _ _ hx => kx_out rfl (hX _ _ _ hx)) (fun v_ σ_ hq => ?_)
                obtain ⟨r_, rfl, h⟩ := hq
                exact jk15 _ _ _ _ h
              · skip
                obtain ⟨hr, h⟩ := h
                refine kx_callU dX1_loadOf_66 lk_X1_278_X13 (kw_X13_out h) rfl (wR_rc hr rfl) rfl (Nat.le_of_ble_eq_true rfl) (Nat.le_of_ble_eq_true rfl) (Nat.le_of_ble_eq_true rfl) (Nat.le_of_ble_eq_true rfl) (Nat.le_of_ble_eq_true rfl) (fun _ _ _ hx => kx_out rfl (hX _ _ _ hx)) (fun v_ σ_ hq => ?_)
                obtain ⟨r_, rfl, h⟩ := hq
                exact jk15 _ _ _ _ h
          · have h := w_ift c h
            refine kx_aload_nO dX1_loadOf_58 rfl rfl ?_
            obtain ⟨a16, rfl, hUa16⟩ := h
            have h := hUa16
            refine kW_jIa 62 [] h (fun v17 σ18 bcv17 bsv17 h => ?_) (fun k19 jk19 h => ?_)
            · skip
              refine kx_goto (tgt := 69) dX1_loadOf_62 (by decide) ?_
              exact jk11 _ _ _ _ h
            · skip
              rcases h with h | h | h | h
              · skip
                obtain ⟨hr, h⟩ := h
                refine kx_callU dX1_loadOf_59 lk_X1_275_X10 (kw_X9_first h) rfl (wR_rc hr rfl) rfl (Nat.le_of_ble_eq_true rfl) (Nat.le_of_ble_eq_true rfl) (Nat.le_of_ble_eq_true rfl) (Nat.le_of_ble_eq_true rfl) (Nat.le_of_ble_eq_true rfl) (fun _ _ _ hx => kx_out rfl (hX _ _ _ hx)) (fun v_ σ_ hq => ?_)
                obtain ⟨r_, rfl, h⟩ := hq
                exact jk19 _ _ _ _ h
              · skip
                obtain ⟨hr, h⟩ := h
                refine kx_callU dX1_loadOf_59 lk_X1_275_X11 (kw_X11_first h) rfl (wR_rc hr rfl) rfl (Nat.le_of_ble_eq_true rfl) (Nat.le_of_ble_eq_true rfl) (Nat.le_of_ble_eq_true rfl) (Nat.le_of_ble_eq_true rfl) (Nat.le_of_ble_eq_true rfl) (fun _ _ _ hx => kx_out rfl (hX _ _ _ hx)) (fun v_ σ_ hq => ?_)
                obtain ⟨r_, rfl, h⟩ := hq
                exact jk19 _ _ _ _ h
              · skip
                obtain ⟨hr, h⟩ := h
                refine kx_callU dX1_loadOf_59 lk_X1_275_X12 (kw_X12_first h) rfl (wR_rc hr rfl) rfl (Nat.le_of_ble_eq_true rfl) (Nat.le_of_ble_eq_true rfl) (Nat.le_of_ble_eq_true rfl) (Nat.le_of_ble_eq_true rfl) (Nat.le_of_ble_eq_true rfl) (fun _ _ _ hx => kx_out rfl (hX _ _ _ hx)) (fun v_ σ_ hq => ?_)
                obtain ⟨r_, rfl, h⟩ := hq
                exact jk19 _ _ _ _ h
              · skip
                obtain ⟨hr, h⟩ := h
                refine kx_callU dX1_loadOf_59 lk_X1_275_X13 (kw_X13_first h) rfl (wR_rc hr rfl) rfl (Nat.le_of_ble_eq_true rfl) (Nat.le_of_ble_eq_true rfl) (Nat.le_of_ble_eq_true rfl) (Nat.le_of_ble_eq_true rfl) (Nat.le_of_ble_eq_true rfl) (fun _ _ _ hx => kx_out rfl (hX _ _ _ hx)) (fun v_ σ_ hq => ?_)
                obtain ⟨r_, rfl, h⟩ := hq
                exact jk19 _ _ _ _ h
        · have h := w_ift c h
          refine kx_aload_nO dX1_loadOf_46 rfl rfl ?_
          obtain ⟨a20, rfl, hUa20⟩ := h
          have h := hUa20
          refine kW_gI dX1_loadOf_47 (kfc fl_X1_273_X10 (kfc fl_X1_273_X11 (kfc fl_X1_273_X12 (kf1 fl_X1_273_X13)))) h (fun v21 h => ?_)
          refine kx_goto (tgt := 69) dX1_loadOf_50 (by decide) ?_
          exact jk11 _ _ _ _ h
      · have h := w_ift c h
        refine kx_aload_nO dX1_loadOf_34 rfl rfl ?_
        obtain ⟨a22, rfl, hUa22⟩ := h
        have h := hUa22
        refine kW_gI dX1_loadOf_35 (kfc fl_X1_271_X10 (kfc fl_X1_271_X11 (kfc fl_X1_271_X12 (kf1 fl_X1_271_X13)))) h (fun v23 h => ?_)
        refine kx_goto (tgt := 69) dX1_loadOf_38 (by decide) ?_
        exact jk11 _ _ _ _ h
    · have h := w_ift c h
      refine kx_aload_nO dX1_loadOf_22 rfl rfl ?_
      obtain ⟨a24, rfl, hUa24⟩ := h
      have h := hUa24
      refine kW_jIa 26 [] h (fun v25 σ26 bcv25 bsv25 h => ?_) (fun k27 jk27 h => ?_)
      · skip
        refine kx_goto (tgt := 69) dX1_loadOf_26 (by decide) ?_
        exact jk11 _ _ _ _ h
      · skip
        rcases h with h | h | h | h
        · skip
          obtain ⟨hr, h⟩ := h
          refine kx_callU dX1_loadOf_23 lk_X1_268_X10 (kw_X10_kind h) rfl (wR_rc hr rfl) rfl (Nat.le_of_ble_eq_true rfl) (Nat.le_of_ble_eq_true rfl) (Nat.le_of_ble_eq_true rfl) (Nat.le_of_ble_eq_true rfl) (Nat.le_of_ble_eq_true rfl) (fun _ _ _ hx => kx_out rfl (hX _ _ _ hx)) (fun v_ σ_ hq => ?_)
          obtain ⟨r_, rfl, h⟩ := hq
          exact jk27 _ _ _ _ h
        · skip
          obtain ⟨hr, h⟩ := h
          refine kx_callU dX1_loadOf_23 lk_X1_268_X11 (kw_X11_kind h) rfl (wR_rc hr rfl) rfl (Nat.le_of_ble_eq_true rfl) (Nat.le_of_ble_eq_true rfl) (Nat.le_of_ble_eq_true rfl) (Nat.le_of_ble_eq_true rfl) (Nat.le_of_ble_eq_true rfl) (fun _ _ _ hx => kx_out rfl (hX _ _ _ hx)) (fun v_ σ_ hq => ?_)
          obtain ⟨r_, rfl, h⟩ := hq
          exact jk27 _ _ _ _ h
        · skip
          obtain ⟨hr, h⟩ := h
          refine kx_callU dX1_loadOf_23 lk_X1_268_X12 (kw_X12_kind h) rfl (wR_rc hr rfl) rfl (Nat.le_of_ble_eq_true rfl) (Nat.le_of_ble_eq_true rfl) (Nat.le_of_ble_eq_true rfl) (Nat.le_of_ble_eq_true rfl) (Nat.le_of_ble_eq_true rfl) (fun _ _ _ hx => kx_out rfl (hX _ _ _ hx)) (fun v_ σ_ hq => ?_)
          obtain ⟨r_, rfl, h⟩ := hq
          exact jk27 _ _ _ _ h
        · skip
          obtain ⟨hr, h⟩ := h
          refine kx_callU dX1_loadOf_23 lk_X1_268_X13 (kw_X13_kind h) rfl (wR_rc hr rfl) rfl (Nat.le_of_ble_eq_true rfl) (Nat.le_of_ble_eq_true rfl) (Nat.le_of_ble_eq_true rfl) (Nat.le_of_ble_eq_true rfl) (Nat.le_of_ble_eq_true rfl) (fun _ _ _ hx => kx_out rfl (hX _ _ _ hx)) (fun v_ σ_ hq => ?_)
          obtain ⟨r_, rfl, h⟩ := hq
          exact jk27 _ _ _ _ h
set_option maxHeartbeats 8000000 in
theorem kw_X1_suspects {G : KG} {bc bs : Nat} {σ : KHp} {x0 : Nat} {x1 : Int32} {Q : Int32 → KHp → Prop} {X : String → Nat → KHp → Prop} (h : W_X1_suspects G bc bs σ x0 x1 Q X) : kx_c G yX1_suspects (ws_ yX1_suspects cX1_suspects 2 (Option.some Jvm.ClassFile.FieldType.int)) 10 bc bs [.ref (x0), .int (x1)] σ (fun rv σ' => ∃ r, rv = some (.int (r)) ∧ Q r σ') X := by
  refine kx_mk3 (ini := false) rfl (Nat.le_of_ble_eq_true rfl) (fun h => by cases h) (fun Q1 X1 hQ hX => ?_)
  unfold W_X1_suspects at h
  refine kx_aload_n dX1_suspects_0 rfl rfl ?_
  refine kx_iload_n dX1_suspects_1 rfl rfl ?_
  obtain ⟨hr, h⟩ := h
  obtain ⟨c3, c4, hc, hs, h⟩ := h
  refine kx_callV dX1_suspects_2 lk_X1_255 (kw_X1_branchAt h) rfl (wR_rc hr rfl) rfl (Nat.le_of_ble_eq_true rfl) (Nat.le_of_ble_eq_true rfl) (Nat.le_of_ble_eq_true rfl) hc hs (fun _ _ _ hx => kx_out rfl (hX _ _ _ hx)) (fun v_ σ2 hq => ?_)
  obtain ⟨v1, rfl, h⟩ := hq
  refine kx_aload_n dX1_suspects_5 rfl rfl ?_
  refine kW_gO dX1_suspects_6 (kf1 fl_X1_103_X1) h (fun v5 h => ?_)
  obtain ⟨a6, rfl, hUa6⟩ := h
  have h := hUa6
  refine kW_gI dX1_suspects_9 (kf1 fl_X1_235_X2) h (fun v7 h => ?_)
  obtain ⟨a8, rfl, hUa8⟩ := h
  have h := hUa8
  obtain ⟨hr, h⟩ := h
  refine kx_callV dX1_suspects_12 lk_X1_353 (kw_X5_suspects h) rfl (wR_rc hr rfl) rfl (Nat.le_of_ble_eq_true rfl) (Nat.le_of_ble_eq_true rfl) (Nat.le_of_ble_eq_true rfl) (Nat.le_of_ble_eq_true rfl) (Nat.le_of_ble_eq_true rfl) (fun _ _ _ hx => kx_out rfl (hX _ _ _ hx)) (fun v_ σ10 hq => ?_)
  obtain ⟨v9, rfl, h⟩ := hq
  exact kx_iret dX1_suspects_15 rfl (hQ _ _ ⟨_, rfl, h⟩)
set_option maxHeartbeats 8000000 in
theorem kw_X1_margin {G : KG} {bc bs : Nat} {σ : KHp} {x0 : Nat} {x1 : Int32} {Q : Int32 → KHp → Prop} {X : String → Nat → KHp → Prop} (h : W_X1_margin G bc bs σ x0 x1 Q X) : kx_c G yX1_margin (ws_ yX1_margin cX1_margin 3 (Option.some Jvm.ClassFile.FieldType.int)) 10 bc bs [.ref (x0), .int (x1)] σ (fun rv σ' => ∃ r, rv = some (.int (r)) ∧ Q r σ') X := by
  refine kx_mk3 (ini := false) rfl (Nat.le_of_ble_eq_true rfl) (fun h => by cases h) (fun Q1 X1 hQ hX => ?_)
  unfold W_X1_margin at h
  refine kx_aload_n dX1_margin_0 rfl rfl ?_
  refine kx_iload_n dX1_margin_1 rfl rfl ?_
  obtain ⟨hr, h⟩ := h
  obtain ⟨c3, c4, hc, hs, h⟩ := h
  refine kx_callV dX1_margin_2 lk_X1_255 (kw_X1_branchAt h) rfl (wR_rc hr rfl) rfl (Nat.le_of_ble_eq_true rfl) (Nat.le_of_ble_eq_true rfl) (Nat.le_of_ble_eq_true rfl) hc hs (fun _ _ _ hx => kx_out rfl (hX _ _ _ hx)) (fun v_ σ2 hq => ?_)
  obtain ⟨v1, rfl, h⟩ := hq
  refine kx_astore_nO dX1_margin_5 rfl (Nat.le_of_ble_eq_true rfl) ?_
  refine kx_aload_nO dX1_margin_6 rfl rfl ?_
  obtain ⟨a5, rfl, hUa5⟩ := h
  have h := hUa5
  refine kW_gI dX1_margin_7 (kf1 fl_X1_311_X5) h (fun v6 h => ?_)
  refine kW_jIa 35 [] h (fun v16 σ17 bcv16 bsv16 h => ?_) (fun k7 jk7 h => ?_)
  · skip
    exact kx_iret dX1_margin_35 rfl (hQ _ _ ⟨_, rfl, h⟩)
  · skip
    refine kx_if_ne (tgt := 34) dX1_margin_10 (by decide) (fun c => ?_) (fun c => ?_)
    · have h := w_iff c h
      refine kx_iconst (v := -1) dX1_margin_34 (by decide) ?_
      exact jk7 _ _ _ _ h
    · have h := w_ift c h
      refine kx_aload_n dX1_margin_13 rfl rfl ?_
      refine kx_aload_n dX1_margin_14 rfl rfl ?_
      refine kW_gO dX1_margin_15 (kf1 fl_X1_103_X1) h (fun v8 h => ?_)
      obtain ⟨a9, rfl, hUa9⟩ := h
      have h := hUa9
      refine kW_gI dX1_margin_18 (kf1 fl_X1_235_X2) h (fun v10 h => ?_)
      refine kx_aload_n dX1_margin_21 rfl rfl ?_
      refine kW_gO dX1_margin_22 (kf1 fl_X1_103_X1) h (fun v11 h => ?_)
      obtain ⟨a12, rfl, hUa12⟩ := h
      have h := hUa12
      refine kW_gI dX1_margin_25 (kf1 fl_X1_237_X2) h (fun v13 h => ?_)
      obtain ⟨hr, h⟩ := h
      refine kx_callV dX1_margin_28 lk_X1_362 (kw_X5_margin h) rfl (wR_rc hr rfl) rfl (Nat.le_of_ble_eq_true rfl) (Nat.le_of_ble_eq_true rfl) (Nat.le_of_ble_eq_true rfl) (Nat.le_of_ble_eq_true rfl) (Nat.le_of_ble_eq_true rfl) (fun _ _ _ hx => kx_out rfl (hX _ _ _ hx)) (fun v_ σ15 hq => ?_)
      obtain ⟨v14, rfl, h⟩ := hq
      refine kx_goto (tgt := 35) dX1_margin_31 (by decide) ?_
      exact jk7 _ _ _ _ h
set_option maxHeartbeats 8000000 in
theorem kw_X1_hits {G : KG} {bc bs : Nat} {σ : KHp} {x0 : Nat} {x1 : Int32} {Q : Int32 → KHp → Prop} {X : String → Nat → KHp → Prop} (h : W_X1_hits G bc bs σ x0 x1 Q X) : kx_c G yX1_hits (ws_ yX1_hits cX1_hits 2 (Option.some Jvm.ClassFile.FieldType.int)) 10 bc bs [.ref (x0), .int (x1)] σ (fun rv σ' => ∃ r, rv = some (.int (r)) ∧ Q r σ') X := by
  refine kx_mk3 (ini := false) rfl (Nat.le_of_ble_eq_true rfl) (fun h => by cases h) (fun Q1 X1 hQ hX => ?_)
  unfold W_X1_hits at h
  refine kx_aload_n dX1_hits_0 rfl rfl ?_
  refine kx_iload_n dX1_hits_1 rfl rfl ?_
  obtain ⟨hr, h⟩ := h
  obtain ⟨c3, c4, hc, hs, h⟩ := h
  refine kx_callV dX1_hits_2 lk_X1_366 (kw_X1_signatureAt h) rfl (wR_rc hr rfl) rfl (Nat.le_of_ble_eq_true rfl) (Nat.le_of_ble_eq_true rfl) (Nat.le_of_ble_eq_true rfl) hc hs (fun _ _ _ hx => kx_out rfl (hX _ _ _ hx)) (fun v_ σ2 hq => ?_)
  obtain ⟨v1, rfl, h⟩ := hq
  refine kx_pop dX1_hits_5 (va_cat _) ?_
  refine kx_aload_n dX1_hits_6 rfl rfl ?_
  refine kW_gO dX1_hits_7 (kf1 fl_X1_103_X1) h (fun v5 h => ?_)
  obtain ⟨a6, rfl, hUa6⟩ := h
  have h := hUa6
  refine kW_gO dX1_hits_10 (kf1 fl_X1_370_X2) h (fun v7 h => ?_)
  refine kx_iload_n dX1_hits_13 rfl rfl ?_
  obtain ⟨a8, rfl, hUa8⟩ := h
  have h := hUa8
  refine kW_lI dX1_hits_14 h (fun v9 h => ?_)
  exact kx_iret dX1_hits_15 rfl (hQ _ _ ⟨_, rfl, h⟩)
set_option maxHeartbeats 8000000 in
theorem kw_X1_nuisanceHits {G : KG} {bc bs : Nat} {σ : KHp} {x0 : Nat} {x1 : Int32} {Q : Int32 → KHp → Prop} {X : String → Nat → KHp → Prop} (h : W_X1_nuisanceHits G bc bs σ x0 x1 Q X) : kx_c G yX1_nuisanceHits (ws_ yX1_nuisanceHits cX1_nuisanceHits 2 (Option.some Jvm.ClassFile.FieldType.int)) 10 bc bs [.ref (x0), .int (x1)] σ (fun rv σ' => ∃ r, rv = some (.int (r)) ∧ Q r σ') X := by
  refine kx_mk3 (ini := false) rfl (Nat.le_of_ble_eq_true rfl) (fun h => by cases h) (fun Q1 X1 hQ hX => ?_)
  unfold W_X1_nuisanceHits at h
  refine kx_aload_n dX1_nuisanceHits_0 rfl rfl ?_
  refine kx_iload_n dX1_nuisanceHits_1 rfl rfl ?_
  obtain ⟨hr, h⟩ := h
  obtain ⟨c3, c4, hc, hs, h⟩ := h
  refine kx_callV dX1_nuisanceHits_2 lk_X1_378 (kw_X1_nuisanceAt h) rfl (wR_rc hr rfl) rfl (Nat.le_of_ble_eq_true rfl) (Nat.le_of_ble_eq_true rfl) (Nat.le_of_ble_eq_true rfl) hc hs (fun _ _ _ hx => kx_out rfl (hX _ _ _ hx)) (fun v_ σ2 hq => ?_)
  obtain ⟨v1, rfl, h⟩ := hq
  obtain ⟨a5, rfl, hUa5⟩ := h
  have h := hUa5
  refine kW_gI dX1_nuisanceHits_5 (kf1 fl_X1_382_X16) h (fun v6 h => ?_)
  exact kx_iret dX1_nuisanceHits_8 rfl (hQ _ _ ⟨_, rfl, h⟩)
set_option maxHeartbeats 8000000 in
theorem kw_X1_wouldMatch {G : KG} {bc bs : Nat} {σ : KHp} {x0 : Nat} {x1 : Int32} {x2 : UInt32} {x3 : UInt32} {x4 : UInt32} {x5 : UInt32} {x6 : UInt32} {Q : Int32 → KHp → Prop} {X : String → Nat → KHp → Prop} (h : W_X1_wouldMatch G bc bs σ x0 x1 x2 x3 x4 x5 x6 Q X) : kx_c G yX1_wouldMatch (ws_ yX1_wouldMatch cX1_wouldMatch 8 (Option.some Jvm.ClassFile.FieldType.boolean)) 10 bc bs [.ref (x0), .int (x1), .float (x2), .float (x3), .float (x4), .float (x5), .float (x6)] σ (fun rv σ' => ∃ r, rv = some (.int (r)) ∧ Q r σ') X := by
  refine kx_mk3 (ini := false) rfl (Nat.le_of_ble_eq_true rfl) (fun h => by cases h) (fun Q1 X1 hQ hX => ?_)
  unfold W_X1_wouldMatch at h
  refine kx_bipush (v := 6) dX1_wouldMatch_0 (by decide) ?_
  refine kW_newa dX1_wouldMatch_2 rfl q309 (fun _ _ => rfl) h (fun n3 q1 σ2 h => ?_)
  refine kx_dup dX1_wouldMatch_4 rfl ?_
  refine kx_iconst (v := 0) dX1_wouldMatch_5 (by decide) ?_
  refine kx_fload_n dX1_wouldMatch_6 rfl rfl ?_
  refine kW_sF dX1_wouldMatch_7 h (fun σ4 h => ?_)
  refine kx_dup dX1_wouldMatch_8 rfl ?_
  refine kx_iconst (v := 1) dX1_wouldMatch_9 (by decide) ?_
  refine kx_fload_n dX1_wouldMatch_10 rfl rfl ?_
  refine kW_sF dX1_wouldMatch_11 h (fun σ5 h => ?_)
  refine kx_dup dX1_wouldMatch_12 rfl ?_
  refine kx_iconst (v := 2) dX1_wouldMatch_13 (by decide) ?_
  refine kx_fload dX1_wouldMatch_14 rfl ?_
  refine kW_sF dX1_wouldMatch_16 h (fun σ6 h => ?_)
  refine kx_dup dX1_wouldMatch_17 rfl ?_
  refine kx_iconst (v := 3) dX1_wouldMatch_18 (by decide) ?_
  refine kx_fload dX1_wouldMatch_19 rfl ?_
  refine kW_sF dX1_wouldMatch_21 h (fun σ7 h => ?_)
  refine kx_dup dX1_wouldMatch_22 rfl ?_
  refine kx_iconst (v := 4) dX1_wouldMatch_23 (by decide) ?_
  refine kx_fload dX1_wouldMatch_24 rfl ?_
  refine kW_sF dX1_wouldMatch_26 h (fun σ8 h => ?_)
  refine kx_dup dX1_wouldMatch_27 rfl ?_
  refine kx_iconst (v := 5) dX1_wouldMatch_28 (by decide) ?_
  refine kx_fload_n dX1_wouldMatch_29 rfl rfl ?_
  refine kx_fload_n dX1_wouldMatch_30 rfl rfl ?_
  refine kW_fmul dX1_wouldMatch_31 h (fun v9 h => ?_)
  refine kW_sF dX1_wouldMatch_32 h (fun σ10 h => ?_)
  refine kx_astore dX1_wouldMatch_33 (Nat.le_of_ble_eq_true rfl) ?_
  refine kx_aload_n dX1_wouldMatch_35 rfl rfl ?_
  refine kx_iload_n dX1_wouldMatch_36 rfl rfl ?_
  obtain ⟨hr, h⟩ := h
  obtain ⟨c13, c14, hc, hs, h⟩ := h
  refine kx_callV dX1_wouldMatch_37 lk_X1_366 (kw_X1_signatureAt h) rfl (wR_rc hr rfl) rfl (Nat.le_of_ble_eq_true rfl) (Nat.le_of_ble_eq_true rfl) (Nat.le_of_ble_eq_true rfl) hc hs (fun _ _ _ hx => kx_out rfl (hX _ _ _ hx)) (fun v_ σ12 hq => ?_)
  obtain ⟨v11, rfl, h⟩ := hq
  refine kx_aload dX1_wouldMatch_40 rfl ?_
  obtain ⟨a15, rfl, hUa15⟩ := h
  have h := hUa15
  obtain ⟨hr, h⟩ := h
  refine kx_callV dX1_wouldMatch_42 lk_X1_384 (kw_X14_matches h) rfl (wR_rc hr rfl) rfl (Nat.le_of_ble_eq_true rfl) (Nat.le_of_ble_eq_true rfl) (Nat.le_of_ble_eq_true rfl) (Nat.le_of_ble_eq_true rfl) (Nat.le_of_ble_eq_true rfl) (fun _ _ _ hx => kx_out rfl (hX _ _ _ hx)) (fun v_ σ17 hq => ?_)
  obtain ⟨v16, rfl, h⟩ := hq
  exact kx_zret dX1_wouldMatch_45 rfl h.1 (hQ _ _ ⟨_, rfl, h.2⟩)
set_option maxHeartbeats 8000000 in
theorem kw_X1_tripAt {G : KG} {bc bs : Nat} {σ : KHp} {x0 : Nat} {x1 : Int32} {Q : Option Nat → KHp → Prop} {X : String → Nat → KHp → Prop} (h : W_X1_tripAt G bc bs σ x0 x1 Q X) : kx_c G yX1_tripAt (ws_ yX1_tripAt cX1_tripAt 5 (Option.some (Jvm.ClassFile.FieldType.object "ArcRecorder$Trip"))) 9 bc bs [.ref (x0), .int (x1)] σ (fun rv σ' => ∃ r, rv = some (va_rf (r)) ∧ Q r σ') X := by
  refine kx_mk3 (ini := false) rfl (Nat.le_of_ble_eq_true rfl) (fun h => by cases h) (fun Q1 X1 hQ hX => ?_)
  unfold W_X1_tripAt at h
  refine kx_iload_n dX1_tripAt_0 rfl rfl ?_
  refine kx_i2l dX1_tripAt_1 rfl ?_
  refine kx_lconst (v := 0) dX1_tripAt_2 (by decide) ?_
  refine kx_aload_n dX1_tripAt_3 rfl rfl ?_
  obtain ⟨hr, h⟩ := h
  refine kx_callV dX1_tripAt_4 lk_X1_441 (kw_X1_memoryCount h) rfl (wR_rc hr rfl) rfl (Nat.le_of_ble_eq_true rfl) (Nat.le_of_ble_eq_true rfl) (Nat.le_of_ble_eq_true rfl) (Nat.le_of_ble_eq_true rfl) (Nat.le_of_ble_eq_true rfl) (fun _ _ _ hx => kx_out rfl (hX _ _ _ hx)) (fun v_ σ2 hq => ?_)
  obtain ⟨v1, rfl, h⟩ := hq
  refine kx_iconst (v := 1) dX1_tripAt_7 (by decide) ?_
  refine kx_isub dX1_tripAt_8 ?_
  refine kx_i2l dX1_tripAt_9 rfl ?_
  refine kx_callS dX1_tripAt_10 lk_X1_140 (kw_X1_inRange h) rfl rfl (Nat.le_of_ble_eq_true rfl) (Nat.le_of_ble_eq_true rfl) (Nat.le_of_ble_eq_true rfl) (Nat.le_of_ble_eq_true rfl) (Nat.le_of_ble_eq_true rfl) (fun _ _ _ hx => kx_out rfl (hX _ _ _ hx)) (fun v_ σ4 hq => ?_)
  obtain ⟨v3, rfl, h⟩ := hq
  obtain ⟨c7, c8, hc, hs, h⟩ := h
  refine kx_callS dX1_tripAt_13 lk_X1_242 (kw_X1_requireIndex h) rfl rfl (Nat.le_of_ble_eq_true rfl) (Nat.le_of_ble_eq_true rfl) (Nat.le_of_ble_eq_true rfl) hc hs (fun _ _ _ hx => kx_out rfl (hX _ _ _ hx)) (fun v_ σ6 hq => ?_)
  obtain ⟨rfl, h⟩ := hq
  refine kx_iload_n dX1_tripAt_16 rfl rfl ?_
  refine kx_istore_n dX1_tripAt_17 rfl (Nat.le_of_ble_eq_true rfl) ?_
  refine kx_aload_n dX1_tripAt_18 rfl rfl ?_
  refine kW_gO dX1_tripAt_19 (kf1 fl_X1_103_X1) h (fun v9 h => ?_)
  obtain ⟨a10, rfl, hUa10⟩ := h
  have h := hUa10
  refine kW_gO dX1_tripAt_22 (kf1 fl_X1_444_X2) h (fun v11 h => ?_)
  obtain ⟨a12, rfl, hUa12⟩ := h
  have h := hUa12
  obtain ⟨hr, h⟩ := h
  obtain ⟨c15, c16, hc, hs, h⟩ := h
  refine kx_callV dX1_tripAt_25 lk_X1_447 (kw_J19_iterator h) rfl (wR_rc hr rfl) rfl (Nat.le_of_ble_eq_true rfl) (Nat.le_of_ble_eq_true rfl) (Nat.le_of_ble_eq_true rfl) hc hs (fun _ _ _ hx => kx_out rfl (hX _ _ _ hx)) (fun v_ σ14 hq => ?_)
  obtain ⟨v13, rfl, h⟩ := hq
  refine kx_astore_nO dX1_tripAt_28 rfl (Nat.le_of_ble_eq_true rfl) ?_
  refine kx_lwF [(2, .int (x1)), (3, va_rf (v13))] ⟨rfl, rfl, trivial⟩ ?_
  refine loopW3_k (fun (σ : KHp) (bc29 bs29 : Nat) (l2 : Int32) => kx G (yX1_tripAt.cls, cX1_tripAt, 5, (Option.some (Jvm.ClassFile.FieldType.object "ArcRecorder$Trip")), false, []) (9, bc, bs, Q1, X1) (bc29) (bs29) σ 29 (kF [(2, .int (l2)), (3, va_rf (v13))]) []) (fun kI29 hI29 σ bc29 bs29 l2 h => ?_) 9000 σ14 (bc - c7 - c15) (bs - c8 - c16) x1 h
  unfold WB_X1_tripAt_29 at h
  refine kx_aload_nO dX1_tripAt_29 rfl rfl ?_
  obtain ⟨a30001, rfl, hUa30001⟩ := h
  have h := hUa30001
  refine kW_jIa 35 [] h (fun v30002 σ30003 bcv30002 bsv30002 h => ?_) (fun k30004 jk30004 h => ?_)
  · skip
    refine kx_if_eq (tgt := 62) dX1_tripAt_35 (by decide) (fun c => ?_) (fun c => ?_)
    · have h := w_ift c h
      refine kx_null dX1_tripAt_62 ?_
      exact kx_aret dX1_tripAt_63 rfl (Or.inl ⟨_, rfl⟩) (Or.inl rfl) (hQ _ _ ⟨none, rfl, h⟩)
    · have h := w_iff c h
      refine kx_aload_n dX1_tripAt_38 rfl rfl ?_
      refine kW_jOa 44 [] h (fun v30005 σ30006 bcv30005 bsv30005 h => ?_) (fun k30007 jk30007 h => ?_)
      · skip
        obtain ⟨a30008, rfl, hUa30008⟩ := h
        have h := hUa30008
        obtain ⟨⟨tc, fc, hr⟩, h⟩ := h
        refine kx_castS dX1_tripAt_44 hr rfl q2567 ?_
        refine kx_astore dX1_tripAt_47 (Nat.le_of_ble_eq_true rfl) ?_
        refine kx_iload_n dX1_tripAt_49 rfl rfl ?_
        refine kx_if_ne (tgt := 56) dX1_tripAt_50 (by decide) (fun c => ?_) (fun c => ?_)
        · have h := w_iff c h
          refine kx_iinc2 (v := -1) dX1_tripAt_56 rfl (by decide) ?_
          refine kx_goto (tgt := 29) dX1_tripAt_59 (by decide) ?_
          exact kx_lwF [(2, .int ((l2 + (-1 : Int32)))), (3, .ref (a30001))] ⟨rfl, rfl, trivial⟩ (hI29 _ _ _ _ h)
        · have h := w_ift c h
          refine kx_aload dX1_tripAt_53 rfl ?_
          exact kx_aret dX1_tripAt_55 rfl (Or.inl ⟨_, rfl⟩) (Or.inr ⟨_, rfl⟩) (hQ _ _ ⟨some _, rfl, h⟩)
      · skip
        rcases h with h | h
        · skip
          obtain ⟨hr, h⟩ := h
          refine kx_callF dX1_tripAt_39 lk_X1_304_J30 (kw_J30_next h) rfl hr.choose_spec.choose_spec rfl rfl (Nat.le_of_ble_eq_true rfl) (Nat.le_of_ble_eq_true rfl) (Nat.le_of_ble_eq_true rfl) (Nat.le_of_ble_eq_true rfl) (Nat.le_of_ble_eq_true rfl) (fun _ _ _ hx => kx_out rfl (hX _ _ _ hx)) (fun v_ σ_ hq => ?_)
          obtain ⟨r_, rfl, h⟩ := hq
          exact jk30007 _ _ _ _ h
        · skip
          obtain ⟨hr, h⟩ := h
          refine kx_callF dX1_tripAt_39 lk_X1_304_J31 (kw_J31_next h) rfl hr.choose_spec.choose_spec rfl rfl (Nat.le_of_ble_eq_true rfl) (Nat.le_of_ble_eq_true rfl) (Nat.le_of_ble_eq_true rfl) (Nat.le_of_ble_eq_true rfl) (Nat.le_of_ble_eq_true rfl) (fun _ _ _ hx => kx_out rfl (hX _ _ _ hx)) (fun v_ σ_ hq => ?_)
          obtain ⟨r_, rfl, h⟩ := hq
          exact jk30007 _ _ _ _ h
  · skip
    rcases h with h | h
    · skip
      obtain ⟨hr, h⟩ := h
      refine kx_callF dX1_tripAt_30 lk_X1_298_J30 (kw_J30_hasNext h) rfl hr.choose_spec.choose_spec rfl rfl (Nat.le_of_ble_eq_true rfl) (Nat.le_of_ble_eq_true rfl) (Nat.le_of_ble_eq_true rfl) (Nat.le_of_ble_eq_true rfl) (Nat.le_of_ble_eq_true rfl) (fun _ _ _ hx => kx_out rfl (hX _ _ _ hx)) (fun v_ σ_ hq => ?_)
      obtain ⟨r_, rfl, h⟩ := hq
      exact jk30004 _ _ _ _ h
    · skip
      obtain ⟨hr, h⟩ := h
      refine kx_callF dX1_tripAt_30 lk_X1_298_J31 (kw_J31_hasNext h) rfl hr.choose_spec.choose_spec rfl rfl (Nat.le_of_ble_eq_true rfl) (Nat.le_of_ble_eq_true rfl) (Nat.le_of_ble_eq_true rfl) (Nat.le_of_ble_eq_true rfl) (Nat.le_of_ble_eq_true rfl) (fun _ _ _ hx => kx_out rfl (hX _ _ _ hx)) (fun v_ σ_ hq => ?_)
      obtain ⟨r_, rfl, h⟩ := hq
      exact jk30004 _ _ _ _ h
set_option maxHeartbeats 8000000 in
theorem kw_X1_named {G : KG} {bc bs : Nat} {σ : KHp} {x0 : Nat} {x1 : Int32} {x2 : Int32} {Q : Int32 → KHp → Prop} {X : String → Nat → KHp → Prop} (h : W_X1_named G bc bs σ x0 x1 x2 Q X) : kx_c G yX1_named (ws_ yX1_named cX1_named 4 (Option.some Jvm.ClassFile.FieldType.int)) 10 bc bs [.ref (x0), .int (x1), .int (x2)] σ (fun rv σ' => ∃ r, rv = some (.int (r)) ∧ Q r σ') X := by
  refine kx_mk3 (ini := false) rfl (Nat.le_of_ble_eq_true rfl) (fun h => by cases h) (fun Q1 X1 hQ hX => ?_)
  unfold W_X1_named at h
  refine kx_aload_n dX1_named_0 rfl rfl ?_
  refine kx_iload_n dX1_named_1 rfl rfl ?_
  obtain ⟨hr, h⟩ := h
  obtain ⟨c3, c4, hc, hs, h⟩ := h
  refine kx_callV dX1_named_2 lk_X1_450 (kw_X1_tripAt h) rfl (wR_rc hr rfl) rfl (Nat.le_of_ble_eq_true rfl) (Nat.le_of_ble_eq_true rfl) (Nat.le_of_ble_eq_true rfl) hc hs (fun _ _ _ hx => kx_out rfl (hX _ _ _ hx)) (fun v_ σ2 hq => ?_)
  obtain ⟨v1, rfl, h⟩ := hq
  refine kx_astore_nO dX1_named_5 rfl (Nat.le_of_ble_eq_true rfl) ?_
  refine kx_iload_n dX1_named_6 rfl rfl ?_
  refine kx_i2l dX1_named_7 rfl ?_
  refine kx_lconst (v := 0) dX1_named_8 (by decide) ?_
  refine kx_aload_nO dX1_named_9 rfl rfl ?_
  obtain ⟨a5, rfl, hUa5⟩ := h
  have h := hUa5
  refine kW_gO dX1_named_10 (kf1 fl_X1_461_X20) h (fun v6 h => ?_)
  obtain ⟨a7, rfl, hUa7⟩ := h
  have h := hUa7
  refine kW_len dX1_named_13 h (fun v8 h => ?_)
  refine kx_iconst (v := 1) dX1_named_14 (by decide) ?_
  refine kx_isub dX1_named_15 ?_
  refine kx_i2l dX1_named_16 rfl ?_
  refine kx_callS dX1_named_17 lk_X1_140 (kw_X1_inRange h) rfl rfl (Nat.le_of_ble_eq_true rfl) (Nat.le_of_ble_eq_true rfl) (Nat.le_of_ble_eq_true rfl) (Nat.le_of_ble_eq_true rfl) (Nat.le_of_ble_eq_true rfl) (fun _ _ _ hx => kx_out rfl (hX _ _ _ hx)) (fun v_ σ10 hq => ?_)
  obtain ⟨v9, rfl, h⟩ := hq
  obtain ⟨c13, c14, hc, hs, h⟩ := h
  refine kx_callS dX1_named_20 lk_X1_328 (kw_X1_requireElement h) rfl rfl (Nat.le_of_ble_eq_true rfl) (Nat.le_of_ble_eq_true rfl) (Nat.le_of_ble_eq_true rfl) hc hs (fun _ _ _ hx => kx_out rfl (hX _ _ _ hx)) (fun v_ σ12 hq => ?_)
  obtain ⟨rfl, h⟩ := hq
  refine kx_aload_n dX1_named_23 rfl rfl ?_
  refine kW_gO dX1_named_24 (kf1 fl_X1_461_X20) h (fun v15 h => ?_)
  refine kx_iload_n dX1_named_27 rfl rfl ?_
  obtain ⟨a16, rfl, hUa16⟩ := h
  have h := hUa16
  refine kW_lI dX1_named_28 h (fun v17 h => ?_)
  exact kx_iret dX1_named_29 rfl (hQ _ _ ⟨_, rfl, h⟩)
set_option maxHeartbeats 8000000 in
theorem kw_X1_peakOf {G : KG} {bc bs : Nat} {σ : KHp} {x0 : Nat} {x1 : Int32} {Q : UInt32 → KHp → Prop} {X : String → Nat → KHp → Prop} (h : W_X1_peakOf G bc bs σ x0 x1 Q X) : kx_c G yX1_peakOf (ws_ yX1_peakOf cX1_peakOf 2 (Option.some Jvm.ClassFile.FieldType.float)) 10 bc bs [.ref (x0), .int (x1)] σ (fun rv σ' => ∃ r, rv = some (.float (r)) ∧ Q r σ') X := by
  refine kx_mk3 (ini := false) rfl (Nat.le_of_ble_eq_true rfl) (fun h => by cases h) (fun Q1 X1 hQ hX => ?_)
  unfold W_X1_peakOf at h
  refine kx_aload_n dX1_peakOf_0 rfl rfl ?_
  refine kx_iload_n dX1_peakOf_1 rfl rfl ?_
  obtain ⟨hr, h⟩ := h
  obtain ⟨c3, c4, hc, hs, h⟩ := h
  refine kx_callV dX1_peakOf_2 lk_X1_450 (kw_X1_tripAt h) rfl (wR_rc hr rfl) rfl (Nat.le_of_ble_eq_true rfl) (Nat.le_of_ble_eq_true rfl) (Nat.le_of_ble_eq_true rfl) hc hs (fun _ _ _ hx => kx_out rfl (hX _ _ _ hx)) (fun v_ σ2 hq => ?_)
  obtain ⟨v1, rfl, h⟩ := hq
  obtain ⟨a5, rfl, hUa5⟩ := h
  have h := hUa5
  refine kW_gF dX1_peakOf_5 (kf1 fl_X1_464_X20) h (fun v6 h => ?_)
  exact kx_fret dX1_peakOf_8 rfl (hQ _ _ ⟨_, rfl, h⟩)
set_option maxHeartbeats 8000000 in
theorem kw_X1_undo {G : KG} {bc bs : Nat} {σ : KHp} {x0 : Nat} {Q : Int32 → KHp → Prop} {X : String → Nat → KHp → Prop} (h : W_X1_undo G bc bs σ x0 Q X) : kx_c G yX1_undo (ws_ yX1_undo cX1_undo 1 (Option.some Jvm.ClassFile.FieldType.int)) 9 bc bs [.ref (x0)] σ (fun rv σ' => ∃ r, rv = some (.int (r)) ∧ Q r σ') X := by
  refine kx_mk3 (ini := false) rfl (Nat.le_of_ble_eq_true rfl) (fun h => by cases h) (fun Q1 X1 hQ hX => ?_)
  unfold W_X1_undo at h
  refine kx_aload_n dX1_undo_0 rfl rfl ?_
  refine kW_gO dX1_undo_1 (kf1 fl_X1_110_X1) h (fun v1 h => ?_)
  obtain ⟨a2, rfl, hUa2⟩ := h
  have h := hUa2
  obtain ⟨hr, h⟩ := h
  refine kx_callV dX1_undo_4 lk_X1_479 (kw_J19_isEmpty h) rfl (wR_rc hr rfl) rfl (Nat.le_of_ble_eq_true rfl) (Nat.le_of_ble_eq_true rfl) (Nat.le_of_ble_eq_true rfl) (Nat.le_of_ble_eq_true rfl) (Nat.le_of_ble_eq_true rfl) (fun _ _ _ hx => kx_out rfl (hX _ _ _ hx)) (fun v_ σ4 hq => ?_)
  obtain ⟨v3, rfl, h⟩ := hq
  refine kW_jIa 15 [] h (fun v6 σ7 bcv6 bsv6 h => ?_) (fun k5 jk5 h => ?_)
  · skip
    obtain ⟨c10, c11, hc, hs, h⟩ := h
    refine kx_callS dX1_undo_15 lk_X1_132 (kw_X1_requireState h) rfl rfl (Nat.le_of_ble_eq_true rfl) (Nat.le_of_ble_eq_true rfl) (Nat.le_of_ble_eq_true rfl) hc hs (fun _ _ _ hx => kx_out rfl (hX _ _ _ hx)) (fun v_ σ9 hq => ?_)
    obtain ⟨rfl, h⟩ := hq
    refine kx_aload_n dX1_undo_18 rfl rfl ?_
    refine kx_aload_n dX1_undo_19 rfl rfl ?_
    refine kW_gO dX1_undo_20 (kf1 fl_X1_110_X1) h (fun v12 h => ?_)
    obtain ⟨a13, rfl, hUa13⟩ := h
    have h := hUa13
    obtain ⟨hr, h⟩ := h
    refine kx_callV dX1_undo_23 lk_X1_482 (kw_J19_removeLast h) rfl (wR_rc hr rfl) rfl (Nat.le_of_ble_eq_true rfl) (Nat.le_of_ble_eq_true rfl) (Nat.le_of_ble_eq_true rfl) (Nat.le_of_ble_eq_true rfl) (Nat.le_of_ble_eq_true rfl) (fun _ _ _ hx => kx_out rfl (hX _ _ _ hx)) (fun v_ σ15 hq => ?_)
    obtain ⟨v14, rfl, h⟩ := hq
    obtain ⟨a16, rfl, hUa16⟩ := h
    have h := hUa16
    obtain ⟨⟨tc, fc, hr⟩, h⟩ := h
    refine kx_castS dX1_undo_26 hr rfl q208 ?_
    refine kW_p dX1_undo_29 (kp1 ⟨_, _, _, _, kc_X1, fl_X1_103_X1, Or.inl rfl, rfl, rfl⟩) h (fun σ17 h => ?_)
    refine kx_aload_n dX1_undo_32 rfl rfl ?_
    refine kW_gO dX1_undo_33 (kf1 fl_X1_110_X1) h (fun v18 h => ?_)
    obtain ⟨a19, rfl, hUa19⟩ := h
    have h := hUa19
    obtain ⟨hr, h⟩ := h
    refine kx_callV dX1_undo_36 lk_X1_147 (kw_J19_size h) rfl (wR_rc hr rfl) rfl (Nat.le_of_ble_eq_true rfl) (Nat.le_of_ble_eq_true rfl) (Nat.le_of_ble_eq_true rfl) (Nat.le_of_ble_eq_true rfl) (Nat.le_of_ble_eq_true rfl) (fun _ _ _ hx => kx_out rfl (hX _ _ _ hx)) (fun v_ σ21 hq => ?_)
    obtain ⟨v20, rfl, h⟩ := hq
    exact kx_iret dX1_undo_39 rfl (hQ _ _ ⟨_, rfl, h⟩)
  · skip
    refine kx_if_ne (tgt := 14) dX1_undo_7 (by decide) (fun c => ?_) (fun c => ?_)
    · have h := w_iff c h
      refine kx_iconst (v := 0) dX1_undo_14 (by decide) ?_
      exact jk5 _ _ _ _ h
    · have h := w_ift c h
      refine kx_iconst (v := 1) dX1_undo_10 (by decide) ?_
      refine kx_goto (tgt := 15) dX1_undo_11 (by decide) ?_
      exact jk5 _ _ _ _ h
set_option maxHeartbeats 8000000 in
theorem kw_X1_outputByte {G : KG} {bc bs : Nat} {σ : KHp} {x0 : Nat} {x1 : Int32} {Q : Int32 → KHp → Prop} {X : String → Nat → KHp → Prop} (h : W_X1_outputByte G bc bs σ x0 x1 Q X) : kx_c G yX1_outputByte (ws_ yX1_outputByte cX1_outputByte 2 (Option.some Jvm.ClassFile.FieldType.int)) 9 bc bs [.ref (x0), .int (x1)] σ (fun rv σ' => ∃ r, rv = some (.int (r)) ∧ Q r σ') X := by
  refine kx_mk3 (ini := false) rfl (Nat.le_of_ble_eq_true rfl) (fun h => by cases h) (fun Q1 X1 hQ hX => ?_)
  unfold W_X1_outputByte at h
  refine kx_iload_n dX1_outputByte_0 rfl rfl ?_
  refine kx_i2l dX1_outputByte_1 rfl ?_
  refine kx_lconst (v := 0) dX1_outputByte_2 (by decide) ?_
  refine kx_aload_n dX1_outputByte_3 rfl rfl ?_
  refine kW_gO dX1_outputByte_4 (kf1 fl_X1_125_X1) h (fun v1 h => ?_)
  obtain ⟨a2, rfl, hUa2⟩ := h
  have h := hUa2
  obtain ⟨hr, h⟩ := h
  refine kx_callV dX1_outputByte_7 lk_X1_495 (kw_J8_length h) rfl (wR_rc hr rfl) rfl (Nat.le_of_ble_eq_true rfl) (Nat.le_of_ble_eq_true rfl) (Nat.le_of_ble_eq_true rfl) (Nat.le_of_ble_eq_true rfl) (Nat.le_of_ble_eq_true rfl) (fun _ _ _ hx => kx_out rfl (hX _ _ _ hx)) (fun v_ σ4 hq => ?_)
  obtain ⟨v3, rfl, h⟩ := hq
  refine kx_iconst (v := 1) dX1_outputByte_10 (by decide) ?_
  refine kx_isub dX1_outputByte_11 ?_
  refine kx_i2l dX1_outputByte_12 rfl ?_
  refine kx_callS dX1_outputByte_13 lk_X1_140 (kw_X1_inRange h) rfl rfl (Nat.le_of_ble_eq_true rfl) (Nat.le_of_ble_eq_true rfl) (Nat.le_of_ble_eq_true rfl) (Nat.le_of_ble_eq_true rfl) (Nat.le_of_ble_eq_true rfl) (fun _ _ _ hx => kx_out rfl (hX _ _ _ hx)) (fun v_ σ6 hq => ?_)
  obtain ⟨v5, rfl, h⟩ := hq
  obtain ⟨c9, c10, hc, hs, h⟩ := h
  refine kx_callS dX1_outputByte_16 lk_X1_242 (kw_X1_requireIndex h) rfl rfl (Nat.le_of_ble_eq_true rfl) (Nat.le_of_ble_eq_true rfl) (Nat.le_of_ble_eq_true rfl) hc hs (fun _ _ _ hx => kx_out rfl (hX _ _ _ hx)) (fun v_ σ8 hq => ?_)
  obtain ⟨rfl, h⟩ := hq
  refine kx_aload_n dX1_outputByte_19 rfl rfl ?_
  refine kW_gO dX1_outputByte_20 (kf1 fl_X1_125_X1) h (fun v11 h => ?_)
  refine kx_iload_n dX1_outputByte_23 rfl rfl ?_
  obtain ⟨a12, rfl, hUa12⟩ := h
  have h := hUa12
  obtain ⟨hr, h⟩ := h
  refine kx_callV dX1_outputByte_24 lk_X1_496 (kw_J8_charAt h) rfl (wR_rc hr rfl) rfl (Nat.le_of_ble_eq_true rfl) (Nat.le_of_ble_eq_true rfl) (Nat.le_of_ble_eq_true rfl) (Nat.le_of_ble_eq_true rfl) (Nat.le_of_ble_eq_true rfl) (fun _ _ _ hx => kx_out rfl (hX _ _ _ hx)) (fun v_ σ14 hq => ?_)
  obtain ⟨v13, rfl, h⟩ := hq
  exact kx_iret dX1_outputByte_27 rfl (hQ _ _ ⟨_, rfl, h⟩)
set_option maxHeartbeats 8000000 in
theorem kw_X2_doSwitches {G : KG} {σ : KHp} {x0 : Nat} {Q : KHp → Prop} {X : String → Nat → KHp → Prop} (h : W_X2_doSwitches G σ x0 Q X) : kx_c G yX2_doSwitches (ws_ yX2_doSwitches cX2_doSwitches 2 (Option.none : Option Jvm.ClassFile.FieldType)) 4 0 0 [.ref (x0)] σ (fun rv σ' => rv = none ∧ Q σ') X := by
  refine kx_mk3 (ini := false) rfl (Nat.le_of_ble_eq_true rfl) (fun h => by cases h) (fun Q1 X1 hQ hX => ?_)
  unfold W_X2_doSwitches at h
  refine kx_iconst (v := 0) dX2_doSwitches_0 (by decide) ?_
  refine kx_istore_n dX2_doSwitches_1 rfl (Nat.le_of_ble_eq_true rfl) ?_
  refine kx_lwF [(0, .ref (x0)), (1, .int ((0 : Int32)))] ⟨rfl, rfl, trivial⟩ ?_
  refine loopW1_k (fun (σ : KHp) (l1 : Int32) => kx G (yX2_doSwitches.cls, cX2_doSwitches, 2, (Option.none : Option Jvm.ClassFile.FieldType), false, []) (4, 0, 0, Q1, X1) (0) (0) σ 2 (kF [(0, .ref (x0)), (1, .int (l1))]) []) (fun kI2 hI2 σ l1 h => ?_) 9000 σ (0 : Int32) h
  unfold WB_X2_doSwitches_2 at h
  refine kx_iload_n dX2_doSwitches_2 rfl rfl ?_
  refine kx_aload_n dX2_doSwitches_3 rfl rfl ?_
  refine kW_gO dX2_doSwitches_4 (kf1 fl_X2_26_X2) h (fun v3001 h => ?_)
  obtain ⟨a3002, rfl, hUa3002⟩ := h
  have h := hUa3002
  obtain ⟨hr, h⟩ := h
  refine kx_callV dX2_doSwitches_7 lk_X2_280 (kw_J18_size h) rfl (wR_rc hr rfl) rfl (Nat.le_of_ble_eq_true rfl) (Nat.le_of_ble_eq_true rfl) (Nat.le_of_ble_eq_true rfl) (Nat.le_of_ble_eq_true rfl) (Nat.le_of_ble_eq_true rfl) (fun _ _ _ hx => kx_out rfl (hX _ _ _ hx)) (fun v_ σ3004 hq => ?_)
  obtain ⟨v3003, rfl, h⟩ := hq
  refine kx_icmp_ge (tgt := 73) dX2_doSwitches_10 (by decide) (fun c => ?_) (fun c => ?_)
  · have h := w_ift c h
    refine kx_iconst (v := 0) dX2_doSwitches_73 (by decide) ?_
    refine kx_istore_n dX2_doSwitches_74 rfl (Nat.le_of_ble_eq_true rfl) ?_
    refine kx_lwF [(0, .ref (x0)), (1, .int ((0 : Int32)))] ⟨rfl, rfl, trivial⟩ ?_
    refine loopW1_k (fun (σ : KHp) (l1 : Int32) => kx G (yX2_doSwitches.cls, cX2_doSwitches, 2, (Option.none : Option Jvm.ClassFile.FieldType), false, []) (4, 0, 0, Q1, X1) (0) (0) σ 75 (kF [(0, .ref (x0)), (1, .int (l1))]) []) (fun kI75 hI75 σ l1 h => ?_) 9000 σ3004 (0 : Int32) h
    unfold WB_X2_doSwitches_75 at h
    refine kx_iload_n dX2_doSwitches_75 rfl rfl ?_
    refine kx_aload_n dX2_doSwitches_76 rfl rfl ?_
    refine kW_gO dX2_doSwitches_77 (kf1 fl_X2_26_X2) h (fun v76001 h => ?_)
    obtain ⟨a76002, rfl, hUa76002⟩ := h
    have h := hUa76002
    obtain ⟨hr, h⟩ := h
    refine kx_callV dX2_doSwitches_80 lk_X2_280 (kw_J18_size h) rfl (wR_rc hr rfl) rfl (Nat.le_of_ble_eq_true rfl) (Nat.le_of_ble_eq_true rfl) (Nat.le_of_ble_eq_true rfl) (Nat.le_of_ble_eq_true rfl) (Nat.le_of_ble_eq_true rfl) (fun _ _ _ hx => kx_out rfl (hX _ _ _ hx)) (fun v_ σ76004 hq => ?_)
    obtain ⟨v76003, rfl, h⟩ := hq
    refine kx_icmp_ge (tgt := 125) dX2_doSwitches_83 (by decide) (fun c => ?_) (fun c => ?_)
    · have h := w_ift c h
      exact kx_vret dX2_doSwitches_125 rfl (hQ _ _ ⟨rfl, h⟩)
    · have h := w_iff c h
      refine kx_aload_n dX2_doSwitches_86 rfl rfl ?_
      refine kW_gO dX2_doSwitches_87 (kf1 fl_X2_26_X2) h (fun v76005 h => ?_)
      refine kx_iload_n dX2_doSwitches_90 rfl rfl ?_
      obtain ⟨a76006, rfl, hUa76006⟩ := h
      have h := hUa76006
      obtain ⟨hr, h⟩ := h
      refine kx_callV dX2_doSwitches_91 lk_X2_281 (kw_J18_get h) rfl (wR_rc hr rfl) rfl (Nat.le_of_ble_eq_true rfl) (Nat.le_of_ble_eq_true rfl) (Nat.le_of_ble_eq_true rfl) (Nat.le_of_ble_eq_true rfl) (Nat.le_of_ble_eq_true rfl) (fun _ _ _ hx => kx_out rfl (hX _ _ _ hx)) (fun v_ σ76008 hq => ?_)
      obtain ⟨v76007, rfl, h⟩ := hq
      obtain ⟨a76009, rfl, hUa76009⟩ := h
      have h := hUa76009
      obtain ⟨⟨tc, fc, hr⟩, h⟩ := h
      refine kx_castS dX2_doSwitches_94 hr rfl q1913 ?_
      refine kW_gI dX2_doSwitches_97 (kf1 fl_X2_282_X17) h (fun v76010 h => ?_)
      refine kx_aload_n dX2_doSwitches_100 rfl rfl ?_
      refine kW_gI dX2_doSwitches_101 (kf1 fl_X2_144_X2) h (fun v76011 h => ?_)
      refine kx_icmp_ne (tgt := 119) dX2_doSwitches_104 (by decide) (fun c => ?_) (fun c => ?_)
      · have h := w_iff c h
        refine kx_iinc2 (v := 1) dX2_doSwitches_119 rfl (by decide) ?_
        refine kx_goto (tgt := 75) dX2_doSwitches_122 (by decide) ?_
        exact kx_lwF [(0, .ref (x0)), (1, .int ((l1 + (1 : Int32))))] ⟨rfl, rfl, trivial⟩ (hI75 _ _ h)
      · have h := w_ift c h
        refine kx_aload_n dX2_doSwitches_107 rfl rfl ?_
        refine kW_gO dX2_doSwitches_108 (kf1 fl_X2_26_X2) h (fun v76012 h => ?_)
        refine kx_iload_n dX2_doSwitches_111 rfl rfl ?_
        obtain ⟨a76013, rfl, hUa76013⟩ := h
        have h := hUa76013
        obtain ⟨hr, h⟩ := h
        refine kx_callV dX2_doSwitches_112 lk_X2_288 (kw_J18_remove h) rfl (wR_rc hr rfl) rfl (Nat.le_of_ble_eq_true rfl) (Nat.le_of_ble_eq_true rfl) (Nat.le_of_ble_eq_true rfl) (Nat.le_of_ble_eq_true rfl) (Nat.le_of_ble_eq_true rfl) (fun _ _ _ hx => kx_out rfl (hX _ _ _ hx)) (fun v_ σ76015 hq => ?_)
        obtain ⟨v76014, rfl, h⟩ := hq
        refine kx_pop dX2_doSwitches_115 (va_cat _) ?_
        refine kx_goto (tgt := 75) dX2_doSwitches_116 (by decide) ?_
        exact kx_lwF [(0, .ref (x0)), (1, .int (l1))] ⟨rfl, rfl, trivial⟩ (hI75 _ _ h)
  · have h := w_iff c h
    refine kx_aload_n dX2_doSwitches_13 rfl rfl ?_
    refine kW_gO dX2_doSwitches_14 (kf1 fl_X2_26_X2) h (fun v3006 h => ?_)
    refine kx_iload_n dX2_doSwitches_17 rfl rfl ?_
    obtain ⟨a3007, rfl, hUa3007⟩ := h
    have h := hUa3007
    obtain ⟨hr, h⟩ := h
    refine kx_callV dX2_doSwitches_18 lk_X2_281 (kw_J18_get h) rfl (wR_rc hr rfl) rfl (Nat.le_of_ble_eq_true rfl) (Nat.le_of_ble_eq_true rfl) (Nat.le_of_ble_eq_true rfl) (Nat.le_of_ble_eq_true rfl) (Nat.le_of_ble_eq_true rfl) (fun _ _ _ hx => kx_out rfl (hX _ _ _ hx)) (fun v_ σ3009 hq => ?_)
    obtain ⟨v3008, rfl, h⟩ := hq
    obtain ⟨a3010, rfl, hUa3010⟩ := h
    have h := hUa3010
    obtain ⟨⟨tc, fc, hr⟩, h⟩ := h
    refine kx_castS dX2_doSwitches_21 hr rfl q1913 ?_
    refine kW_gI dX2_doSwitches_24 (kf1 fl_X2_282_X17) h (fun v3011 h => ?_)
    refine kx_aload_n dX2_doSwitches_27 rfl rfl ?_
    refine kW_gI dX2_doSwitches_28 (kf1 fl_X2_144_X2) h (fun v3012 h => ?_)
    refine kW_jN 67 [] h (fun σ3030 h => ?_) (fun k3013 jk3013 h => ?_)
    · skip
      refine kx_iinc2 (v := 1) dX2_doSwitches_67 rfl (by decide) ?_
      refine kx_goto (tgt := 2) dX2_doSwitches_70 (by decide) ?_
      exact kx_lwF [(0, .ref (x0)), (1, .int ((l1 + (1 : Int32))))] ⟨rfl, rfl, trivial⟩ (hI2 _ _ h)
    · skip
      refine kx_icmp_ne (tgt := 67) dX2_doSwitches_31 (by decide) (fun c => ?_) (fun c => ?_)
      · have h := w_iff c h
        exact jk3013 _ h
      · have h := w_ift c h
        refine kx_aload_n dX2_doSwitches_34 rfl rfl ?_
        refine kW_gO dX2_doSwitches_35 (kf1 fl_X2_37_X2) h (fun v3014 h => ?_)
        refine kx_aload_n dX2_doSwitches_38 rfl rfl ?_
        refine kW_gO dX2_doSwitches_39 (kf1 fl_X2_26_X2) h (fun v3015 h => ?_)
        refine kx_iload_n dX2_doSwitches_42 rfl rfl ?_
        obtain ⟨a3016, rfl, hUa3016⟩ := h
        have h := hUa3016
        obtain ⟨hr, h⟩ := h
        refine kx_callV dX2_doSwitches_43 lk_X2_281 (kw_J18_get h) rfl (wR_rc hr rfl) rfl (by cases v3014 <;> exact Nat.le_of_ble_eq_true rfl) (Nat.le_of_ble_eq_true rfl) (Nat.le_of_ble_eq_true rfl) (Nat.le_of_ble_eq_true rfl) (Nat.le_of_ble_eq_true rfl) (fun _ _ _ hx => kx_out rfl (hX _ _ _ hx)) (fun v_ σ3018 hq => ?_)
        obtain ⟨v3017, rfl, h⟩ := hq
        obtain ⟨a3019, rfl, hUa3019⟩ := h
        have h := hUa3019
        obtain ⟨⟨tc, fc, hr⟩, h⟩ := h
        refine kx_castS dX2_doSwitches_46 hr rfl q1913 ?_
        refine kW_gI dX2_doSwitches_49 (kf1 fl_X2_283_X17) h (fun v3020 h => ?_)
        refine kx_aload_n dX2_doSwitches_52 rfl rfl ?_
        refine kW_gO dX2_doSwitches_53 (kf1 fl_X2_26_X2) h (fun v3021 h => ?_)
        refine kx_iload_n dX2_doSwitches_56 rfl rfl ?_
        obtain ⟨a3022, rfl, hUa3022⟩ := h
        have h := hUa3022
        obtain ⟨hr, h⟩ := h
        refine kx_callV dX2_doSwitches_57 lk_X2_281 (kw_J18_get h) rfl (wR_rc hr rfl) rfl (by cases v3014 <;> exact Nat.le_of_ble_eq_true rfl) (Nat.le_of_ble_eq_true rfl) (Nat.le_of_ble_eq_true rfl) (Nat.le_of_ble_eq_true rfl) (Nat.le_of_ble_eq_true rfl) (fun _ _ _ hx => kx_out rfl (hX _ _ _ hx)) (fun v_ σ3024 hq => ?_)
        obtain ⟨v3023, rfl, h⟩ := hq
        obtain ⟨a3025, rfl, hUa3025⟩ := h
        have h := hUa3025
        obtain ⟨⟨tc, fc, hr⟩, h⟩ := h
        refine kx_castS dX2_doSwitches_60 hr rfl q1913 ?_
        refine kW_gI dX2_doSwitches_63 (kf1 fl_X2_286_X17) h (fun v3026 h => ?_)
        obtain ⟨a3027, rfl, hUa3027⟩ := h
        have h := hUa3027
        refine kW_sB dX2_doSwitches_66 h (fun σ3028 h => ?_)
        exact jk3013 _ h
set_option maxHeartbeats 8000000 in
theorem kw_X2_match {G : KG} {σ : KHp} {x0 : Nat} {x1 : Option Nat} {Q : KHp → Prop} {X : String → Nat → KHp → Prop} (h : W_X2_match G σ x0 x1 Q X) : kx_c G yX2_match (ws_ yX2_match cX2_match 3 (Option.none : Option Jvm.ClassFile.FieldType)) 5 0 0 [.ref (x0), va_rf (x1)] σ (fun rv σ' => rv = none ∧ Q σ') X := by
  refine kx_mk3 (ini := false) rfl (by cases x1 <;> exact Nat.le_of_ble_eq_true rfl) (fun h => by cases h) (fun Q1 X1 hQ hX => ?_)
  unfold W_X2_match at h
  refine kx_lwF [(0, .ref x0), (1, va_rf (x1))] (by cases x1 <;> exact ⟨rfl, rfl, trivial⟩) ?_
  refine kx_aload_nO dX2_match_0 rfl rfl ?_
  refine kx_iconst (v := 0) dX2_match_1 (by decide) ?_
  obtain ⟨a1, rfl, hUa1⟩ := h
  have h := hUa1
  refine kW_p dX2_match_2 (kp1 ⟨_, _, _, _, kc_X5, fl_X2_201_X5, Or.inl rfl, rfl, rfl⟩) h (fun σ2 h => ?_)
  refine kx_aload_n dX2_match_5 rfl rfl ?_
  refine kx_iconst (v := 0) dX2_match_6 (by decide) ?_
  refine kW_p dX2_match_7 (kp1 ⟨_, _, _, _, kc_X5, fl_X2_204_X5, Or.inl rfl, rfl, rfl⟩) h (fun σ3 h => ?_)
  refine kx_iconst (v := 0) dX2_match_10 (by decide) ?_
  refine kx_istore_n dX2_match_11 rfl (Nat.le_of_ble_eq_true rfl) ?_
  refine kx_lwF [(0, .ref (x0)), (1, .ref (a1)), (2, .int ((0 : Int32)))] ⟨rfl, rfl, rfl, trivial⟩ ?_
  refine loopW1_k (fun (σ : KHp) (l2 : Int32) => kx G (yX2_match.cls, cX2_match, 3, (Option.none : Option Jvm.ClassFile.FieldType), false, []) (5, 0, 0, Q1, X1) (0) (0) σ 12 (kF [(0, .ref (x0)), (1, .ref (a1)), (2, .int (l2))]) []) (fun kI12 hI12 σ l2 h => ?_) 9000 σ3 (0 : Int32) h
  unfold WB_X2_match_12 at h
  refine kx_iload_n dX2_match_12 rfl rfl ?_
  refine kx_aload_n dX2_match_13 rfl rfl ?_
  refine kW_gO dX2_match_14 (kf1 fl_X2_66_X2) h (fun v13001 h => ?_)
  obtain ⟨a13002, rfl, hUa13002⟩ := h
  have h := hUa13002
  refine kW_gO dX2_match_17 (kf1 fl_X2_207_X3) h (fun v13003 h => ?_)
  obtain ⟨a13004, rfl, hUa13004⟩ := h
  have h := hUa13004
  obtain ⟨hr, h⟩ := h
  refine kx_callV dX2_match_20 lk_X2_82 (kw_J2_size h) rfl (wR_rc hr rfl) rfl (Nat.le_of_ble_eq_true rfl) (Nat.le_of_ble_eq_true rfl) (Nat.le_of_ble_eq_true rfl) (Nat.le_of_ble_eq_true rfl) (Nat.le_of_ble_eq_true rfl) (fun _ _ _ hx => kx_out rfl (hX _ _ _ hx)) (fun v_ σ13006 hq => ?_)
  obtain ⟨v13005, rfl, h⟩ := hq
  refine kx_icmp_ge (tgt := 81) dX2_match_23 (by decide) (fun c => ?_) (fun c => ?_)
  · have h := w_ift c h
    refine kx_iconst (v := 0) dX2_match_81 (by decide) ?_
    refine kx_istore_n dX2_match_82 rfl (Nat.le_of_ble_eq_true rfl) ?_
    refine kx_lwF [(0, .ref (x0)), (1, .ref (a1)), (2, .int ((0 : Int32)))] ⟨rfl, rfl, rfl, trivial⟩ ?_
    refine loopW1_k (fun (σ : KHp) (l2 : Int32) => kx G (yX2_match.cls, cX2_match, 3, (Option.none : Option Jvm.ClassFile.FieldType), false, []) (5, 0, 0, Q1, X1) (0) (0) σ 83 (kF [(0, .ref (x0)), (1, .ref (a1)), (2, .int (l2))]) []) (fun kI83 hI83 σ l2 h => ?_) 9000 σ13006 (0 : Int32) h
    unfold WB_X2_match_83 at h
    refine kx_iload_n dX2_match_83 rfl rfl ?_
    refine kx_aload_n dX2_match_84 rfl rfl ?_
    refine kW_gO dX2_match_85 (kf1 fl_X2_20_X2) h (fun v84001 h => ?_)
    obtain ⟨a84002, rfl, hUa84002⟩ := h
    have h := hUa84002
    obtain ⟨hr, h⟩ := h
    refine kx_callV dX2_match_88 lk_X2_82 (kw_J2_size h) rfl (wR_rc hr rfl) rfl (Nat.le_of_ble_eq_true rfl) (Nat.le_of_ble_eq_true rfl) (Nat.le_of_ble_eq_true rfl) (Nat.le_of_ble_eq_true rfl) (Nat.le_of_ble_eq_true rfl) (fun _ _ _ hx => kx_out rfl (hX _ _ _ hx)) (fun v_ σ84004 hq => ?_)
    obtain ⟨v84003, rfl, h⟩ := hq
    refine kx_icmp_ge (tgt := 159) dX2_match_91 (by decide) (fun c => ?_) (fun c => ?_)
    · have h := w_ift c h
      exact kx_vret dX2_match_159 rfl (hQ _ _ ⟨rfl, h⟩)
    · have h := w_iff c h
      refine kx_aload_n dX2_match_94 rfl rfl ?_
      refine kW_gO dX2_match_95 (kf1 fl_X2_20_X2) h (fun v84005 h => ?_)
      refine kx_iload_n dX2_match_98 rfl rfl ?_
      obtain ⟨a84006, rfl, hUa84006⟩ := h
      have h := hUa84006
      obtain ⟨hr, h⟩ := h
      refine kx_callV dX2_match_99 lk_X2_96 (kw_J2_get h) rfl (wR_rc hr rfl) rfl (Nat.le_of_ble_eq_true rfl) (Nat.le_of_ble_eq_true rfl) (Nat.le_of_ble_eq_true rfl) (Nat.le_of_ble_eq_true rfl) (Nat.le_of_ble_eq_true rfl) (fun _ _ _ hx => kx_out rfl (hX _ _ _ hx)) (fun v_ σ84008 hq => ?_)
      obtain ⟨v84007, rfl, h⟩ := hq
      obtain ⟨a84009, rfl, hUa84009⟩ := h
      have h := hUa84009
      obtain ⟨⟨tc, fc, hr⟩, h⟩ := h
      refine kx_castS dX2_match_102 hr rfl q1614 ?_
      refine kW_gO dX2_match_105 (kf1 fl_X2_105_X16) h (fun v84010 h => ?_)
      refine kx_aload_n dX2_match_108 rfl rfl ?_
      refine kW_gO dX2_match_109 (kf1 fl_X2_190_X5) h (fun v84011 h => ?_)
      obtain ⟨a84012, rfl, hUa84012⟩ := h
      have h := hUa84012
      obtain ⟨hr, h⟩ := h
      refine kx_callV dX2_match_112 lk_X2_212 (kw_X14_matches h) rfl (wR_rc hr rfl) rfl (Nat.le_of_ble_eq_true rfl) (Nat.le_of_ble_eq_true rfl) (Nat.le_of_ble_eq_true rfl) (Nat.le_of_ble_eq_true rfl) (Nat.le_of_ble_eq_true rfl) (fun _ _ _ hx => kx_out rfl (hX _ _ _ hx)) (fun v_ σ84014 hq => ?_)
      obtain ⟨v84013, rfl, h⟩ := hq
      refine kW_jN 153 [] h (fun σ84026 h => ?_) (fun k84015 jk84015 h => ?_)
      · skip
        refine kx_iinc2 (v := 1) dX2_match_153 rfl (by decide) ?_
        refine kx_goto (tgt := 83) dX2_match_156 (by decide) ?_
        exact kx_lwF [(0, .ref (x0)), (1, .ref (a1)), (2, .int ((l2 + (1 : Int32))))] ⟨rfl, rfl, rfl, trivial⟩ (hI83 _ _ h)
      · skip
        refine kx_if_ne (tgt := 121) dX2_match_115 (by decide) (fun c => ?_) (fun c => ?_)
        · have h := w_iff c h
          refine kx_aload_n dX2_match_121 rfl rfl ?_
          refine kx_dup dX2_match_122 rfl ?_
          refine kW_gI dX2_match_123 (kf1 fl_X2_204_X5) h (fun v84016 h => ?_)
          refine kx_iconst (v := 1) dX2_match_126 (by decide) ?_
          refine kx_iload_n dX2_match_127 rfl rfl ?_
          refine kx_ishl dX2_match_128 ?_
          refine kx_ior dX2_match_129 ?_
          refine kW_p dX2_match_130 (kp1 ⟨_, _, _, _, kc_X5, fl_X2_204_X5, Or.inl rfl, rfl, rfl⟩) h (fun σ84017 h => ?_)
          refine kx_aload_n dX2_match_133 rfl rfl ?_
          refine kW_gO dX2_match_134 (kf1 fl_X2_20_X2) h (fun v84018 h => ?_)
          refine kx_iload_n dX2_match_137 rfl rfl ?_
          obtain ⟨a84019, rfl, hUa84019⟩ := h
          have h := hUa84019
          obtain ⟨hr, h⟩ := h
          refine kx_callV dX2_match_138 lk_X2_96 (kw_J2_get h) rfl (wR_rc hr rfl) rfl (Nat.le_of_ble_eq_true rfl) (Nat.le_of_ble_eq_true rfl) (Nat.le_of_ble_eq_true rfl) (Nat.le_of_ble_eq_true rfl) (Nat.le_of_ble_eq_true rfl) (fun _ _ _ hx => kx_out rfl (hX _ _ _ hx)) (fun v_ σ84021 hq => ?_)
          obtain ⟨v84020, rfl, h⟩ := hq
          obtain ⟨a84022, rfl, hUa84022⟩ := h
          have h := hUa84022
          obtain ⟨⟨tc, fc, hr⟩, h⟩ := h
          refine kx_castS dX2_match_141 hr rfl q1614 ?_
          refine kx_dup dX2_match_144 rfl ?_
          refine kW_gI dX2_match_145 (kf1 fl_X2_109_X16) h (fun v84023 h => ?_)
          refine kx_iconst (v := 1) dX2_match_148 (by decide) ?_
          refine kx_iadd dX2_match_149 ?_
          refine kW_p dX2_match_150 (kp1 ⟨_, _, _, _, kc_X16, fl_X2_109_X16, Or.inl rfl, rfl, rfl⟩) h (fun σ84024 h => ?_)
          exact jk84015 _ h
        · have h := w_ift c h
          refine kx_goto (tgt := 153) dX2_match_118 (by decide) ?_
          exact jk84015 _ h
  · have h := w_iff c h
    refine kx_aload_n dX2_match_26 rfl rfl ?_
    refine kW_gO dX2_match_27 (kf1 fl_X2_66_X2) h (fun v13008 h => ?_)
    obtain ⟨a13009, rfl, hUa13009⟩ := h
    have h := hUa13009
    refine kW_gO dX2_match_30 (kf1 fl_X2_207_X3) h (fun v13010 h => ?_)
    refine kx_iload_n dX2_match_33 rfl rfl ?_
    obtain ⟨a13011, rfl, hUa13011⟩ := h
    have h := hUa13011
    obtain ⟨hr, h⟩ := h
    refine kx_callV dX2_match_34 lk_X2_96 (kw_J2_get h) rfl (wR_rc hr rfl) rfl (Nat.le_of_ble_eq_true rfl) (Nat.le_of_ble_eq_true rfl) (Nat.le_of_ble_eq_true rfl) (Nat.le_of_ble_eq_true rfl) (Nat.le_of_ble_eq_true rfl) (fun _ _ _ hx => kx_out rfl (hX _ _ _ hx)) (fun v_ σ13013 hq => ?_)
    obtain ⟨v13012, rfl, h⟩ := hq
    obtain ⟨a13014, rfl, hUa13014⟩ := h
    have h := hUa13014
    obtain ⟨⟨tc, fc, hr⟩, h⟩ := h
    refine kx_castS dX2_match_37 hr rfl q2280 ?_
    refine kx_aload_n dX2_match_40 rfl rfl ?_
    refine kW_gO dX2_match_41 (kf1 fl_X2_190_X5) h (fun v13015 h => ?_)
    obtain ⟨hr, h⟩ := h
    refine kx_callV dX2_match_44 lk_X2_212 (kw_X14_matches h) rfl (wR_rc hr rfl) rfl (Nat.le_of_ble_eq_true rfl) (Nat.le_of_ble_eq_true rfl) (Nat.le_of_ble_eq_true rfl) (Nat.le_of_ble_eq_true rfl) (Nat.le_of_ble_eq_true rfl) (fun _ _ _ hx => kx_out rfl (hX _ _ _ hx)) (fun v_ σ13017 hq => ?_)
    obtain ⟨v13016, rfl, h⟩ := hq
    refine kW_jN 75 [] h (fun σ13026 h => ?_) (fun k13018 jk13018 h => ?_)
    · skip
      refine kx_iinc2 (v := 1) dX2_match_75 rfl (by decide) ?_
      refine kx_goto (tgt := 12) dX2_match_78 (by decide) ?_
      exact kx_lwF [(0, .ref (x0)), (1, .ref (a1)), (2, .int ((l2 + (1 : Int32))))] ⟨rfl, rfl, rfl, trivial⟩ (hI12 _ _ h)
    · skip
      refine kx_if_ne (tgt := 53) dX2_match_47 (by decide) (fun c => ?_) (fun c => ?_)
      · have h := w_iff c h
        refine kx_aload_n dX2_match_53 rfl rfl ?_
        refine kx_dup dX2_match_54 rfl ?_
        refine kW_gI dX2_match_55 (kf1 fl_X2_201_X5) h (fun v13019 h => ?_)
        refine kx_iconst (v := 1) dX2_match_58 (by decide) ?_
        refine kx_iload_n dX2_match_59 rfl rfl ?_
        refine kx_ishl dX2_match_60 ?_
        refine kx_ior dX2_match_61 ?_
        refine kW_p dX2_match_62 (kp1 ⟨_, _, _, _, kc_X5, fl_X2_201_X5, Or.inl rfl, rfl, rfl⟩) h (fun σ13020 h => ?_)
        refine kx_aload_n dX2_match_65 rfl rfl ?_
        refine kW_gO dX2_match_66 (kf1 fl_X2_41_X2) h (fun v13021 h => ?_)
        refine kx_iload_n dX2_match_69 rfl rfl ?_
        refine kx_dup2_11 dX2_match_70 rfl (va_cat _) ?_
        obtain ⟨a13022, rfl, hUa13022⟩ := h
        have h := hUa13022
        refine kW_lI dX2_match_71 h (fun v13023 h => ?_)
        refine kx_iconst (v := 1) dX2_match_72 (by decide) ?_
        refine kx_iadd dX2_match_73 ?_
        refine kW_sI dX2_match_74 h (fun σ13024 h => ?_)
        exact jk13018 _ h
      · have h := w_ift c h
        refine kx_goto (tgt := 75) dX2_match_50 (by decide) ?_
        exact jk13018 _ h
set_option maxHeartbeats 8000000 in
theorem kw_X2_trip {G : KG} {bc bs : Nat} {σ : KHp} {x0 : Nat} {x1 : Int32} {x2 : Int32} {x3 : Int32} {Q : KHp → Prop} {X : String → Nat → KHp → Prop} (h : W_X2_trip G bc bs σ x0 x1 x2 x3 Q X) : kx_c G yX2_trip (ws_ yX2_trip cX2_trip 8 (Option.none : Option Jvm.ClassFile.FieldType)) 6 bc bs [.ref (x0), .int (x1), .int (x2), .int (x3)] σ (fun rv σ' => rv = none ∧ Q σ') X := by
  refine kx_mk3 (ini := false) rfl (Nat.le_of_ble_eq_true rfl) (fun h => by cases h) (fun Q1 X1 hQ hX => ?_)
  unfold W_X2_trip at h
  refine kx_aload_n dX2_trip_0 rfl rfl ?_
  refine kW_gO dX2_trip_1 (kf1 fl_X2_14_X2) h (fun v1 h => ?_)
  refine kx_iload_n dX2_trip_4 rfl rfl ?_
  obtain ⟨a2, rfl, hUa2⟩ := h
  have h := hUa2
  obtain ⟨hr, h⟩ := h
  refine kx_callV dX2_trip_5 lk_X2_96 (kw_J2_get h) rfl (wR_rc hr rfl) rfl (Nat.le_of_ble_eq_true rfl) (Nat.le_of_ble_eq_true rfl) (Nat.le_of_ble_eq_true rfl) (Nat.le_of_ble_eq_true rfl) (Nat.le_of_ble_eq_true rfl) (fun _ _ _ hx => kx_out rfl (hX _ _ _ hx)) (fun v_ σ4 hq => ?_)
  obtain ⟨v3, rfl, h⟩ := hq
  obtain ⟨a5, rfl, hUa5⟩ := h
  have h := hUa5
  obtain ⟨⟨tc, fc, hr⟩, h⟩ := h
  refine kx_castS dX2_trip_8 hr rfl q679 ?_
  refine kx_astore dX2_trip_11 (Nat.le_of_ble_eq_true rfl) ?_
  refine kx_aload dX2_trip_13 rfl ?_
  refine kx_aload_n dX2_trip_15 rfl rfl ?_
  refine kW_gI dX2_trip_16 (kf1 fl_X2_76_X2) h (fun v6 h => ?_)
  obtain ⟨hr, h⟩ := h
  refine kx_callV dX2_trip_19 lk_X2_259 (kw_X5_suspects h) rfl (wR_rc hr rfl) rfl (Nat.le_of_ble_eq_true rfl) (Nat.le_of_ble_eq_true rfl) (Nat.le_of_ble_eq_true rfl) (Nat.le_of_ble_eq_true rfl) (Nat.le_of_ble_eq_true rfl) (fun _ _ _ hx => kx_out rfl (hX _ _ _ hx)) (fun v_ σ8 hq => ?_)
  obtain ⟨v7, rfl, h⟩ := hq
  refine kW_newa dX2_trip_22 rfl q617 (fun _ _ => rfl) h (fun n11 q9 σ10 h => ?_)
  refine kx_astore dX2_trip_24 (Nat.le_of_ble_eq_true rfl) ?_
  refine kx_iconst (v := 0) dX2_trip_26 (by decide) ?_
  refine kx_istore dX2_trip_27 (Nat.le_of_ble_eq_true rfl) ?_
  refine kx_aload_n dX2_trip_29 rfl rfl ?_
  refine kW_gI dX2_trip_30 (kf1 fl_X2_76_X2) h (fun v12 h => ?_)
  refine kx_iconst (v := 1) dX2_trip_33 (by decide) ?_
  refine kx_isub dX2_trip_34 ?_
  refine kx_istore dX2_trip_35 (Nat.le_of_ble_eq_true rfl) ?_
  refine kx_lwF [(0, .ref (x0)), (1, .int (x1)), (2, .int (x2)), (3, .int (x3)), (4, .ref (a5)), (5, .ref (q9)), (6, .int ((0 : Int32))), (7, .int ((v12 - (1 : Int32))))] ⟨rfl, rfl, rfl, rfl, rfl, rfl, rfl, rfl, trivial⟩ ?_
  refine loopW4_k (fun (σ : KHp) (bc37 bs37 : Nat) (l6 : Int32) (l7 : Int32) => kx G (yX2_trip.cls, cX2_trip, 8, (Option.none : Option Jvm.ClassFile.FieldType), false, []) (6, bc, bs, Q1, X1) (bc37) (bs37) σ 37 (kF [(0, .ref (x0)), (1, .int (x1)), (2, .int (x2)), (3, .int (x3)), (4, .ref (a5)), (5, .ref (q9)), (6, .int (l6)), (7, .int (l7))]) []) (fun kI37 hI37 σ bc37 bs37 l6 l7 h => ?_) 9000 σ10 (bc - 1) (bs - n11) (0 : Int32) (v12 - (1 : Int32)) h
  unfold WB_X2_trip_37 at h
  refine kx_iload dX2_trip_37 rfl ?_
  refine kx_if_lt (tgt := 76) dX2_trip_39 (by decide) (fun c => ?_) (fun c => ?_)
  · have h := w_ift c h
    refine kx_aload_n dX2_trip_76 rfl rfl ?_
    refine kW_gO dX2_trip_77 (kf1 fl_X2_33_X2) h (fun v38001 h => ?_)
    obtain ⟨a38002, rfl, hUa38002⟩ := h
    have h := hUa38002
    obtain ⟨hr, h⟩ := h
    refine kx_callV dX2_trip_80 lk_X2_267 (kw_J19_size h) rfl (wR_rc hr rfl) rfl (Nat.le_of_ble_eq_true rfl) (Nat.le_of_ble_eq_true rfl) (Nat.le_of_ble_eq_true rfl) (Nat.le_of_ble_eq_true rfl) (Nat.le_of_ble_eq_true rfl) (fun _ _ _ hx => kx_out rfl (hX _ _ _ hx)) (fun v_ σ38004 hq => ?_)
    obtain ⟨v38003, rfl, h⟩ := hq
    refine kx_bipush (v := 8) dX2_trip_83 (by decide) ?_
    refine kW_jNa 96 [] h (fun σ38011 bcv38010 bsv38010 h => ?_) (fun k38005 jk38005 h => ?_)
    · skip
      refine kx_aload_n dX2_trip_96 rfl rfl ?_
      refine kW_gO dX2_trip_97 (kf1 fl_X2_33_X2) h (fun v38012 h => ?_)
      refine kW_new dX2_trip_100 kc_X20 q1939 q2314 q198 rfl h (fun q38013 σ38014 h => ?_)
      refine kx_dup dX2_trip_103 rfl ?_
      refine kx_aload_n dX2_trip_104 rfl rfl ?_
      refine kW_gI dX2_trip_105 (kf1 fl_X2_144_X2) h (fun v38015 h => ?_)
      refine kx_iload_n dX2_trip_108 rfl rfl ?_
      refine kx_iload_n dX2_trip_109 rfl rfl ?_
      refine kx_iload_n dX2_trip_110 rfl rfl ?_
      refine kx_aload dX2_trip_111 rfl ?_
      refine kW_gO dX2_trip_113 (kf1 fl_X2_190_X5) h (fun v38016 h => ?_)
      refine kx_iconst (v := 0) dX2_trip_116 (by decide) ?_
      obtain ⟨a38017, rfl, hUa38017⟩ := h
      have h := hUa38017
      refine kW_lF dX2_trip_117 h (fun v38018 h => ?_)
      refine kx_aload dX2_trip_118 rfl ?_
      refine kx_callI dX2_trip_120 lk_X2_271 (kw_X20_init h) rfl rfl (by cases v38012 <;> exact Nat.le_of_ble_eq_true rfl) (Nat.le_of_ble_eq_true rfl) (Nat.le_of_ble_eq_true rfl) (Nat.le_of_ble_eq_true rfl) (Nat.le_of_ble_eq_true rfl) (fun _ _ _ hx => kx_out rfl (hX _ _ _ hx)) (fun v_ σ38020 hq => ?_)
      obtain ⟨rfl, h⟩ := hq
      obtain ⟨a38021, rfl, hUa38021⟩ := h
      have h := hUa38021
      obtain ⟨hr, h⟩ := h
      obtain ⟨c38024, c38025, hc, hs, h⟩ := h
      refine kx_callV dX2_trip_123 lk_X2_137 (kw_J19_addLast h) rfl (wR_rc hr rfl) rfl (Nat.le_of_ble_eq_true rfl) (Nat.le_of_ble_eq_true rfl) (Nat.le_of_ble_eq_true rfl) hc hs (fun _ _ _ hx => kx_out rfl (hX _ _ _ hx)) (fun v_ σ38023 hq => ?_)
      obtain ⟨rfl, h⟩ := hq
      refine kx_aload dX2_trip_126 rfl ?_
      refine kx_dup dX2_trip_128 rfl ?_
      refine kW_gI dX2_trip_129 (kf1 fl_X2_274_X5) h (fun v38026 h => ?_)
      refine kx_iconst (v := 1) dX2_trip_132 (by decide) ?_
      refine kx_iadd dX2_trip_133 ?_
      refine kW_p dX2_trip_134 (kp1 ⟨_, _, _, _, kc_X5, fl_X2_274_X5, Or.inl rfl, rfl, rfl⟩) h (fun σ38027 h => ?_)
      refine kx_aload dX2_trip_137 rfl ?_
      refine kx_aload dX2_trip_139 rfl ?_
      refine kW_gI dX2_trip_141 (kf1 fl_X2_274_X5) h (fun v38028 h => ?_)
      refine kx_iconst (v := 3) dX2_trip_144 (by decide) ?_
      refine kW_jIa 153 [.ref (a5)] h (fun v38030 σ38031 bcv38030 bsv38030 h => ?_) (fun k38029 jk38029 h => ?_)
      · skip
        refine kW_p dX2_trip_153 (kp1 ⟨_, _, _, _, kc_X5, fl_X2_167_X5, Or.inl rfl, rfl, rfl⟩) h (fun σ38032 h => ?_)
        refine kx_aload dX2_trip_156 rfl ?_
        obtain ⟨hr, h⟩ := h
        refine kx_callV dX2_trip_158 lk_X2_277 (kw_X5_forgetWindow h) rfl (wR_rc hr rfl) rfl (Nat.le_of_ble_eq_true rfl) (Nat.le_of_ble_eq_true rfl) (Nat.le_of_ble_eq_true rfl) (Nat.le_of_ble_eq_true rfl) (Nat.le_of_ble_eq_true rfl) (fun _ _ _ hx => kx_out rfl (hX _ _ _ hx)) (fun v_ σ38034 hq => ?_)
        obtain ⟨rfl, h⟩ := hq
        exact kx_vret dX2_trip_161 rfl (hQ _ _ ⟨rfl, h⟩)
      · skip
        refine kx_icmp_lt (tgt := 152) dX2_trip_145 (by decide) (fun c => ?_) (fun c => ?_)
        · have h := w_ift c h
          refine kx_iconst (v := 1) dX2_trip_152 (by decide) ?_
          exact jk38029 _ _ _ _ h
        · have h := w_iff c h
          refine kx_iconst (v := 2) dX2_trip_148 (by decide) ?_
          refine kx_goto (tgt := 153) dX2_trip_149 (by decide) ?_
          exact jk38029 _ _ _ _ h
    · skip
      refine kx_icmp_ne (tgt := 96) dX2_trip_85 (by decide) (fun c => ?_) (fun c => ?_)
      · have h := w_iff c h
        exact jk38005 _ _ _ h
      · have h := w_ift c h
        refine kx_aload_n dX2_trip_88 rfl rfl ?_
        refine kW_gO dX2_trip_89 (kf1 fl_X2_33_X2) h (fun v38006 h => ?_)
        obtain ⟨a38007, rfl, hUa38007⟩ := h
        have h := hUa38007
        obtain ⟨hr, h⟩ := h
        refine kx_callV dX2_trip_92 lk_X2_268 (kw_J19_removeFirst h) rfl (wR_rc hr rfl) rfl (Nat.le_of_ble_eq_true rfl) (Nat.le_of_ble_eq_true rfl) (Nat.le_of_ble_eq_true rfl) (Nat.le_of_ble_eq_true rfl) (Nat.le_of_ble_eq_true rfl) (fun _ _ _ hx => kx_out rfl (hX _ _ _ hx)) (fun v_ σ38009 hq => ?_)
        obtain ⟨v38008, rfl, h⟩ := hq
        refine kx_pop dX2_trip_95 (va_cat _) ?_
        exact jk38005 _ _ _ h
  · have h := w_iff c h
    refine kx_aload dX2_trip_42 rfl ?_
    refine kx_iload dX2_trip_44 rfl ?_
    obtain ⟨hr, h⟩ := h
    refine kx_callV dX2_trip_46 lk_X2_263 (kw_X5_was h) rfl (wR_rc hr rfl) rfl (Nat.le_of_ble_eq_true rfl) (Nat.le_of_ble_eq_true rfl) (Nat.le_of_ble_eq_true rfl) (Nat.le_of_ble_eq_true rfl) (Nat.le_of_ble_eq_true rfl) (fun _ _ _ hx => kx_out rfl (hX _ _ _ hx)) (fun v_ σ38036 hq => ?_)
    obtain ⟨v38035, rfl, h⟩ := hq
    refine kW_jla 70 (fun v38040 : Int32 => [(0, .ref (x0)), (1, .int (x1)), (2, .int (x2)), (3, .int (x3)), (4, .ref (a5)), (5, .ref (q9)), (6, .int (v38040)), (7, .int (l7))]) h (fun v38040 σ38041 bcv38040 bsv38040 h => ?_) (fun k38037 jk38037 h => ?_)
    · skip
      refine kx_iinc2 (v := -1) dX2_trip_70 rfl (by decide) ?_
      refine kx_goto (tgt := 37) dX2_trip_73 (by decide) ?_
      exact kx_lwF [(0, .ref (x0)), (1, .int (x1)), (2, .int (x2)), (3, .int (x3)), (4, .ref (a5)), (5, .ref (q9)), (6, .int (v38040)), (7, .int ((l7 + (-1 : Int32))))] ⟨rfl, rfl, rfl, rfl, rfl, rfl, rfl, rfl, trivial⟩ (hI37 _ _ _ _ _ h)
    · skip
      refine kx_if_ne (tgt := 55) dX2_trip_49 (by decide) (fun c => ?_) (fun c => ?_)
      · have h := w_iff c h
        refine kx_aload dX2_trip_55 rfl ?_
        refine kx_iload dX2_trip_57 rfl ?_
        refine kx_aload_n dX2_trip_59 rfl rfl ?_
        refine kW_gI dX2_trip_60 (kf1 fl_X2_144_X2) h (fun v38038 h => ?_)
        refine kx_iload dX2_trip_63 rfl ?_
        refine kx_isub dX2_trip_65 ?_
        refine kW_sI dX2_trip_66 h (fun σ38039 h => ?_)
        refine kx_iinc2 (v := 1) dX2_trip_67 rfl (by decide) ?_
        exact kx_lwF [(0, .ref (x0)), (1, .int (x1)), (2, .int (x2)), (3, .int (x3)), (4, .ref (a5)), (5, .ref (q9)), (6, .int ((l6 + (1 : Int32)))), (7, .int (l7))] ⟨rfl, rfl, rfl, rfl, rfl, rfl, rfl, rfl, trivial⟩ (jk38037 (l6 + (1 : Int32)) _ _ _ h)
      · have h := w_ift c h
        refine kx_goto (tgt := 70) dX2_trip_52 (by decide) ?_
        exact kx_lwF [(0, .ref (x0)), (1, .int (x1)), (2, .int (x2)), (3, .int (x3)), (4, .ref (a5)), (5, .ref (q9)), (6, .int (l6)), (7, .int (l7))] ⟨rfl, rfl, rfl, rfl, rfl, rfl, rfl, rfl, trivial⟩ (jk38037 l6 _ _ _ h)
set_option maxHeartbeats 8000000 in
theorem kw_J1_listIterator {G : KG} {bc bs : Nat} {σ : KHp} {x0 : Nat} {Q : Option Nat → KHp → Prop} {X : String → Nat → KHp → Prop} (h : W_J1_listIterator G bc bs σ x0 Q X) : kx_c G yJ1_listIterator (ws_ yJ1_listIterator cJ1_listIterator 1 (Option.some (Jvm.ClassFile.FieldType.object "java/util/ListIterator"))) 4 bc bs [.ref (x0)] σ (fun rv σ' => ∃ r, rv = some (va_rf (r)) ∧ Q r σ') X := by
  refine kx_mk3 (ini := false) (by decide) (Nat.le_of_ble_eq_true rfl) (fun h => by cases h) (fun Q1 X1 hQ hX => ?_)
  unfold W_J1_listIterator at h
  refine kx_aload_n dJ1_listIterator_0 rfl rfl ?_
  refine kx_iconst (v := 0) dJ1_listIterator_1 (by decide) ?_
  refine kW_jOa 5 [] h (fun v1 σ2 bcv1 bsv1 h => ?_) (fun k3 jk3 h => ?_)
  · skip
    exact kx_aret dJ1_listIterator_5 rfl (Or.inl ⟨_, rfl⟩) (va_rfs _) (hQ _ _ ⟨_, rfl, h⟩)
  · skip
    rcases h with h | h
    · skip
      obtain ⟨hr, h⟩ := h
      refine kx_callU dJ1_listIterator_2 lk_J1_47_J2 (kw_J2_listIterator h) rfl (wR_rc hr rfl) rfl (Nat.le_of_ble_eq_true rfl) (Nat.le_of_ble_eq_true rfl) (Nat.le_of_ble_eq_true rfl) (Nat.le_of_ble_eq_true rfl) (Nat.le_of_ble_eq_true rfl) (fun _ _ _ hx => kx_out rfl (hX _ _ _ hx)) (fun v_ σ_ hq => ?_)
      obtain ⟨r_, rfl, h⟩ := hq
      exact jk3 _ _ _ _ h
    · skip
      obtain ⟨hr, h⟩ := h
      obtain ⟨c1, s1, hc, hs, h⟩ := h
      refine kx_callU dJ1_listIterator_2 lk_J1_47_J18 (kw_J18_listIterator h) rfl (wR_rc hr rfl) rfl (Nat.le_of_ble_eq_true rfl) (Nat.le_of_ble_eq_true rfl) (Nat.le_of_ble_eq_true rfl) hc hs (fun _ _ _ hx => kx_out rfl (hX _ _ _ hx)) (fun v_ σ_ hq => ?_)
      obtain ⟨r_, rfl, h⟩ := hq
      exact jk3 _ _ _ _ h
