set_option maxRecDepth 100000
set_option maxHeartbeats 8000000 in
theorem kw_X8_init {G : KG} {σ : KHp} {x0 : Nat} {x1 : Int32} {x2 : Int32} {Q : KHp → Prop} {X : String → Nat → KHp → Prop} (h : W_X8_init G σ x0 x1 x2 Q X) : kx_c G yX8_init (ws_ yX8_init cX8_init 3 (Option.none : Option Jvm.ClassFile.FieldType)) 3 0 0 [.ref (x0), .int (x1), .int (x2)] σ (fun rv σ' => rv = none ∧ Q σ') X := by
  refine kx_mk3 (ini := true) rfl (Nat.le_of_ble_eq_true rfl) (fun _ => rfl) (fun Q1 X1 hQ hX => ?_)
  unfold W_X8_init at h
  refine kx_aload_n dX8_init_0 rfl rfl ?_
  refine kx_null dX8_init_1 ?_
  refine kx_null dX8_init_2 ?_
  refine kx_iconst (v := 0) dX8_init_3 (by decide) ?_
  refine kx_iconst (v := 0) dX8_init_4 (by decide) ?_
  refine kx_callI dX8_init_5 lk_X8_1 (kw_J4_init_2 h) rfl rfl (Nat.le_of_ble_eq_true rfl) (Nat.le_of_ble_eq_true rfl) (Nat.le_of_ble_eq_true rfl) (Nat.le_of_ble_eq_true rfl) (Nat.le_of_ble_eq_true rfl) (fun _ _ _ hx => kx_out rfl (hX _ _ _ hx)) (fun v_ σ2 hq => ?_)
  obtain ⟨rfl, h⟩ := hq
  refine kx_aload_n dX8_init_8 rfl rfl ?_
  refine kx_iload_n dX8_init_9 rfl rfl ?_
  refine kW_p dX8_init_10 (kp1 ⟨_, _, _, _, kc_X8, fl_X8_7_X8, Or.inr ⟨rfl, rfl, q1038⟩, rfl, rfl⟩) h (fun σ3 h => ?_)
  refine kx_aload_n dX8_init_13 rfl rfl ?_
  refine kx_iload_n dX8_init_14 rfl rfl ?_
  refine kW_p dX8_init_15 (kp1 ⟨_, _, _, _, kc_X8, fl_X8_13_X8, Or.inr ⟨rfl, rfl, q1040⟩, rfl, rfl⟩) h (fun σ4 h => ?_)
  exact kx_vret dX8_init_18 rfl (hQ _ _ ⟨rfl, h⟩)
set_option maxHeartbeats 8000000 in
theorem kw_X9_init {G : KG} {σ : KHp} {x0 : Nat} {x1 : Option Nat} {x2 : Int32} {x3 : Int32} {Q : KHp → Prop} {X : String → Nat → KHp → Prop} (h : W_X9_init G σ x0 x1 x2 x3 Q X) : kx_c G yX9_init (ws_ yX9_init cX9_init 4 (Option.none : Option Jvm.ClassFile.FieldType)) 1 0 0 [.ref (x0), va_rf (x1), .int (x2), .int (x3)] σ (fun rv σ' => rv = none ∧ Q σ') X := by
  refine kx_mk3 (ini := true) rfl (by cases x1 <;> exact Nat.le_of_ble_eq_true rfl) (fun _ => rfl) (fun Q1 X1 hQ hX => ?_)
  unfold W_X9_init at h
  refine kx_lwF [(0, .ref x0), (1, va_rf (x1)), (2, .int (x2)), (3, .int (x3))] (by cases x1 <;> exact ⟨rfl, rfl, rfl, rfl, trivial⟩) ?_
  refine kx_aload_n dX9_init_0 rfl rfl ?_
  refine kx_oinit dX9_init_1 q1294 q206 q207 (Nat.le_of_ble_eq_true rfl) (Nat.le_of_ble_eq_true rfl) ?_
  refine kx_aload_n dX9_init_4 rfl rfl ?_
  refine kx_aload_nO dX9_init_5 rfl rfl ?_
  refine kW_p dX9_init_6 (kpc ⟨_, _, _, _, kc_X10, fl_X9_7_X10, Or.inr ⟨rfl, rfl, q1295⟩, (by cases x1 <;> rfl), (by cases x1 <;> rfl)⟩ (kpc ⟨_, _, _, _, kc_X11, fl_X9_7_X11, Or.inr ⟨rfl, rfl, q1295⟩, (by cases x1 <;> rfl), (by cases x1 <;> rfl)⟩ (kpc ⟨_, _, _, _, kc_X12, fl_X9_7_X12, Or.inr ⟨rfl, rfl, q1295⟩, (by cases x1 <;> rfl), (by cases x1 <;> rfl)⟩ (kp1 ⟨_, _, _, _, kc_X13, fl_X9_7_X13, Or.inr ⟨rfl, rfl, q1295⟩, (by cases x1 <;> rfl), (by cases x1 <;> rfl)⟩)))) h (fun σ1 h => ?_)
  refine kx_aload_n dX9_init_9 rfl rfl ?_
  refine kx_iload_n dX9_init_10 rfl rfl ?_
  refine kW_p dX9_init_11 (kpc ⟨_, _, _, _, kc_X10, fl_X9_13_X10, Or.inr ⟨rfl, rfl, q1297⟩, rfl, rfl⟩ (kpc ⟨_, _, _, _, kc_X11, fl_X9_13_X11, Or.inr ⟨rfl, rfl, q1297⟩, rfl, rfl⟩ (kpc ⟨_, _, _, _, kc_X12, fl_X9_13_X12, Or.inr ⟨rfl, rfl, q1297⟩, rfl, rfl⟩ (kp1 ⟨_, _, _, _, kc_X13, fl_X9_13_X13, Or.inr ⟨rfl, rfl, q1297⟩, rfl, rfl⟩)))) h (fun σ2 h => ?_)
  refine kx_aload_n dX9_init_14 rfl rfl ?_
  refine kx_iload_n dX9_init_15 rfl rfl ?_
  refine kW_p dX9_init_16 (kpc ⟨_, _, _, _, kc_X10, fl_X9_17_X10, Or.inr ⟨rfl, rfl, q1300⟩, rfl, rfl⟩ (kpc ⟨_, _, _, _, kc_X11, fl_X9_17_X11, Or.inr ⟨rfl, rfl, q1300⟩, rfl, rfl⟩ (kpc ⟨_, _, _, _, kc_X12, fl_X9_17_X12, Or.inr ⟨rfl, rfl, q1300⟩, rfl, rfl⟩ (kp1 ⟨_, _, _, _, kc_X13, fl_X9_17_X13, Or.inr ⟨rfl, rfl, q1300⟩, rfl, rfl⟩)))) h (fun σ3 h => ?_)
  exact kx_vret dX9_init_19 rfl (hQ _ _ ⟨rfl, h⟩)
set_option maxHeartbeats 8000000 in
theorem kw_X9_first {G : KG} {σ : KHp} {x0 : Nat} {Q : Int32 → KHp → Prop} {X : String → Nat → KHp → Prop} (h : W_X9_first G σ x0 Q X) : kx_c G yX9_first (ws_ yX9_first cX9_first 1 (Option.some Jvm.ClassFile.FieldType.int)) 1 0 0 [.ref (x0)] σ (fun rv σ' => ∃ r, rv = some (.int (r)) ∧ Q r σ') X := by
  refine kx_mk3 (ini := false) rfl (Nat.le_of_ble_eq_true rfl) (fun h => by cases h) (fun Q1 X1 hQ hX => ?_)
  unfold W_X9_first at h
  refine kx_iconst (v := 0) dX9_first_0 (by decide) ?_
  exact kx_iret dX9_first_1 rfl (hQ _ _ ⟨_, rfl, h⟩)
set_option maxHeartbeats 8000000 in
theorem kw_X9_out {G : KG} {σ : KHp} {x0 : Nat} {Q : Int32 → KHp → Prop} {X : String → Nat → KHp → Prop} (h : W_X9_out G σ x0 Q X) : kx_c G yX9_out (ws_ yX9_out cX9_out 1 (Option.some Jvm.ClassFile.FieldType.int)) 1 0 0 [.ref (x0)] σ (fun rv σ' => ∃ r, rv = some (.int (r)) ∧ Q r σ') X := by
  refine kx_mk3 (ini := false) rfl (Nat.le_of_ble_eq_true rfl) (fun h => by cases h) (fun Q1 X1 hQ hX => ?_)
  unfold W_X9_out at h
  refine kx_iconst (v := 0) dX9_out_0 (by decide) ?_
  exact kx_iret dX9_out_1 rfl (hQ _ _ ⟨_, rfl, h⟩)
set_option maxHeartbeats 8000000 in
theorem kw_X9_at {G : KG} {σ : KHp} {x0 : Nat} {x1 : Option Nat} {x2 : Int32} {x3 : Int32} {x4 : UInt32} {Q : UInt32 → KHp → Prop} {X : String → Nat → KHp → Prop} (h : W_X9_at G σ x0 x1 x2 x3 x4 Q X) : kx_c G yX9_at (ws_ yX9_at cX9_at 5 (Option.some Jvm.ClassFile.FieldType.float)) 1 0 0 [.ref (x0), va_rf (x1), .int (x2), .int (x3), .float (x4)] σ (fun rv σ' => ∃ r, rv = some (.float (r)) ∧ Q r σ') X := by
  refine kx_mk3 (ini := false) rfl (by cases x1 <;> exact Nat.le_of_ble_eq_true rfl) (fun h => by cases h) (fun Q1 X1 hQ hX => ?_)
  unfold W_X9_at at h
  refine kx_lwF [(0, .ref x0), (1, va_rf (x1)), (2, .int (x2)), (3, .int (x3)), (4, .float (x4))] (by cases x1 <;> exact ⟨rfl, rfl, rfl, rfl, rfl, trivial⟩) ?_
  refine kx_aload_n dX9_at_0 rfl rfl ?_
  refine kW_gI dX9_at_1 (kfc fl_X9_17_X10 (kfc fl_X9_17_X11 (kfc fl_X9_17_X12 (kf1 fl_X9_17_X13)))) h (fun v1 h => ?_)
  refine kx_i2f dX9_at_4 ?_
  refine kx_aload_nO dX9_at_5 rfl rfl ?_
  refine kx_iload_n dX9_at_6 rfl rfl ?_
  obtain ⟨a2, rfl, hUa2⟩ := h
  have h := hUa2
  refine kW_lF dX9_at_7 h (fun v3 h => ?_)
  refine kW_fmul dX9_at_8 h (fun v4 h => ?_)
  exact kx_fret dX9_at_9 rfl (hQ _ _ ⟨_, rfl, h⟩)
set_option maxHeartbeats 8000000 in
theorem kw_X10_init {G : KG} {σ : KHp} {x0 : Nat} {x1 : Option Nat} {x2 : Int32} {x3 : Int32} {Q : KHp → Prop} {X : String → Nat → KHp → Prop} (h : W_X10_init G σ x0 x1 x2 x3 Q X) : kx_c G yX10_init (ws_ yX10_init cX10_init 4 (Option.none : Option Jvm.ClassFile.FieldType)) 2 0 0 [.ref (x0), va_rf (x1), .int (x2), .int (x3)] σ (fun rv σ' => rv = none ∧ Q σ') X := by
  refine kx_mk3 (ini := true) rfl (by cases x1 <;> exact Nat.le_of_ble_eq_true rfl) (fun _ => rfl) (fun Q1 X1 hQ hX => ?_)
  unfold W_X10_init at h
  refine kx_lwF [(0, .ref x0), (1, va_rf (x1)), (2, .int (x2)), (3, .int (x3))] (by cases x1 <;> exact ⟨rfl, rfl, rfl, rfl, trivial⟩) ?_
  refine kx_aload_n dX10_init_0 rfl rfl ?_
  refine kx_aload_nO dX10_init_1 rfl rfl ?_
  refine kx_iload_n dX10_init_2 rfl rfl ?_
  refine kx_iload_n dX10_init_3 rfl rfl ?_
  refine kx_callI dX10_init_4 lk_X10_1 (kw_X9_init h) rfl rfl (Nat.le_of_ble_eq_true rfl) (Nat.le_of_ble_eq_true rfl) (Nat.le_of_ble_eq_true rfl) (Nat.le_of_ble_eq_true rfl) (Nat.le_of_ble_eq_true rfl) (fun _ _ _ hx => kx_out rfl (hX _ _ _ hx)) (fun v_ σ2 hq => ?_)
  obtain ⟨rfl, h⟩ := hq
  exact kx_vret dX10_init_7 rfl (hQ _ _ ⟨rfl, h⟩)
set_option maxHeartbeats 8000000 in
theorem kw_X10_kind {G : KG} {σ : KHp} {x0 : Nat} {Q : Int32 → KHp → Prop} {X : String → Nat → KHp → Prop} (h : W_X10_kind G σ x0 Q X) : kx_c G yX10_kind (ws_ yX10_kind cX10_kind 1 (Option.some Jvm.ClassFile.FieldType.int)) 1 0 0 [.ref (x0)] σ (fun rv σ' => ∃ r, rv = some (.int (r)) ∧ Q r σ') X := by
  refine kx_mk3 (ini := false) rfl (Nat.le_of_ble_eq_true rfl) (fun h => by cases h) (fun Q1 X1 hQ hX => ?_)
  unfold W_X10_kind at h
  refine kx_iconst (v := 0) dX10_kind_0 (by decide) ?_
  exact kx_iret dX10_kind_1 rfl (hQ _ _ ⟨_, rfl, h⟩)
set_option maxHeartbeats 8000000 in
theorem kw_X11_init {G : KG} {σ : KHp} {x0 : Nat} {x1 : Option Nat} {x2 : Int32} {x3 : Int32} {x4 : Int32} {Q : KHp → Prop} {X : String → Nat → KHp → Prop} (h : W_X11_init G σ x0 x1 x2 x3 x4 Q X) : kx_c G yX11_init (ws_ yX11_init cX11_init 5 (Option.none : Option Jvm.ClassFile.FieldType)) 2 0 0 [.ref (x0), va_rf (x1), .int (x2), .int (x3), .int (x4)] σ (fun rv σ' => rv = none ∧ Q σ') X := by
  refine kx_mk3 (ini := true) rfl (by cases x1 <;> exact Nat.le_of_ble_eq_true rfl) (fun _ => rfl) (fun Q1 X1 hQ hX => ?_)
  unfold W_X11_init at h
  refine kx_lwF [(0, .ref x0), (1, va_rf (x1)), (2, .int (x2)), (3, .int (x3)), (4, .int (x4))] (by cases x1 <;> exact ⟨rfl, rfl, rfl, rfl, rfl, trivial⟩) ?_
  refine kx_aload_n dX11_init_0 rfl rfl ?_
  refine kx_aload_nO dX11_init_1 rfl rfl ?_
  refine kx_iload_n dX11_init_2 rfl rfl ?_
  refine kx_iload_n dX11_init_3 rfl rfl ?_
  refine kx_callI dX11_init_4 lk_X11_1 (kw_X9_init h) rfl rfl (Nat.le_of_ble_eq_true rfl) (Nat.le_of_ble_eq_true rfl) (Nat.le_of_ble_eq_true rfl) (Nat.le_of_ble_eq_true rfl) (Nat.le_of_ble_eq_true rfl) (fun _ _ _ hx => kx_out rfl (hX _ _ _ hx)) (fun v_ σ2 hq => ?_)
  obtain ⟨rfl, h⟩ := hq
  refine kx_aload_n dX11_init_7 rfl rfl ?_
  refine kx_iload dX11_init_8 rfl ?_
  refine kW_p dX11_init_10 (kp1 ⟨_, _, _, _, kc_X11, fl_X11_7_X11, Or.inr ⟨rfl, rfl, q1316⟩, rfl, rfl⟩) h (fun σ3 h => ?_)
  exact kx_vret dX11_init_13 rfl (hQ _ _ ⟨rfl, h⟩)
set_option maxHeartbeats 8000000 in
theorem kw_X11_kind {G : KG} {σ : KHp} {x0 : Nat} {Q : Int32 → KHp → Prop} {X : String → Nat → KHp → Prop} (h : W_X11_kind G σ x0 Q X) : kx_c G yX11_kind (ws_ yX11_kind cX11_kind 1 (Option.some Jvm.ClassFile.FieldType.int)) 1 0 0 [.ref (x0)] σ (fun rv σ' => ∃ r, rv = some (.int (r)) ∧ Q r σ') X := by
  refine kx_mk3 (ini := false) rfl (Nat.le_of_ble_eq_true rfl) (fun h => by cases h) (fun Q1 X1 hQ hX => ?_)
  unfold W_X11_kind at h
  refine kx_iconst (v := 1) dX11_kind_0 (by decide) ?_
  exact kx_iret dX11_kind_1 rfl (hQ _ _ ⟨_, rfl, h⟩)
set_option maxHeartbeats 8000000 in
theorem kw_X11_first {G : KG} {σ : KHp} {x0 : Nat} {Q : Int32 → KHp → Prop} {X : String → Nat → KHp → Prop} (h : W_X11_first G σ x0 Q X) : kx_c G yX11_first (ws_ yX11_first cX11_first 1 (Option.some Jvm.ClassFile.FieldType.int)) 1 0 0 [.ref (x0)] σ (fun rv σ' => ∃ r, rv = some (.int (r)) ∧ Q r σ') X := by
  refine kx_mk3 (ini := false) rfl (Nat.le_of_ble_eq_true rfl) (fun h => by cases h) (fun Q1 X1 hQ hX => ?_)
  unfold W_X11_first at h
  refine kx_aload_n dX11_first_0 rfl rfl ?_
  refine kW_gI dX11_first_1 (kf1 fl_X11_7_X11) h (fun v1 h => ?_)
  exact kx_iret dX11_first_4 rfl (hQ _ _ ⟨_, rfl, h⟩)
set_option maxHeartbeats 8000000 in
theorem kw_X11_at {G : KG} {σ : KHp} {x0 : Nat} {x1 : Option Nat} {x2 : Int32} {x3 : Int32} {x4 : UInt32} {Q : UInt32 → KHp → Prop} {X : String → Nat → KHp → Prop} (h : W_X11_at G σ x0 x1 x2 x3 x4 Q X) : kx_c G yX11_at (ws_ yX11_at cX11_at 5 (Option.some Jvm.ClassFile.FieldType.float)) 2 0 0 [.ref (x0), va_rf (x1), .int (x2), .int (x3), .float (x4)] σ (fun rv σ' => ∃ r, rv = some (.float (r)) ∧ Q r σ') X := by
  refine kx_mk3 (ini := false) rfl (by cases x1 <;> exact Nat.le_of_ble_eq_true rfl) (fun h => by cases h) (fun Q1 X1 hQ hX => ?_)
  unfold W_X11_at at h
  refine kx_lwF [(0, .ref x0), (1, va_rf (x1)), (2, .int (x2)), (3, .int (x3)), (4, .float (x4))] (by cases x1 <;> exact ⟨rfl, rfl, rfl, rfl, rfl, trivial⟩) ?_
  refine kx_iload_n dX11_at_0 rfl rfl ?_
  refine kx_aload_n dX11_at_1 rfl rfl ?_
  refine kW_gI dX11_at_2 (kf1 fl_X11_7_X11) h (fun v1 h => ?_)
  refine kW_jF 44 [] h (fun v12 σ13 h => ?_) (fun k2 jk2 h => ?_)
  · skip
    exact kx_fret dX11_at_44 rfl (hQ _ _ ⟨_, rfl, h⟩)
  · skip
    refine kx_icmp_lt (tgt := 25) dX11_at_5 (by decide) (fun c => ?_) (fun c => ?_)
    · have h := w_ift c h
      refine kx_fconst0 dX11_at_25 ?_
      refine kx_aload_n dX11_at_26 rfl rfl ?_
      refine kx_aload_nO dX11_at_27 rfl rfl ?_
      refine kx_iload_n dX11_at_28 rfl rfl ?_
      refine kx_aload_n dX11_at_29 rfl rfl ?_
      refine kW_gI dX11_at_30 (kf1 fl_X11_7_X11) h (fun v3 h => ?_)
      refine kx_isub dX11_at_33 ?_
      refine kx_aload_nO dX11_at_34 rfl rfl ?_
      obtain ⟨a4, rfl, hUa4⟩ := h
      have h := hUa4
      refine kW_len dX11_at_35 h (fun v5 h => ?_)
      refine kx_iadd dX11_at_36 ?_
      refine kx_iload_n dX11_at_37 rfl rfl ?_
      refine kx_fload dX11_at_38 rfl ?_
      obtain ⟨hr, h⟩ := h
      refine kx_callSU dX11_at_40 lk_X11_13 (kw_X9_at h) rfl hr.choose_spec.choose_spec rfl rfl (Nat.le_of_ble_eq_true rfl) (Nat.le_of_ble_eq_true rfl) (Nat.le_of_ble_eq_true rfl) (Nat.le_of_ble_eq_true rfl) (Nat.le_of_ble_eq_true rfl) (fun _ _ _ hx => kx_out rfl (hX _ _ _ hx)) (fun v_ σ7 hq => ?_)
      obtain ⟨v6, rfl, h⟩ := hq
      refine kW_fsub dX11_at_43 h (fun v8 h => ?_)
      exact jk2 _ _ h
    · have h := w_iff c h
      refine kx_aload_n dX11_at_8 rfl rfl ?_
      refine kx_aload_nO dX11_at_9 rfl rfl ?_
      refine kx_iload_n dX11_at_10 rfl rfl ?_
      refine kx_aload_n dX11_at_11 rfl rfl ?_
      refine kW_gI dX11_at_12 (kf1 fl_X11_7_X11) h (fun v9 h => ?_)
      refine kx_isub dX11_at_15 ?_
      refine kx_iload_n dX11_at_16 rfl rfl ?_
      refine kx_fload dX11_at_17 rfl ?_
      obtain ⟨hr, h⟩ := h
      refine kx_callSU dX11_at_19 lk_X11_13 (kw_X9_at h) rfl hr.choose_spec.choose_spec rfl rfl (Nat.le_of_ble_eq_true rfl) (Nat.le_of_ble_eq_true rfl) (Nat.le_of_ble_eq_true rfl) (Nat.le_of_ble_eq_true rfl) (Nat.le_of_ble_eq_true rfl) (fun _ _ _ hx => kx_out rfl (hX _ _ _ hx)) (fun v_ σ11 hq => ?_)
      obtain ⟨v10, rfl, h⟩ := hq
      refine kx_goto (tgt := 44) dX11_at_22 (by decide) ?_
      exact jk2 _ _ h
set_option maxHeartbeats 8000000 in
theorem kw_X12_init {G : KG} {σ : KHp} {x0 : Nat} {x1 : Option Nat} {x2 : Int32} {x3 : Int32} {x4 : Int32} {Q : KHp → Prop} {X : String → Nat → KHp → Prop} (h : W_X12_init G σ x0 x1 x2 x3 x4 Q X) : kx_c G yX12_init (ws_ yX12_init cX12_init 5 (Option.none : Option Jvm.ClassFile.FieldType)) 2 0 0 [.ref (x0), va_rf (x1), .int (x2), .int (x3), .int (x4)] σ (fun rv σ' => rv = none ∧ Q σ') X := by
  refine kx_mk3 (ini := true) rfl (by cases x1 <;> exact Nat.le_of_ble_eq_true rfl) (fun _ => rfl) (fun Q1 X1 hQ hX => ?_)
  unfold W_X12_init at h
  refine kx_lwF [(0, .ref x0), (1, va_rf (x1)), (2, .int (x2)), (3, .int (x3)), (4, .int (x4))] (by cases x1 <;> exact ⟨rfl, rfl, rfl, rfl, rfl, trivial⟩) ?_
  refine kx_aload_n dX12_init_0 rfl rfl ?_
  refine kx_aload_nO dX12_init_1 rfl rfl ?_
  refine kx_iload_n dX12_init_2 rfl rfl ?_
  refine kx_iload_n dX12_init_3 rfl rfl ?_
  refine kx_callI dX12_init_4 lk_X12_1 (kw_X9_init h) rfl rfl (Nat.le_of_ble_eq_true rfl) (Nat.le_of_ble_eq_true rfl) (Nat.le_of_ble_eq_true rfl) (Nat.le_of_ble_eq_true rfl) (Nat.le_of_ble_eq_true rfl) (fun _ _ _ hx => kx_out rfl (hX _ _ _ hx)) (fun v_ σ2 hq => ?_)
  obtain ⟨rfl, h⟩ := hq
  refine kx_aload_n dX12_init_7 rfl rfl ?_
  refine kx_iload dX12_init_8 rfl ?_
  refine kW_p dX12_init_10 (kp1 ⟨_, _, _, _, kc_X12, fl_X12_7_X12, Or.inr ⟨rfl, rfl, q1330⟩, rfl, rfl⟩) h (fun σ3 h => ?_)
  exact kx_vret dX12_init_13 rfl (hQ _ _ ⟨rfl, h⟩)
set_option maxHeartbeats 8000000 in
theorem kw_X12_kind {G : KG} {σ : KHp} {x0 : Nat} {Q : Int32 → KHp → Prop} {X : String → Nat → KHp → Prop} (h : W_X12_kind G σ x0 Q X) : kx_c G yX12_kind (ws_ yX12_kind cX12_kind 1 (Option.some Jvm.ClassFile.FieldType.int)) 1 0 0 [.ref (x0)] σ (fun rv σ' => ∃ r, rv = some (.int (r)) ∧ Q r σ') X := by
  refine kx_mk3 (ini := false) rfl (Nat.le_of_ble_eq_true rfl) (fun h => by cases h) (fun Q1 X1 hQ hX => ?_)
  unfold W_X12_kind at h
  refine kx_iconst (v := 2) dX12_kind_0 (by decide) ?_
  exact kx_iret dX12_kind_1 rfl (hQ _ _ ⟨_, rfl, h⟩)
set_option maxHeartbeats 8000000 in
theorem kw_X12_first {G : KG} {σ : KHp} {x0 : Nat} {Q : Int32 → KHp → Prop} {X : String → Nat → KHp → Prop} (h : W_X12_first G σ x0 Q X) : kx_c G yX12_first (ws_ yX12_first cX12_first 1 (Option.some Jvm.ClassFile.FieldType.int)) 1 0 0 [.ref (x0)] σ (fun rv σ' => ∃ r, rv = some (.int (r)) ∧ Q r σ') X := by
  refine kx_mk3 (ini := false) rfl (Nat.le_of_ble_eq_true rfl) (fun h => by cases h) (fun Q1 X1 hQ hX => ?_)
  unfold W_X12_first at h
  refine kx_aload_n dX12_first_0 rfl rfl ?_
  refine kW_gI dX12_first_1 (kf1 fl_X12_7_X12) h (fun v1 h => ?_)
  exact kx_iret dX12_first_4 rfl (hQ _ _ ⟨_, rfl, h⟩)
set_option maxHeartbeats 8000000 in
theorem kw_X12_at {G : KG} {σ : KHp} {x0 : Nat} {x1 : Option Nat} {x2 : Int32} {x3 : Int32} {x4 : UInt32} {Q : UInt32 → KHp → Prop} {X : String → Nat → KHp → Prop} (h : W_X12_at G σ x0 x1 x2 x3 x4 Q X) : kx_c G yX12_at (ws_ yX12_at cX12_at 5 (Option.some Jvm.ClassFile.FieldType.float)) 2 0 0 [.ref (x0), va_rf (x1), .int (x2), .int (x3), .float (x4)] σ (fun rv σ' => ∃ r, rv = some (.float (r)) ∧ Q r σ') X := by
  refine kx_mk3 (ini := false) rfl (by cases x1 <;> exact Nat.le_of_ble_eq_true rfl) (fun h => by cases h) (fun Q1 X1 hQ hX => ?_)
  unfold W_X12_at at h
  refine kx_lwF [(0, .ref x0), (1, va_rf (x1)), (2, .int (x2)), (3, .int (x3)), (4, .float (x4))] (by cases x1 <;> exact ⟨rfl, rfl, rfl, rfl, rfl, trivial⟩) ?_
  refine kx_iload_n dX12_at_0 rfl rfl ?_
  refine kx_aload_n dX12_at_1 rfl rfl ?_
  refine kW_gI dX12_at_2 (kf1 fl_X12_7_X12) h (fun v1 h => ?_)
  refine kW_jF 21 [] h (fun v5 σ6 h => ?_) (fun k2 jk2 h => ?_)
  · skip
    exact kx_fret dX12_at_21 rfl (hQ _ _ ⟨_, rfl, h⟩)
  · skip
    refine kx_icmp_ge (tgt := 12) dX12_at_5 (by decide) (fun c => ?_) (fun c => ?_)
    · have h := w_ift c h
      refine kx_aload_n dX12_at_12 rfl rfl ?_
      refine kx_aload_nO dX12_at_13 rfl rfl ?_
      refine kx_iload_n dX12_at_14 rfl rfl ?_
      refine kx_iload_n dX12_at_15 rfl rfl ?_
      refine kx_fload dX12_at_16 rfl ?_
      obtain ⟨hr, h⟩ := h
      refine kx_callSU dX12_at_18 lk_X12_13 (kw_X9_at h) rfl hr.choose_spec.choose_spec rfl rfl (Nat.le_of_ble_eq_true rfl) (Nat.le_of_ble_eq_true rfl) (Nat.le_of_ble_eq_true rfl) (Nat.le_of_ble_eq_true rfl) (Nat.le_of_ble_eq_true rfl) (fun _ _ _ hx => kx_out rfl (hX _ _ _ hx)) (fun v_ σ4 hq => ?_)
      obtain ⟨v3, rfl, h⟩ := hq
      exact jk2 _ _ h
    · have h := w_iff c h
      refine kx_fconst0 dX12_at_8 ?_
      refine kx_goto (tgt := 21) dX12_at_9 (by decide) ?_
      exact jk2 _ _ h
set_option maxHeartbeats 8000000 in
theorem kw_X13_init {G : KG} {σ : KHp} {x0 : Nat} {x1 : Option Nat} {x2 : Int32} {x3 : Int32} {x4 : Int32} {x5 : Int32} {Q : KHp → Prop} {X : String → Nat → KHp → Prop} (h : W_X13_init G σ x0 x1 x2 x3 x4 x5 Q X) : kx_c G yX13_init (ws_ yX13_init cX13_init 6 (Option.none : Option Jvm.ClassFile.FieldType)) 2 0 0 [.ref (x0), va_rf (x1), .int (x2), .int (x3), .int (x4), .int (x5)] σ (fun rv σ' => rv = none ∧ Q σ') X := by
  refine kx_mk3 (ini := true) rfl (by cases x1 <;> exact Nat.le_of_ble_eq_true rfl) (fun _ => rfl) (fun Q1 X1 hQ hX => ?_)
  unfold W_X13_init at h
  refine kx_lwF [(0, .ref x0), (1, va_rf (x1)), (2, .int (x2)), (3, .int (x3)), (4, .int (x4)), (5, .int (x5))] (by cases x1 <;> exact ⟨rfl, rfl, rfl, rfl, rfl, rfl, trivial⟩) ?_
  refine kx_aload_n dX13_init_0 rfl rfl ?_
  refine kx_aload_nO dX13_init_1 rfl rfl ?_
  refine kx_iload_n dX13_init_2 rfl rfl ?_
  refine kx_iload_n dX13_init_3 rfl rfl ?_
  refine kx_callI dX13_init_4 lk_X13_1 (kw_X9_init h) rfl rfl (Nat.le_of_ble_eq_true rfl) (Nat.le_of_ble_eq_true rfl) (Nat.le_of_ble_eq_true rfl) (Nat.le_of_ble_eq_true rfl) (Nat.le_of_ble_eq_true rfl) (fun _ _ _ hx => kx_out rfl (hX _ _ _ hx)) (fun v_ σ2 hq => ?_)
  obtain ⟨rfl, h⟩ := hq
  refine kx_aload_n dX13_init_7 rfl rfl ?_
  refine kx_iload dX13_init_8 rfl ?_
  refine kW_p dX13_init_10 (kp1 ⟨_, _, _, _, kc_X13, fl_X13_7_X13, Or.inr ⟨rfl, rfl, q1345⟩, rfl, rfl⟩) h (fun σ3 h => ?_)
  refine kx_aload_n dX13_init_13 rfl rfl ?_
  refine kx_iload dX13_init_14 rfl ?_
  refine kW_p dX13_init_16 (kp1 ⟨_, _, _, _, kc_X13, fl_X13_13_X13, Or.inr ⟨rfl, rfl, q1347⟩, rfl, rfl⟩) h (fun σ4 h => ?_)
  exact kx_vret dX13_init_19 rfl (hQ _ _ ⟨rfl, h⟩)
set_option maxHeartbeats 8000000 in
theorem kw_X13_kind {G : KG} {σ : KHp} {x0 : Nat} {Q : Int32 → KHp → Prop} {X : String → Nat → KHp → Prop} (h : W_X13_kind G σ x0 Q X) : kx_c G yX13_kind (ws_ yX13_kind cX13_kind 1 (Option.some Jvm.ClassFile.FieldType.int)) 1 0 0 [.ref (x0)] σ (fun rv σ' => ∃ r, rv = some (.int (r)) ∧ Q r σ') X := by
  refine kx_mk3 (ini := false) rfl (Nat.le_of_ble_eq_true rfl) (fun h => by cases h) (fun Q1 X1 hQ hX => ?_)
  unfold W_X13_kind at h
  refine kx_iconst (v := 3) dX13_kind_0 (by decide) ?_
  exact kx_iret dX13_kind_1 rfl (hQ _ _ ⟨_, rfl, h⟩)
set_option maxHeartbeats 8000000 in
theorem kw_X13_first {G : KG} {σ : KHp} {x0 : Nat} {Q : Int32 → KHp → Prop} {X : String → Nat → KHp → Prop} (h : W_X13_first G σ x0 Q X) : kx_c G yX13_first (ws_ yX13_first cX13_first 1 (Option.some Jvm.ClassFile.FieldType.int)) 1 0 0 [.ref (x0)] σ (fun rv σ' => ∃ r, rv = some (.int (r)) ∧ Q r σ') X := by
  refine kx_mk3 (ini := false) rfl (Nat.le_of_ble_eq_true rfl) (fun h => by cases h) (fun Q1 X1 hQ hX => ?_)
  unfold W_X13_first at h
  refine kx_aload_n dX13_first_0 rfl rfl ?_
  refine kW_gI dX13_first_1 (kf1 fl_X13_7_X13) h (fun v1 h => ?_)
  exact kx_iret dX13_first_4 rfl (hQ _ _ ⟨_, rfl, h⟩)
set_option maxHeartbeats 8000000 in
theorem kw_X13_out {G : KG} {σ : KHp} {x0 : Nat} {Q : Int32 → KHp → Prop} {X : String → Nat → KHp → Prop} (h : W_X13_out G σ x0 Q X) : kx_c G yX13_out (ws_ yX13_out cX13_out 1 (Option.some Jvm.ClassFile.FieldType.int)) 1 0 0 [.ref (x0)] σ (fun rv σ' => ∃ r, rv = some (.int (r)) ∧ Q r σ') X := by
  refine kx_mk3 (ini := false) rfl (Nat.le_of_ble_eq_true rfl) (fun h => by cases h) (fun Q1 X1 hQ hX => ?_)
  unfold W_X13_out at h
  refine kx_aload_n dX13_out_0 rfl rfl ?_
  refine kW_gI dX13_out_1 (kf1 fl_X13_13_X13) h (fun v1 h => ?_)
  exact kx_iret dX13_out_4 rfl (hQ _ _ ⟨_, rfl, h⟩)
set_option maxHeartbeats 8000000 in
theorem kw_X13_at {G : KG} {σ : KHp} {x0 : Nat} {x1 : Option Nat} {x2 : Int32} {x3 : Int32} {x4 : UInt32} {Q : UInt32 → KHp → Prop} {X : String → Nat → KHp → Prop} (h : W_X13_at G σ x0 x1 x2 x3 x4 Q X) : kx_c G yX13_at (ws_ yX13_at cX13_at 5 (Option.some Jvm.ClassFile.FieldType.float)) 2 0 0 [.ref (x0), va_rf (x1), .int (x2), .int (x3), .float (x4)] σ (fun rv σ' => ∃ r, rv = some (.float (r)) ∧ Q r σ') X := by
  refine kx_mk3 (ini := false) rfl (by cases x1 <;> exact Nat.le_of_ble_eq_true rfl) (fun h => by cases h) (fun Q1 X1 hQ hX => ?_)
  unfold W_X13_at at h
  refine kx_lwF [(0, .ref x0), (1, va_rf (x1)), (2, .int (x2)), (3, .int (x3)), (4, .float (x4))] (by cases x1 <;> exact ⟨rfl, rfl, rfl, rfl, rfl, trivial⟩) ?_
  refine kx_iload_n dX13_at_0 rfl rfl ?_
  refine kx_iload_n dX13_at_1 rfl rfl ?_
  refine kW_jF 21 [] h (fun v5 σ6 h => ?_) (fun k1 jk1 h => ?_)
  · skip
    exact kx_fret dX13_at_21 rfl (hQ _ _ ⟨_, rfl, h⟩)
  · skip
    refine kx_icmp_ge (tgt := 9) dX13_at_2 (by decide) (fun c => ?_) (fun c => ?_)
    · have h := w_ift c h
      refine kx_aload_n dX13_at_9 rfl rfl ?_
      refine kx_aload_nO dX13_at_10 rfl rfl ?_
      refine kx_iload_n dX13_at_11 rfl rfl ?_
      refine kx_iload_n dX13_at_12 rfl rfl ?_
      refine kx_fload dX13_at_13 rfl ?_
      obtain ⟨hr, h⟩ := h
      refine kx_callSU dX13_at_15 lk_X13_16 (kw_X9_at h) rfl hr.choose_spec.choose_spec rfl rfl (Nat.le_of_ble_eq_true rfl) (Nat.le_of_ble_eq_true rfl) (Nat.le_of_ble_eq_true rfl) (Nat.le_of_ble_eq_true rfl) (Nat.le_of_ble_eq_true rfl) (fun _ _ _ hx => kx_out rfl (hX _ _ _ hx)) (fun v_ σ3 hq => ?_)
      obtain ⟨v2, rfl, h⟩ := hq
      refine kx_fload dX13_at_18 rfl ?_
      refine kW_fmul dX13_at_20 h (fun v4 h => ?_)
      exact jk1 _ _ h
    · have h := w_iff c h
      refine kx_fconst0 dX13_at_5 ?_
      refine kx_goto (tgt := 21) dX13_at_6 (by decide) ?_
      exact jk1 _ _ h
set_option maxHeartbeats 8000000 in
theorem kw_X14_init {G : KG} {bc bs : Nat} {σ : KHp} {x0 : Nat} {x1 : Option Nat} {x2 : Int32} {Q : KHp → Prop} {X : String → Nat → KHp → Prop} (h : W_X14_init G bc bs σ x0 x1 x2 Q X) : kx_c G yX14_init (ws_ yX14_init cX14_init 3 (Option.none : Option Jvm.ClassFile.FieldType)) 4 bc bs [.ref (x0), va_rf (x1), .int (x2)] σ (fun rv σ' => rv = none ∧ Q σ') X := by
  refine kx_mk3 (ini := true) rfl (by cases x1 <;> exact Nat.le_of_ble_eq_true rfl) (fun _ => rfl) (fun Q1 X1 hQ hX => ?_)
  unfold W_X14_init at h
  refine kx_lwF [(0, .ref x0), (1, va_rf (x1)), (2, .int (x2))] (by cases x1 <;> exact ⟨rfl, rfl, rfl, trivial⟩) ?_
  refine kx_aload_n dX14_init_0 rfl rfl ?_
  refine kx_oinit dX14_init_1 q1376 q206 q207 (Nat.le_of_ble_eq_true rfl) (Nat.le_of_ble_eq_true rfl) ?_
  refine kx_aload_n dX14_init_4 rfl rfl ?_
  refine kW_new dX14_init_5 kc_J2 q1377 q217 q148 rfl h (fun q1 σ2 h => ?_)
  refine kx_dup dX14_init_8 rfl ?_
  refine kx_iconst (v := 2) dX14_init_9 (by decide) ?_
  obtain ⟨c5, c6, hc, hs, h⟩ := h
  refine kx_callI dX14_init_10 lk_X14_9 (kw_J2_init h) rfl rfl (Nat.le_of_ble_eq_true rfl) (Nat.le_of_ble_eq_true rfl) (Nat.le_of_ble_eq_true rfl) hc hs (fun _ _ _ hx => kx_out rfl (hX _ _ _ hx)) (fun v_ σ4 hq => ?_)
  obtain ⟨rfl, h⟩ := hq
  refine kW_p dX14_init_13 (kp1 ⟨_, _, _, _, kc_X14, fl_X14_12_X14, Or.inr ⟨rfl, rfl, q1386⟩, rfl, rfl⟩) h (fun σ7 h => ?_)
  refine kx_aload_n dX14_init_16 rfl rfl ?_
  refine kx_aload_nO dX14_init_17 rfl rfl ?_
  refine kW_p dX14_init_18 (kp1 ⟨_, _, _, _, kc_X14, fl_X14_18_X14, Or.inr ⟨rfl, rfl, q1379⟩, (by cases x1 <;> rfl), (by cases x1 <;> rfl)⟩) h (fun σ8 h => ?_)
  refine kx_aload_n dX14_init_21 rfl rfl ?_
  refine kx_iload_n dX14_init_22 rfl rfl ?_
  refine kW_pZ dX14_init_23 (kp1 ⟨_, _, _, _, kc_X14, fl_X14_22_X14, Or.inr ⟨rfl, rfl, q1383⟩, rfl, rfl⟩) (kp1 ⟨_, _, _, _, kc_X14, fl_X14_22_X14, Or.inr ⟨rfl, rfl, q1383⟩, rfl, rfl⟩) h (fun σ9 h => ?_)
  exact kx_vret dX14_init_26 rfl (hQ _ _ ⟨rfl, h⟩)
set_option maxHeartbeats 8000000 in
theorem kw_X15_init {G : KG} {σ : KHp} {x0 : Nat} {x1 : Int32} {x2 : Int32} {x3 : Int32} {Q : KHp → Prop} {X : String → Nat → KHp → Prop} (h : W_X15_init G σ x0 x1 x2 x3 Q X) : kx_c G yX15_init (ws_ yX15_init cX15_init 4 (Option.none : Option Jvm.ClassFile.FieldType)) 1 0 0 [.ref (x0), .int (x1), .int (x2), .int (x3)] σ (fun rv σ' => rv = none ∧ Q σ') X := by
  refine kx_mk3 (ini := true) rfl (Nat.le_of_ble_eq_true rfl) (fun _ => rfl) (fun Q1 X1 hQ hX => ?_)
  unfold W_X15_init at h
  refine kx_aload_n dX15_init_0 rfl rfl ?_
  refine kx_oinit dX15_init_1 q1410 q206 q207 (Nat.le_of_ble_eq_true rfl) (Nat.le_of_ble_eq_true rfl) ?_
  refine kx_aload_n dX15_init_4 rfl rfl ?_
  refine kx_iload_n dX15_init_5 rfl rfl ?_
  refine kW_p dX15_init_6 (kp1 ⟨_, _, _, _, kc_X15, fl_X15_7_X15, Or.inr ⟨rfl, rfl, q1411⟩, rfl, rfl⟩) h (fun σ1 h => ?_)
  refine kx_aload_n dX15_init_9 rfl rfl ?_
  refine kx_iload_n dX15_init_10 rfl rfl ?_
  refine kW_pZ dX15_init_11 (kp1 ⟨_, _, _, _, kc_X15, fl_X15_13_X15, Or.inr ⟨rfl, rfl, q1413⟩, rfl, rfl⟩) (kp1 ⟨_, _, _, _, kc_X15, fl_X15_13_X15, Or.inr ⟨rfl, rfl, q1413⟩, rfl, rfl⟩) h (fun σ2 h => ?_)
  refine kx_aload_n dX15_init_14 rfl rfl ?_
  refine kx_iload_n dX15_init_15 rfl rfl ?_
  refine kW_p dX15_init_16 (kp1 ⟨_, _, _, _, kc_X15, fl_X15_17_X15, Or.inr ⟨rfl, rfl, q1412⟩, rfl, rfl⟩) h (fun σ3 h => ?_)
  exact kx_vret dX15_init_19 rfl (hQ _ _ ⟨rfl, h⟩)
set_option maxHeartbeats 8000000 in
theorem kw_X15_holds {G : KG} {σ : KHp} {x0 : Nat} {x1 : Option Nat} {Q : Int32 → KHp → Prop} {X : String → Nat → KHp → Prop} (h : W_X15_holds G σ x0 x1 Q X) : kx_c G yX15_holds (ws_ yX15_holds cX15_holds 2 (Option.some Jvm.ClassFile.FieldType.boolean)) 1 0 0 [.ref (x0), va_rf (x1)] σ (fun rv σ' => ∃ r, rv = some (.int (r)) ∧ Q r σ') X := by
  refine kx_mk3 (ini := false) rfl (by cases x1 <;> exact Nat.le_of_ble_eq_true rfl) (fun h => by cases h) (fun Q1 X1 hQ hX => ?_)
  unfold W_X15_holds at h
  refine kx_lwF [(0, .ref x0), (1, va_rf (x1))] (by cases x1 <;> exact ⟨rfl, rfl, trivial⟩) ?_
  refine kx_aload_n dX15_holds_0 rfl rfl ?_
  refine kW_gI dX15_holds_1 (kf1 fl_X15_13_X15) h (fun v1 h => ?_)
  refine kW_jI 50 [] h (fun v11 σ12 h => ?_) (fun k2 jk2 h => ?_)
  · skip
    exact kx_zret dX15_holds_50 rfl h.1 (hQ _ _ ⟨_, rfl, h.2⟩)
  · skip
    refine kx_if_eq (tgt := 30) dX15_holds_4 (by decide) (fun c => ?_) (fun c => ?_)
    · have h := w_ift c h
      refine kx_aload_nO dX15_holds_30 rfl rfl ?_
      refine kx_aload_n dX15_holds_31 rfl rfl ?_
      refine kW_gI dX15_holds_32 (kf1 fl_X15_7_X15) h (fun v3 h => ?_)
      obtain ⟨a4, rfl, hUa4⟩ := h
      have h := hUa4
      refine kW_lF dX15_holds_35 h (fun v5 h => ?_)
      refine kx_aload_n dX15_holds_36 rfl rfl ?_
      refine kW_gI dX15_holds_37 (kf1 fl_X15_17_X15) h (fun v6 h => ?_)
      refine kx_i2f dX15_holds_40 ?_
      refine kx_fcmp dX15_holds_41 ?_
      refine kx_if_le (tgt := 49) dX15_holds_42 (by decide) (fun c => ?_) (fun c => ?_)
      · have h := w_ift c h
        refine kx_iconst (v := 0) dX15_holds_49 (by decide) ?_
        exact jk2 _ _ h
      · have h := w_iff c h
        refine kx_iconst (v := 1) dX15_holds_45 (by decide) ?_
        refine kx_goto (tgt := 50) dX15_holds_46 (by decide) ?_
        exact jk2 _ _ h
    · have h := w_iff c h
      refine kx_aload_nO dX15_holds_7 rfl rfl ?_
      refine kx_aload_n dX15_holds_8 rfl rfl ?_
      refine kW_gI dX15_holds_9 (kf1 fl_X15_7_X15) h (fun v7 h => ?_)
      obtain ⟨a8, rfl, hUa8⟩ := h
      have h := hUa8
      refine kW_lF dX15_holds_12 h (fun v9 h => ?_)
      refine kx_aload_n dX15_holds_13 rfl rfl ?_
      refine kW_gI dX15_holds_14 (kf1 fl_X15_17_X15) h (fun v10 h => ?_)
      refine kx_i2f dX15_holds_17 ?_
      refine kx_fcmp dX15_holds_18 ?_
      refine kx_if_ge (tgt := 26) dX15_holds_19 (by decide) (fun c => ?_) (fun c => ?_)
      · have h := w_ift c h
        refine kx_iconst (v := 0) dX15_holds_26 (by decide) ?_
        refine kx_goto (tgt := 50) dX15_holds_27 (by decide) ?_
        exact jk2 _ _ h
      · have h := w_iff c h
        refine kx_iconst (v := 1) dX15_holds_22 (by decide) ?_
        refine kx_goto (tgt := 50) dX15_holds_23 (by decide) ?_
        exact jk2 _ _ h
set_option maxHeartbeats 8000000 in
theorem kw_X16_init {G : KG} {σ : KHp} {x0 : Nat} {x1 : Option Nat} {x2 : Int32} {Q : KHp → Prop} {X : String → Nat → KHp → Prop} (h : W_X16_init G σ x0 x1 x2 Q X) : kx_c G yX16_init (ws_ yX16_init cX16_init 3 (Option.none : Option Jvm.ClassFile.FieldType)) 1 0 0 [.ref (x0), va_rf (x1), .int (x2)] σ (fun rv σ' => rv = none ∧ Q σ') X := by
  refine kx_mk3 (ini := true) rfl (by cases x1 <;> exact Nat.le_of_ble_eq_true rfl) (fun _ => rfl) (fun Q1 X1 hQ hX => ?_)
  unfold W_X16_init at h
  refine kx_lwF [(0, .ref x0), (1, va_rf (x1)), (2, .int (x2))] (by cases x1 <;> exact ⟨rfl, rfl, rfl, trivial⟩) ?_
  refine kx_aload_n dX16_init_0 rfl rfl ?_
  refine kx_oinit dX16_init_1 q1430 q206 q207 (Nat.le_of_ble_eq_true rfl) (Nat.le_of_ble_eq_true rfl) ?_
  refine kx_aload_n dX16_init_4 rfl rfl ?_
  refine kx_aload_nO dX16_init_5 rfl rfl ?_
  refine kW_p dX16_init_6 (kp1 ⟨_, _, _, _, kc_X16, fl_X16_7_X16, Or.inr ⟨rfl, rfl, q1431⟩, (by cases x1 <;> rfl), (by cases x1 <;> rfl)⟩) h (fun σ1 h => ?_)
  refine kx_aload_n dX16_init_9 rfl rfl ?_
  refine kx_iload_n dX16_init_10 rfl rfl ?_
  refine kW_p dX16_init_11 (kp1 ⟨_, _, _, _, kc_X16, fl_X16_13_X16, Or.inl rfl, rfl, rfl⟩) h (fun σ2 h => ?_)
  exact kx_vret dX16_init_14 rfl (hQ _ _ ⟨rfl, h⟩)
set_option maxHeartbeats 8000000 in
theorem kw_X17_init {G : KG} {σ : KHp} {x0 : Nat} {x1 : Int32} {x2 : Int32} {x3 : Int32} {Q : KHp → Prop} {X : String → Nat → KHp → Prop} (h : W_X17_init G σ x0 x1 x2 x3 Q X) : kx_c G yX17_init (ws_ yX17_init cX17_init 4 (Option.none : Option Jvm.ClassFile.FieldType)) 1 0 0 [.ref (x0), .int (x1), .int (x2), .int (x3)] σ (fun rv σ' => rv = none ∧ Q σ') X := by
  refine kx_mk3 (ini := true) rfl (Nat.le_of_ble_eq_true rfl) (fun _ => rfl) (fun Q1 X1 hQ hX => ?_)
  unfold W_X17_init at h
  refine kx_aload_n dX17_init_0 rfl rfl ?_
  refine kx_oinit dX17_init_1 q1453 q206 q207 (Nat.le_of_ble_eq_true rfl) (Nat.le_of_ble_eq_true rfl) ?_
  refine kx_aload_n dX17_init_4 rfl rfl ?_
  refine kx_iload_n dX17_init_5 rfl rfl ?_
  refine kW_p dX17_init_6 (kp1 ⟨_, _, _, _, kc_X17, fl_X17_7_X17, Or.inr ⟨rfl, rfl, q1454⟩, rfl, rfl⟩) h (fun σ1 h => ?_)
  refine kx_aload_n dX17_init_9 rfl rfl ?_
  refine kx_iload_n dX17_init_10 rfl rfl ?_
  refine kW_p dX17_init_11 (kp1 ⟨_, _, _, _, kc_X17, fl_X17_13_X17, Or.inr ⟨rfl, rfl, q1457⟩, rfl, rfl⟩) h (fun σ2 h => ?_)
  refine kx_aload_n dX17_init_14 rfl rfl ?_
  refine kx_iload_n dX17_init_15 rfl rfl ?_
  refine kW_pZ dX17_init_16 (kp1 ⟨_, _, _, _, kc_X17, fl_X17_16_X17, Or.inr ⟨rfl, rfl, q1460⟩, rfl, rfl⟩) (kp1 ⟨_, _, _, _, kc_X17, fl_X17_16_X17, Or.inr ⟨rfl, rfl, q1460⟩, rfl, rfl⟩) h (fun σ3 h => ?_)
  exact kx_vret dX17_init_19 rfl (hQ _ _ ⟨rfl, h⟩)
set_option maxHeartbeats 8000000 in
theorem kw_X18_of {G : KG} {σ : KHp} {x0 : Nat} {x1 : Option Nat} {x2 : Option Nat} {x3 : UInt32} {Q : UInt32 → KHp → Prop} {X : String → Nat → KHp → Prop} (h : W_X18_of G σ x0 x1 x2 x3 Q X) : kx_c G yX18_of (ws_ yX18_of cX18_of 7 (Option.some Jvm.ClassFile.FieldType.float)) 3 0 0 [.ref (x0), va_rf (x1), va_rf (x2), .float (x3)] σ (fun rv σ' => ∃ r, rv = some (.float (r)) ∧ Q r σ') X := by
  refine kx_mk3 (ini := false) rfl (by cases x1 <;> cases x2 <;> exact Nat.le_of_ble_eq_true rfl) (fun h => by cases h) (fun Q1 X1 hQ hX => ?_)
  unfold W_X18_of at h
  refine kx_lwF [(0, .ref x0), (1, va_rf (x1)), (2, va_rf (x2)), (3, .float (x3))] (by cases x1 <;> cases x2 <;> exact ⟨rfl, rfl, rfl, rfl, trivial⟩) ?_
  refine kx_aload_nO dX18_of_0 rfl rfl ?_
  refine kx_gets dX18_of_1 kt_ArcRecorder_Feature_PEAK q2245 (Or.inr q2246) ?_
  refine kW_jI 7 [va_rf (x2)] h (fun v1 σ2 h => ?_) (fun k3 jk3 h => ?_)
  · skip
    obtain ⟨a4, rfl, hUa4⟩ := h
    have h := hUa4
    refine kW_lF dX18_of_7 h (fun v5 h => ?_)
    refine kx_ldcf dX18_of_8 q2259 ?_
    refine kW_fmul dX18_of_10 h (fun v6 h => ?_)
    refine kx_fstore dX18_of_11 (Nat.le_of_ble_eq_true rfl) ?_
    refine kx_iconst (v := 0) dX18_of_13 (by decide) ?_
    refine kx_istore dX18_of_14 (Nat.le_of_ble_eq_true rfl) ?_
    refine kx_iconst (v := 0) dX18_of_16 (by decide) ?_
    refine kx_istore dX18_of_17 (Nat.le_of_ble_eq_true rfl) ?_
    refine kx_lwF [(1, va_rf (x1)), (4, .float (v6)), (5, .int ((0 : Int32))), (6, .int ((0 : Int32)))] ⟨rfl, rfl, rfl, rfl, trivial⟩ ?_
    refine loopW2_k (fun (σ : KHp) (l5 : Int32) (l6 : Int32) => kx G (yX18_of.cls, cX18_of, 7, (Option.some Jvm.ClassFile.FieldType.float), false, []) (3, 0, 0, Q1, X1) (0) (0) σ 19 (kF [(1, va_rf (x1)), (4, .float (v6)), (5, .int (l5)), (6, .int (l6))]) []) (fun kI19 hI19 σ l5 l6 h => ?_) 9000 σ2 (0 : Int32) (0 : Int32) h
    unfold WB_X18_of_19 at h
    refine kx_iload dX18_of_19 rfl ?_
    refine kx_aload_nO dX18_of_21 rfl rfl ?_
    obtain ⟨a20001, rfl, hUa20001⟩ := h
    have h := hUa20001
    refine kW_len dX18_of_22 h (fun v20002 h => ?_)
    refine kx_icmp_ge (tgt := 55) dX18_of_23 (by decide) (fun c => ?_) (fun c => ?_)
    · have h := w_ift c h
      refine kx_iload dX18_of_55 rfl ?_
      refine kx_i2f dX18_of_57 ?_
      exact kx_fret dX18_of_58 rfl (hQ _ _ ⟨_, rfl, h⟩)
    · have h := w_iff c h
      refine kx_iload dX18_of_26 rfl ?_
      refine kx_aload_n dX18_of_28 rfl rfl ?_
      refine kx_iload dX18_of_29 rfl ?_
      refine kW_lF dX18_of_31 h (fun v20003 h => ?_)
      refine kx_callSN dX18_of_32 lk_X18_18 (kw_X1_magnitude h) rfl rfl (Nat.le_of_ble_eq_true rfl) (Nat.le_of_ble_eq_true rfl) (Nat.le_of_ble_eq_true rfl) (Nat.le_of_ble_eq_true rfl) (Nat.le_of_ble_eq_true rfl) (fun _ _ _ hx => kx_out rfl (hX _ _ _ hx)) (fun v_ σ20005 hq => ?_)
      obtain ⟨v20004, rfl, h⟩ := hq
      refine kx_fload dX18_of_35 rfl ?_
      refine kx_fcmp dX18_of_37 ?_
      refine kW_jI 46 [.int (l5)] h (fun v20007 σ20008 h => ?_) (fun k20006 jk20006 h => ?_)
      · skip
        refine kx_iadd dX18_of_46 ?_
        refine kx_istore dX18_of_47 (Nat.le_of_ble_eq_true rfl) ?_
        refine kx_iinc2 (v := 1) dX18_of_49 rfl (by decide) ?_
        refine kx_goto (tgt := 19) dX18_of_52 (by decide) ?_
        exact kx_lwF [(1, .ref (a20001)), (4, .float (v6)), (5, .int ((l5 + v20007))), (6, .int ((l6 + (1 : Int32))))] ⟨rfl, rfl, rfl, rfl, trivial⟩ (hI19 _ _ _ h)
      · skip
        refine kx_if_gt (tgt := 45) dX18_of_38 (by decide) (fun c => ?_) (fun c => ?_)
        · have h := w_ift c h
          refine kx_iconst (v := 0) dX18_of_45 (by decide) ?_
          exact jk20006 _ _ h
        · have h := w_iff c h
          refine kx_iconst (v := 1) dX18_of_41 (by decide) ?_
          refine kx_goto (tgt := 46) dX18_of_42 (by decide) ?_
          exact jk20006 _ _ h
  · skip
    rcases h with h | h | h | h | h | h
    · skip
      obtain ⟨hr, h⟩ := h
      refine kx_callU dX18_of_4 lk_X18_13_X18 (kw_J20_ordinal h) rfl (wR_rcE hr (by decide) rfl) rfl (by cases x2 <;> exact Nat.le_of_ble_eq_true rfl) (Nat.le_of_ble_eq_true rfl) (Nat.le_of_ble_eq_true rfl) (Nat.le_of_ble_eq_true rfl) (Nat.le_of_ble_eq_true rfl) (fun _ _ _ hx => kx_out rfl (hX _ _ _ hx)) (fun v_ σ_ hq => ?_)
      obtain ⟨r_, rfl, h⟩ := hq
      exact jk3 _ _ h
    · skip
      obtain ⟨hr, h⟩ := h
      refine kx_callU dX18_of_4 lk_X18_13_X19 (kw_J20_ordinal h) rfl (wR_rcE hr (by decide) rfl) rfl (by cases x2 <;> exact Nat.le_of_ble_eq_true rfl) (Nat.le_of_ble_eq_true rfl) (Nat.le_of_ble_eq_true rfl) (Nat.le_of_ble_eq_true rfl) (Nat.le_of_ble_eq_true rfl) (fun _ _ _ hx => kx_out rfl (hX _ _ _ hx)) (fun v_ σ_ hq => ?_)
      obtain ⟨r_, rfl, h⟩ := hq
      exact jk3 _ _ h
    · skip
      obtain ⟨hr, h⟩ := h
      refine kx_callU dX18_of_4 lk_X18_13_X21 (kw_J20_ordinal h) rfl (wR_rcE hr (by decide) rfl) rfl (by cases x2 <;> exact Nat.le_of_ble_eq_true rfl) (Nat.le_of_ble_eq_true rfl) (Nat.le_of_ble_eq_true rfl) (Nat.le_of_ble_eq_true rfl) (Nat.le_of_ble_eq_true rfl) (fun _ _ _ hx => kx_out rfl (hX _ _ _ hx)) (fun v_ σ_ hq => ?_)
      obtain ⟨r_, rfl, h⟩ := hq
      exact jk3 _ _ h
    · skip
      obtain ⟨hr, h⟩ := h
      refine kx_callU dX18_of_4 lk_X18_13_X22 (kw_J20_ordinal h) rfl (wR_rcE hr (by decide) rfl) rfl (by cases x2 <;> exact Nat.le_of_ble_eq_true rfl) (Nat.le_of_ble_eq_true rfl) (Nat.le_of_ble_eq_true rfl) (Nat.le_of_ble_eq_true rfl) (Nat.le_of_ble_eq_true rfl) (fun _ _ _ hx => kx_out rfl (hX _ _ _ hx)) (fun v_ σ_ hq => ?_)
      obtain ⟨r_, rfl, h⟩ := hq
      exact jk3 _ _ h
    · skip
      obtain ⟨hr, h⟩ := h
      refine kx_callU dX18_of_4 lk_X18_13_X23 (kw_J20_ordinal h) rfl (wR_rcE hr (by decide) rfl) rfl (by cases x2 <;> exact Nat.le_of_ble_eq_true rfl) (Nat.le_of_ble_eq_true rfl) (Nat.le_of_ble_eq_true rfl) (Nat.le_of_ble_eq_true rfl) (Nat.le_of_ble_eq_true rfl) (fun _ _ _ hx => kx_out rfl (hX _ _ _ hx)) (fun v_ σ_ hq => ?_)
      obtain ⟨r_, rfl, h⟩ := hq
      exact jk3 _ _ h
    · skip
      obtain ⟨hr, h⟩ := h
      refine kx_callU dX18_of_4 lk_X18_13_X24 (kw_J20_ordinal h) rfl (wR_rcE hr (by decide) rfl) rfl (by cases x2 <;> exact Nat.le_of_ble_eq_true rfl) (Nat.le_of_ble_eq_true rfl) (Nat.le_of_ble_eq_true rfl) (Nat.le_of_ble_eq_true rfl) (Nat.le_of_ble_eq_true rfl) (fun _ _ _ hx => kx_out rfl (hX _ _ _ hx)) (fun v_ σ_ hq => ?_)
      obtain ⟨r_, rfl, h⟩ := hq
      exact jk3 _ _ h
set_option maxHeartbeats 8000000 in
theorem kw_X19_of {G : KG} {σ : KHp} {x0 : Nat} {x1 : Option Nat} {x2 : Option Nat} {x3 : UInt32} {Q : UInt32 → KHp → Prop} {X : String → Nat → KHp → Prop} (h : W_X19_of G σ x0 x1 x2 x3 Q X) : kx_c G yX19_of (ws_ yX19_of cX19_of 4 (Option.some Jvm.ClassFile.FieldType.float)) 3 0 0 [.ref (x0), va_rf (x1), va_rf (x2), .float (x3)] σ (fun rv σ' => ∃ r, rv = some (.float (r)) ∧ Q r σ') X := by
  refine kx_mk3 (ini := false) rfl (by cases x1 <;> cases x2 <;> exact Nat.le_of_ble_eq_true rfl) (fun h => by cases h) (fun Q1 X1 hQ hX => ?_)
  unfold W_X19_of at h
  refine kx_lwF [(0, .ref x0), (1, va_rf (x1)), (2, va_rf (x2)), (3, .float (x3))] (by cases x1 <;> cases x2 <;> exact ⟨rfl, rfl, rfl, rfl, trivial⟩) ?_
  refine kx_fload_n dX19_of_0 rfl rfl ?_
  refine kx_fconst0 dX19_of_1 ?_
  refine kx_fcmp dX19_of_2 ?_
  refine kW_jF 23 [] h (fun v10 σ11 h => ?_) (fun k1 jk1 h => ?_)
  · skip
    exact kx_fret dX19_of_23 rfl (hQ _ _ ⟨_, rfl, h⟩)
  · skip
    refine kx_if_ge (tgt := 10) dX19_of_3 (by decide) (fun c => ?_) (fun c => ?_)
    · have h := w_ift c h
      refine kx_aload_nO dX19_of_10 rfl rfl ?_
      refine kx_gets dX19_of_11 kt_ArcRecorder_Feature_MEAN q2268 (Or.inr q2269) ?_
      refine kW_jI 17 [va_rf (x2)] h (fun v2 σ3 h => ?_) (fun k4 jk4 h => ?_)
      · skip
        obtain ⟨a5, rfl, hUa5⟩ := h
        have h := hUa5
        refine kW_lF dX19_of_17 h (fun v6 h => ?_)
        refine kx_fload_n dX19_of_18 rfl rfl ?_
        refine kW_fsub dX19_of_19 h (fun v7 h => ?_)
        refine kx_callSN dX19_of_20 lk_X19_17 (kw_X1_magnitude h) rfl rfl (Nat.le_of_ble_eq_true rfl) (Nat.le_of_ble_eq_true rfl) (Nat.le_of_ble_eq_true rfl) (Nat.le_of_ble_eq_true rfl) (Nat.le_of_ble_eq_true rfl) (fun _ _ _ hx => kx_out rfl (hX _ _ _ hx)) (fun v_ σ9 hq => ?_)
        obtain ⟨v8, rfl, h⟩ := hq
        exact jk1 _ _ h
      · skip
        rcases h with h | h | h | h | h | h
        · skip
          obtain ⟨hr, h⟩ := h
          refine kx_callU dX19_of_14 lk_X19_13_X18 (kw_J20_ordinal h) rfl (wR_rcE hr (by decide) rfl) rfl (by cases x2 <;> exact Nat.le_of_ble_eq_true rfl) (Nat.le_of_ble_eq_true rfl) (Nat.le_of_ble_eq_true rfl) (Nat.le_of_ble_eq_true rfl) (Nat.le_of_ble_eq_true rfl) (fun _ _ _ hx => kx_out rfl (hX _ _ _ hx)) (fun v_ σ_ hq => ?_)
          obtain ⟨r_, rfl, h⟩ := hq
          exact jk4 _ _ h
        · skip
          obtain ⟨hr, h⟩ := h
          refine kx_callU dX19_of_14 lk_X19_13_X19 (kw_J20_ordinal h) rfl (wR_rcE hr (by decide) rfl) rfl (by cases x2 <;> exact Nat.le_of_ble_eq_true rfl) (Nat.le_of_ble_eq_true rfl) (Nat.le_of_ble_eq_true rfl) (Nat.le_of_ble_eq_true rfl) (Nat.le_of_ble_eq_true rfl) (fun _ _ _ hx => kx_out rfl (hX _ _ _ hx)) (fun v_ σ_ hq => ?_)
          obtain ⟨r_, rfl, h⟩ := hq
          exact jk4 _ _ h
        · skip
          obtain ⟨hr, h⟩ := h
          refine kx_callU dX19_of_14 lk_X19_13_X21 (kw_J20_ordinal h) rfl (wR_rcE hr (by decide) rfl) rfl (by cases x2 <;> exact Nat.le_of_ble_eq_true rfl) (Nat.le_of_ble_eq_true rfl) (Nat.le_of_ble_eq_true rfl) (Nat.le_of_ble_eq_true rfl) (Nat.le_of_ble_eq_true rfl) (fun _ _ _ hx => kx_out rfl (hX _ _ _ hx)) (fun v_ σ_ hq => ?_)
          obtain ⟨r_, rfl, h⟩ := hq
          exact jk4 _ _ h
        · skip
          obtain ⟨hr, h⟩ := h
          refine kx_callU dX19_of_14 lk_X19_13_X22 (kw_J20_ordinal h) rfl (wR_rcE hr (by decide) rfl) rfl (by cases x2 <;> exact Nat.le_of_ble_eq_true rfl) (Nat.le_of_ble_eq_true rfl) (Nat.le_of_ble_eq_true rfl) (Nat.le_of_ble_eq_true rfl) (Nat.le_of_ble_eq_true rfl) (fun _ _ _ hx => kx_out rfl (hX _ _ _ hx)) (fun v_ σ_ hq => ?_)
          obtain ⟨r_, rfl, h⟩ := hq
          exact jk4 _ _ h
        · skip
          obtain ⟨hr, h⟩ := h
          refine kx_callU dX19_of_14 lk_X19_13_X23 (kw_J20_ordinal h) rfl (wR_rcE hr (by decide) rfl) rfl (by cases x2 <;> exact Nat.le_of_ble_eq_true rfl) (Nat.le_of_ble_eq_true rfl) (Nat.le_of_ble_eq_true rfl) (Nat.le_of_ble_eq_true rfl) (Nat.le_of_ble_eq_true rfl) (fun _ _ _ hx => kx_out rfl (hX _ _ _ hx)) (fun v_ σ_ hq => ?_)
          obtain ⟨r_, rfl, h⟩ := hq
          exact jk4 _ _ h
        · skip
          obtain ⟨hr, h⟩ := h
          refine kx_callU dX19_of_14 lk_X19_13_X24 (kw_J20_ordinal h) rfl (wR_rcE hr (by decide) rfl) rfl (by cases x2 <;> exact Nat.le_of_ble_eq_true rfl) (Nat.le_of_ble_eq_true rfl) (Nat.le_of_ble_eq_true rfl) (Nat.le_of_ble_eq_true rfl) (Nat.le_of_ble_eq_true rfl) (fun _ _ _ hx => kx_out rfl (hX _ _ _ hx)) (fun v_ σ_ hq => ?_)
          obtain ⟨r_, rfl, h⟩ := hq
          exact jk4 _ _ h
    · have h := w_iff c h
      refine kx_fconst0 dX19_of_6 ?_
      refine kx_goto (tgt := 23) dX19_of_7 (by decide) ?_
      exact jk1 _ _ h
set_option maxHeartbeats 8000000 in
theorem kw_X20_init {G : KG} {σ : KHp} {x0 : Nat} {x1 : Int32} {x2 : Int32} {x3 : Int32} {x4 : Int32} {x5 : UInt32} {x6 : Option Nat} {Q : KHp → Prop} {X : String → Nat → KHp → Prop} (h : W_X20_init G σ x0 x1 x2 x3 x4 x5 x6 Q X) : kx_c G yX20_init (ws_ yX20_init cX20_init 7 (Option.none : Option Jvm.ClassFile.FieldType)) 1 0 0 [.ref (x0), .int (x1), .int (x2), .int (x3), .int (x4), .float (x5), va_rf (x6)] σ (fun rv σ' => rv = none ∧ Q σ') X := by
  refine kx_mk3 (ini := true) rfl (by cases x6 <;> exact Nat.le_of_ble_eq_true rfl) (fun _ => rfl) (fun Q1 X1 hQ hX => ?_)
  unfold W_X20_init at h
  refine kx_lwF [(0, .ref x0), (1, .int (x1)), (2, .int (x2)), (3, .int (x3)), (4, .int (x4)), (5, .float (x5)), (6, va_rf (x6))] (by cases x6 <;> exact ⟨rfl, rfl, rfl, rfl, rfl, rfl, rfl, trivial⟩) ?_
  refine kx_aload_n dX20_init_0 rfl rfl ?_
  refine kx_oinit dX20_init_1 q2318 q206 q207 (Nat.le_of_ble_eq_true rfl) (Nat.le_of_ble_eq_true rfl) ?_
  refine kx_aload_n dX20_init_4 rfl rfl ?_
  refine kx_iload_n dX20_init_5 rfl rfl ?_
  refine kW_p dX20_init_6 (kp1 ⟨_, _, _, _, kc_X20, fl_X20_7_X20, Or.inr ⟨rfl, rfl, q2319⟩, rfl, rfl⟩) h (fun σ1 h => ?_)
  refine kx_aload_n dX20_init_9 rfl rfl ?_
  refine kx_iload_n dX20_init_10 rfl rfl ?_
  refine kW_p dX20_init_11 (kp1 ⟨_, _, _, _, kc_X20, fl_X20_13_X20, Or.inr ⟨rfl, rfl, q2321⟩, rfl, rfl⟩) h (fun σ2 h => ?_)
  refine kx_aload_n dX20_init_14 rfl rfl ?_
  refine kx_iload_n dX20_init_15 rfl rfl ?_
  refine kW_p dX20_init_16 (kp1 ⟨_, _, _, _, kc_X20, fl_X20_16_X20, Or.inr ⟨rfl, rfl, q2323⟩, rfl, rfl⟩) h (fun σ3 h => ?_)
  refine kx_aload_n dX20_init_19 rfl rfl ?_
  refine kx_iload dX20_init_20 rfl ?_
  refine kW_p dX20_init_22 (kp1 ⟨_, _, _, _, kc_X20, fl_X20_19_X20, Or.inr ⟨rfl, rfl, q2325⟩, rfl, rfl⟩) h (fun σ4 h => ?_)
  refine kx_aload_n dX20_init_25 rfl rfl ?_
  refine kx_fload dX20_init_26 rfl ?_
  refine kW_p dX20_init_28 (kp1 ⟨_, _, _, _, kc_X20, fl_X20_22_X20, Or.inr ⟨rfl, rfl, q2327⟩, rfl, rfl⟩) h (fun σ5 h => ?_)
  refine kx_aload_n dX20_init_31 rfl rfl ?_
  refine kx_aloadO dX20_init_32 rfl ?_
  refine kW_p dX20_init_34 (kp1 ⟨_, _, _, _, kc_X20, fl_X20_26_X20, Or.inr ⟨rfl, rfl, q2329⟩, (by cases x6 <;> rfl), (by cases x6 <;> rfl)⟩) h (fun σ6 h => ?_)
  exact kx_vret dX20_init_37 rfl (hQ _ _ ⟨rfl, h⟩)
set_option maxHeartbeats 8000000 in
theorem kw_X21_of {G : KG} {σ : KHp} {x0 : Nat} {x1 : Option Nat} {x2 : Option Nat} {x3 : UInt32} {Q : UInt32 → KHp → Prop} {X : String → Nat → KHp → Prop} (h : W_X21_of G σ x0 x1 x2 x3 Q X) : kx_cc G yX21_of (ws_ yX21_of cX21_of 6 (Option.some Jvm.ClassFile.FieldType.float)) 2 0 0 [.ref (x0), va_rf (x1), va_rf (x2), .float (x3)] σ (fun rv σ' => ∃ r, rv = some (.float (r)) ∧ Q r σ') X := by
  refine kx_mk3C (ini := false) rfl (by cases x1 <;> cases x2 <;> exact Nat.le_of_ble_eq_true rfl) (fun h => by cases h) (fun Q1 X1 hQ hX => ?_)
  unfold W_X21_of at h
  refine kx_lwF [(0, .ref x0), (1, va_rf (x1)), (2, va_rf (x2)), (3, .float (x3))] (by cases x1 <;> cases x2 <;> exact ⟨rfl, rfl, rfl, rfl, trivial⟩) ?_
  refine kx_fconst0 dX21_of_0 ?_
  refine kx_fstore dX21_of_1 (Nat.le_of_ble_eq_true rfl) ?_
  refine kx_iconst (v := 0) dX21_of_3 (by decide) ?_
  refine kx_istore dX21_of_4 (Nat.le_of_ble_eq_true rfl) ?_
  refine kx_lwF [(1, va_rf (x1)), (4, .float (FP.fconst0)), (5, .int ((0 : Int32)))] ⟨rfl, rfl, rfl, trivial⟩ ?_
  refine loopW2_k (fun (σ : KHp) (l4 : UInt32) (l5 : Int32) => kx G (yX21_of.cls, cX21_of, 6, (Option.some Jvm.ClassFile.FieldType.float), false, []) (2, 0, 0, Q1, X1) (0) (0) σ 6 (kF [(1, va_rf (x1)), (4, .float (l4)), (5, .int (l5))]) []) (fun kI6 hI6 σ l4 l5 h => ?_) 9000 σ FP.fconst0 (0 : Int32) h
  unfold WB_X21_of_6 at h
  refine kx_iload dX21_of_6 rfl ?_
  refine kx_aload_nO dX21_of_8 rfl rfl ?_
  obtain ⟨a7001, rfl, hUa7001⟩ := h
  have h := hUa7001
  refine kW_len dX21_of_9 h (fun v7002 h => ?_)
  refine kx_icmp_ge (tgt := 46) dX21_of_10 (by decide) (fun c => ?_) (fun c => ?_)
  · have h := w_ift c h
    refine kx_fload dX21_of_46 rfl ?_
    exact kx_fret dX21_of_48 rfl (hQ _ _ ⟨_, rfl, h⟩)
  · have h := w_iff c h
    refine kx_aload_n dX21_of_13 rfl rfl ?_
    refine kx_iload dX21_of_14 rfl ?_
    refine kW_lF dX21_of_16 h (fun v7003 h => ?_)
    refine kx_callSN dX21_of_17 lk_X21_7 (kw_X1_magnitude h) rfl rfl (Nat.le_of_ble_eq_true rfl) (Nat.le_of_ble_eq_true rfl) (Nat.le_of_ble_eq_true rfl) (Nat.le_of_ble_eq_true rfl) (Nat.le_of_ble_eq_true rfl) (fun _ _ _ hx => kx_out rfl (hX _ _ _ hx)) (fun v_ σ7005 hq => ?_)
    obtain ⟨v7004, rfl, h⟩ := hq
    refine kx_fload dX21_of_20 rfl ?_
    refine kx_fcmp dX21_of_22 ?_
    refine kW_jF 38 [] h (fun v7010 σ7011 h => ?_) (fun k7006 jk7006 h => ?_)
    · skip
      refine kx_fstore dX21_of_38 (Nat.le_of_ble_eq_true rfl) ?_
      refine kx_iinc2 (v := 1) dX21_of_40 rfl (by decide) ?_
      refine kx_goto (tgt := 6) dX21_of_43 (by decide) ?_
      exact kx_lwF [(1, .ref (a7001)), (4, .float (v7010)), (5, .int ((l5 + (1 : Int32))))] ⟨rfl, rfl, rfl, trivial⟩ (hI6 _ _ _ h)
    · skip
      refine kx_if_le (tgt := 36) dX21_of_23 (by decide) (fun c => ?_) (fun c => ?_)
      · have h := w_ift c h
        refine kx_fload dX21_of_36 rfl ?_
        exact jk7006 _ _ h
      · have h := w_iff c h
        refine kx_aload_n dX21_of_26 rfl rfl ?_
        refine kx_iload dX21_of_27 rfl ?_
        refine kW_lF dX21_of_29 h (fun v7007 h => ?_)
        refine kx_callSN dX21_of_30 lk_X21_7 (kw_X1_magnitude h) rfl rfl (Nat.le_of_ble_eq_true rfl) (Nat.le_of_ble_eq_true rfl) (Nat.le_of_ble_eq_true rfl) (Nat.le_of_ble_eq_true rfl) (Nat.le_of_ble_eq_true rfl) (fun _ _ _ hx => kx_out rfl (hX _ _ _ hx)) (fun v_ σ7009 hq => ?_)
        obtain ⟨v7008, rfl, h⟩ := hq
        refine kx_goto (tgt := 38) dX21_of_33 (by decide) ?_
        exact jk7006 _ _ h
set_option maxHeartbeats 8000000 in
theorem kw_X22_of {G : KG} {σ : KHp} {x0 : Nat} {x1 : Option Nat} {x2 : Option Nat} {x3 : UInt32} {Q : UInt32 → KHp → Prop} {X : String → Nat → KHp → Prop} (h : W_X22_of G σ x0 x1 x2 x3 Q X) : kx_cc G yX22_of (ws_ yX22_of cX22_of 6 (Option.some Jvm.ClassFile.FieldType.float)) 2 0 0 [.ref (x0), va_rf (x1), va_rf (x2), .float (x3)] σ (fun rv σ' => ∃ r, rv = some (.float (r)) ∧ Q r σ') X := by
  refine kx_mk3C (ini := false) rfl (by cases x1 <;> cases x2 <;> exact Nat.le_of_ble_eq_true rfl) (fun h => by cases h) (fun Q1 X1 hQ hX => ?_)
  unfold W_X22_of at h
  refine kx_lwF [(0, .ref x0), (1, va_rf (x1)), (2, va_rf (x2)), (3, .float (x3))] (by cases x1 <;> cases x2 <;> exact ⟨rfl, rfl, rfl, rfl, trivial⟩) ?_
  refine kx_fconst0 dX22_of_0 ?_
  refine kx_fstore dX22_of_1 (Nat.le_of_ble_eq_true rfl) ?_
  refine kx_iconst (v := 0) dX22_of_3 (by decide) ?_
  refine kx_istore dX22_of_4 (Nat.le_of_ble_eq_true rfl) ?_
  refine kx_lwF [(1, va_rf (x1)), (4, .float (FP.fconst0)), (5, .int ((0 : Int32)))] ⟨rfl, rfl, rfl, trivial⟩ ?_
  refine loopW2_k (fun (σ : KHp) (l4 : UInt32) (l5 : Int32) => kx G (yX22_of.cls, cX22_of, 6, (Option.some Jvm.ClassFile.FieldType.float), false, []) (2, 0, 0, Q1, X1) (0) (0) σ 6 (kF [(1, va_rf (x1)), (4, .float (l4)), (5, .int (l5))]) []) (fun kI6 hI6 σ l4 l5 h => ?_) 9000 σ FP.fconst0 (0 : Int32) h
  unfold WB_X22_of_6 at h
  refine kx_iload dX22_of_6 rfl ?_
  refine kx_aload_nO dX22_of_8 rfl rfl ?_
  obtain ⟨a7001, rfl, hUa7001⟩ := h
  have h := hUa7001
  refine kW_len dX22_of_9 h (fun v7002 h => ?_)
  refine kx_icmp_ge (tgt := 31) dX22_of_10 (by decide) (fun c => ?_) (fun c => ?_)
  · have h := w_ift c h
    refine kx_fload dX22_of_31 rfl ?_
    refine kx_aload_n dX22_of_33 rfl rfl ?_
    refine kW_len dX22_of_34 h (fun v7003 h => ?_)
    refine kx_i2f dX22_of_35 ?_
    refine kW_fdiv dX22_of_36 h (fun v7004 h => ?_)
    exact kx_fret dX22_of_37 rfl (hQ _ _ ⟨_, rfl, h⟩)
  · have h := w_iff c h
    refine kx_fload dX22_of_13 rfl ?_
    refine kx_aload_n dX22_of_15 rfl rfl ?_
    refine kx_iload dX22_of_16 rfl ?_
    refine kW_lF dX22_of_18 h (fun v7005 h => ?_)
    refine kx_callSN dX22_of_19 lk_X22_7 (kw_X1_magnitude h) rfl rfl (Nat.le_of_ble_eq_true rfl) (Nat.le_of_ble_eq_true rfl) (Nat.le_of_ble_eq_true rfl) (Nat.le_of_ble_eq_true rfl) (Nat.le_of_ble_eq_true rfl) (fun _ _ _ hx => kx_out rfl (hX _ _ _ hx)) (fun v_ σ7007 hq => ?_)
    obtain ⟨v7006, rfl, h⟩ := hq
    refine kW_fadd dX22_of_22 h (fun v7008 h => ?_)
    refine kx_fstore dX22_of_23 (Nat.le_of_ble_eq_true rfl) ?_
    refine kx_iinc2 (v := 1) dX22_of_25 rfl (by decide) ?_
    refine kx_goto (tgt := 6) dX22_of_28 (by decide) ?_
    exact kx_lwF [(1, .ref (a7001)), (4, .float (v7008)), (5, .int ((l5 + (1 : Int32))))] ⟨rfl, rfl, rfl, trivial⟩ (hI6 _ _ _ h)
set_option maxHeartbeats 8000000 in
theorem kw_X23_of {G : KG} {σ : KHp} {x0 : Nat} {x1 : Option Nat} {x2 : Option Nat} {x3 : UInt32} {Q : UInt32 → KHp → Prop} {X : String → Nat → KHp → Prop} (h : W_X23_of G σ x0 x1 x2 x3 Q X) : kx_cc G yX23_of (ws_ yX23_of cX23_of 8 (Option.some Jvm.ClassFile.FieldType.float)) 2 0 0 [.ref (x0), va_rf (x1), va_rf (x2), .float (x3)] σ (fun rv σ' => ∃ r, rv = some (.float (r)) ∧ Q r σ') X := by
  refine kx_mk3C (ini := false) rfl (by cases x1 <;> cases x2 <;> exact Nat.le_of_ble_eq_true rfl) (fun h => by cases h) (fun Q1 X1 hQ hX => ?_)
  unfold W_X23_of at h
  refine kx_lwF [(0, .ref x0), (1, va_rf (x1)), (2, va_rf (x2)), (3, .float (x3))] (by cases x1 <;> cases x2 <;> exact ⟨rfl, rfl, rfl, rfl, trivial⟩) ?_
  refine kx_fconst0 dX23_of_0 ?_
  refine kx_fstore dX23_of_1 (Nat.le_of_ble_eq_true rfl) ?_
  refine kx_fconst0 dX23_of_3 ?_
  refine kx_fstore dX23_of_4 (Nat.le_of_ble_eq_true rfl) ?_
  refine kx_iconst (v := 0) dX23_of_6 (by decide) ?_
  refine kx_istore dX23_of_7 (Nat.le_of_ble_eq_true rfl) ?_
  refine kx_lwF [(1, va_rf (x1)), (4, .float (FP.fconst0)), (5, .float (FP.fconst0)), (6, .int ((0 : Int32)))] ⟨rfl, rfl, rfl, rfl, trivial⟩ ?_
  refine loopW3_k (fun (σ : KHp) (l4 : UInt32) (l5 : UInt32) (l6 : Int32) => kx G (yX23_of.cls, cX23_of, 8, (Option.some Jvm.ClassFile.FieldType.float), false, []) (2, 0, 0, Q1, X1) (0) (0) σ 9 (kF [(1, va_rf (x1)), (4, .float (l4)), (5, .float (l5)), (6, .int (l6))]) []) (fun kI9 hI9 σ l4 l5 l6 h => ?_) 9000 σ FP.fconst0 FP.fconst0 (0 : Int32) h
  unfold WB_X23_of_9 at h
  refine kx_iload dX23_of_9 rfl ?_
  refine kx_aload_nO dX23_of_11 rfl rfl ?_
  obtain ⟨a10001, rfl, hUa10001⟩ := h
  have h := hUa10001
  refine kW_len dX23_of_12 h (fun v10002 h => ?_)
  refine kx_icmp_ge (tgt := 57) dX23_of_13 (by decide) (fun c => ?_) (fun c => ?_)
  · have h := w_ift c h
    refine kx_fload dX23_of_57 rfl ?_
    exact kx_fret dX23_of_59 rfl (hQ _ _ ⟨_, rfl, h⟩)
  · have h := w_iff c h
    refine kx_aload_n dX23_of_16 rfl rfl ?_
    refine kx_iload dX23_of_17 rfl ?_
    refine kW_lF dX23_of_19 h (fun v10003 h => ?_)
    refine kx_fload dX23_of_20 rfl ?_
    refine kW_fsub dX23_of_22 h (fun v10004 h => ?_)
    refine kx_callSN dX23_of_23 lk_X23_7 (kw_X1_magnitude h) rfl rfl (Nat.le_of_ble_eq_true rfl) (Nat.le_of_ble_eq_true rfl) (Nat.le_of_ble_eq_true rfl) (Nat.le_of_ble_eq_true rfl) (Nat.le_of_ble_eq_true rfl) (fun _ _ _ hx => kx_out rfl (hX _ _ _ hx)) (fun v_ σ10006 hq => ?_)
    obtain ⟨v10005, rfl, h⟩ := hq
    refine kx_fstore dX23_of_26 (Nat.le_of_ble_eq_true rfl) ?_
    refine kx_fload dX23_of_28 rfl ?_
    refine kx_fload dX23_of_30 rfl ?_
    refine kx_fcmp dX23_of_32 ?_
    refine kW_jF 43 [] h (fun v10008 σ10009 h => ?_) (fun k10007 jk10007 h => ?_)
    · skip
      refine kx_fstore dX23_of_43 (Nat.le_of_ble_eq_true rfl) ?_
      refine kx_aload_n dX23_of_45 rfl rfl ?_
      refine kx_iload dX23_of_46 rfl ?_
      refine kW_lF dX23_of_48 h (fun v10010 h => ?_)
      refine kx_fstore dX23_of_49 (Nat.le_of_ble_eq_true rfl) ?_
      refine kx_iinc2 (v := 1) dX23_of_51 rfl (by decide) ?_
      refine kx_goto (tgt := 9) dX23_of_54 (by decide) ?_
      exact kx_lwF [(1, .ref (a10001)), (4, .float (v10008)), (5, .float (v10010)), (6, .int ((l6 + (1 : Int32))))] ⟨rfl, rfl, rfl, rfl, trivial⟩ (hI9 _ _ _ _ h)
    · skip
      refine kx_if_le (tgt := 41) dX23_of_33 (by decide) (fun c => ?_) (fun c => ?_)
      · have h := w_ift c h
        refine kx_fload dX23_of_41 rfl ?_
        exact jk10007 _ _ h
      · have h := w_iff c h
        refine kx_fload dX23_of_36 rfl ?_
        refine kx_goto (tgt := 43) dX23_of_38 (by decide) ?_
        exact jk10007 _ _ h
set_option maxHeartbeats 8000000 in
theorem kw_X24_of {G : KG} {σ : KHp} {x0 : Nat} {x1 : Option Nat} {x2 : Option Nat} {x3 : UInt32} {Q : UInt32 → KHp → Prop} {X : String → Nat → KHp → Prop} (h : W_X24_of G σ x0 x1 x2 x3 Q X) : kx_cc G yX24_of (ws_ yX24_of cX24_of 6 (Option.some Jvm.ClassFile.FieldType.float)) 1 0 0 [.ref (x0), va_rf (x1), va_rf (x2), .float (x3)] σ (fun rv σ' => ∃ r, rv = some (.float (r)) ∧ Q r σ') X := by
  refine kx_mk3C (ini := false) rfl (by cases x1 <;> cases x2 <;> exact Nat.le_of_ble_eq_true rfl) (fun h => by cases h) (fun Q1 X1 hQ hX => ?_)
  unfold W_X24_of at h
  refine kx_lwF [(0, .ref x0), (1, va_rf (x1)), (2, va_rf (x2)), (3, .float (x3))] (by cases x1 <;> cases x2 <;> exact ⟨rfl, rfl, rfl, rfl, trivial⟩) ?_
  refine kx_fconst0 dX24_of_0 ?_
  refine kx_fstore dX24_of_1 (Nat.le_of_ble_eq_true rfl) ?_
  refine kx_iconst (v := 0) dX24_of_3 (by decide) ?_
  refine kx_istore dX24_of_4 (Nat.le_of_ble_eq_true rfl) ?_
  refine kx_lwF [(1, va_rf (x1)), (4, .float (FP.fconst0)), (5, .int ((0 : Int32)))] ⟨rfl, rfl, rfl, trivial⟩ ?_
  refine loopW2_k (fun (σ : KHp) (l4 : UInt32) (l5 : Int32) => kx G (yX24_of.cls, cX24_of, 6, (Option.some Jvm.ClassFile.FieldType.float), false, []) (1, 0, 0, Q1, X1) (0) (0) σ 6 (kF [(1, va_rf (x1)), (4, .float (l4)), (5, .int (l5))]) []) (fun kI6 hI6 σ l4 l5 h => ?_) 9000 σ FP.fconst0 (0 : Int32) h
  unfold WB_X24_of_6 at h
  refine kx_iload dX24_of_6 rfl ?_
  refine kx_aload_nO dX24_of_8 rfl rfl ?_
  obtain ⟨a7001, rfl, hUa7001⟩ := h
  have h := hUa7001
  refine kW_len dX24_of_9 h (fun v7002 h => ?_)
  refine kx_icmp_ge (tgt := 33) dX24_of_10 (by decide) (fun c => ?_) (fun c => ?_)
  · have h := w_ift c h
    refine kx_fload dX24_of_33 rfl ?_
    refine kx_aload_n dX24_of_35 rfl rfl ?_
    refine kW_len dX24_of_36 h (fun v7003 h => ?_)
    refine kx_i2f dX24_of_37 ?_
    refine kW_fdiv dX24_of_38 h (fun v7004 h => ?_)
    exact kx_fret dX24_of_39 rfl (hQ _ _ ⟨_, rfl, h⟩)
  · have h := w_iff c h
    refine kx_fload dX24_of_13 rfl ?_
    refine kx_aload_n dX24_of_15 rfl rfl ?_
    refine kx_iload dX24_of_16 rfl ?_
    refine kW_lF dX24_of_18 h (fun v7005 h => ?_)
    refine kx_aload_n dX24_of_19 rfl rfl ?_
    refine kx_iload dX24_of_20 rfl ?_
    refine kW_lF dX24_of_22 h (fun v7006 h => ?_)
    refine kW_fmul dX24_of_23 h (fun v7007 h => ?_)
    refine kW_fadd dX24_of_24 h (fun v7008 h => ?_)
    refine kx_fstore dX24_of_25 (Nat.le_of_ble_eq_true rfl) ?_
    refine kx_iinc2 (v := 1) dX24_of_27 rfl (by decide) ?_
    refine kx_goto (tgt := 6) dX24_of_30 (by decide) ?_
    exact kx_lwF [(1, .ref (a7001)), (4, .float (v7008)), (5, .int ((l5 + (1 : Int32))))] ⟨rfl, rfl, rfl, trivial⟩ (hI6 _ _ _ h)
set_option maxHeartbeats 8000000 in
theorem kw_J2_get {G : KG} {σ : KHp} {x0 : Nat} {x1 : Int32} {Q : Option Nat → KHp → Prop} {X : String → Nat → KHp → Prop} (h : W_J2_get G σ x0 x1 Q X) : kx_c G yJ2_get (ws_ yJ2_get cJ2_get 2 (Option.some (Jvm.ClassFile.FieldType.object "java/lang/Object"))) 3 0 0 [.ref (x0), .int (x1)] σ (fun rv σ' => ∃ r, rv = some (va_rf (r)) ∧ Q r σ') X := by
  refine kx_mk3 (ini := false) (by decide) (Nat.le_of_ble_eq_true rfl) (fun h => by cases h) (fun Q1 X1 hQ hX => ?_)
  unfold W_J2_get at h
  refine kx_iload_n dJ2_get_0 rfl rfl ?_
  refine kx_aload_n dJ2_get_1 rfl rfl ?_
  refine kW_gI dJ2_get_2 (kf1 fl_J2_48_J2) h (fun v1 h => ?_)
  refine kx_callS dJ2_get_5 lk_J2_118 (kw_J22_checkIndex h) rfl rfl (Nat.le_of_ble_eq_true rfl) (Nat.le_of_ble_eq_true rfl) (Nat.le_of_ble_eq_true rfl) (Nat.le_of_ble_eq_true rfl) (Nat.le_of_ble_eq_true rfl) (fun _ _ _ hx => kx_out rfl (hX _ _ _ hx)) (fun v_ σ3 hq => ?_)
  obtain ⟨v2, rfl, h⟩ := hq
  refine kx_pop dJ2_get_8 rfl ?_
  refine kx_aload_n dJ2_get_9 rfl rfl ?_
  refine kx_iload_n dJ2_get_10 rfl rfl ?_
  obtain ⟨hr, h⟩ := h
  refine kx_callV dJ2_get_11 lk_J2_123 (kw_J2_elementData h) rfl (wR_rc hr rfl) rfl (Nat.le_of_ble_eq_true rfl) (Nat.le_of_ble_eq_true rfl) (Nat.le_of_ble_eq_true rfl) (Nat.le_of_ble_eq_true rfl) (Nat.le_of_ble_eq_true rfl) (fun _ _ _ hx => kx_out rfl (hX _ _ _ hx)) (fun v_ σ5 hq => ?_)
  obtain ⟨v4, rfl, h⟩ := hq
  exact kx_aret dJ2_get_14 rfl (Or.inl ⟨_, rfl⟩) (va_rfs _) (hQ _ _ ⟨_, rfl, h⟩)
set_option maxHeartbeats 8000000 in
theorem kw_J2_listIterator {G : KG} {σ : KHp} {x0 : Nat} {x1 : Int32} {Q : Option Nat → KHp → Prop} {X : String → Nat → KHp → Prop} (h : W_J2_listIterator G σ x0 x1 Q X) : kx_c G yJ2_listIterator (ws_ yJ2_listIterator cJ2_listIterator 2 (Option.some (Jvm.ClassFile.FieldType.object "java/util/ListIterator"))) 2 0 0 [.ref (x0), .int (x1)] σ (fun rv σ' => ∃ r, rv = some (va_rf (r)) ∧ Q r σ') X := by
  refine kx_mk3 (ini := false) (by decide) (Nat.le_of_ble_eq_true rfl) (fun h => by cases h) (fun Q1 X1 hQ hX => ?_)
  unfold W_J2_listIterator at h
  refine kx_aload_n dJ2_listIterator_0 rfl rfl ?_
  refine kx_iload_n dJ2_listIterator_1 rfl rfl ?_
  obtain ⟨hr, h⟩ := h
  refine kx_callV dJ2_listIterator_2 lk_J2_135 (kw_J2_rangeCheckForAdd h) rfl (wR_rc hr rfl) rfl (Nat.le_of_ble_eq_true rfl) (Nat.le_of_ble_eq_true rfl) (Nat.le_of_ble_eq_true rfl) (Nat.le_of_ble_eq_true rfl) (Nat.le_of_ble_eq_true rfl) (fun _ _ _ hx => kx_out rfl (hX _ _ _ hx)) (fun v_ σ2 hq => ?_)
  obtain ⟨rfl, h⟩ := hq
  exact h.elim
set_option maxHeartbeats 8000000 in
theorem kw_J2_remove {G : KG} {σ : KHp} {x0 : Nat} {x1 : Int32} {Q : Option Nat → KHp → Prop} {X : String → Nat → KHp → Prop} (h : W_J2_remove G σ x0 x1 Q X) : kx_c G yJ2_remove (ws_ yJ2_remove cJ2_remove 4 (Option.some (Jvm.ClassFile.FieldType.object "java/lang/Object"))) 3 0 0 [.ref (x0), .int (x1)] σ (fun rv σ' => ∃ r, rv = some (va_rf (r)) ∧ Q r σ') X := by
  refine kx_mk3 (ini := false) (by decide) (Nat.le_of_ble_eq_true rfl) (fun h => by cases h) (fun Q1 X1 hQ hX => ?_)
  unfold W_J2_remove at h
  refine kx_iload_n dJ2_remove_0 rfl rfl ?_
  refine kx_aload_n dJ2_remove_1 rfl rfl ?_
  refine kW_gI dJ2_remove_2 (kf1 fl_J2_48_J2) h (fun v1 h => ?_)
  refine kx_callS dJ2_remove_5 lk_J2_118 (kw_J22_checkIndex h) rfl rfl (Nat.le_of_ble_eq_true rfl) (Nat.le_of_ble_eq_true rfl) (Nat.le_of_ble_eq_true rfl) (Nat.le_of_ble_eq_true rfl) (Nat.le_of_ble_eq_true rfl) (fun _ _ _ hx => kx_out rfl (hX _ _ _ hx)) (fun v_ σ3 hq => ?_)
  obtain ⟨v2, rfl, h⟩ := hq
  refine kx_pop dJ2_remove_8 rfl ?_
  refine kx_aload_n dJ2_remove_9 rfl rfl ?_
  refine kW_gO dJ2_remove_10 (kf1 fl_J2_9_J2) h (fun v4 h => ?_)
  refine kx_astore_nO dJ2_remove_13 rfl (Nat.le_of_ble_eq_true rfl) ?_
  refine kx_aload_nO dJ2_remove_14 rfl rfl ?_
  refine kx_iload_n dJ2_remove_15 rfl rfl ?_
  obtain ⟨a5, rfl, hUa5⟩ := h
  have h := hUa5
  refine kW_lO dJ2_remove_16 h (fun v6 h => ?_)
  refine kx_astore_nO dJ2_remove_17 rfl (Nat.le_of_ble_eq_true rfl) ?_
  refine kx_aload_n dJ2_remove_18 rfl rfl ?_
  refine kx_aload_n dJ2_remove_19 rfl rfl ?_
  refine kx_iload_n dJ2_remove_20 rfl rfl ?_
  obtain ⟨hr, h⟩ := h
  refine kx_callV dJ2_remove_21 lk_J2_144 (kw_J2_fastRemove h) rfl (wR_rc hr rfl) rfl (Nat.le_of_ble_eq_true rfl) (Nat.le_of_ble_eq_true rfl) (Nat.le_of_ble_eq_true rfl) (Nat.le_of_ble_eq_true rfl) (Nat.le_of_ble_eq_true rfl) (fun _ _ _ hx => kx_out rfl (hX _ _ _ hx)) (fun v_ σ8 hq => ?_)
  obtain ⟨rfl, h⟩ := hq
  refine kx_aload_nO dJ2_remove_24 rfl rfl ?_
  exact kx_aret dJ2_remove_25 rfl (Or.inl ⟨_, rfl⟩) (va_rfs _) (hQ _ _ ⟨_, rfl, h⟩)
set_option maxHeartbeats 8000000 in
theorem kw_J9_checkBoundsBeginEnd {G : KG} {σ : KHp} {x0 : Int32} {x1 : Int32} {x2 : Int32} {Q : KHp → Prop} {X : String → Nat → KHp → Prop} (h : W_J9_checkBoundsBeginEnd G σ x0 x1 x2 Q X) : kx_c G yJ9_checkBoundsBeginEnd (ws_ yJ9_checkBoundsBeginEnd cJ9_checkBoundsBeginEnd 3 (Option.none : Option Jvm.ClassFile.FieldType)) 2 0 0 [.int (x0), .int (x1), .int (x2)] σ (fun rv σ' => rv = none ∧ Q σ') X := by
  refine kx_mk3 (ini := false) (by decide) (Nat.le_of_ble_eq_true rfl) (fun h => by cases h) (fun Q1 X1 hQ hX => ?_)
  unfold W_J9_checkBoundsBeginEnd at h
  refine kx_iload_n dJ9_checkBoundsBeginEnd_0 rfl rfl ?_
  refine kx_iload_n dJ9_checkBoundsBeginEnd_1 rfl rfl ?_
  refine kx_iload_n dJ9_checkBoundsBeginEnd_2 rfl rfl ?_
  refine kW_gets dJ9_checkBoundsBeginEnd_3 kt_jdk_internal_util_Preconditions_SIOOBE_FORMATTER q375 (Or.inl rfl) h (fun v1 h => ?_)
  refine kx_callS dJ9_checkBoundsBeginEnd_6 lk_J9_1062 (kw_J14_checkFromToIndex h) rfl rfl (Nat.le_of_ble_eq_true rfl) (Nat.le_of_ble_eq_true rfl) (Nat.le_of_ble_eq_true rfl) (Nat.le_of_ble_eq_true rfl) (Nat.le_of_ble_eq_true rfl) (fun _ _ _ hx => kx_out rfl (hX _ _ _ hx)) (fun v_ σ3 hq => ?_)
  obtain ⟨v2, rfl, h⟩ := hq
  refine kx_pop dJ9_checkBoundsBeginEnd_9 rfl ?_
  exact kx_vret dJ9_checkBoundsBeginEnd_10 rfl (hQ _ _ ⟨rfl, h⟩)
set_option maxHeartbeats 8000000 in
theorem kw_J9_length {G : KG} {σ : KHp} {x0 : Nat} {Q : Int32 → KHp → Prop} {X : String → Nat → KHp → Prop} (h : W_J9_length G σ x0 Q X) : kx_c G yJ9_length (ws_ yJ9_length cJ9_length 1 (Option.some Jvm.ClassFile.FieldType.int)) 2 0 0 [.ref (x0)] σ (fun rv σ' => ∃ r, rv = some (.int (r)) ∧ Q r σ') X := by
  refine kx_mk3 (ini := false) (by decide) (Nat.le_of_ble_eq_true rfl) (fun h => by cases h) (fun Q1 X1 hQ hX => ?_)
  unfold W_J9_length at h
  refine kx_aload_n dJ9_length_0 rfl rfl ?_
  refine kW_gO dJ9_length_1 (kf1 fl_J9_9_J9) h (fun v1 h => ?_)
  obtain ⟨a2, rfl, hUa2⟩ := h
  have h := hUa2
  refine kW_len dJ9_length_4 h (fun v3 h => ?_)
  refine kx_aload_n dJ9_length_5 rfl rfl ?_
  obtain ⟨hr, h⟩ := h
  refine kx_callV dJ9_length_6 lk_J9_335 (kw_J9_coder h) rfl (wR_rc hr rfl) rfl (Nat.le_of_ble_eq_true rfl) (Nat.le_of_ble_eq_true rfl) (Nat.le_of_ble_eq_true rfl) (Nat.le_of_ble_eq_true rfl) (Nat.le_of_ble_eq_true rfl) (fun _ _ _ hx => kx_out rfl (hX _ _ _ hx)) (fun v_ σ5 hq => ?_)
  obtain ⟨v4, rfl, h⟩ := hq
  refine kx_ishr dJ9_length_9 ?_
  exact kx_iret dJ9_length_10 rfl (hQ _ _ ⟨_, rfl, h⟩)
set_option maxHeartbeats 8000000 in
theorem kw_J9_checkBoundsOffCount {G : KG} {σ : KHp} {x0 : Int32} {x1 : Int32} {x2 : Int32} {Q : Int32 → KHp → Prop} {X : String → Nat → KHp → Prop} (h : W_J9_checkBoundsOffCount G σ x0 x1 x2 Q X) : kx_c G yJ9_checkBoundsOffCount (ws_ yJ9_checkBoundsOffCount cJ9_checkBoundsOffCount 3 (Option.some Jvm.ClassFile.FieldType.int)) 2 0 0 [.int (x0), .int (x1), .int (x2)] σ (fun rv σ' => ∃ r, rv = some (.int (r)) ∧ Q r σ') X := by
  refine kx_mk3 (ini := false) (by decide) (Nat.le_of_ble_eq_true rfl) (fun h => by cases h) (fun Q1 X1 hQ hX => ?_)
  unfold W_J9_checkBoundsOffCount at h
  refine kx_iload_n dJ9_checkBoundsOffCount_0 rfl rfl ?_
  refine kx_iload_n dJ9_checkBoundsOffCount_1 rfl rfl ?_
  refine kx_iload_n dJ9_checkBoundsOffCount_2 rfl rfl ?_
  refine kW_gets dJ9_checkBoundsOffCount_3 kt_jdk_internal_util_Preconditions_SIOOBE_FORMATTER q375 (Or.inl rfl) h (fun v1 h => ?_)
  refine kx_callS dJ9_checkBoundsOffCount_6 lk_J9_1065 (kw_J14_checkFromIndexSize h) rfl rfl (Nat.le_of_ble_eq_true rfl) (Nat.le_of_ble_eq_true rfl) (Nat.le_of_ble_eq_true rfl) (Nat.le_of_ble_eq_true rfl) (Nat.le_of_ble_eq_true rfl) (fun _ _ _ hx => kx_out rfl (hX _ _ _ hx)) (fun v_ σ3 hq => ?_)
  obtain ⟨v2, rfl, h⟩ := hq
  exact kx_iret dJ9_checkBoundsOffCount_9 rfl (hQ _ _ ⟨_, rfl, h⟩)
set_option maxHeartbeats 8000000 in
theorem kw_J9_checkIndex {G : KG} {σ : KHp} {x0 : Int32} {x1 : Int32} {Q : KHp → Prop} {X : String → Nat → KHp → Prop} (h : W_J9_checkIndex G σ x0 x1 Q X) : kx_c G yJ9_checkIndex (ws_ yJ9_checkIndex cJ9_checkIndex 2 (Option.none : Option Jvm.ClassFile.FieldType)) 2 0 0 [.int (x0), .int (x1)] σ (fun rv σ' => rv = none ∧ Q σ') X := by
  refine kx_mk3 (ini := false) (by decide) (Nat.le_of_ble_eq_true rfl) (fun h => by cases h) (fun Q1 X1 hQ hX => ?_)
  unfold W_J9_checkIndex at h
  refine kx_iload_n dJ9_checkIndex_0 rfl rfl ?_
  refine kx_iload_n dJ9_checkIndex_1 rfl rfl ?_
  refine kW_gets dJ9_checkIndex_2 kt_jdk_internal_util_Preconditions_SIOOBE_FORMATTER q375 (Or.inl rfl) h (fun v1 h => ?_)
  refine kx_callS dJ9_checkIndex_5 lk_J9_1059 (kw_J14_checkIndex h) rfl rfl (Nat.le_of_ble_eq_true rfl) (Nat.le_of_ble_eq_true rfl) (Nat.le_of_ble_eq_true rfl) (Nat.le_of_ble_eq_true rfl) (Nat.le_of_ble_eq_true rfl) (fun _ _ _ hx => kx_out rfl (hX _ _ _ hx)) (fun v_ σ3 hq => ?_)
  obtain ⟨v2, rfl, h⟩ := hq
  refine kx_pop dJ9_checkIndex_8 rfl ?_
  exact kx_vret dJ9_checkIndex_9 rfl (hQ _ _ ⟨rfl, h⟩)
set_option maxHeartbeats 8000000 in
theorem kw_J9_equals {G : KG} {σ : KHp} {x0 : Nat} {x1 : Option Nat} {Q : Int32 → KHp → Prop} {X : String → Nat → KHp → Prop} (h : W_J9_equals G σ x0 x1 Q X) : kx_c G yJ9_equals (ws_ yJ9_equals cJ9_equals 3 (Option.some Jvm.ClassFile.FieldType.boolean)) 2 0 0 [.ref (x0), va_rf (x1)] σ (fun rv σ' => ∃ r, rv = some (.int (r)) ∧ Q r σ') X := by
  refine kx_mk3 (ini := false) (by decide) (by cases x1 <;> exact Nat.le_of_ble_eq_true rfl) (fun h => by cases h) (fun Q1 X1 hQ hX => ?_)
  unfold W_J9_equals at h
  refine kx_lwF [(0, .ref x0), (1, va_rf (x1))] (by cases x1 <;> exact ⟨rfl, rfl, trivial⟩) ?_
  refine kx_aload_n dJ9_equals_0 rfl rfl ?_
  refine kx_aload_nO dJ9_equals_1 rfl rfl ?_
  refine kx_acmp_ne (rx := (some x0)) (ry := (x1)) (tgt := 7) dJ9_equals_2 (by decide) (fun c => ?_) (fun c => ?_)
  · have h := w_iff c h
    refine kx_aload_nO dJ9_equals_7 rfl rfl ?_
    obtain ⟨a1, rfl, hUa1⟩ := h
    have h := hUa1
    refine kW_in dJ9_equals_8 rfl q1012 (by intro c hc; simp only [List.mem_cons, List.not_mem_nil, or_false] at hc) h (fun v2 h => ?_)
    refine kx_lwF [(0, .ref (x0)), (1, .ref (a1))] ⟨rfl, rfl, trivial⟩ ?_
    refine kW_jI 55 [] h (fun v14 σ15 h => ?_) (fun k3 jk3 h => ?_)
    · skip
      exact kx_zret dJ9_equals_55 rfl h.1 (hQ _ _ ⟨_, rfl, h.2⟩)
    · skip
      refine kx_if_eq (tgt := 54) dJ9_equals_11 (by decide) (fun c => ?_) (fun c => ?_)
      · have h := w_ift c h
        refine kx_iconst (v := 0) dJ9_equals_54 (by decide) ?_
        exact kx_lwF [(0, .ref (x0)), (1, .ref (a1))] ⟨rfl, rfl, trivial⟩ (jk3 _ _ h)
      · have h := w_iff c h
        refine kx_aload_n dJ9_equals_14 rfl rfl ?_
        obtain ⟨⟨tc, fc, hr⟩, h⟩ := h
        refine kx_castS dJ9_equals_15 hr rfl q1012 ?_
        refine kx_astore_n dJ9_equals_18 rfl (Nat.le_of_ble_eq_true rfl) ?_
        refine kx_gets dJ9_equals_19 kt_java_lang_String_COMPACT_STRINGS q397 (Or.inl rfl) ?_
        refine kx_if_eq (tgt := 36) dJ9_equals_22 (by decide) (fun c => ?_) (fun c => ?_)
        · have h := w_ift c h
          refine kx_aload_n dJ9_equals_36 rfl rfl ?_
          refine kW_gO dJ9_equals_37 (kf1 fl_J9_9_J9) h (fun v4 h => ?_)
          refine kx_aload_n dJ9_equals_40 rfl rfl ?_
          refine kW_gO dJ9_equals_41 (kf1 fl_J9_9_J9) h (fun v5 h => ?_)
          refine kx_callS dJ9_equals_44 lk_J9_541 (kw_J15_equals h) rfl rfl (Nat.le_of_ble_eq_true rfl) (Nat.le_of_ble_eq_true rfl) (Nat.le_of_ble_eq_true rfl) (Nat.le_of_ble_eq_true rfl) (Nat.le_of_ble_eq_true rfl) (fun _ _ _ hx => kx_out rfl (hX _ _ _ hx)) (fun v_ σ7 hq => ?_)
          obtain ⟨v6, rfl, h⟩ := hq
          refine kx_if_eq (tgt := 54) dJ9_equals_47 (by decide) (fun c => ?_) (fun c => ?_)
          · have h := w_ift c h
            refine kx_iconst (v := 0) dJ9_equals_54 (by decide) ?_
            exact kx_lwF [(0, .ref (x0)), (1, .ref (a1))] ⟨rfl, rfl, trivial⟩ (jk3 _ _ h)
          · have h := w_iff c h
            refine kx_iconst (v := 1) dJ9_equals_50 (by decide) ?_
            refine kx_goto (tgt := 55) dJ9_equals_51 (by decide) ?_
            exact kx_lwF [(0, .ref (x0)), (1, .ref (a1))] ⟨rfl, rfl, trivial⟩ (jk3 _ _ h)
        · have h := w_iff c h
          refine kx_aload_n dJ9_equals_25 rfl rfl ?_
          refine kW_gI dJ9_equals_26 (kf1 fl_J9_15_J9) h (fun v8 h => ?_)
          refine kx_aload_n dJ9_equals_29 rfl rfl ?_
          refine kW_gI dJ9_equals_30 (kf1 fl_J9_15_J9) h (fun v9 h => ?_)
          refine kx_icmp_ne (tgt := 54) dJ9_equals_33 (by decide) (fun c => ?_) (fun c => ?_)
          · have h := w_iff c h
            refine kx_iconst (v := 0) dJ9_equals_54 (by decide) ?_
            exact kx_lwF [(0, .ref (x0)), (1, .ref (a1))] ⟨rfl, rfl, trivial⟩ (jk3 _ _ h)
          · have h := w_ift c h
            refine kx_aload_n dJ9_equals_36 rfl rfl ?_
            refine kW_gO dJ9_equals_37 (kf1 fl_J9_9_J9) h (fun v10 h => ?_)
            refine kx_aload_n dJ9_equals_40 rfl rfl ?_
            refine kW_gO dJ9_equals_41 (kf1 fl_J9_9_J9) h (fun v11 h => ?_)
            refine kx_callS dJ9_equals_44 lk_J9_541 (kw_J15_equals h) rfl rfl (Nat.le_of_ble_eq_true rfl) (Nat.le_of_ble_eq_true rfl) (Nat.le_of_ble_eq_true rfl) (Nat.le_of_ble_eq_true rfl) (Nat.le_of_ble_eq_true rfl) (fun _ _ _ hx => kx_out rfl (hX _ _ _ hx)) (fun v_ σ13 hq => ?_)
            obtain ⟨v12, rfl, h⟩ := hq
            refine kx_if_eq (tgt := 54) dJ9_equals_47 (by decide) (fun c => ?_) (fun c => ?_)
            · have h := w_ift c h
              refine kx_iconst (v := 0) dJ9_equals_54 (by decide) ?_
              exact kx_lwF [(0, .ref (x0)), (1, .ref (a1))] ⟨rfl, rfl, trivial⟩ (jk3 _ _ h)
            · have h := w_iff c h
              refine kx_iconst (v := 1) dJ9_equals_50 (by decide) ?_
              refine kx_goto (tgt := 55) dJ9_equals_51 (by decide) ?_
              exact kx_lwF [(0, .ref (x0)), (1, .ref (a1))] ⟨rfl, rfl, trivial⟩ (jk3 _ _ h)
  · have h := w_ift c h
    refine kx_iconst (v := 1) dJ9_equals_5 (by decide) ?_
    exact kx_zret dJ9_equals_6 rfl rfl (hQ _ _ ⟨_, rfl, h⟩)
set_option maxHeartbeats 8000000 in
theorem kw_J10_newBytesFor {G : KG} {bc bs : Nat} {σ : KHp} {x0 : Int32} {Q : Option Nat → KHp → Prop} {X : String → Nat → KHp → Prop} (h : W_J10_newBytesFor G bc bs σ x0 Q X) : kx_c G yJ10_newBytesFor (ws_ yJ10_newBytesFor cJ10_newBytesFor 1 (Option.some (Jvm.ClassFile.FieldType.array Jvm.ClassFile.FieldType.byte))) 2 bc bs [.int (x0)] σ (fun rv σ' => ∃ r, rv = some (va_rf (r)) ∧ Q r σ') X := by
  refine kx_mk3 (ini := false) (by decide) (Nat.le_of_ble_eq_true rfl) (fun h => by cases h) (fun Q1 X1 hQ hX => ?_)
  unfold W_J10_newBytesFor at h
  refine kx_iload_n dJ10_newBytesFor_0 rfl rfl ?_
  refine kx_callS dJ10_newBytesFor_1 lk_J10_11 (kw_J10_newBytesLength h) rfl rfl (Nat.le_of_ble_eq_true rfl) (Nat.le_of_ble_eq_true rfl) (Nat.le_of_ble_eq_true rfl) (Nat.le_of_ble_eq_true rfl) (Nat.le_of_ble_eq_true rfl) (fun _ _ _ hx => kx_out rfl (hX _ _ _ hx)) (fun v_ σ2 hq => ?_)
  obtain ⟨v1, rfl, h⟩ := hq
  refine kW_newa dJ10_newBytesFor_4 rfl q310 (fun _ _ => rfl) h (fun n5 q3 σ4 h => ?_)
  exact kx_aret dJ10_newBytesFor_6 rfl (Or.inr ⟨_, rfl⟩) (Or.inr ⟨_, rfl⟩) (hQ _ _ ⟨some _, rfl, h⟩)
set_option maxHeartbeats 8000000 in
theorem kw_J10_checkBoundsBeginEnd {G : KG} {σ : KHp} {x0 : Int32} {x1 : Int32} {x2 : Option Nat} {Q : KHp → Prop} {X : String → Nat → KHp → Prop} (h : W_J10_checkBoundsBeginEnd G σ x0 x1 x2 Q X) : kx_c G yJ10_checkBoundsBeginEnd (ws_ yJ10_checkBoundsBeginEnd cJ10_checkBoundsBeginEnd 3 (Option.none : Option Jvm.ClassFile.FieldType)) 3 0 0 [.int (x0), .int (x1), va_rf (x2)] σ (fun rv σ' => rv = none ∧ Q σ') X := by
  refine kx_mk3 (ini := false) (by decide) (by cases x2 <;> exact Nat.le_of_ble_eq_true rfl) (fun h => by cases h) (fun Q1 X1 hQ hX => ?_)
  unfold W_J10_checkBoundsBeginEnd at h
  refine kx_lwF [(0, .int (x0)), (1, .int (x1)), (2, va_rf (x2))] (by cases x2 <;> exact ⟨rfl, rfl, rfl, trivial⟩) ?_
  refine kx_iload_n dJ10_checkBoundsBeginEnd_0 rfl rfl ?_
  refine kx_iload_n dJ10_checkBoundsBeginEnd_1 rfl rfl ?_
  refine kx_aload_nO dJ10_checkBoundsBeginEnd_2 rfl rfl ?_
  refine kx_callS dJ10_checkBoundsBeginEnd_3 lk_J10_48 (kw_J10_length h) rfl rfl (Nat.le_of_ble_eq_true rfl) (Nat.le_of_ble_eq_true rfl) (Nat.le_of_ble_eq_true rfl) (Nat.le_of_ble_eq_true rfl) (Nat.le_of_ble_eq_true rfl) (fun _ _ _ hx => kx_out rfl (hX _ _ _ hx)) (fun v_ σ2 hq => ?_)
  obtain ⟨v1, rfl, h⟩ := hq
  refine kx_callS dJ10_checkBoundsBeginEnd_6 lk_J10_241 (kw_J9_checkBoundsBeginEnd h) rfl rfl (Nat.le_of_ble_eq_true rfl) (Nat.le_of_ble_eq_true rfl) (Nat.le_of_ble_eq_true rfl) (Nat.le_of_ble_eq_true rfl) (Nat.le_of_ble_eq_true rfl) (fun _ _ _ hx => kx_out rfl (hX _ _ _ hx)) (fun v_ σ4 hq => ?_)
  obtain ⟨rfl, h⟩ := hq
  exact kx_vret dJ10_checkBoundsBeginEnd_9 rfl (hQ _ _ ⟨rfl, h⟩)
set_option maxHeartbeats 8000000 in
theorem kw_J10_checkBoundsOffCount {G : KG} {σ : KHp} {x0 : Int32} {x1 : Int32} {x2 : Option Nat} {Q : KHp → Prop} {X : String → Nat → KHp → Prop} (h : W_J10_checkBoundsOffCount G σ x0 x1 x2 Q X) : kx_c G yJ10_checkBoundsOffCount (ws_ yJ10_checkBoundsOffCount cJ10_checkBoundsOffCount 3 (Option.none : Option Jvm.ClassFile.FieldType)) 3 0 0 [.int (x0), .int (x1), va_rf (x2)] σ (fun rv σ' => rv = none ∧ Q σ') X := by
  refine kx_mk3 (ini := false) (by decide) (by cases x2 <;> exact Nat.le_of_ble_eq_true rfl) (fun h => by cases h) (fun Q1 X1 hQ hX => ?_)
  unfold W_J10_checkBoundsOffCount at h
  refine kx_lwF [(0, .int (x0)), (1, .int (x1)), (2, va_rf (x2))] (by cases x2 <;> exact ⟨rfl, rfl, rfl, trivial⟩) ?_
  refine kx_iload_n dJ10_checkBoundsOffCount_0 rfl rfl ?_
  refine kx_iload_n dJ10_checkBoundsOffCount_1 rfl rfl ?_
  refine kx_aload_nO dJ10_checkBoundsOffCount_2 rfl rfl ?_
  refine kx_callS dJ10_checkBoundsOffCount_3 lk_J10_48 (kw_J10_length h) rfl rfl (Nat.le_of_ble_eq_true rfl) (Nat.le_of_ble_eq_true rfl) (Nat.le_of_ble_eq_true rfl) (Nat.le_of_ble_eq_true rfl) (Nat.le_of_ble_eq_true rfl) (fun _ _ _ hx => kx_out rfl (hX _ _ _ hx)) (fun v_ σ2 hq => ?_)
  obtain ⟨v1, rfl, h⟩ := hq
  refine kx_callS dJ10_checkBoundsOffCount_6 lk_J10_419 (kw_J9_checkBoundsOffCount h) rfl rfl (Nat.le_of_ble_eq_true rfl) (Nat.le_of_ble_eq_true rfl) (Nat.le_of_ble_eq_true rfl) (Nat.le_of_ble_eq_true rfl) (Nat.le_of_ble_eq_true rfl) (fun _ _ _ hx => kx_out rfl (hX _ _ _ hx)) (fun v_ σ4 hq => ?_)
  obtain ⟨v3, rfl, h⟩ := hq
  refine kx_pop dJ10_checkBoundsOffCount_9 rfl ?_
  exact kx_vret dJ10_checkBoundsOffCount_10 rfl (hQ _ _ ⟨rfl, h⟩)
set_option maxHeartbeats 8000000 in
theorem kw_J10_getChars {G : KG} {σ : KHp} {x0 : Int32} {x1 : Int32} {x2 : Int32} {x3 : Option Nat} {Q : Int32 → KHp → Prop} {X : String → Nat → KHp → Prop} (h : W_J10_getChars G σ x0 x1 x2 x3 Q X) : kx_c G yJ10_getChars (ws_ yJ10_getChars cJ10_getChars 5 (Option.some Jvm.ClassFile.FieldType.int)) 4 0 0 [.int (x0), .int (x1), .int (x2), va_rf (x3)] σ (fun rv σ' => ∃ r, rv = some (.int (r)) ∧ Q r σ') X := by
  refine kx_mk3 (ini := false) (by decide) (by cases x3 <;> exact Nat.le_of_ble_eq_true rfl) (fun h => by cases h) (fun Q1 X1 hQ hX => ?_)
  unfold W_J10_getChars at h
  refine kx_lwF [(0, .int (x0)), (1, .int (x1)), (2, .int (x2)), (3, va_rf (x3))] (by cases x3 <;> exact ⟨rfl, rfl, rfl, rfl, trivial⟩) ?_
  refine kx_iload_n dJ10_getChars_0 rfl rfl ?_
  refine kx_iload_n dJ10_getChars_1 rfl rfl ?_
  refine kx_aload_nO dJ10_getChars_2 rfl rfl ?_
  refine kx_callS dJ10_getChars_3 lk_J10_96 (kw_J10_checkBoundsBeginEnd h) rfl rfl (Nat.le_of_ble_eq_true rfl) (Nat.le_of_ble_eq_true rfl) (Nat.le_of_ble_eq_true rfl) (Nat.le_of_ble_eq_true rfl) (Nat.le_of_ble_eq_true rfl) (fun _ _ _ hx => kx_out rfl (hX _ _ _ hx)) (fun v_ σ2 hq => ?_)
  obtain ⟨rfl, h⟩ := hq
  refine kx_iload_n dJ10_getChars_6 rfl rfl ?_
  refine kx_iload_n dJ10_getChars_7 rfl rfl ?_
  refine kx_aload_nO dJ10_getChars_8 rfl rfl ?_
  refine kx_callS dJ10_getChars_9 lk_J10_393 (kw_J10_getChars_2 h) rfl rfl (Nat.le_of_ble_eq_true rfl) (Nat.le_of_ble_eq_true rfl) (Nat.le_of_ble_eq_true rfl) (Nat.le_of_ble_eq_true rfl) (Nat.le_of_ble_eq_true rfl) (fun _ _ _ hx => kx_out rfl (hX _ _ _ hx)) (fun v_ σ4 hq => ?_)
  obtain ⟨v3, rfl, h⟩ := hq
  refine kx_istore dJ10_getChars_12 (Nat.le_of_ble_eq_true rfl) ?_
  refine kx_gets dJ10_getChars_14 kt_java_lang_StringUTF16__assertionsDisabled q383 (Or.inl rfl) ?_
  refine kx_if_ne (tgt := 34) dJ10_getChars_17 (by decide) (fun c => ?_) (fun c => ?_)
  · have h := w_iff c h
    refine kx_iload dJ10_getChars_34 rfl ?_
    exact kx_iret dJ10_getChars_36 rfl (hQ _ _ ⟨_, rfl, h⟩)
  · have h := w_ift c h
    refine kx_iload_n dJ10_getChars_20 rfl rfl ?_
    refine kx_iload dJ10_getChars_21 rfl ?_
    refine kx_icmp_eq (tgt := 34) dJ10_getChars_23 (by decide) (fun c => ?_) (fun c => ?_)
    · have h := w_ift c h
      refine kx_iload dJ10_getChars_34 rfl ?_
      exact kx_iret dJ10_getChars_36 rfl (hQ _ _ ⟨_, rfl, h⟩)
    · have h := w_iff c h
      exact h.elim
set_option maxHeartbeats 8000000 in
theorem kw_J10_compress_2 {G : KG} {σ : KHp} {x0 : Option Nat} {x1 : Int32} {x2 : Option Nat} {x3 : Int32} {x4 : Int32} {Q : Int32 → KHp → Prop} {X : String → Nat → KHp → Prop} (h : W_J10_compress_2 G σ x0 x1 x2 x3 x4 Q X) : kx_c G yJ10_compress_2 (ws_ yJ10_compress_2 cJ10_compress_2 7 (Option.some Jvm.ClassFile.FieldType.int)) 4 0 0 [va_rf (x0), .int (x1), va_rf (x2), .int (x3), .int (x4)] σ (fun rv σ' => ∃ r, rv = some (.int (r)) ∧ Q r σ') X := by
  refine kx_mk3 (ini := false) (by decide) (by cases x0 <;> cases x2 <;> exact Nat.le_of_ble_eq_true rfl) (fun h => by cases h) (fun Q1 X1 hQ hX => ?_)
  unfold W_J10_compress_2 at h
  refine kx_lwF [(0, va_rf (x0)), (1, .int (x1)), (2, va_rf (x2)), (3, .int (x3)), (4, .int (x4))] (by cases x0 <;> cases x2 <;> exact ⟨rfl, rfl, rfl, rfl, rfl, trivial⟩) ?_
  refine kx_iload_n dJ10_compress_2_0 rfl rfl ?_
  refine kx_iload dJ10_compress_2_1 rfl ?_
  refine kx_aload_nO dJ10_compress_2_3 rfl rfl ?_
  refine kx_callS dJ10_compress_2_4 lk_J10_173 (kw_J10_checkBoundsOffCount h) rfl rfl (Nat.le_of_ble_eq_true rfl) (Nat.le_of_ble_eq_true rfl) (Nat.le_of_ble_eq_true rfl) (Nat.le_of_ble_eq_true rfl) (Nat.le_of_ble_eq_true rfl) (fun _ _ _ hx => kx_out rfl (hX _ _ _ hx)) (fun v_ σ2 hq => ?_)
  obtain ⟨rfl, h⟩ := hq
  refine kx_iconst (v := 0) dJ10_compress_2_7 (by decide) ?_
  refine kx_istore dJ10_compress_2_8 (Nat.le_of_ble_eq_true rfl) ?_
  refine kx_lwF [(0, va_rf (x0)), (1, .int (x1)), (2, va_rf (x2)), (3, .int (x3)), (4, .int (x4)), (5, .int ((0 : Int32)))] ⟨rfl, rfl, rfl, rfl, rfl, rfl, trivial⟩ ?_
  refine loopW3_k (fun (σ : KHp) (l1 : Int32) (l3 : Int32) (l5 : Int32) => kx G (yJ10_compress_2.cls, cJ10_compress_2, 7, (Option.some Jvm.ClassFile.FieldType.int), false, []) (4, 0, 0, Q1, X1) (0) (0) σ 10 (kF [(0, va_rf (x0)), (1, .int (l1)), (2, va_rf (x2)), (3, .int (l3)), (4, .int (x4)), (5, .int (l5))]) []) (fun kI10 hI10 σ l1 l3 l5 h => ?_) 9000 σ2 x1 x3 (0 : Int32) h
  unfold WB_J10_compress_2_10 at h
  refine kx_iload dJ10_compress_2_10 rfl ?_
  refine kx_iload dJ10_compress_2_12 rfl ?_
  refine kx_icmp_ge (tgt := 53) dJ10_compress_2_14 (by decide) (fun c => ?_) (fun c => ?_)
  · have h := w_ift c h
    refine kx_iload dJ10_compress_2_53 rfl ?_
    exact kx_iret dJ10_compress_2_55 rfl (hQ _ _ ⟨_, rfl, h⟩)
  · have h := w_iff c h
    refine kx_aload_nO dJ10_compress_2_17 rfl rfl ?_
    refine kx_iload_n dJ10_compress_2_18 rfl rfl ?_
    refine kx_callS dJ10_compress_2_19 lk_J10_71 (kw_J10_getChar h) rfl rfl (Nat.le_of_ble_eq_true rfl) (Nat.le_of_ble_eq_true rfl) (Nat.le_of_ble_eq_true rfl) (Nat.le_of_ble_eq_true rfl) (Nat.le_of_ble_eq_true rfl) (fun _ _ _ hx => kx_out rfl (hX _ _ _ hx)) (fun v_ σ11002 hq => ?_)
    obtain ⟨v11001, rfl, h⟩ := hq
    refine kx_istore dJ10_compress_2_22 (Nat.le_of_ble_eq_true rfl) ?_
    refine kx_iload dJ10_compress_2_24 rfl ?_
    refine kx_sipush (v := 255) dJ10_compress_2_26 (by decide) ?_
    refine kx_icmp_le (tgt := 35) dJ10_compress_2_29 (by decide) (fun c => ?_) (fun c => ?_)
    · have h := w_ift c h
      refine kx_aload_nO dJ10_compress_2_35 rfl rfl ?_
      refine kx_iload_n dJ10_compress_2_36 rfl rfl ?_
      refine kx_iload dJ10_compress_2_37 rfl ?_
      refine kx_i2b dJ10_compress_2_39 rfl ?_
      obtain ⟨a11003, rfl, hUa11003⟩ := h
      have h := hUa11003
      refine kW_sB dJ10_compress_2_40 h (fun σ11004 h => ?_)
      refine kx_iinc2 (v := 1) dJ10_compress_2_41 rfl (by decide) ?_
      refine kx_lwF [(0, va_rf (x0)), (1, .int ((l1 + (1 : Int32)))), (2, .ref (a11003)), (3, .int (l3)), (4, .int (x4)), (5, .int (l5))] (by cases x0 <;> exact ⟨rfl, rfl, rfl, rfl, rfl, rfl, trivial⟩) ?_
      refine kx_iinc2 (v := 1) dJ10_compress_2_44 rfl (by decide) ?_
      refine kx_iinc2 (v := 1) dJ10_compress_2_47 rfl (by decide) ?_
      refine kx_goto (tgt := 10) dJ10_compress_2_50 (by decide) ?_
      exact kx_lwF [(0, va_rf (x0)), (1, .int ((l1 + (1 : Int32)))), (2, .ref (a11003)), (3, .int ((l3 + (1 : Int32)))), (4, .int (x4)), (5, .int ((l5 + (1 : Int32))))] ⟨rfl, rfl, rfl, rfl, rfl, rfl, trivial⟩ (hI10 _ _ _ _ h)
    · have h := w_iff c h
      refine kx_iload dJ10_compress_2_32 rfl ?_
      exact kx_iret dJ10_compress_2_34 rfl (hQ _ _ ⟨_, rfl, h⟩)
set_option maxHeartbeats 8000000 in
theorem kw_J10_checkIndex {G : KG} {σ : KHp} {x0 : Int32} {x1 : Option Nat} {Q : KHp → Prop} {X : String → Nat → KHp → Prop} (h : W_J10_checkIndex G σ x0 x1 Q X) : kx_c G yJ10_checkIndex (ws_ yJ10_checkIndex cJ10_checkIndex 2 (Option.none : Option Jvm.ClassFile.FieldType)) 3 0 0 [.int (x0), va_rf (x1)] σ (fun rv σ' => rv = none ∧ Q σ') X := by
  refine kx_mk3 (ini := false) (by decide) (by cases x1 <;> exact Nat.le_of_ble_eq_true rfl) (fun h => by cases h) (fun Q1 X1 hQ hX => ?_)
  unfold W_J10_checkIndex at h
  refine kx_lwF [(0, .int (x0)), (1, va_rf (x1))] (by cases x1 <;> exact ⟨rfl, rfl, trivial⟩) ?_
  refine kx_iload_n dJ10_checkIndex_0 rfl rfl ?_
  refine kx_aload_nO dJ10_checkIndex_1 rfl rfl ?_
  refine kx_callS dJ10_checkIndex_2 lk_J10_48 (kw_J10_length h) rfl rfl (Nat.le_of_ble_eq_true rfl) (Nat.le_of_ble_eq_true rfl) (Nat.le_of_ble_eq_true rfl) (Nat.le_of_ble_eq_true rfl) (Nat.le_of_ble_eq_true rfl) (fun _ _ _ hx => kx_out rfl (hX _ _ _ hx)) (fun v_ σ2 hq => ?_)
  obtain ⟨v1, rfl, h⟩ := hq
  refine kx_callS dJ10_checkIndex_5 lk_J10_414 (kw_J9_checkIndex h) rfl rfl (Nat.le_of_ble_eq_true rfl) (Nat.le_of_ble_eq_true rfl) (Nat.le_of_ble_eq_true rfl) (Nat.le_of_ble_eq_true rfl) (Nat.le_of_ble_eq_true rfl) (fun _ _ _ hx => kx_out rfl (hX _ _ _ hx)) (fun v_ σ4 hq => ?_)
  obtain ⟨rfl, h⟩ := hq
  exact kx_vret dJ10_checkIndex_8 rfl (hQ _ _ ⟨rfl, h⟩)
set_option maxHeartbeats 8000000 in
theorem kw_J10_charAt {G : KG} {σ : KHp} {x0 : Option Nat} {x1 : Int32} {Q : Int32 → KHp → Prop} {X : String → Nat → KHp → Prop} (h : W_J10_charAt G σ x0 x1 Q X) : kx_c G yJ10_charAt (ws_ yJ10_charAt cJ10_charAt 2 (Option.some Jvm.ClassFile.FieldType.char)) 4 0 0 [va_rf (x0), .int (x1)] σ (fun rv σ' => ∃ r, rv = some (.int (r)) ∧ Q r σ') X := by
  refine kx_mk3 (ini := false) (by decide) (by cases x0 <;> exact Nat.le_of_ble_eq_true rfl) (fun h => by cases h) (fun Q1 X1 hQ hX => ?_)
  unfold W_J10_charAt at h
  refine kx_lwF [(0, va_rf (x0)), (1, .int (x1))] (by cases x0 <;> exact ⟨rfl, rfl, trivial⟩) ?_
  refine kx_iload_n dJ10_charAt_0 rfl rfl ?_
  refine kx_aload_nO dJ10_charAt_1 rfl rfl ?_
  refine kx_callS dJ10_charAt_2 lk_J10_67 (kw_J10_checkIndex h) rfl rfl (Nat.le_of_ble_eq_true rfl) (Nat.le_of_ble_eq_true rfl) (Nat.le_of_ble_eq_true rfl) (Nat.le_of_ble_eq_true rfl) (Nat.le_of_ble_eq_true rfl) (fun _ _ _ hx => kx_out rfl (hX _ _ _ hx)) (fun v_ σ2 hq => ?_)
  obtain ⟨rfl, h⟩ := hq
  refine kx_aload_nO dJ10_charAt_5 rfl rfl ?_
  refine kx_iload_n dJ10_charAt_6 rfl rfl ?_
  refine kx_callS dJ10_charAt_7 lk_J10_71 (kw_J10_getChar h) rfl rfl (Nat.le_of_ble_eq_true rfl) (Nat.le_of_ble_eq_true rfl) (Nat.le_of_ble_eq_true rfl) (Nat.le_of_ble_eq_true rfl) (Nat.le_of_ble_eq_true rfl) (fun _ _ _ hx => kx_out rfl (hX _ _ _ hx)) (fun v_ σ4 hq => ?_)
  obtain ⟨v3, rfl, h⟩ := hq
  exact kx_zret dJ10_charAt_10 rfl h.1 (hQ _ _ ⟨_, rfl, h.2⟩)
set_option maxHeartbeats 8000000 in
theorem kw_J11_newLength {G : KG} {σ : KHp} {x0 : Int32} {x1 : Int32} {x2 : Int32} {Q : Int32 → KHp → Prop} {X : String → Nat → KHp → Prop} (h : W_J11_newLength G σ x0 x1 x2 Q X) : kx_c G yJ11_newLength (ws_ yJ11_newLength cJ11_newLength 4 (Option.some Jvm.ClassFile.FieldType.int)) 2 0 0 [.int (x0), .int (x1), .int (x2)] σ (fun rv σ' => ∃ r, rv = some (.int (r)) ∧ Q r σ') X := by
  refine kx_mk3 (ini := false) (by decide) (Nat.le_of_ble_eq_true rfl) (fun h => by cases h) (fun Q1 X1 hQ hX => ?_)
  unfold W_J11_newLength at h
  refine kx_iload_n dJ11_newLength_0 rfl rfl ?_
  refine kx_iload_n dJ11_newLength_1 rfl rfl ?_
  refine kx_iload_n dJ11_newLength_2 rfl rfl ?_
  refine kx_callS dJ11_newLength_3 lk_J11_194 (kw_J12_max h) rfl rfl (Nat.le_of_ble_eq_true rfl) (Nat.le_of_ble_eq_true rfl) (Nat.le_of_ble_eq_true rfl) (Nat.le_of_ble_eq_true rfl) (Nat.le_of_ble_eq_true rfl) (fun _ _ _ hx => kx_out rfl (hX _ _ _ hx)) (fun v_ σ2 hq => ?_)
  obtain ⟨v1, rfl, h⟩ := hq
  refine kx_iadd dJ11_newLength_6 ?_
  refine kx_istore_n dJ11_newLength_7 rfl (Nat.le_of_ble_eq_true rfl) ?_
  refine kx_iconst (v := 0) dJ11_newLength_8 (by decide) ?_
  refine kx_iload_n dJ11_newLength_9 rfl rfl ?_
  refine kx_icmp_ge (tgt := 21) dJ11_newLength_10 (by decide) (fun c => ?_) (fun c => ?_)
  · have h := w_ift c h
    refine kx_iload_n dJ11_newLength_21 rfl rfl ?_
    refine kx_iload_n dJ11_newLength_22 rfl rfl ?_
    exact h.elim
  · have h := w_iff c h
    refine kx_iload_n dJ11_newLength_13 rfl rfl ?_
    refine kx_ldci dJ11_newLength_14 q337 ?_
    refine kx_icmp_gt (tgt := 21) dJ11_newLength_16 (by decide) (fun c => ?_) (fun c => ?_)
    · have h := w_ift c h
      refine kx_iload_n dJ11_newLength_21 rfl rfl ?_
      refine kx_iload_n dJ11_newLength_22 rfl rfl ?_
      exact h.elim
    · have h := w_iff c h
      refine kx_iload_n dJ11_newLength_19 rfl rfl ?_
      exact kx_iret dJ11_newLength_20 rfl (hQ _ _ ⟨_, rfl, h⟩)
set_option maxHeartbeats 8000000 in
theorem kw_J11_vectorizedHashCode {G : KG} {σ : KHp} {x0 : Option Nat} {x1 : Int32} {x2 : Int32} {x3 : Int32} {x4 : Int32} {Q : Int32 → KHp → Prop} {X : String → Nat → KHp → Prop} (h : W_J11_vectorizedHashCode G σ x0 x1 x2 x3 x4 Q X) : kx_c G yJ11_vectorizedHashCode (ws_ yJ11_vectorizedHashCode cJ11_vectorizedHashCode 5 (Option.some Jvm.ClassFile.FieldType.int)) 2 0 0 [va_rf (x0), .int (x1), .int (x2), .int (x3), .int (x4)] σ (fun rv σ' => ∃ r, rv = some (.int (r)) ∧ Q r σ') X := by
  refine kx_mk3 (ini := false) (by decide) (by cases x0 <;> exact Nat.le_of_ble_eq_true rfl) (fun h => by cases h) (fun Q1 X1 hQ hX => ?_)
  unfold W_J11_vectorizedHashCode at h
  refine kx_lwF [(0, va_rf (x0)), (1, .int (x1)), (2, .int (x2)), (3, .int (x3)), (4, .int (x4))] (by cases x0 <;> exact ⟨rfl, rfl, rfl, rfl, rfl, trivial⟩) ?_
  refine kx_iload dJ11_vectorizedHashCode_0 rfl ?_
  refine kW_jI 157 [] h (fun v16 σ17 h => ?_) (fun k1 jk1 h => ?_)
  · skip
    exact kx_iret dJ11_vectorizedHashCode_157 rfl (hQ _ _ ⟨_, rfl, h⟩)
  · skip
    by_cases c0 : x4 = (4 : Int32)
    · have h := w_ift c0 h
      refine kx_tableIn (tgt := 44) dJ11_vectorizedHashCode_2 (by rw [c0]; decide) (by rw [c0]; decide) (by rw [c0]; rfl) (by decide) ?_
      refine kx_iload_n dJ11_vectorizedHashCode_44 rfl rfl ?_
      refine kx_aload_nO dJ11_vectorizedHashCode_45 rfl rfl ?_
      obtain ⟨a2, rfl, hUa2⟩ := h
      have h := hUa2
      obtain ⟨⟨ta, tya, xa, hra, hna⟩, h⟩ := h
      refine kx_castA dJ11_vectorizedHashCode_46 hra hna q1085 ?_
      refine kx_iload_n dJ11_vectorizedHashCode_49 rfl rfl ?_
      refine kx_iload_n dJ11_vectorizedHashCode_50 rfl rfl ?_
      refine kx_callS dJ11_vectorizedHashCode_51 lk_J11_62 (kw_J11_signedHashCode h) rfl rfl (Nat.le_of_ble_eq_true rfl) (Nat.le_of_ble_eq_true rfl) (Nat.le_of_ble_eq_true rfl) (Nat.le_of_ble_eq_true rfl) (Nat.le_of_ble_eq_true rfl) (fun _ _ _ hx => kx_out rfl (hX _ _ _ hx)) (fun v_ σ4 hq => ?_)
      obtain ⟨v3, rfl, h⟩ := hq
      refine kx_goto (tgt := 157) dJ11_vectorizedHashCode_54 (by decide) ?_
      exact jk1 _ _ h
    have h := w_iff c0 h
    by_cases c1 : x4 = (5 : Int32)
    · have h := w_ift c1 h
      refine kx_tableIn (tgt := 57) dJ11_vectorizedHashCode_2 (by rw [c1]; decide) (by rw [c1]; decide) (by rw [c1]; rfl) (by decide) ?_
      refine kx_aload_nO dJ11_vectorizedHashCode_57 rfl rfl ?_
      obtain ⟨a5, rfl, hUa5⟩ := h
      have h := hUa5
      exact h.elim
    have h := w_iff c1 h
    by_cases c2 : x4 = (6 : Int32)
    · have h := w_ift c2 h
      refine kx_tableIn (tgt := 129) dJ11_vectorizedHashCode_2 (by rw [c2]; decide) (by rw [c2]; decide) (by rw [c2]; rfl) (by decide) ?_
      exact h.elim
    have h := w_iff c2 h
    by_cases c3 : x4 = (7 : Int32)
    · have h := w_ift c3 h
      refine kx_tableIn (tgt := 129) dJ11_vectorizedHashCode_2 (by rw [c3]; decide) (by rw [c3]; decide) (by rw [c3]; rfl) (by decide) ?_
      exact h.elim
    have h := w_iff c3 h
    by_cases c4 : x4 = (8 : Int32)
    · have h := w_ift c4 h
      refine kx_tableIn (tgt := 90) dJ11_vectorizedHashCode_2 (by rw [c4]; decide) (by rw [c4]; decide) (by rw [c4]; rfl) (by decide) ?_
      refine kx_iload_n dJ11_vectorizedHashCode_90 rfl rfl ?_
      refine kx_aload_nO dJ11_vectorizedHashCode_91 rfl rfl ?_
      obtain ⟨a7, rfl, hUa7⟩ := h
      have h := hUa7
      obtain ⟨⟨ta, tya, xa, hra, hna⟩, h⟩ := h
      refine kx_castA dJ11_vectorizedHashCode_92 hra hna q1085 ?_
      refine kx_iload_n dJ11_vectorizedHashCode_95 rfl rfl ?_
      refine kx_iload_n dJ11_vectorizedHashCode_96 rfl rfl ?_
      refine kx_callS dJ11_vectorizedHashCode_97 lk_J11_75 (kw_J11_hashCode_2 h) rfl rfl (Nat.le_of_ble_eq_true rfl) (Nat.le_of_ble_eq_true rfl) (Nat.le_of_ble_eq_true rfl) (Nat.le_of_ble_eq_true rfl) (Nat.le_of_ble_eq_true rfl) (fun _ _ _ hx => kx_out rfl (hX _ _ _ hx)) (fun v_ σ9 hq => ?_)
      obtain ⟨v8, rfl, h⟩ := hq
      refine kx_goto (tgt := 157) dJ11_vectorizedHashCode_100 (by decide) ?_
      exact jk1 _ _ h
    have h := w_iff c4 h
    by_cases c5 : x4 = (9 : Int32)
    · have h := w_ift c5 h
      refine kx_tableIn (tgt := 103) dJ11_vectorizedHashCode_2 (by rw [c5]; decide) (by rw [c5]; decide) (by rw [c5]; rfl) (by decide) ?_
      refine kx_iload_n dJ11_vectorizedHashCode_103 rfl rfl ?_
      refine kx_aload_nO dJ11_vectorizedHashCode_104 rfl rfl ?_
      obtain ⟨a10, rfl, hUa10⟩ := h
      have h := hUa10
      obtain ⟨⟨ta, tya, xa, hra, hna⟩, h⟩ := h
      refine kx_castA dJ11_vectorizedHashCode_105 hra hna q1112 ?_
      refine kx_iload_n dJ11_vectorizedHashCode_108 rfl rfl ?_
      refine kx_iload_n dJ11_vectorizedHashCode_109 rfl rfl ?_
      refine kx_callS dJ11_vectorizedHashCode_110 lk_J11_79 (kw_J11_hashCode_3 h) rfl rfl (Nat.le_of_ble_eq_true rfl) (Nat.le_of_ble_eq_true rfl) (Nat.le_of_ble_eq_true rfl) (Nat.le_of_ble_eq_true rfl) (Nat.le_of_ble_eq_true rfl) (fun _ _ _ hx => kx_out rfl (hX _ _ _ hx)) (fun v_ σ12 hq => ?_)
      obtain ⟨v11, rfl, h⟩ := hq
      refine kx_goto (tgt := 157) dJ11_vectorizedHashCode_113 (by decide) ?_
      exact jk1 _ _ h
    have h := w_iff c5 h
    by_cases c6 : x4 = (10 : Int32)
    · have h := w_ift c6 h
      refine kx_tableIn (tgt := 116) dJ11_vectorizedHashCode_2 (by rw [c6]; decide) (by rw [c6]; decide) (by rw [c6]; rfl) (by decide) ?_
      refine kx_iload_n dJ11_vectorizedHashCode_116 rfl rfl ?_
      refine kx_aload_nO dJ11_vectorizedHashCode_117 rfl rfl ?_
      obtain ⟨a13, rfl, hUa13⟩ := h
      have h := hUa13
      obtain ⟨⟨ta, tya, xa, hra, hna⟩, h⟩ := h
      refine kx_castA dJ11_vectorizedHashCode_118 hra hna q1116 ?_
      refine kx_iload_n dJ11_vectorizedHashCode_121 rfl rfl ?_
      refine kx_iload_n dJ11_vectorizedHashCode_122 rfl rfl ?_
      refine kx_callS dJ11_vectorizedHashCode_123 lk_J11_84 (kw_J11_hashCode_4 h) rfl rfl (Nat.le_of_ble_eq_true rfl) (Nat.le_of_ble_eq_true rfl) (Nat.le_of_ble_eq_true rfl) (Nat.le_of_ble_eq_true rfl) (Nat.le_of_ble_eq_true rfl) (fun _ _ _ hx => kx_out rfl (hX _ _ _ hx)) (fun v_ σ15 hq => ?_)
      obtain ⟨v14, rfl, h⟩ := hq
      refine kx_goto (tgt := 157) dJ11_vectorizedHashCode_126 (by decide) ?_
      exact jk1 _ _ h
    have h := w_iff c6 h
    refine kx_tableOut (tgt := 129) dJ11_vectorizedHashCode_2 (tbN (k := 7) (lo := 4) (by decide) (by intro j hj; rcases (show j = 0 ∨ j = 1 ∨ j = 2 ∨ j = 3 ∨ j = 4 ∨ j = 5 ∨ j = 6 by omega) with rfl | rfl | rfl | rfl | rfl | rfl | rfl <;> assumption)) (by decide) ?_
    exact h.elim
set_option maxHeartbeats 8000000 in
theorem kw_J13_copyOfRangeByte {G : KG} {bc bs : Nat} {σ : KHp} {x0 : Option Nat} {x1 : Int32} {x2 : Int32} {Q : Option Nat → KHp → Prop} {X : String → Nat → KHp → Prop} (h : W_J13_copyOfRangeByte G bc bs σ x0 x1 x2 Q X) : kx_c G yJ13_copyOfRangeByte (ws_ yJ13_copyOfRangeByte cJ13_copyOfRangeByte 5 (Option.some (Jvm.ClassFile.FieldType.array Jvm.ClassFile.FieldType.byte))) 2 bc bs [va_rf (x0), .int (x1), .int (x2)] σ (fun rv σ' => ∃ r, rv = some (va_rf (r)) ∧ Q r σ') X := by
  refine kx_mk3 (ini := false) (by decide) (by cases x0 <;> exact Nat.le_of_ble_eq_true rfl) (fun h => by cases h) (fun Q1 X1 hQ hX => ?_)
  unfold W_J13_copyOfRangeByte at h
  refine kx_lwF [(0, va_rf (x0)), (1, .int (x1)), (2, .int (x2))] (by cases x0 <;> exact ⟨rfl, rfl, rfl, trivial⟩) ?_
  refine kx_iload_n dJ13_copyOfRangeByte_0 rfl rfl ?_
  refine kx_iload_n dJ13_copyOfRangeByte_1 rfl rfl ?_
  refine kx_callS dJ13_copyOfRangeByte_2 lk_J13_343 (kw_J13_checkLength h) rfl rfl (Nat.le_of_ble_eq_true rfl) (Nat.le_of_ble_eq_true rfl) (Nat.le_of_ble_eq_true rfl) (Nat.le_of_ble_eq_true rfl) (Nat.le_of_ble_eq_true rfl) (fun _ _ _ hx => kx_out rfl (hX _ _ _ hx)) (fun v_ σ2 hq => ?_)
  obtain ⟨rfl, h⟩ := hq
  refine kx_iload_n dJ13_copyOfRangeByte_5 rfl rfl ?_
  refine kx_iload_n dJ13_copyOfRangeByte_6 rfl rfl ?_
  refine kx_isub dJ13_copyOfRangeByte_7 ?_
  refine kx_istore_n dJ13_copyOfRangeByte_8 rfl (Nat.le_of_ble_eq_true rfl) ?_
  refine kx_iload_n dJ13_copyOfRangeByte_9 rfl rfl ?_
  refine kW_newa dJ13_copyOfRangeByte_10 rfl q310 (fun _ _ => rfl) h (fun n5 q3 σ4 h => ?_)
  refine kx_astore dJ13_copyOfRangeByte_12 (Nat.le_of_ble_eq_true rfl) ?_
  refine kx_aload_nO dJ13_copyOfRangeByte_14 rfl rfl ?_
  refine kx_iload_n dJ13_copyOfRangeByte_15 rfl rfl ?_
  refine kx_aload dJ13_copyOfRangeByte_16 rfl ?_
  refine kx_iconst (v := 0) dJ13_copyOfRangeByte_18 (by decide) ?_
  refine kx_aload_nO dJ13_copyOfRangeByte_19 rfl rfl ?_
  obtain ⟨a6, rfl, hUa6⟩ := h
  have h := hUa6
  refine kW_len dJ13_copyOfRangeByte_20 h (fun v7 h => ?_)
  refine kx_iload_n dJ13_copyOfRangeByte_21 rfl rfl ?_
  refine kx_isub dJ13_copyOfRangeByte_22 ?_
  refine kx_iload_n dJ13_copyOfRangeByte_23 rfl rfl ?_
  refine kx_callS dJ13_copyOfRangeByte_24 lk_J13_304 (kw_J12_min h) rfl rfl (Nat.le_of_ble_eq_true rfl) (Nat.le_of_ble_eq_true rfl) (Nat.le_of_ble_eq_true rfl) (Nat.le_of_ble_eq_true rfl) (Nat.le_of_ble_eq_true rfl) (fun _ _ _ hx => kx_out rfl (hX _ _ _ hx)) (fun v_ σ9 hq => ?_)
  obtain ⟨v8, rfl, h⟩ := hq
  refine kW_cpy dJ13_copyOfRangeByte_27 ⟨q355, q357, q356, q160⟩ (Nat.le_of_ble_eq_true rfl) (Nat.le_of_ble_eq_true rfl) h (fun σ10 h => ?_)
  refine kx_aload dJ13_copyOfRangeByte_30 rfl ?_
  exact kx_aret dJ13_copyOfRangeByte_32 rfl (Or.inr ⟨_, rfl⟩) (Or.inr ⟨_, rfl⟩) (hQ _ _ ⟨some _, rfl, h⟩)
set_option maxHeartbeats 8000000 in
theorem kw_J13_copyOf_2 {G : KG} {bc bs : Nat} {σ : KHp} {x0 : Option Nat} {x1 : Int32} {Q : Option Nat → KHp → Prop} {X : String → Nat → KHp → Prop} (h : W_J13_copyOf_2 G bc bs σ x0 x1 Q X) : kx_c G yJ13_copyOf_2 (ws_ yJ13_copyOf_2 cJ13_copyOf_2 2 (Option.some (Jvm.ClassFile.FieldType.array (Jvm.ClassFile.FieldType.object "java/lang/Object")))) 3 bc bs [va_rf (x0), .int (x1)] σ (fun rv σ' => ∃ r, rv = some (va_rf (r)) ∧ Q r σ') X := by
  refine kx_mk3 (ini := false) (by decide) (by cases x0 <;> exact Nat.le_of_ble_eq_true rfl) (fun h => by cases h) (fun Q1 X1 hQ hX => ?_)
  unfold W_J13_copyOf_2 at h
  refine kx_lwF [(0, va_rf (x0)), (1, .int (x1))] (by cases x0 <;> exact ⟨rfl, rfl, trivial⟩) ?_
  refine kx_aload_nO dJ13_copyOf_2_0 rfl rfl ?_
  refine kx_iload_n dJ13_copyOf_2_1 rfl rfl ?_
  refine kx_aload_nO dJ13_copyOf_2_2 rfl rfl ?_
  obtain ⟨a1, rfl, hUa1⟩ := h
  have h := hUa1
  obtain ⟨⟨ta, tya, xa, hra, hna⟩, h⟩ := h
  refine kx_getCA dJ13_copyOf_2_3 hra hna km__Ljava_lang_Object_ q767 q3527 q3526 q768 q810 (Nat.le_of_ble_eq_true rfl) (Nat.le_of_ble_eq_true rfl) ?_
  obtain ⟨c4, c5, hc, hs, h⟩ := h
  refine kx_callS dJ13_copyOf_2_6 lk_J13_300 (kw_J13_copyOf_3 h) rfl rfl (Nat.le_of_ble_eq_true rfl) (Nat.le_of_ble_eq_true rfl) (Nat.le_of_ble_eq_true rfl) hc hs (fun _ _ _ hx => kx_out rfl (hX _ _ _ hx)) (fun v_ σ3 hq => ?_)
  obtain ⟨v2, rfl, h⟩ := hq
  exact kx_aret dJ13_copyOf_2_9 rfl (Or.inr ⟨_, rfl⟩) (va_rfs _) (hQ _ _ ⟨_, rfl, h⟩)
set_option maxHeartbeats 8000000 in
theorem kw_J13_fill {G : KG} {σ : KHp} {x0 : Option Nat} {x1 : Int32} {x2 : Int32} {x3 : Int32} {Q : KHp → Prop} {X : String → Nat → KHp → Prop} (h : W_J13_fill G σ x0 x1 x2 x3 Q X) : kx_c G yJ13_fill (ws_ yJ13_fill cJ13_fill 5 (Option.none : Option Jvm.ClassFile.FieldType)) 2 0 0 [va_rf (x0), .int (x1), .int (x2), .int (x3)] σ (fun rv σ' => rv = none ∧ Q σ') X := by
  refine kx_mk3 (ini := false) (by decide) (by cases x0 <;> exact Nat.le_of_ble_eq_true rfl) (fun h => by cases h) (fun Q1 X1 hQ hX => ?_)
  unfold W_J13_fill at h
  refine kx_lwF [(0, va_rf (x0)), (1, .int (x1)), (2, .int (x2)), (3, .int (x3))] (by cases x0 <;> exact ⟨rfl, rfl, rfl, rfl, trivial⟩) ?_
  refine kx_aload_nO dJ13_fill_0 rfl rfl ?_
  obtain ⟨a1, rfl, hUa1⟩ := h
  have h := hUa1
  refine kW_len dJ13_fill_1 h (fun v2 h => ?_)
  refine kx_iload_n dJ13_fill_2 rfl rfl ?_
  refine kx_iload_n dJ13_fill_3 rfl rfl ?_
  refine kx_callS dJ13_fill_4 lk_J13_13 (kw_J13_rangeCheck h) rfl rfl (Nat.le_of_ble_eq_true rfl) (Nat.le_of_ble_eq_true rfl) (Nat.le_of_ble_eq_true rfl) (Nat.le_of_ble_eq_true rfl) (Nat.le_of_ble_eq_true rfl) (fun _ _ _ hx => kx_out rfl (hX _ _ _ hx)) (fun v_ σ4 hq => ?_)
  obtain ⟨rfl, h⟩ := hq
  refine kx_iload_n dJ13_fill_7 rfl rfl ?_
  refine kx_istore dJ13_fill_8 (Nat.le_of_ble_eq_true rfl) ?_
  refine kx_lwF [(0, .ref (a1)), (2, .int (x2)), (3, .int (x3)), (4, .int (x1))] ⟨rfl, rfl, rfl, rfl, trivial⟩ ?_
  refine loopW1_k (fun (σ : KHp) (l4 : Int32) => kx G (yJ13_fill.cls, cJ13_fill, 5, (Option.none : Option Jvm.ClassFile.FieldType), false, []) (2, 0, 0, Q1, X1) (0) (0) σ 10 (kF [(0, .ref (a1)), (2, .int (x2)), (3, .int (x3)), (4, .int (l4))]) []) (fun kI10 hI10 σ l4 h => ?_) 9000 σ4 x1 h
  unfold WB_J13_fill_10 at h
  refine kx_iload dJ13_fill_10 rfl ?_
  refine kx_iload_n dJ13_fill_12 rfl rfl ?_
  refine kx_icmp_ge (tgt := 27) dJ13_fill_13 (by decide) (fun c => ?_) (fun c => ?_)
  · have h := w_ift c h
    exact kx_vret dJ13_fill_27 rfl (hQ _ _ ⟨rfl, h⟩)
  · have h := w_iff c h
    refine kx_aload_n dJ13_fill_16 rfl rfl ?_
    refine kx_iload dJ13_fill_17 rfl ?_
    refine kx_iload_n dJ13_fill_19 rfl rfl ?_
    refine kW_sB dJ13_fill_20 h (fun σ11001 h => ?_)
    refine kx_iinc2 (v := 1) dJ13_fill_21 rfl (by decide) ?_
    refine kx_goto (tgt := 10) dJ13_fill_24 (by decide) ?_
    exact kx_lwF [(0, .ref (a1)), (2, .int (x2)), (3, .int (x3)), (4, .int ((l4 + (1 : Int32))))] ⟨rfl, rfl, rfl, rfl, trivial⟩ (hI10 _ _ h)
set_option maxHeartbeats 8000000 in
theorem kw_J15_hashCode {G : KG} {σ : KHp} {x0 : Option Nat} {Q : Int32 → KHp → Prop} {X : String → Nat → KHp → Prop} (h : W_J15_hashCode G σ x0 Q X) : kx_c G yJ15_hashCode (ws_ yJ15_hashCode cJ15_hashCode 1 (Option.some Jvm.ClassFile.FieldType.int)) 3 0 0 [va_rf (x0)] σ (fun rv σ' => ∃ r, rv = some (.int (r)) ∧ Q r σ') X := by
  refine kx_mk3 (ini := false) (by decide) (by cases x0 <;> exact Nat.le_of_ble_eq_true rfl) (fun h => by cases h) (fun Q1 X1 hQ hX => ?_)
  unfold W_J15_hashCode at h
  refine kx_lwF [(0, va_rf (x0))] (by cases x0 <;> exact ⟨rfl, trivial⟩) ?_
  refine kx_aload_nO dJ15_hashCode_0 rfl rfl ?_
  obtain ⟨a1, rfl, hUa1⟩ := h
  have h := hUa1
  refine kW_len dJ15_hashCode_1 h (fun v2 h => ?_)
  refine kW_jI 51 [] h (fun v8 σ9 h => ?_) (fun k3 jk3 h => ?_)
  · skip
    exact kx_iret dJ15_hashCode_51 rfl (hQ _ _ ⟨_, rfl, h⟩)
  · skip
    by_cases c0 : v2 = (0 : Int32)
    · have h := w_ift c0 h
      refine kx_lookup (tgt := 28) (off := 26) dJ15_hashCode_2 (by decide) (by rw [c0]; decide) (by decide) ?_
      refine kx_iconst (v := 0) dJ15_hashCode_28 (by decide) ?_
      refine kx_goto (tgt := 51) dJ15_hashCode_29 (by decide) ?_
      exact jk3 _ _ h
    have h := w_iff c0 h
    by_cases c1 : v2 = (1 : Int32)
    · have h := w_ift c1 h
      refine kx_lookup (tgt := 32) (off := 30) dJ15_hashCode_2 (by decide) (by rw [c1]; decide) (by decide) ?_
      refine kx_aload_n dJ15_hashCode_32 rfl rfl ?_
      refine kx_iconst (v := 0) dJ15_hashCode_33 (by decide) ?_
      refine kW_lB dJ15_hashCode_34 h (fun v4 h => ?_)
      refine kx_sipush (v := 255) dJ15_hashCode_35 (by decide) ?_
      refine kx_iand dJ15_hashCode_38 ?_
      refine kx_goto (tgt := 51) dJ15_hashCode_39 (by decide) ?_
      exact jk3 _ _ h
    have h := w_iff c1 h
    refine kx_lookup (tgt := 42) (off := 40) dJ15_hashCode_2 (by decide) (lk_out (by intro p hp; simp only [List.mem_cons, List.not_mem_nil, or_false] at hp; rcases hp with rfl | rfl <;> intro hh <;> first | exact c0 (Int32.toInt_inj.mp hh) | exact c1 (Int32.toInt_inj.mp hh))) (by decide) ?_
    refine kx_aload_n dJ15_hashCode_42 rfl rfl ?_
    refine kx_iconst (v := 0) dJ15_hashCode_43 (by decide) ?_
    refine kx_aload_n dJ15_hashCode_44 rfl rfl ?_
    refine kW_len dJ15_hashCode_45 h (fun v5 h => ?_)
    refine kx_iconst (v := 0) dJ15_hashCode_46 (by decide) ?_
    refine kx_iconst (v := 4) dJ15_hashCode_47 (by decide) ?_
    refine kx_callS dJ15_hashCode_48 lk_J15_84 (kw_J11_vectorizedHashCode h) rfl rfl (Nat.le_of_ble_eq_true rfl) (Nat.le_of_ble_eq_true rfl) (Nat.le_of_ble_eq_true rfl) (Nat.le_of_ble_eq_true rfl) (Nat.le_of_ble_eq_true rfl) (fun _ _ _ hx => kx_out rfl (hX _ _ _ hx)) (fun v_ σ7 hq => ?_)
    obtain ⟨v6, rfl, h⟩ := hq
    exact jk3 _ _ h
set_option maxHeartbeats 8000000 in
theorem kw_J15_charAt {G : KG} {σ : KHp} {x0 : Option Nat} {x1 : Int32} {Q : Int32 → KHp → Prop} {X : String → Nat → KHp → Prop} (h : W_J15_charAt G σ x0 x1 Q X) : kx_c G yJ15_charAt (ws_ yJ15_charAt cJ15_charAt 2 (Option.some Jvm.ClassFile.FieldType.char)) 3 0 0 [va_rf (x0), .int (x1)] σ (fun rv σ' => ∃ r, rv = some (.int (r)) ∧ Q r σ') X := by
  refine kx_mk3 (ini := false) (by decide) (by cases x0 <;> exact Nat.le_of_ble_eq_true rfl) (fun h => by cases h) (fun Q1 X1 hQ hX => ?_)
  unfold W_J15_charAt at h
  refine kx_lwF [(0, va_rf (x0)), (1, .int (x1))] (by cases x0 <;> exact ⟨rfl, rfl, trivial⟩) ?_
  refine kx_iload_n dJ15_charAt_0 rfl rfl ?_
  refine kx_aload_nO dJ15_charAt_1 rfl rfl ?_
  obtain ⟨a1, rfl, hUa1⟩ := h
  have h := hUa1
  refine kW_len dJ15_charAt_2 h (fun v2 h => ?_)
  refine kx_callS dJ15_charAt_3 lk_J15_9 (kw_J9_checkIndex h) rfl rfl (Nat.le_of_ble_eq_true rfl) (Nat.le_of_ble_eq_true rfl) (Nat.le_of_ble_eq_true rfl) (Nat.le_of_ble_eq_true rfl) (Nat.le_of_ble_eq_true rfl) (fun _ _ _ hx => kx_out rfl (hX _ _ _ hx)) (fun v_ σ4 hq => ?_)
  obtain ⟨rfl, h⟩ := hq
  refine kx_aload_n dJ15_charAt_6 rfl rfl ?_
  refine kx_iload_n dJ15_charAt_7 rfl rfl ?_
  refine kW_lB dJ15_charAt_8 h (fun v5 h => ?_)
  refine kx_sipush (v := 255) dJ15_charAt_9 (by decide) ?_
  refine kx_iand dJ15_charAt_12 ?_
  refine kx_i2c dJ15_charAt_13 rfl ?_
  exact kx_zret dJ15_charAt_14 rfl h.1 (hQ _ _ ⟨_, rfl, h.2⟩)
set_option maxHeartbeats 8000000 in
theorem kw_J15_fillNull {G : KG} {σ : KHp} {x0 : Option Nat} {x1 : Int32} {x2 : Int32} {Q : KHp → Prop} {X : String → Nat → KHp → Prop} (h : W_J15_fillNull G σ x0 x1 x2 Q X) : kx_c G yJ15_fillNull (ws_ yJ15_fillNull cJ15_fillNull 3 (Option.none : Option Jvm.ClassFile.FieldType)) 3 0 0 [va_rf (x0), .int (x1), .int (x2)] σ (fun rv σ' => rv = none ∧ Q σ') X := by
  refine kx_mk3 (ini := false) (by decide) (by cases x0 <;> exact Nat.le_of_ble_eq_true rfl) (fun h => by cases h) (fun Q1 X1 hQ hX => ?_)
  unfold W_J15_fillNull at h
  refine kx_lwF [(0, va_rf (x0)), (1, .int (x1)), (2, .int (x2))] (by cases x0 <;> exact ⟨rfl, rfl, rfl, trivial⟩) ?_
  refine kx_aload_nO dJ15_fillNull_0 rfl rfl ?_
  refine kx_iload_n dJ15_fillNull_1 rfl rfl ?_
  refine kx_iload_n dJ15_fillNull_2 rfl rfl ?_
  refine kx_iconst (v := 0) dJ15_fillNull_3 (by decide) ?_
  refine kx_callS dJ15_fillNull_4 lk_J15_236 (kw_J13_fill h) rfl rfl (Nat.le_of_ble_eq_true rfl) (Nat.le_of_ble_eq_true rfl) (Nat.le_of_ble_eq_true rfl) (Nat.le_of_ble_eq_true rfl) (Nat.le_of_ble_eq_true rfl) (fun _ _ _ hx => kx_out rfl (hX _ _ _ hx)) (fun v_ σ2 hq => ?_)
  obtain ⟨rfl, h⟩ := hq
  exact kx_vret dJ15_fillNull_7 rfl (hQ _ _ ⟨rfl, h⟩)
set_option maxHeartbeats 8000000 in
theorem kw_J18_linkLast {G : KG} {bc bs : Nat} {σ : KHp} {x0 : Nat} {x1 : Option Nat} {Q : KHp → Prop} {X : String → Nat → KHp → Prop} (h : W_J18_linkLast G bc bs σ x0 x1 Q X) : kx_c G yJ18_linkLast (ws_ yJ18_linkLast cJ18_linkLast 4 (Option.none : Option Jvm.ClassFile.FieldType)) 2 bc bs [.ref (x0), va_rf (x1)] σ (fun rv σ' => rv = none ∧ Q σ') X := by
  refine kx_mk3 (ini := false) (by decide) (by cases x1 <;> exact Nat.le_of_ble_eq_true rfl) (fun h => by cases h) (fun Q1 X1 hQ hX => ?_)
  unfold W_J18_linkLast at h
  refine kx_lwF [(0, .ref x0), (1, va_rf (x1))] (by cases x1 <;> exact ⟨rfl, rfl, trivial⟩) ?_
  refine kx_aload_n dJ18_linkLast_0 rfl rfl ?_
  refine kW_gO dJ18_linkLast_1 (kf1 fl_J18_27_J18) h (fun v1 h => ?_)
  refine kx_astore_nO dJ18_linkLast_4 rfl (Nat.le_of_ble_eq_true rfl) ?_
  refine kx_lwF [(0, .ref (x0)), (1, va_rf (x1)), (2, va_rf (v1))] (by cases x1 <;> exact ⟨rfl, rfl, rfl, trivial⟩) ?_
  refine kW_new dJ18_linkLast_5 kc_J23 q1484 q1485 q186 rfl h (fun q2 σ3 h => ?_)
  refine kx_dup dJ18_linkLast_8 rfl ?_
  refine kx_aload_nO dJ18_linkLast_9 rfl rfl ?_
  refine kx_aload_nO dJ18_linkLast_10 rfl rfl ?_
  refine kx_null dJ18_linkLast_11 ?_
  refine kx_callI dJ18_linkLast_12 lk_J18_24 (kw_J23_init h) rfl rfl (Nat.le_of_ble_eq_true rfl) (Nat.le_of_ble_eq_true rfl) (Nat.le_of_ble_eq_true rfl) (Nat.le_of_ble_eq_true rfl) (Nat.le_of_ble_eq_true rfl) (fun _ _ _ hx => kx_out rfl (hX _ _ _ hx)) (fun v_ σ5 hq => ?_)
  obtain ⟨rfl, h⟩ := hq
  refine kx_astore_n dJ18_linkLast_15 rfl (Nat.le_of_ble_eq_true rfl) ?_
  refine kx_lwF [(0, .ref (x0)), (2, va_rf (v1)), (3, .ref (q2))] (by cases v1 <;> exact ⟨rfl, rfl, rfl, trivial⟩) ?_
  refine kx_aload_n dJ18_linkLast_16 rfl rfl ?_
  refine kx_aload_n dJ18_linkLast_17 rfl rfl ?_
  refine kW_p dJ18_linkLast_18 (kp1 ⟨_, _, _, _, kc_J18, fl_J18_27_J18, Or.inl rfl, rfl, rfl⟩) h (fun σ6 h => ?_)
  refine kx_aload_nO dJ18_linkLast_21 rfl rfl ?_
  refine kx_ifnonnullO (tgt := 33) dJ18_linkLast_22 (by decide) (fun c => ?_) (fun c => ?_)
  · have h := w_ift c h
    refine kx_aload_n dJ18_linkLast_25 rfl rfl ?_
    refine kx_aload_n dJ18_linkLast_26 rfl rfl ?_
    refine kW_p dJ18_linkLast_27 (kp1 ⟨_, _, _, _, kc_J18, fl_J18_18_J18, Or.inl rfl, rfl, rfl⟩) h (fun σ7 h => ?_)
    refine kx_goto (tgt := 38) dJ18_linkLast_30 (by decide) ?_
    refine kx_aload_n dJ18_linkLast_38 rfl rfl ?_
    refine kx_dup dJ18_linkLast_39 rfl ?_
    refine kW_gI dJ18_linkLast_40 (kf1 fl_J18_7_J18) h (fun v8 h => ?_)
    refine kx_iconst (v := 1) dJ18_linkLast_43 (by decide) ?_
    refine kx_iadd dJ18_linkLast_44 ?_
    refine kW_p dJ18_linkLast_45 (kp1 ⟨_, _, _, _, kc_J18, fl_J18_7_J18, Or.inl rfl, rfl, rfl⟩) h (fun σ9 h => ?_)
    refine kx_aload_n dJ18_linkLast_48 rfl rfl ?_
    refine kx_dup dJ18_linkLast_49 rfl ?_
    refine kW_gI dJ18_linkLast_50 (kfc fl_J18_33_J2 (kf1 fl_J18_33_J18)) h (fun v10 h => ?_)
    refine kx_iconst (v := 1) dJ18_linkLast_53 (by decide) ?_
    refine kx_iadd dJ18_linkLast_54 ?_
    refine kW_p dJ18_linkLast_55 (kpc ⟨_, _, _, _, kc_J2, fl_J18_33_J2, Or.inl rfl, rfl, rfl⟩ (kp1 ⟨_, _, _, _, kc_J18, fl_J18_33_J18, Or.inl rfl, rfl, rfl⟩)) h (fun σ11 h => ?_)
    exact kx_vret dJ18_linkLast_58 rfl (hQ _ _ ⟨rfl, h⟩)
  · have h := w_iff c h
    refine kx_aload_nO dJ18_linkLast_33 rfl rfl ?_
    refine kx_aload_n dJ18_linkLast_34 rfl rfl ?_
    obtain ⟨a12, rfl, hUa12⟩ := h
    have h := hUa12
    refine kW_p dJ18_linkLast_35 (kp1 ⟨_, _, _, _, kc_J23, fl_J18_36_J23, Or.inl rfl, rfl, rfl⟩) h (fun σ13 h => ?_)
    refine kx_aload_n dJ18_linkLast_38 rfl rfl ?_
    refine kx_dup dJ18_linkLast_39 rfl ?_
    refine kW_gI dJ18_linkLast_40 (kf1 fl_J18_7_J18) h (fun v14 h => ?_)
    refine kx_iconst (v := 1) dJ18_linkLast_43 (by decide) ?_
    refine kx_iadd dJ18_linkLast_44 ?_
    refine kW_p dJ18_linkLast_45 (kp1 ⟨_, _, _, _, kc_J18, fl_J18_7_J18, Or.inl rfl, rfl, rfl⟩) h (fun σ15 h => ?_)
    refine kx_aload_n dJ18_linkLast_48 rfl rfl ?_
    refine kx_dup dJ18_linkLast_49 rfl ?_
    refine kW_gI dJ18_linkLast_50 (kfc fl_J18_33_J2 (kf1 fl_J18_33_J18)) h (fun v16 h => ?_)
    refine kx_iconst (v := 1) dJ18_linkLast_53 (by decide) ?_
    refine kx_iadd dJ18_linkLast_54 ?_
    refine kW_p dJ18_linkLast_55 (kpc ⟨_, _, _, _, kc_J2, fl_J18_33_J2, Or.inl rfl, rfl, rfl⟩ (kp1 ⟨_, _, _, _, kc_J18, fl_J18_33_J18, Or.inl rfl, rfl, rfl⟩)) h (fun σ17 h => ?_)
    exact kx_vret dJ18_linkLast_58 rfl (hQ _ _ ⟨rfl, h⟩)
set_option maxHeartbeats 8000000 in
theorem kw_J18_checkPositionIndex {G : KG} {σ : KHp} {x0 : Nat} {x1 : Int32} {Q : KHp → Prop} {X : String → Nat → KHp → Prop} (h : W_J18_checkPositionIndex G σ x0 x1 Q X) : kx_c G yJ18_checkPositionIndex (ws_ yJ18_checkPositionIndex cJ18_checkPositionIndex 2 (Option.none : Option Jvm.ClassFile.FieldType)) 2 0 0 [.ref (x0), .int (x1)] σ (fun rv σ' => rv = none ∧ Q σ') X := by
  refine kx_mk3 (ini := false) (by decide) (Nat.le_of_ble_eq_true rfl) (fun h => by cases h) (fun Q1 X1 hQ hX => ?_)
  unfold W_J18_checkPositionIndex at h
  refine kx_aload_n dJ18_checkPositionIndex_0 rfl rfl ?_
  refine kx_iload_n dJ18_checkPositionIndex_1 rfl rfl ?_
  obtain ⟨hr, h⟩ := h
  refine kx_callV dJ18_checkPositionIndex_2 lk_J18_128 (kw_J18_isPositionIndex h) rfl (wR_rc hr rfl) rfl (Nat.le_of_ble_eq_true rfl) (Nat.le_of_ble_eq_true rfl) (Nat.le_of_ble_eq_true rfl) (Nat.le_of_ble_eq_true rfl) (Nat.le_of_ble_eq_true rfl) (fun _ _ _ hx => kx_out rfl (hX _ _ _ hx)) (fun v_ σ2 hq => ?_)
  obtain ⟨v1, rfl, h⟩ := hq
  refine kx_if_ne (tgt := 21) dJ18_checkPositionIndex_5 (by decide) (fun c => ?_) (fun c => ?_)
  · have h := w_iff c h
    exact kx_vret dJ18_checkPositionIndex_21 rfl (hQ _ _ ⟨rfl, h⟩)
  · have h := w_ift c h
    exact h.elim
set_option maxHeartbeats 8000000 in
theorem kw_J18_checkElementIndex {G : KG} {σ : KHp} {x0 : Nat} {x1 : Int32} {Q : KHp → Prop} {X : String → Nat → KHp → Prop} (h : W_J18_checkElementIndex G σ x0 x1 Q X) : kx_c G yJ18_checkElementIndex (ws_ yJ18_checkElementIndex cJ18_checkElementIndex 2 (Option.none : Option Jvm.ClassFile.FieldType)) 2 0 0 [.ref (x0), .int (x1)] σ (fun rv σ' => rv = none ∧ Q σ') X := by
  refine kx_mk3 (ini := false) (by decide) (Nat.le_of_ble_eq_true rfl) (fun h => by cases h) (fun Q1 X1 hQ hX => ?_)
  unfold W_J18_checkElementIndex at h
  refine kx_aload_n dJ18_checkElementIndex_0 rfl rfl ?_
  refine kx_iload_n dJ18_checkElementIndex_1 rfl rfl ?_
  obtain ⟨hr, h⟩ := h
  refine kx_callV dJ18_checkElementIndex_2 lk_J18_115 (kw_J18_isElementIndex h) rfl (wR_rc hr rfl) rfl (Nat.le_of_ble_eq_true rfl) (Nat.le_of_ble_eq_true rfl) (Nat.le_of_ble_eq_true rfl) (Nat.le_of_ble_eq_true rfl) (Nat.le_of_ble_eq_true rfl) (fun _ _ _ hx => kx_out rfl (hX _ _ _ hx)) (fun v_ σ2 hq => ?_)
  obtain ⟨v1, rfl, h⟩ := hq
  refine kx_if_ne (tgt := 21) dJ18_checkElementIndex_5 (by decide) (fun c => ?_) (fun c => ?_)
  · have h := w_iff c h
    exact kx_vret dJ18_checkElementIndex_21 rfl (hQ _ _ ⟨rfl, h⟩)
  · have h := w_ift c h
    exact h.elim
set_option maxHeartbeats 8000000 in
theorem kw_J18_remove {G : KG} {σ : KHp} {x0 : Nat} {x1 : Int32} {Q : Option Nat → KHp → Prop} {X : String → Nat → KHp → Prop} (h : W_J18_remove G σ x0 x1 Q X) : kx_c G yJ18_remove (ws_ yJ18_remove cJ18_remove 2 (Option.some (Jvm.ClassFile.FieldType.object "java/lang/Object"))) 3 0 0 [.ref (x0), .int (x1)] σ (fun rv σ' => ∃ r, rv = some (va_rf (r)) ∧ Q r σ') X := by
  refine kx_mk3 (ini := false) (by decide) (Nat.le_of_ble_eq_true rfl) (fun h => by cases h) (fun Q1 X1 hQ hX => ?_)
  unfold W_J18_remove at h
  refine kx_aload_n dJ18_remove_0 rfl rfl ?_
  refine kx_iload_n dJ18_remove_1 rfl rfl ?_
  obtain ⟨hr, h⟩ := h
  refine kx_callV dJ18_remove_2 lk_J18_90 (kw_J18_checkElementIndex h) rfl (wR_rc hr rfl) rfl (Nat.le_of_ble_eq_true rfl) (Nat.le_of_ble_eq_true rfl) (Nat.le_of_ble_eq_true rfl) (Nat.le_of_ble_eq_true rfl) (Nat.le_of_ble_eq_true rfl) (fun _ _ _ hx => kx_out rfl (hX _ _ _ hx)) (fun v_ σ2 hq => ?_)
  obtain ⟨rfl, h⟩ := hq
  refine kx_aload_n dJ18_remove_5 rfl rfl ?_
  refine kx_aload_n dJ18_remove_6 rfl rfl ?_
  refine kx_iload_n dJ18_remove_7 rfl rfl ?_
  obtain ⟨hr, h⟩ := h
  refine kx_callV dJ18_remove_8 lk_J18_86 (kw_J18_node h) rfl (wR_rc hr rfl) rfl (Nat.le_of_ble_eq_true rfl) (Nat.le_of_ble_eq_true rfl) (Nat.le_of_ble_eq_true rfl) (Nat.le_of_ble_eq_true rfl) (Nat.le_of_ble_eq_true rfl) (fun _ _ _ hx => kx_out rfl (hX _ _ _ hx)) (fun v_ σ4 hq => ?_)
  obtain ⟨v3, rfl, h⟩ := hq
  obtain ⟨hr, h⟩ := h
  refine kx_callV dJ18_remove_11 lk_J18_64 (kw_J18_unlink h) rfl (wR_rc hr rfl) rfl (Nat.le_of_ble_eq_true rfl) (Nat.le_of_ble_eq_true rfl) (Nat.le_of_ble_eq_true rfl) (Nat.le_of_ble_eq_true rfl) (Nat.le_of_ble_eq_true rfl) (fun _ _ _ hx => kx_out rfl (hX _ _ _ hx)) (fun v_ σ6 hq => ?_)
  obtain ⟨v5, rfl, h⟩ := hq
  exact kx_aret dJ18_remove_14 rfl (Or.inl ⟨_, rfl⟩) (va_rfs _) (hQ _ _ ⟨_, rfl, h⟩)
set_option maxHeartbeats 8000000 in
theorem kw_J19_size {G : KG} {σ : KHp} {x0 : Nat} {Q : Int32 → KHp → Prop} {X : String → Nat → KHp → Prop} (h : W_J19_size G σ x0 Q X) : kx_c G yJ19_size (ws_ yJ19_size cJ19_size 1 (Option.some Jvm.ClassFile.FieldType.int)) 2 0 0 [.ref (x0)] σ (fun rv σ' => ∃ r, rv = some (.int (r)) ∧ Q r σ') X := by
  refine kx_mk3 (ini := false) (by decide) (Nat.le_of_ble_eq_true rfl) (fun h => by cases h) (fun Q1 X1 hQ hX => ?_)
  unfold W_J19_size at h
  refine kx_aload_n dJ19_size_0 rfl rfl ?_
  refine kW_gI dJ19_size_1 (kf1 fl_J19_20_J19) h (fun v1 h => ?_)
  refine kx_aload_n dJ19_size_4 rfl rfl ?_
  refine kW_gI dJ19_size_5 (kf1 fl_J19_24_J19) h (fun v2 h => ?_)
  refine kx_aload_n dJ19_size_8 rfl rfl ?_
  refine kW_gO dJ19_size_9 (kf1 fl_J19_3_J19) h (fun v3 h => ?_)
  obtain ⟨a4, rfl, hUa4⟩ := h
  have h := hUa4
  refine kW_len dJ19_size_12 h (fun v5 h => ?_)
  refine kx_callS dJ19_size_13 lk_J19_127 (kw_J19_sub h) rfl rfl (Nat.le_of_ble_eq_true rfl) (Nat.le_of_ble_eq_true rfl) (Nat.le_of_ble_eq_true rfl) (Nat.le_of_ble_eq_true rfl) (Nat.le_of_ble_eq_true rfl) (fun _ _ _ hx => kx_out rfl (hX _ _ _ hx)) (fun v_ σ7 hq => ?_)
  obtain ⟨v6, rfl, h⟩ := hq
  exact kx_iret dJ19_size_16 rfl (hQ _ _ ⟨_, rfl, h⟩)
set_option maxHeartbeats 8000000 in
theorem kw_J19_pollFirst {G : KG} {σ : KHp} {x0 : Nat} {Q : Option Nat → KHp → Prop} {X : String → Nat → KHp → Prop} (h : W_J19_pollFirst G σ x0 Q X) : kx_c G yJ19_pollFirst (ws_ yJ19_pollFirst cJ19_pollFirst 4 (Option.some (Jvm.ClassFile.FieldType.object "java/lang/Object"))) 2 0 0 [.ref (x0)] σ (fun rv σ' => ∃ r, rv = some (va_rf (r)) ∧ Q r σ') X := by
  refine kx_mk3 (ini := false) (by decide) (Nat.le_of_ble_eq_true rfl) (fun h => by cases h) (fun Q1 X1 hQ hX => ?_)
  unfold W_J19_pollFirst at h
  refine kx_aload_n dJ19_pollFirst_0 rfl rfl ?_
  refine kW_gO dJ19_pollFirst_1 (kf1 fl_J19_3_J19) h (fun v1 h => ?_)
  refine kx_dup dJ19_pollFirst_4 (va_cat _) ?_
  refine kx_astore_nO dJ19_pollFirst_5 rfl (Nat.le_of_ble_eq_true rfl) ?_
  refine kx_aload_n dJ19_pollFirst_6 rfl rfl ?_
  refine kW_gI dJ19_pollFirst_7 (kf1 fl_J19_24_J19) h (fun v2 h => ?_)
  refine kx_dup dJ19_pollFirst_10 rfl ?_
  refine kx_istore_n dJ19_pollFirst_11 rfl (Nat.le_of_ble_eq_true rfl) ?_
  refine kx_lwF [(0, .ref (x0)), (1, va_rf (v1)), (2, .int (v2))] (by cases v1 <;> exact ⟨rfl, rfl, rfl, trivial⟩) ?_
  refine kx_callS dJ19_pollFirst_12 lk_J19_103 (kw_J19_elementAt h) rfl rfl (Nat.le_of_ble_eq_true rfl) (Nat.le_of_ble_eq_true rfl) (Nat.le_of_ble_eq_true rfl) (Nat.le_of_ble_eq_true rfl) (Nat.le_of_ble_eq_true rfl) (fun _ _ _ hx => kx_out rfl (hX _ _ _ hx)) (fun v_ σ4 hq => ?_)
  obtain ⟨v3, rfl, h⟩ := hq
  refine kx_astore_nO dJ19_pollFirst_15 rfl (Nat.le_of_ble_eq_true rfl) ?_
  refine kx_aload_nO dJ19_pollFirst_16 rfl rfl ?_
  refine kx_ifnullO (tgt := 34) dJ19_pollFirst_17 (by decide) (fun c => ?_) (fun c => ?_)
  · have h := w_ift c h
    refine kx_aload_nO dJ19_pollFirst_34 rfl rfl ?_
    exact kx_aret dJ19_pollFirst_35 rfl (Or.inl ⟨_, rfl⟩) (va_rfs _) (hQ _ _ ⟨_, rfl, h⟩)
  · have h := w_iff c h
    refine kx_aload_nO dJ19_pollFirst_20 rfl rfl ?_
    refine kx_iload_n dJ19_pollFirst_21 rfl rfl ?_
    refine kx_null dJ19_pollFirst_22 ?_
    obtain ⟨a5, rfl, hUa5⟩ := h
    have h := hUa5
    refine kW_sO dJ19_pollFirst_23 h (fun σ6 h => ?_)
    refine kx_aload_n dJ19_pollFirst_24 rfl rfl ?_
    refine kx_iload_n dJ19_pollFirst_25 rfl rfl ?_
    refine kx_aload_n dJ19_pollFirst_26 rfl rfl ?_
    refine kW_len dJ19_pollFirst_27 h (fun v7 h => ?_)
    refine kx_callS dJ19_pollFirst_28 lk_J19_74 (kw_J19_inc h) rfl rfl (Nat.le_of_ble_eq_true rfl) (Nat.le_of_ble_eq_true rfl) (Nat.le_of_ble_eq_true rfl) (Nat.le_of_ble_eq_true rfl) (Nat.le_of_ble_eq_true rfl) (fun _ _ _ hx => kx_out rfl (hX _ _ _ hx)) (fun v_ σ9 hq => ?_)
    obtain ⟨v8, rfl, h⟩ := hq
    refine kW_p dJ19_pollFirst_31 (kp1 ⟨_, _, _, _, kc_J19, fl_J19_24_J19, Or.inl rfl, rfl, rfl⟩) h (fun σ10 h => ?_)
    refine kx_aload_nO dJ19_pollFirst_34 rfl rfl ?_
    exact kx_aret dJ19_pollFirst_35 rfl (Or.inl ⟨_, rfl⟩) (va_rfs _) (hQ _ _ ⟨_, rfl, h⟩)
set_option maxHeartbeats 8000000 in
theorem kw_J19_grow {G : KG} {bc bs : Nat} {σ : KHp} {x0 : Nat} {x1 : Int32} {Q : KHp → Prop} {X : String → Nat → KHp → Prop} (h : W_J19_grow G bc bs σ x0 x1 Q X) : kx_c G yJ19_grow (ws_ yJ19_grow cJ19_grow 9 (Option.none : Option Jvm.ClassFile.FieldType)) 4 bc bs [.ref (x0), .int (x1)] σ (fun rv σ' => rv = none ∧ Q σ') X := by
  refine kx_mk3 (ini := false) (by decide) (Nat.le_of_ble_eq_true rfl) (fun h => by cases h) (fun Q1 X1 hQ hX => ?_)
  unfold W_J19_grow at h
  refine kx_aload_n dJ19_grow_0 rfl rfl ?_
  refine kW_gO dJ19_grow_1 (kf1 fl_J19_3_J19) h (fun v1 h => ?_)
  obtain ⟨a2, rfl, hUa2⟩ := h
  have h := hUa2
  refine kW_len dJ19_grow_4 h (fun v3 h => ?_)
  refine kx_istore_n dJ19_grow_5 rfl (Nat.le_of_ble_eq_true rfl) ?_
  refine kx_iload_n dJ19_grow_6 rfl rfl ?_
  refine kx_bipush (v := 64) dJ19_grow_7 (by decide) ?_
  refine kW_jIa 21 [] h (fun v5 σ6 bcv5 bsv5 h => ?_) (fun k4 jk4 h => ?_)
  · skip
    refine kx_istore dJ19_grow_21 (Nat.le_of_ble_eq_true rfl) ?_
    refine kx_iload dJ19_grow_23 rfl ?_
    refine kx_iload_n dJ19_grow_25 rfl rfl ?_
    refine kW_jla 49 (fun v12 : Int32 => [(0, .ref (x0)), (2, .int (v3)), (3, .int (v12))]) h (fun v12 σ13 bcv12 bsv12 h => ?_) (fun k7 jk7 h => ?_)
    · skip
      refine kx_aload_n dJ19_grow_49 rfl rfl ?_
      refine kx_aload_n dJ19_grow_50 rfl rfl ?_
      refine kW_gO dJ19_grow_51 (kf1 fl_J19_3_J19) h (fun v14 h => ?_)
      refine kx_iload_n dJ19_grow_54 rfl rfl ?_
      obtain ⟨c17, c18, hc, hs, h⟩ := h
      refine kx_callS dJ19_grow_55 lk_J19_14 (kw_J13_copyOf_2 h) rfl rfl (Nat.le_of_ble_eq_true rfl) (Nat.le_of_ble_eq_true rfl) (Nat.le_of_ble_eq_true rfl) hc hs (fun _ _ _ hx => kx_out rfl (hX _ _ _ hx)) (fun v_ σ16 hq => ?_)
      obtain ⟨v15, rfl, h⟩ := hq
      refine kx_dup_x1 dJ19_grow_58 (va_cat _) rfl ?_
      refine kW_p dJ19_grow_59 (kp1 ⟨_, _, _, _, kc_J19, fl_J19_3_J19, Or.inl rfl, (by cases v15 <;> rfl), (by cases v15 <;> rfl)⟩) h (fun σ19 h => ?_)
      refine kx_astoreO dJ19_grow_62 (Nat.le_of_ble_eq_true rfl) ?_
      refine kx_aload_n dJ19_grow_64 rfl rfl ?_
      refine kW_gI dJ19_grow_65 (kf1 fl_J19_20_J19) h (fun v20 h => ?_)
      refine kx_aload_n dJ19_grow_68 rfl rfl ?_
      refine kW_gI dJ19_grow_69 (kf1 fl_J19_24_J19) h (fun v21 h => ?_)
      refine kx_icmp_lt (tgt := 96) dJ19_grow_72 (by decide) (fun c => ?_) (fun c => ?_)
      · have h := w_ift c h
        refine kx_iload_n dJ19_grow_96 rfl rfl ?_
        refine kx_iload_n dJ19_grow_97 rfl rfl ?_
        refine kx_isub dJ19_grow_98 ?_
        refine kx_istore dJ19_grow_99 (Nat.le_of_ble_eq_true rfl) ?_
        refine kx_lwF [(0, .ref (x0)), (2, .int (v3)), (5, va_rf (v15)), (6, .int ((v12 - v3)))] (by cases v15 <;> exact ⟨rfl, rfl, rfl, rfl, trivial⟩) ?_
        refine kx_aloadO dJ19_grow_101 rfl ?_
        refine kx_aload_n dJ19_grow_103 rfl rfl ?_
        refine kW_gI dJ19_grow_104 (kf1 fl_J19_24_J19) h (fun v22 h => ?_)
        refine kx_aloadO dJ19_grow_107 rfl ?_
        refine kx_aload_n dJ19_grow_109 rfl rfl ?_
        refine kW_gI dJ19_grow_110 (kf1 fl_J19_24_J19) h (fun v23 h => ?_)
        refine kx_iload dJ19_grow_113 rfl ?_
        refine kx_iadd dJ19_grow_115 ?_
        refine kx_iload_n dJ19_grow_116 rfl rfl ?_
        refine kx_aload_n dJ19_grow_117 rfl rfl ?_
        refine kW_gI dJ19_grow_118 (kf1 fl_J19_24_J19) h (fun v24 h => ?_)
        refine kx_isub dJ19_grow_121 ?_
        obtain ⟨a25, rfl, hUa25⟩ := h
        have h := hUa25
        refine kW_cpy dJ19_grow_122 ⟨q1582, q357, q356, q160⟩ (Nat.le_of_ble_eq_true rfl) (Nat.le_of_ble_eq_true rfl) h (fun σ26 h => ?_)
        refine kx_aload_n dJ19_grow_125 rfl rfl ?_
        refine kW_gI dJ19_grow_126 (kf1 fl_J19_24_J19) h (fun v27 h => ?_)
        refine kx_istore dJ19_grow_129 (Nat.le_of_ble_eq_true rfl) ?_
        refine kx_aload_n dJ19_grow_131 rfl rfl ?_
        refine kx_dup dJ19_grow_132 rfl ?_
        refine kW_gI dJ19_grow_133 (kf1 fl_J19_24_J19) h (fun v28 h => ?_)
        refine kx_iload dJ19_grow_136 rfl ?_
        refine kx_iadd dJ19_grow_138 ?_
        refine kx_dup_x1 dJ19_grow_139 rfl rfl ?_
        refine kW_p dJ19_grow_140 (kp1 ⟨_, _, _, _, kc_J19, fl_J19_24_J19, Or.inl rfl, rfl, rfl⟩) h (fun σ29 h => ?_)
        refine kx_istore dJ19_grow_143 (Nat.le_of_ble_eq_true rfl) ?_
        refine kx_lwF [(5, .ref (a25)), (7, .int (v27)), (8, .int ((v28 + (v12 - v3))))] ⟨rfl, rfl, rfl, trivial⟩ ?_
        refine loopW3_k (fun (σ : KHp) (bc145 bs145 : Nat) (l7 : Int32) => kx G (yJ19_grow.cls, cJ19_grow, 9, (Option.none : Option Jvm.ClassFile.FieldType), false, []) (4, bc, bs, Q1, X1) (bc145) (bs145) σ 145 (kF [(5, .ref (a25)), (7, .int (l7)), (8, .int ((v28 + (v12 - v3))))]) []) (fun kI145 hI145 σ bc145 bs145 l7 h => ?_) 9000 σ29 (bcv12 - c17) (bsv12 - c18) v27 h
        unfold WB_J19_grow_145 at h
        refine kx_iload dJ19_grow_145 rfl ?_
        refine kx_iload dJ19_grow_147 rfl ?_
        refine kx_icmp_ge (tgt := 164) dJ19_grow_149 (by decide) (fun c => ?_) (fun c => ?_)
        · have h := w_ift c h
          exact kx_vret dJ19_grow_164 rfl (hQ _ _ ⟨rfl, h⟩)
        · have h := w_iff c h
          refine kx_aload dJ19_grow_152 rfl ?_
          refine kx_iload dJ19_grow_154 rfl ?_
          refine kx_null dJ19_grow_156 ?_
          refine kW_sO dJ19_grow_157 h (fun σ146001 h => ?_)
          refine kx_iinc2 (v := 1) dJ19_grow_158 rfl (by decide) ?_
          refine kx_goto (tgt := 145) dJ19_grow_161 (by decide) ?_
          exact kx_lwF [(5, .ref (a25)), (7, .int ((l7 + (1 : Int32)))), (8, .int ((v28 + (v12 - v3))))] ⟨rfl, rfl, rfl, trivial⟩ (hI145 _ _ _ _ h)
      · have h := w_iff c h
        refine kx_aload_n dJ19_grow_75 rfl rfl ?_
        refine kW_gI dJ19_grow_76 (kf1 fl_J19_20_J19) h (fun v31 h => ?_)
        refine kx_aload_n dJ19_grow_79 rfl rfl ?_
        refine kW_gI dJ19_grow_80 (kf1 fl_J19_24_J19) h (fun v32 h => ?_)
        refine kx_icmp_ne (tgt := 164) dJ19_grow_83 (by decide) (fun c => ?_) (fun c => ?_)
        · have h := w_iff c h
          exact kx_vret dJ19_grow_164 rfl (hQ _ _ ⟨rfl, h⟩)
        · have h := w_ift c h
          refine kx_aloadO dJ19_grow_86 rfl ?_
          refine kx_aload_n dJ19_grow_88 rfl rfl ?_
          refine kW_gI dJ19_grow_89 (kf1 fl_J19_24_J19) h (fun v33 h => ?_)
          obtain ⟨a34, rfl, hUa34⟩ := h
          have h := hUa34
          refine kW_lO dJ19_grow_92 h (fun v35 h => ?_)
          refine kx_ifnullO (tgt := 164) dJ19_grow_93 (by decide) (fun c => ?_) (fun c => ?_)
          · have h := w_ift c h
            exact kx_vret dJ19_grow_164 rfl (hQ _ _ ⟨rfl, h⟩)
          · have h := w_iff c h
            refine kx_iload_n dJ19_grow_96 rfl rfl ?_
            refine kx_iload_n dJ19_grow_97 rfl rfl ?_
            refine kx_isub dJ19_grow_98 ?_
            refine kx_istore dJ19_grow_99 (Nat.le_of_ble_eq_true rfl) ?_
            refine kx_aload dJ19_grow_101 rfl ?_
            refine kx_aload_n dJ19_grow_103 rfl rfl ?_
            refine kW_gI dJ19_grow_104 (kf1 fl_J19_24_J19) h (fun v36 h => ?_)
            refine kx_aload dJ19_grow_107 rfl ?_
            refine kx_aload_n dJ19_grow_109 rfl rfl ?_
            refine kW_gI dJ19_grow_110 (kf1 fl_J19_24_J19) h (fun v37 h => ?_)
            refine kx_iload dJ19_grow_113 rfl ?_
            refine kx_iadd dJ19_grow_115 ?_
            refine kx_iload_n dJ19_grow_116 rfl rfl ?_
            refine kx_aload_n dJ19_grow_117 rfl rfl ?_
            refine kW_gI dJ19_grow_118 (kf1 fl_J19_24_J19) h (fun v38 h => ?_)
            refine kx_isub dJ19_grow_121 ?_
            refine kW_cpy dJ19_grow_122 ⟨q1582, q357, q356, q160⟩ (Nat.le_of_ble_eq_true rfl) (Nat.le_of_ble_eq_true rfl) h (fun σ39 h => ?_)
            refine kx_aload_n dJ19_grow_125 rfl rfl ?_
            refine kW_gI dJ19_grow_126 (kf1 fl_J19_24_J19) h (fun v40 h => ?_)
            refine kx_istore dJ19_grow_129 (Nat.le_of_ble_eq_true rfl) ?_
            refine kx_aload_n dJ19_grow_131 rfl rfl ?_
            refine kx_dup dJ19_grow_132 rfl ?_
            refine kW_gI dJ19_grow_133 (kf1 fl_J19_24_J19) h (fun v41 h => ?_)
            refine kx_iload dJ19_grow_136 rfl ?_
            refine kx_iadd dJ19_grow_138 ?_
            refine kx_dup_x1 dJ19_grow_139 rfl rfl ?_
            refine kW_p dJ19_grow_140 (kp1 ⟨_, _, _, _, kc_J19, fl_J19_24_J19, Or.inl rfl, rfl, rfl⟩) h (fun σ42 h => ?_)
            refine kx_istore dJ19_grow_143 (Nat.le_of_ble_eq_true rfl) ?_
            refine kx_lwF [(5, .ref (a34)), (7, .int (v40)), (8, .int ((v41 + (v12 - v3))))] ⟨rfl, rfl, rfl, trivial⟩ ?_
            refine loopW3_k (fun (σ : KHp) (bc145 bs145 : Nat) (l7 : Int32) => kx G (yJ19_grow.cls, cJ19_grow, 9, (Option.none : Option Jvm.ClassFile.FieldType), false, []) (4, bc, bs, Q1, X1) (bc145) (bs145) σ 145 (kF [(5, .ref (a34)), (7, .int (l7)), (8, .int ((v41 + (v12 - v3))))]) []) (fun kI145 hI145 σ bc145 bs145 l7 h => ?_) 9000 σ42 (bcv12 - c17) (bsv12 - c18) v40 h
            unfold WB_J19_grow_145 at h
            refine kx_iload dJ19_grow_145 rfl ?_
            refine kx_iload dJ19_grow_147 rfl ?_
            refine kx_icmp_ge (tgt := 164) dJ19_grow_149 (by decide) (fun c => ?_) (fun c => ?_)
            · have h := w_ift c h
              exact kx_vret dJ19_grow_164 rfl (hQ _ _ ⟨rfl, h⟩)
            · have h := w_iff c h
              refine kx_aload dJ19_grow_152 rfl ?_
              refine kx_iload dJ19_grow_154 rfl ?_
              refine kx_null dJ19_grow_156 ?_
              refine kW_sO dJ19_grow_157 h (fun σ146001 h => ?_)
              refine kx_iinc2 (v := 1) dJ19_grow_158 rfl (by decide) ?_
              refine kx_goto (tgt := 145) dJ19_grow_161 (by decide) ?_
              exact kx_lwF [(5, .ref (a34)), (7, .int ((l7 + (1 : Int32)))), (8, .int ((v41 + (v12 - v3))))] ⟨rfl, rfl, rfl, trivial⟩ (hI145 _ _ _ _ h)
    · skip
      refine kx_icmp_lt (tgt := 41) dJ19_grow_26 (by decide) (fun c => ?_) (fun c => ?_)
      · have h := w_ift c h
        refine kx_aload_n dJ19_grow_41 rfl rfl ?_
        refine kx_iload_n dJ19_grow_42 rfl rfl ?_
        refine kx_iload dJ19_grow_43 rfl ?_
        obtain ⟨hr, h⟩ := h
        refine kx_callV dJ19_grow_45 lk_J19_10 (kw_J19_newCapacity h) rfl (wR_rc hr rfl) rfl (Nat.le_of_ble_eq_true rfl) (Nat.le_of_ble_eq_true rfl) (Nat.le_of_ble_eq_true rfl) (Nat.le_of_ble_eq_true rfl) (Nat.le_of_ble_eq_true rfl) (fun _ _ _ hx => kx_out rfl (hX _ _ _ hx)) (fun v_ σ9 hq => ?_)
        obtain ⟨v8, rfl, h⟩ := hq
        refine kx_istore_n dJ19_grow_48 rfl (Nat.le_of_ble_eq_true rfl) ?_
        exact kx_lwF [(0, .ref (x0)), (2, .int (v3)), (3, .int (v8))] ⟨rfl, rfl, rfl, trivial⟩ (jk7 v8 _ _ _ h)
      · have h := w_iff c h
        refine kx_iload_n dJ19_grow_29 rfl rfl ?_
        refine kx_iload dJ19_grow_30 rfl ?_
        refine kx_iadd dJ19_grow_32 ?_
        refine kx_dup dJ19_grow_33 rfl ?_
        refine kx_istore_n dJ19_grow_34 rfl (Nat.le_of_ble_eq_true rfl) ?_
        refine kx_ldci dJ19_grow_35 q1559 ?_
        refine kx_isub dJ19_grow_37 ?_
        refine kx_if_le (tgt := 49) dJ19_grow_38 (by decide) (fun c => ?_) (fun c => ?_)
        · have h := w_ift c h
          exact kx_lwF [(0, .ref (x0)), (2, .int (v3)), (3, .int ((v3 + v5)))] ⟨rfl, rfl, rfl, trivial⟩ (jk7 (v3 + v5) _ _ _ h)
        · have h := w_iff c h
          refine kx_aload_n dJ19_grow_41 rfl rfl ?_
          refine kx_iload_n dJ19_grow_42 rfl rfl ?_
          refine kx_iload dJ19_grow_43 rfl ?_
          obtain ⟨hr, h⟩ := h
          refine kx_callV dJ19_grow_45 lk_J19_10 (kw_J19_newCapacity h) rfl (wR_rc hr rfl) rfl (Nat.le_of_ble_eq_true rfl) (Nat.le_of_ble_eq_true rfl) (Nat.le_of_ble_eq_true rfl) (Nat.le_of_ble_eq_true rfl) (Nat.le_of_ble_eq_true rfl) (fun _ _ _ hx => kx_out rfl (hX _ _ _ hx)) (fun v_ σ11 hq => ?_)
          obtain ⟨v10, rfl, h⟩ := hq
          refine kx_istore_n dJ19_grow_48 rfl (Nat.le_of_ble_eq_true rfl) ?_
          exact kx_lwF [(0, .ref (x0)), (2, .int (v3)), (3, .int (v10))] ⟨rfl, rfl, rfl, trivial⟩ (jk7 v10 _ _ _ h)
  · skip
    refine kx_icmp_ge (tgt := 18) dJ19_grow_9 (by decide) (fun c => ?_) (fun c => ?_)
    · have h := w_ift c h
      refine kx_iload_n dJ19_grow_18 rfl rfl ?_
      refine kx_iconst (v := 1) dJ19_grow_19 (by decide) ?_
      refine kx_ishr dJ19_grow_20 ?_
      exact jk4 _ _ _ _ h
    · have h := w_iff c h
      refine kx_iload_n dJ19_grow_12 rfl rfl ?_
      refine kx_iconst (v := 2) dJ19_grow_13 (by decide) ?_
      refine kx_iadd dJ19_grow_14 ?_
      refine kx_goto (tgt := 21) dJ19_grow_15 (by decide) ?_
      exact jk4 _ _ _ _ h
set_option maxHeartbeats 8000000 in
theorem kw_J19_clear {G : KG} {σ : KHp} {x0 : Nat} {Q : KHp → Prop} {X : String → Nat → KHp → Prop} (h : W_J19_clear G σ x0 Q X) : kx_c G yJ19_clear (ws_ yJ19_clear cJ19_clear 1 (Option.none : Option Jvm.ClassFile.FieldType)) 2 0 0 [.ref (x0)] σ (fun rv σ' => rv = none ∧ Q σ') X := by
  refine kx_mk3 (ini := false) (by decide) (Nat.le_of_ble_eq_true rfl) (fun h => by cases h) (fun Q1 X1 hQ hX => ?_)
  unfold W_J19_clear at h
  refine kx_aload_n dJ19_clear_0 rfl rfl ?_
  refine kW_gO dJ19_clear_1 (kf1 fl_J19_3_J19) h (fun v1 h => ?_)
  refine kx_aload_n dJ19_clear_4 rfl rfl ?_
  refine kW_gI dJ19_clear_5 (kf1 fl_J19_24_J19) h (fun v2 h => ?_)
  refine kx_aload_n dJ19_clear_8 rfl rfl ?_
  refine kW_gI dJ19_clear_9 (kf1 fl_J19_20_J19) h (fun v3 h => ?_)
  refine kx_callS dJ19_clear_12 lk_J19_181 (kw_J19_circularClear h) rfl rfl (Nat.le_of_ble_eq_true rfl) (Nat.le_of_ble_eq_true rfl) (Nat.le_of_ble_eq_true rfl) (Nat.le_of_ble_eq_true rfl) (Nat.le_of_ble_eq_true rfl) (fun _ _ _ hx => kx_out rfl (hX _ _ _ hx)) (fun v_ σ5 hq => ?_)
  obtain ⟨rfl, h⟩ := hq
  refine kx_aload_n dJ19_clear_15 rfl rfl ?_
  refine kx_aload_n dJ19_clear_16 rfl rfl ?_
  refine kx_iconst (v := 0) dJ19_clear_17 (by decide) ?_
  refine kx_dup_x1 dJ19_clear_18 rfl rfl ?_
  refine kW_p dJ19_clear_19 (kp1 ⟨_, _, _, _, kc_J19, fl_J19_20_J19, Or.inl rfl, rfl, rfl⟩) h (fun σ6 h => ?_)
  refine kW_p dJ19_clear_22 (kp1 ⟨_, _, _, _, kc_J19, fl_J19_24_J19, Or.inl rfl, rfl, rfl⟩) h (fun σ7 h => ?_)
  exact kx_vret dJ19_clear_25 rfl (hQ _ _ ⟨rfl, h⟩)
set_option maxHeartbeats 8000000 in
theorem kw_J19_pollLast {G : KG} {σ : KHp} {x0 : Nat} {Q : Option Nat → KHp → Prop} {X : String → Nat → KHp → Prop} (h : W_J19_pollLast G σ x0 Q X) : kx_c G yJ19_pollLast (ws_ yJ19_pollLast cJ19_pollLast 4 (Option.some (Jvm.ClassFile.FieldType.object "java/lang/Object"))) 2 0 0 [.ref (x0)] σ (fun rv σ' => ∃ r, rv = some (va_rf (r)) ∧ Q r σ') X := by
  refine kx_mk3 (ini := false) (by decide) (Nat.le_of_ble_eq_true rfl) (fun h => by cases h) (fun Q1 X1 hQ hX => ?_)
  unfold W_J19_pollLast at h
  refine kx_aload_n dJ19_pollLast_0 rfl rfl ?_
  refine kW_gO dJ19_pollLast_1 (kf1 fl_J19_3_J19) h (fun v1 h => ?_)
  refine kx_dup dJ19_pollLast_4 (va_cat _) ?_
  refine kx_astore_nO dJ19_pollLast_5 rfl (Nat.le_of_ble_eq_true rfl) ?_
  refine kx_aload_n dJ19_pollLast_6 rfl rfl ?_
  refine kW_gI dJ19_pollLast_7 (kf1 fl_J19_20_J19) h (fun v2 h => ?_)
  refine kx_aload_nO dJ19_pollLast_10 rfl rfl ?_
  obtain ⟨a3, rfl, hUa3⟩ := h
  have h := hUa3
  refine kW_len dJ19_pollLast_11 h (fun v4 h => ?_)
  refine kx_callS dJ19_pollLast_12 lk_J19_68 (kw_J19_dec h) rfl rfl (Nat.le_of_ble_eq_true rfl) (Nat.le_of_ble_eq_true rfl) (Nat.le_of_ble_eq_true rfl) (Nat.le_of_ble_eq_true rfl) (Nat.le_of_ble_eq_true rfl) (fun _ _ _ hx => kx_out rfl (hX _ _ _ hx)) (fun v_ σ6 hq => ?_)
  obtain ⟨v5, rfl, h⟩ := hq
  refine kx_dup dJ19_pollLast_15 rfl ?_
  refine kx_istore_n dJ19_pollLast_16 rfl (Nat.le_of_ble_eq_true rfl) ?_
  refine kx_callS dJ19_pollLast_17 lk_J19_103 (kw_J19_elementAt h) rfl rfl (Nat.le_of_ble_eq_true rfl) (Nat.le_of_ble_eq_true rfl) (Nat.le_of_ble_eq_true rfl) (Nat.le_of_ble_eq_true rfl) (Nat.le_of_ble_eq_true rfl) (fun _ _ _ hx => kx_out rfl (hX _ _ _ hx)) (fun v_ σ8 hq => ?_)
  obtain ⟨v7, rfl, h⟩ := hq
  refine kx_astore_nO dJ19_pollLast_20 rfl (Nat.le_of_ble_eq_true rfl) ?_
  refine kx_aload_nO dJ19_pollLast_21 rfl rfl ?_
  refine kx_ifnullO (tgt := 34) dJ19_pollLast_22 (by decide) (fun c => ?_) (fun c => ?_)
  · have h := w_ift c h
    refine kx_aload_nO dJ19_pollLast_34 rfl rfl ?_
    exact kx_aret dJ19_pollLast_35 rfl (Or.inl ⟨_, rfl⟩) (va_rfs _) (hQ _ _ ⟨_, rfl, h⟩)
  · have h := w_iff c h
    refine kx_aload_n dJ19_pollLast_25 rfl rfl ?_
    refine kx_aload_n dJ19_pollLast_26 rfl rfl ?_
    refine kx_iload_n dJ19_pollLast_27 rfl rfl ?_
    refine kx_dup_x1 dJ19_pollLast_28 rfl rfl ?_
    refine kW_p dJ19_pollLast_29 (kp1 ⟨_, _, _, _, kc_J19, fl_J19_20_J19, Or.inl rfl, rfl, rfl⟩) h (fun σ9 h => ?_)
    refine kx_null dJ19_pollLast_32 ?_
    refine kW_sO dJ19_pollLast_33 h (fun σ10 h => ?_)
    refine kx_aload_nO dJ19_pollLast_34 rfl rfl ?_
    exact kx_aret dJ19_pollLast_35 rfl (Or.inl ⟨_, rfl⟩) (va_rfs _) (hQ _ _ ⟨_, rfl, h⟩)
set_option maxHeartbeats 8000000 in
theorem kw_J30_next {G : KG} {σ : KHp} {x0 : Nat} {Q : Option Nat → KHp → Prop} {X : String → Nat → KHp → Prop} (h : W_J30_next G σ x0 Q X) : kx_c G yJ30_next (ws_ yJ30_next cJ30_next 1 (Option.some (Jvm.ClassFile.FieldType.object "java/lang/Object"))) 2 0 0 [.ref (x0)] σ (fun rv σ' => ∃ r, rv = some (va_rf (r)) ∧ Q r σ') X := by
  refine kx_mk3 (ini := false) (by decide) (Nat.le_of_ble_eq_true rfl) (fun h => by cases h) (fun Q1 X1 hQ hX => ?_)
  unfold W_J30_next at h
  refine kx_aload_n dJ30_next_0 rfl rfl ?_
  obtain ⟨hr, h⟩ := h
  refine kx_callV dJ30_next_1 lk_J30_36 (kw_J30_checkForComodification h) rfl (wR_rc hr rfl) rfl (Nat.le_of_ble_eq_true rfl) (Nat.le_of_ble_eq_true rfl) (Nat.le_of_ble_eq_true rfl) (Nat.le_of_ble_eq_true rfl) (Nat.le_of_ble_eq_true rfl) (fun _ _ _ hx => kx_out rfl (hX _ _ _ hx)) (fun v_ σ2 hq => ?_)
  obtain ⟨rfl, h⟩ := hq
  refine kx_aload_n dJ30_next_4 rfl rfl ?_
  obtain ⟨hr, h⟩ := h
  refine kx_callV dJ30_next_5 lk_J30_39 (kw_J30_hasNext h) rfl (wR_rc hr rfl) rfl (Nat.le_of_ble_eq_true rfl) (Nat.le_of_ble_eq_true rfl) (Nat.le_of_ble_eq_true rfl) (Nat.le_of_ble_eq_true rfl) (Nat.le_of_ble_eq_true rfl) (fun _ _ _ hx => kx_out rfl (hX _ _ _ hx)) (fun v_ σ4 hq => ?_)
  obtain ⟨v3, rfl, h⟩ := hq
  refine kx_if_ne (tgt := 19) dJ30_next_8 (by decide) (fun c => ?_) (fun c => ?_)
  · have h := w_iff c h
    refine kx_aload_n dJ30_next_19 rfl rfl ?_
    refine kx_aload_n dJ30_next_20 rfl rfl ?_
    refine kW_gO dJ30_next_21 (kf1 fl_J30_29_J30) h (fun v5 h => ?_)
    refine kW_p dJ30_next_24 (kp1 ⟨_, _, _, _, kc_J30, fl_J30_46_J30, Or.inl rfl, (by cases v5 <;> rfl), (by cases v5 <;> rfl)⟩) h (fun σ6 h => ?_)
    refine kx_aload_n dJ30_next_27 rfl rfl ?_
    refine kx_aload_n dJ30_next_28 rfl rfl ?_
    refine kW_gO dJ30_next_29 (kf1 fl_J30_29_J30) h (fun v7 h => ?_)
    obtain ⟨a8, rfl, hUa8⟩ := h
    have h := hUa8
    refine kW_gO dJ30_next_32 (kf1 fl_J30_49_J23) h (fun v9 h => ?_)
    refine kW_p dJ30_next_35 (kp1 ⟨_, _, _, _, kc_J30, fl_J30_29_J30, Or.inl rfl, (by cases v9 <;> rfl), (by cases v9 <;> rfl)⟩) h (fun σ10 h => ?_)
    refine kx_aload_n dJ30_next_38 rfl rfl ?_
    refine kx_dup dJ30_next_39 rfl ?_
    refine kW_gI dJ30_next_40 (kf1 fl_J30_33_J30) h (fun v11 h => ?_)
    refine kx_iconst (v := 1) dJ30_next_43 (by decide) ?_
    refine kx_iadd dJ30_next_44 ?_
    refine kW_p dJ30_next_45 (kp1 ⟨_, _, _, _, kc_J30, fl_J30_33_J30, Or.inl rfl, rfl, rfl⟩) h (fun σ12 h => ?_)
    refine kx_aload_n dJ30_next_48 rfl rfl ?_
    refine kW_gO dJ30_next_49 (kf1 fl_J30_46_J30) h (fun v13 h => ?_)
    obtain ⟨a14, rfl, hUa14⟩ := h
    have h := hUa14
    refine kW_gO dJ30_next_52 (kf1 fl_J30_52_J23) h (fun v15 h => ?_)
    exact kx_aret dJ30_next_55 rfl (Or.inl ⟨_, rfl⟩) (va_rfs _) (hQ _ _ ⟨_, rfl, h⟩)
  · have h := w_ift c h
    exact h.elim
set_option maxHeartbeats 8000000 in
theorem kw_J31_init {G : KG} {σ : KHp} {x0 : Nat} {x1 : Option Nat} {Q : KHp → Prop} {X : String → Nat → KHp → Prop} (h : W_J31_init G σ x0 x1 Q X) : kx_c G yJ31_init (ws_ yJ31_init cJ31_init 2 (Option.none : Option Jvm.ClassFile.FieldType)) 3 0 0 [.ref (x0), va_rf (x1)] σ (fun rv σ' => rv = none ∧ Q σ') X := by
  refine kx_mk3 (ini := true) (by decide) (by cases x1 <;> exact Nat.le_of_ble_eq_true rfl) (fun _ => rfl) (fun Q1 X1 hQ hX => ?_)
  unfold W_J31_init at h
  refine kx_lwF [(0, .ref x0), (1, va_rf (x1))] (by cases x1 <;> exact ⟨rfl, rfl, trivial⟩) ?_
  refine kx_aload_n dJ31_init_0 rfl rfl ?_
  refine kx_aload_nO dJ31_init_1 rfl rfl ?_
  refine kW_p dJ31_init_2 (kp1 ⟨_, _, _, _, kc_J31, fl_J31_1_J31, Or.inr ⟨rfl, rfl, q1929⟩, (by cases x1 <;> rfl), (by cases x1 <;> rfl)⟩) h (fun σ1 h => ?_)
  refine kx_aload_n dJ31_init_5 rfl rfl ?_
  refine kx_oinit dJ31_init_6 q1924 q206 q207 (Nat.le_of_ble_eq_true rfl) (Nat.le_of_ble_eq_true rfl) ?_
  refine kx_aload_n dJ31_init_9 rfl rfl ?_
  refine kx_aload_n dJ31_init_10 rfl rfl ?_
  refine kW_gO dJ31_init_11 (kf1 fl_J31_1_J31) h (fun v2 h => ?_)
  obtain ⟨a3, rfl, hUa3⟩ := h
  have h := hUa3
  obtain ⟨hr, h⟩ := h
  refine kx_callV dJ31_init_14 lk_J31_13 (kw_J19_size h) rfl (wR_rc hr rfl) rfl (Nat.le_of_ble_eq_true rfl) (Nat.le_of_ble_eq_true rfl) (Nat.le_of_ble_eq_true rfl) (Nat.le_of_ble_eq_true rfl) (Nat.le_of_ble_eq_true rfl) (fun _ _ _ hx => kx_out rfl (hX _ _ _ hx)) (fun v_ σ5 hq => ?_)
  obtain ⟨v4, rfl, h⟩ := hq
  refine kW_p dJ31_init_17 (kp1 ⟨_, _, _, _, kc_J31, fl_J31_19_J31, Or.inl rfl, rfl, rfl⟩) h (fun σ6 h => ?_)
  refine kx_aload_n dJ31_init_20 rfl rfl ?_
  refine kx_iconst (v := -1) dJ31_init_21 (by decide) ?_
  refine kW_p dJ31_init_22 (kp1 ⟨_, _, _, _, kc_J31, fl_J31_23_J31, Or.inl rfl, rfl, rfl⟩) h (fun σ7 h => ?_)
  refine kx_aload_n dJ31_init_25 rfl rfl ?_
  refine kx_aload_nO dJ31_init_26 rfl rfl ?_
  obtain ⟨a8, rfl, hUa8⟩ := h
  have h := hUa8
  refine kW_gI dJ31_init_27 (kf1 fl_J31_26_J19) h (fun v9 h => ?_)
  refine kW_p dJ31_init_30 (kp1 ⟨_, _, _, _, kc_J31, fl_J31_29_J31, Or.inl rfl, rfl, rfl⟩) h (fun σ10 h => ?_)
  exact kx_vret dJ31_init_33 rfl (hQ _ _ ⟨rfl, h⟩)
set_option maxHeartbeats 8000000 in
theorem kw_X1_memoryCount {G : KG} {σ : KHp} {x0 : Nat} {Q : Int32 → KHp → Prop} {X : String → Nat → KHp → Prop} (h : W_X1_memoryCount G σ x0 Q X) : kx_c G yX1_memoryCount (ws_ yX1_memoryCount cX1_memoryCount 1 (Option.some Jvm.ClassFile.FieldType.int)) 3 0 0 [.ref (x0)] σ (fun rv σ' => ∃ r, rv = some (.int (r)) ∧ Q r σ') X := by
  refine kx_mk3 (ini := false) rfl (Nat.le_of_ble_eq_true rfl) (fun h => by cases h) (fun Q1 X1 hQ hX => ?_)
  unfold W_X1_memoryCount at h
  refine kx_aload_n dX1_memoryCount_0 rfl rfl ?_
  refine kW_gO dX1_memoryCount_1 (kf1 fl_X1_103_X1) h (fun v1 h => ?_)
  obtain ⟨a2, rfl, hUa2⟩ := h
  have h := hUa2
  refine kW_gO dX1_memoryCount_4 (kf1 fl_X1_444_X2) h (fun v3 h => ?_)
  obtain ⟨a4, rfl, hUa4⟩ := h
  have h := hUa4
  obtain ⟨hr, h⟩ := h
  refine kx_callV dX1_memoryCount_7 lk_X1_147 (kw_J19_size h) rfl (wR_rc hr rfl) rfl (Nat.le_of_ble_eq_true rfl) (Nat.le_of_ble_eq_true rfl) (Nat.le_of_ble_eq_true rfl) (Nat.le_of_ble_eq_true rfl) (Nat.le_of_ble_eq_true rfl) (fun _ _ _ hx => kx_out rfl (hX _ _ _ hx)) (fun v_ σ6 hq => ?_)
  obtain ⟨v5, rfl, h⟩ := hq
  exact kx_iret dX1_memoryCount_10 rfl (hQ _ _ ⟨_, rfl, h⟩)
set_option maxHeartbeats 8000000 in
theorem kw_X1_totalMean {G : KG} {σ : KHp} {x0 : Nat} {Q : UInt32 → KHp → Prop} {X : String → Nat → KHp → Prop} (h : W_X1_totalMean G σ x0 Q X) : kx_c G yX1_totalMean (ws_ yX1_totalMean cX1_totalMean 4 (Option.some Jvm.ClassFile.FieldType.float)) 4 0 0 [.ref (x0)] σ (fun rv σ' => ∃ r, rv = some (.float (r)) ∧ Q r σ') X := by
  refine kx_mk3 (ini := false) rfl (Nat.le_of_ble_eq_true rfl) (fun h => by cases h) (fun Q1 X1 hQ hX => ?_)
  unfold W_X1_totalMean at h
  refine kx_fconst0 dX1_totalMean_0 ?_
  refine kx_fstore_n dX1_totalMean_1 rfl (Nat.le_of_ble_eq_true rfl) ?_
  refine kx_iconst (v := 0) dX1_totalMean_2 (by decide) ?_
  refine kx_istore_n dX1_totalMean_3 rfl (Nat.le_of_ble_eq_true rfl) ?_
  refine kx_lwF [(0, .ref (x0)), (1, .float (FP.fconst0)), (2, .int ((0 : Int32)))] ⟨rfl, rfl, rfl, trivial⟩ ?_
  refine loopW2_k (fun (σ : KHp) (l1 : UInt32) (l2 : Int32) => kx G (yX1_totalMean.cls, cX1_totalMean, 4, (Option.some Jvm.ClassFile.FieldType.float), false, []) (4, 0, 0, Q1, X1) (0) (0) σ 4 (kF [(0, .ref (x0)), (1, .float (l1)), (2, .int (l2))]) []) (fun kI4 hI4 σ l1 l2 h => ?_) 9000 σ FP.fconst0 (0 : Int32) h
  unfold WB_X1_totalMean_4 at h
  refine kx_iload_n dX1_totalMean_4 rfl rfl ?_
  refine kx_aload_n dX1_totalMean_5 rfl rfl ?_
  refine kW_gO dX1_totalMean_6 (kf1 fl_X1_103_X1) h (fun v5001 h => ?_)
  obtain ⟨a5002, rfl, hUa5002⟩ := h
  have h := hUa5002
  refine kW_gO dX1_totalMean_9 (kf1 fl_X1_176_X2) h (fun v5003 h => ?_)
  obtain ⟨a5004, rfl, hUa5004⟩ := h
  have h := hUa5004
  obtain ⟨hr, h⟩ := h
  refine kx_callV dX1_totalMean_12 lk_X1_180 (kw_J2_size h) rfl (wR_rc hr rfl) rfl (Nat.le_of_ble_eq_true rfl) (Nat.le_of_ble_eq_true rfl) (Nat.le_of_ble_eq_true rfl) (Nat.le_of_ble_eq_true rfl) (Nat.le_of_ble_eq_true rfl) (fun _ _ _ hx => kx_out rfl (hX _ _ _ hx)) (fun v_ σ5006 hq => ?_)
  obtain ⟨v5005, rfl, h⟩ := hq
  refine kx_icmp_ge (tgt := 62) dX1_totalMean_15 (by decide) (fun c => ?_) (fun c => ?_)
  · have h := w_ift c h
    refine kx_fload_n dX1_totalMean_62 rfl rfl ?_
    exact kx_fret dX1_totalMean_63 rfl (hQ _ _ ⟨_, rfl, h⟩)
  · have h := w_iff c h
    refine kx_aload_n dX1_totalMean_18 rfl rfl ?_
    refine kW_gO dX1_totalMean_19 (kf1 fl_X1_103_X1) h (fun v5007 h => ?_)
    obtain ⟨a5008, rfl, hUa5008⟩ := h
    have h := hUa5008
    refine kW_gO dX1_totalMean_22 (kf1 fl_X1_176_X2) h (fun v5009 h => ?_)
    refine kx_iload_n dX1_totalMean_25 rfl rfl ?_
    obtain ⟨a5010, rfl, hUa5010⟩ := h
    have h := hUa5010
    obtain ⟨hr, h⟩ := h
    refine kx_callV dX1_totalMean_26 lk_X1_245 (kw_J2_get h) rfl (wR_rc hr rfl) rfl (Nat.le_of_ble_eq_true rfl) (Nat.le_of_ble_eq_true rfl) (Nat.le_of_ble_eq_true rfl) (Nat.le_of_ble_eq_true rfl) (Nat.le_of_ble_eq_true rfl) (fun _ _ _ hx => kx_out rfl (hX _ _ _ hx)) (fun v_ σ5012 hq => ?_)
    obtain ⟨v5011, rfl, h⟩ := hq
    obtain ⟨a5013, rfl, hUa5013⟩ := h
    have h := hUa5013
    obtain ⟨⟨tc, fc, hr⟩, h⟩ := h
    refine kx_castS dX1_totalMean_29 hr rfl q1943 ?_
    refine kx_astore_n dX1_totalMean_32 rfl (Nat.le_of_ble_eq_true rfl) ?_
    refine kx_aload_n dX1_totalMean_33 rfl rfl ?_
    refine kW_gI dX1_totalMean_34 (kf1 fl_X1_311_X5) h (fun v5014 h => ?_)
    refine kW_jl 56 (fun v5021 : UInt32 => [(0, .ref (x0)), (1, .float (v5021)), (2, .int (l2))]) h (fun v5021 σ5022 h => ?_) (fun k5015 jk5015 h => ?_)
    · skip
      refine kx_iinc2 (v := 1) dX1_totalMean_56 rfl (by decide) ?_
      refine kx_goto (tgt := 4) dX1_totalMean_59 (by decide) ?_
      exact kx_lwF [(0, .ref (x0)), (1, .float (v5021)), (2, .int ((l2 + (1 : Int32))))] ⟨rfl, rfl, rfl, trivial⟩ (hI4 _ _ _ h)
    · skip
      refine kx_if_ne (tgt := 56) dX1_totalMean_37 (by decide) (fun c => ?_) (fun c => ?_)
      · have h := w_iff c h
        exact kx_lwF [(0, .ref (x0)), (1, .float (l1)), (2, .int (l2))] ⟨rfl, rfl, rfl, trivial⟩ (jk5015 l1 _ h)
      · have h := w_ift c h
        refine kx_aload_n dX1_totalMean_40 rfl rfl ?_
        refine kW_gI dX1_totalMean_41 (kf1 fl_X1_325_X5) h (fun v5016 h => ?_)
        refine kx_if_le (tgt := 56) dX1_totalMean_44 (by decide) (fun c => ?_) (fun c => ?_)
        · have h := w_ift c h
          exact kx_lwF [(0, .ref (x0)), (1, .float (l1)), (2, .int (l2))] ⟨rfl, rfl, rfl, trivial⟩ (jk5015 l1 _ h)
        · have h := w_iff c h
          refine kx_fload_n dX1_totalMean_47 rfl rfl ?_
          refine kx_aload_n dX1_totalMean_48 rfl rfl ?_
          refine kW_gO dX1_totalMean_49 (kf1 fl_X1_340_X5) h (fun v5017 h => ?_)
          refine kx_iconst (v := 1) dX1_totalMean_52 (by decide) ?_
          obtain ⟨a5018, rfl, hUa5018⟩ := h
          have h := hUa5018
          refine kW_lF dX1_totalMean_53 h (fun v5019 h => ?_)
          refine kW_fadd dX1_totalMean_54 h (fun v5020 h => ?_)
          refine kx_fstore_n dX1_totalMean_55 rfl (Nat.le_of_ble_eq_true rfl) ?_
          exact kx_lwF [(0, .ref (x0)), (1, .float (v5020)), (2, .int (l2))] ⟨rfl, rfl, rfl, trivial⟩ (jk5015 v5020 _ h)
set_option maxHeartbeats 8000000 in
theorem kw_X1_undoCount {G : KG} {σ : KHp} {x0 : Nat} {Q : Int32 → KHp → Prop} {X : String → Nat → KHp → Prop} (h : W_X1_undoCount G σ x0 Q X) : kx_c G yX1_undoCount (ws_ yX1_undoCount cX1_undoCount 1 (Option.some Jvm.ClassFile.FieldType.int)) 3 0 0 [.ref (x0)] σ (fun rv σ' => ∃ r, rv = some (.int (r)) ∧ Q r σ') X := by
  refine kx_mk3 (ini := false) rfl (Nat.le_of_ble_eq_true rfl) (fun h => by cases h) (fun Q1 X1 hQ hX => ?_)
  unfold W_X1_undoCount at h
  refine kx_aload_n dX1_undoCount_0 rfl rfl ?_
  refine kW_gO dX1_undoCount_1 (kf1 fl_X1_110_X1) h (fun v1 h => ?_)
  obtain ⟨a2, rfl, hUa2⟩ := h
  have h := hUa2
  obtain ⟨hr, h⟩ := h
  refine kx_callV dX1_undoCount_4 lk_X1_147 (kw_J19_size h) rfl (wR_rc hr rfl) rfl (Nat.le_of_ble_eq_true rfl) (Nat.le_of_ble_eq_true rfl) (Nat.le_of_ble_eq_true rfl) (Nat.le_of_ble_eq_true rfl) (Nat.le_of_ble_eq_true rfl) (fun _ _ _ hx => kx_out rfl (hX _ _ _ hx)) (fun v_ σ4 hq => ?_)
  obtain ⟨v3, rfl, h⟩ := hq
  exact kx_iret dX1_undoCount_7 rfl (hQ _ _ ⟨_, rfl, h⟩)
set_option maxHeartbeats 8000000 in
theorem kw_X1_append {G : KG} {bc bs : Nat} {σ : KHp} {x0 : Nat} {x1 : Int32} {x2 : Int32} {x3 : Int32} {x4 : Int32} {x5 : Int32} {Q : Int32 → KHp → Prop} {X : String → Nat → KHp → Prop} (h : W_X1_append G bc bs σ x0 x1 x2 x3 x4 x5 Q X) : kx_c G yX1_append (ws_ yX1_append cX1_append 6 (Option.some Jvm.ClassFile.FieldType.int)) 9 bc bs [.ref (x0), .int (x1), .int (x2), .int (x3), .int (x4), .int (x5)] σ (fun rv σ' => ∃ r, rv = some (.int (r)) ∧ Q r σ') X := by
  refine kx_mk3 (ini := false) rfl (Nat.le_of_ble_eq_true rfl) (fun h => by cases h) (fun Q1 X1 hQ hX => ?_)
  unfold W_X1_append at h
  refine kx_aload_n dX1_append_0 rfl rfl ?_
  refine kW_gI dX1_append_1 (kf1 fl_X1_129_X1) h (fun v1 h => ?_)
  refine kx_bipush (v := 20) dX1_append_4 (by decide) ?_
  refine kx_iadd dX1_append_6 ?_
  refine kx_sipush (v := 1000) dX1_append_7 (by decide) ?_
  refine kW_jIa 18 [] h (fun v3 σ4 bcv3 bsv3 h => ?_) (fun k2 jk2 h => ?_)
  · skip
    obtain ⟨c7, c8, hc, hs, h⟩ := h
    refine kx_callS dX1_append_18 lk_X1_132 (kw_X1_requireState h) rfl rfl (Nat.le_of_ble_eq_true rfl) (Nat.le_of_ble_eq_true rfl) (Nat.le_of_ble_eq_true rfl) hc hs (fun _ _ _ hx => kx_out rfl (hX _ _ _ hx)) (fun v_ σ6 hq => ?_)
    obtain ⟨rfl, h⟩ := hq
    refine kx_aload_n dX1_append_21 rfl rfl ?_
    refine kx_iload_n dX1_append_22 rfl rfl ?_
    obtain ⟨hr, h⟩ := h
    refine kx_callV dX1_append_23 lk_X1_136 (kw_X1_appendWord h) rfl (wR_rc hr rfl) rfl (Nat.le_of_ble_eq_true rfl) (Nat.le_of_ble_eq_true rfl) (Nat.le_of_ble_eq_true rfl) (Nat.le_of_ble_eq_true rfl) (Nat.le_of_ble_eq_true rfl) (fun _ _ _ hx => kx_out rfl (hX _ _ _ hx)) (fun v_ σ10 hq => ?_)
    obtain ⟨rfl, h⟩ := hq
    refine kx_aload_n dX1_append_26 rfl rfl ?_
    refine kx_iload_n dX1_append_27 rfl rfl ?_
    obtain ⟨hr, h⟩ := h
    refine kx_callV dX1_append_28 lk_X1_136 (kw_X1_appendWord h) rfl (wR_rc hr rfl) rfl (Nat.le_of_ble_eq_true rfl) (Nat.le_of_ble_eq_true rfl) (Nat.le_of_ble_eq_true rfl) (Nat.le_of_ble_eq_true rfl) (Nat.le_of_ble_eq_true rfl) (fun _ _ _ hx => kx_out rfl (hX _ _ _ hx)) (fun v_ σ12 hq => ?_)
    obtain ⟨rfl, h⟩ := hq
    refine kx_aload_n dX1_append_31 rfl rfl ?_
    refine kx_iload_n dX1_append_32 rfl rfl ?_
    obtain ⟨hr, h⟩ := h
    refine kx_callV dX1_append_33 lk_X1_136 (kw_X1_appendWord h) rfl (wR_rc hr rfl) rfl (Nat.le_of_ble_eq_true rfl) (Nat.le_of_ble_eq_true rfl) (Nat.le_of_ble_eq_true rfl) (Nat.le_of_ble_eq_true rfl) (Nat.le_of_ble_eq_true rfl) (fun _ _ _ hx => kx_out rfl (hX _ _ _ hx)) (fun v_ σ14 hq => ?_)
    obtain ⟨rfl, h⟩ := hq
    refine kx_aload_n dX1_append_36 rfl rfl ?_
    refine kx_iload dX1_append_37 rfl ?_
    obtain ⟨hr, h⟩ := h
    refine kx_callV dX1_append_39 lk_X1_136 (kw_X1_appendWord h) rfl (wR_rc hr rfl) rfl (Nat.le_of_ble_eq_true rfl) (Nat.le_of_ble_eq_true rfl) (Nat.le_of_ble_eq_true rfl) (Nat.le_of_ble_eq_true rfl) (Nat.le_of_ble_eq_true rfl) (fun _ _ _ hx => kx_out rfl (hX _ _ _ hx)) (fun v_ σ16 hq => ?_)
    obtain ⟨rfl, h⟩ := hq
    refine kx_aload_n dX1_append_42 rfl rfl ?_
    refine kx_iload dX1_append_43 rfl ?_
    obtain ⟨hr, h⟩ := h
    refine kx_callV dX1_append_45 lk_X1_136 (kw_X1_appendWord h) rfl (wR_rc hr rfl) rfl (Nat.le_of_ble_eq_true rfl) (Nat.le_of_ble_eq_true rfl) (Nat.le_of_ble_eq_true rfl) (Nat.le_of_ble_eq_true rfl) (Nat.le_of_ble_eq_true rfl) (fun _ _ _ hx => kx_out rfl (hX _ _ _ hx)) (fun v_ σ18 hq => ?_)
    obtain ⟨rfl, h⟩ := hq
    refine kx_aload_n dX1_append_48 rfl rfl ?_
    refine kW_gI dX1_append_49 (kf1 fl_X1_129_X1) h (fun v19 h => ?_)
    exact kx_iret dX1_append_52 rfl (hQ _ _ ⟨_, rfl, h⟩)
  · skip
    refine kx_icmp_gt (tgt := 17) dX1_append_10 (by decide) (fun c => ?_) (fun c => ?_)
    · have h := w_ift c h
      refine kx_iconst (v := 0) dX1_append_17 (by decide) ?_
      exact jk2 _ _ _ _ h
    · have h := w_iff c h
      refine kx_iconst (v := 1) dX1_append_13 (by decide) ?_
      refine kx_goto (tgt := 18) dX1_append_14 (by decide) ?_
      exact jk2 _ _ _ _ h
set_option maxHeartbeats 8000000 in
theorem kw_X1_count {G : KG} {bc bs : Nat} {σ : KHp} {x0 : Nat} {x1 : Int32} {Q : Int32 → KHp → Prop} {X : String → Nat → KHp → Prop} (h : W_X1_count G bc bs σ x0 x1 Q X) : kx_c G yX1_count (ws_ yX1_count cX1_count 2 (Option.some Jvm.ClassFile.FieldType.int)) 9 bc bs [.ref (x0), .int (x1)] σ (fun rv σ' => ∃ r, rv = some (.int (r)) ∧ Q r σ') X := by
  refine kx_mk3 (ini := false) rfl (Nat.le_of_ble_eq_true rfl) (fun h => by cases h) (fun Q1 X1 hQ hX => ?_)
  unfold W_X1_count at h
  refine kx_iload_n dX1_count_0 rfl rfl ?_
  refine kx_i2l dX1_count_1 rfl ?_
  refine kx_lconst (v := 0) dX1_count_2 (by decide) ?_
  refine kx_ldc2 dX1_count_3 q2016 ?_
  refine kx_callS dX1_count_6 lk_X1_140 (kw_X1_inRange h) rfl rfl (Nat.le_of_ble_eq_true rfl) (Nat.le_of_ble_eq_true rfl) (Nat.le_of_ble_eq_true rfl) (Nat.le_of_ble_eq_true rfl) (Nat.le_of_ble_eq_true rfl) (fun _ _ _ hx => kx_out rfl (hX _ _ _ hx)) (fun v_ σ2 hq => ?_)
  obtain ⟨v1, rfl, h⟩ := hq
  obtain ⟨c5, c6, hc, hs, h⟩ := h
  refine kx_callS dX1_count_9 lk_X1_144 (kw_X1_requireArgument h) rfl rfl (Nat.le_of_ble_eq_true rfl) (Nat.le_of_ble_eq_true rfl) (Nat.le_of_ble_eq_true rfl) hc hs (fun _ _ _ hx => kx_out rfl (hX _ _ _ hx)) (fun v_ σ4 hq => ?_)
  obtain ⟨rfl, h⟩ := hq
  refine kx_iload_n dX1_count_12 rfl rfl ?_
  refine kW_jIa 139 [] h (fun v41 σ42 bcv41 bsv41 h => ?_) (fun k7 jk7 h => ?_)
  · skip
    exact kx_iret dX1_count_139 rfl (hQ _ _ ⟨_, rfl, h⟩)
  · skip
    by_cases c0 : x1 = (0 : Int32)
    · have h := w_ift c0 h
      refine kx_tableIn (tgt := 56) dX1_count_13 (by rw [c0]; decide) (by rw [c0]; decide) (by rw [c0]; rfl) (by decide) ?_
      refine kx_aload_n dX1_count_56 rfl rfl ?_
      refine kW_gO dX1_count_57 (kf1 fl_X1_103_X1) h (fun v8 h => ?_)
      obtain ⟨a9, rfl, hUa9⟩ := h
      have h := hUa9
      refine kW_gO dX1_count_60 (kf1 fl_X1_176_X2) h (fun v10 h => ?_)
      obtain ⟨a11, rfl, hUa11⟩ := h
      have h := hUa11
      obtain ⟨hr, h⟩ := h
      refine kx_callV dX1_count_63 lk_X1_180 (kw_J2_size h) rfl (wR_rc hr rfl) rfl (Nat.le_of_ble_eq_true rfl) (Nat.le_of_ble_eq_true rfl) (Nat.le_of_ble_eq_true rfl) (Nat.le_of_ble_eq_true rfl) (Nat.le_of_ble_eq_true rfl) (fun _ _ _ hx => kx_out rfl (hX _ _ _ hx)) (fun v_ σ13 hq => ?_)
      obtain ⟨v12, rfl, h⟩ := hq
      refine kx_goto (tgt := 139) dX1_count_66 (by decide) ?_
      exact jk7 _ _ _ _ h
    have h := w_iff c0 h
    by_cases c1 : x1 = (1 : Int32)
    · have h := w_ift c1 h
      refine kx_tableIn (tgt := 69) dX1_count_13 (by rw [c1]; decide) (by rw [c1]; decide) (by rw [c1]; rfl) (by decide) ?_
      refine kx_aload_n dX1_count_69 rfl rfl ?_
      obtain ⟨hr, h⟩ := h
      refine kx_callV dX1_count_70 lk_X1_217 (kw_X1_loadCount h) rfl (wR_rc hr rfl) rfl (Nat.le_of_ble_eq_true rfl) (Nat.le_of_ble_eq_true rfl) (Nat.le_of_ble_eq_true rfl) (Nat.le_of_ble_eq_true rfl) (Nat.le_of_ble_eq_true rfl) (fun _ _ _ hx => kx_out rfl (hX _ _ _ hx)) (fun v_ σ15 hq => ?_)
      obtain ⟨v14, rfl, h⟩ := hq
      refine kx_goto (tgt := 139) dX1_count_73 (by decide) ?_
      exact jk7 _ _ _ _ h
    have h := w_iff c1 h
    by_cases c2 : x1 = (2 : Int32)
    · have h := w_ift c2 h
      refine kx_tableIn (tgt := 76) dX1_count_13 (by rw [c2]; decide) (by rw [c2]; decide) (by rw [c2]; rfl) (by decide) ?_
      refine kx_aload_n dX1_count_76 rfl rfl ?_
      obtain ⟨hr, h⟩ := h
      refine kx_callV dX1_count_77 lk_X1_220 (kw_X1_signatureCount h) rfl (wR_rc hr rfl) rfl (Nat.le_of_ble_eq_true rfl) (Nat.le_of_ble_eq_true rfl) (Nat.le_of_ble_eq_true rfl) (Nat.le_of_ble_eq_true rfl) (Nat.le_of_ble_eq_true rfl) (fun _ _ _ hx => kx_out rfl (hX _ _ _ hx)) (fun v_ σ17 hq => ?_)
      obtain ⟨v16, rfl, h⟩ := hq
      refine kx_goto (tgt := 139) dX1_count_80 (by decide) ?_
      exact jk7 _ _ _ _ h
    have h := w_iff c2 h
    by_cases c3 : x1 = (3 : Int32)
    · have h := w_ift c3 h
      refine kx_tableIn (tgt := 83) dX1_count_13 (by rw [c3]; decide) (by rw [c3]; decide) (by rw [c3]; rfl) (by decide) ?_
      refine kx_aload_n dX1_count_83 rfl rfl ?_
      refine kW_gO dX1_count_84 (kf1 fl_X1_103_X1) h (fun v18 h => ?_)
      obtain ⟨a19, rfl, hUa19⟩ := h
      have h := hUa19
      refine kW_gO dX1_count_87 (kf1 fl_X1_223_X2) h (fun v20 h => ?_)
      obtain ⟨a21, rfl, hUa21⟩ := h
      have h := hUa21
      obtain ⟨hr, h⟩ := h
      refine kx_callV dX1_count_90 lk_X1_180 (kw_J2_size h) rfl (wR_rc hr rfl) rfl (Nat.le_of_ble_eq_true rfl) (Nat.le_of_ble_eq_true rfl) (Nat.le_of_ble_eq_true rfl) (Nat.le_of_ble_eq_true rfl) (Nat.le_of_ble_eq_true rfl) (fun _ _ _ hx => kx_out rfl (hX _ _ _ hx)) (fun v_ σ23 hq => ?_)
      obtain ⟨v22, rfl, h⟩ := hq
      refine kx_goto (tgt := 139) dX1_count_93 (by decide) ?_
      exact jk7 _ _ _ _ h
    have h := w_iff c3 h
    by_cases c4 : x1 = (4 : Int32)
    · have h := w_ift c4 h
      refine kx_tableIn (tgt := 96) dX1_count_13 (by rw [c4]; decide) (by rw [c4]; decide) (by rw [c4]; rfl) (by decide) ?_
      refine kx_aload_n dX1_count_96 rfl rfl ?_
      refine kW_gO dX1_count_97 (kf1 fl_X1_103_X1) h (fun v24 h => ?_)
      obtain ⟨a25, rfl, hUa25⟩ := h
      have h := hUa25
      refine kW_gO dX1_count_100 (kf1 fl_X1_226_X2) h (fun v26 h => ?_)
      obtain ⟨a27, rfl, hUa27⟩ := h
      have h := hUa27
      obtain ⟨hr, h⟩ := h
      refine kx_callV dX1_count_103 lk_X1_230 (kw_J18_size h) rfl (wR_rc hr rfl) rfl (Nat.le_of_ble_eq_true rfl) (Nat.le_of_ble_eq_true rfl) (Nat.le_of_ble_eq_true rfl) (Nat.le_of_ble_eq_true rfl) (Nat.le_of_ble_eq_true rfl) (fun _ _ _ hx => kx_out rfl (hX _ _ _ hx)) (fun v_ σ29 hq => ?_)
      obtain ⟨v28, rfl, h⟩ := hq
      refine kx_goto (tgt := 139) dX1_count_106 (by decide) ?_
      exact jk7 _ _ _ _ h
    have h := w_iff c4 h
    by_cases c5 : x1 = (5 : Int32)
    · have h := w_ift c5 h
      refine kx_tableIn (tgt := 109) dX1_count_13 (by rw [c5]; decide) (by rw [c5]; decide) (by rw [c5]; rfl) (by decide) ?_
      refine kx_aload_n dX1_count_109 rfl rfl ?_
      refine kW_gO dX1_count_110 (kf1 fl_X1_103_X1) h (fun v30 h => ?_)
      obtain ⟨a31, rfl, hUa31⟩ := h
      have h := hUa31
      refine kW_gO dX1_count_113 (kf1 fl_X1_205_X2) h (fun v32 h => ?_)
      obtain ⟨a33, rfl, hUa33⟩ := h
      have h := hUa33
      refine kW_gI dX1_count_116 (kf1 fl_X1_233_X3) h (fun v34 h => ?_)
      refine kx_goto (tgt := 139) dX1_count_119 (by decide) ?_
      exact jk7 _ _ _ _ h
    have h := w_iff c5 h
    by_cases c6 : x1 = (6 : Int32)
    · have h := w_ift c6 h
      refine kx_tableIn (tgt := 122) dX1_count_13 (by rw [c6]; decide) (by rw [c6]; decide) (by rw [c6]; rfl) (by decide) ?_
      refine kx_aload_n dX1_count_122 rfl rfl ?_
      refine kW_gO dX1_count_123 (kf1 fl_X1_103_X1) h (fun v35 h => ?_)
      obtain ⟨a36, rfl, hUa36⟩ := h
      have h := hUa36
      refine kW_gI dX1_count_126 (kf1 fl_X1_235_X2) h (fun v37 h => ?_)
      refine kx_goto (tgt := 139) dX1_count_129 (by decide) ?_
      exact jk7 _ _ _ _ h
    have h := w_iff c6 h
    refine kx_tableOut (tgt := 132) dX1_count_13 (tbN (k := 7) (lo := 0) (by decide) (by intro j hj; rcases (show j = 0 ∨ j = 1 ∨ j = 2 ∨ j = 3 ∨ j = 4 ∨ j = 5 ∨ j = 6 by omega) with rfl | rfl | rfl | rfl | rfl | rfl | rfl <;> assumption)) (by decide) ?_
    refine kx_aload_n dX1_count_132 rfl rfl ?_
    refine kW_gO dX1_count_133 (kf1 fl_X1_103_X1) h (fun v38 h => ?_)
    obtain ⟨a39, rfl, hUa39⟩ := h
    have h := hUa39
    refine kW_gI dX1_count_136 (kf1 fl_X1_237_X2) h (fun v40 h => ?_)
    exact jk7 _ _ _ _ h
set_option maxHeartbeats 8000000 in
theorem kw_X1_branchAt {G : KG} {bc bs : Nat} {σ : KHp} {x0 : Nat} {x1 : Int32} {Q : Option Nat → KHp → Prop} {X : String → Nat → KHp → Prop} (h : W_X1_branchAt G bc bs σ x0 x1 Q X) : kx_c G yX1_branchAt (ws_ yX1_branchAt cX1_branchAt 2 (Option.some (Jvm.ClassFile.FieldType.object "ArcRecorder$Branch"))) 9 bc bs [.ref (x0), .int (x1)] σ (fun rv σ' => ∃ r, rv = some (va_rf (r)) ∧ Q r σ') X := by
  refine kx_mk3 (ini := false) rfl (Nat.le_of_ble_eq_true rfl) (fun h => by cases h) (fun Q1 X1 hQ hX => ?_)
  unfold W_X1_branchAt at h
  refine kx_iload_n dX1_branchAt_0 rfl rfl ?_
  refine kx_i2l dX1_branchAt_1 rfl ?_
  refine kx_lconst (v := 0) dX1_branchAt_2 (by decide) ?_
  refine kx_aload_n dX1_branchAt_3 rfl rfl ?_
  refine kW_gO dX1_branchAt_4 (kf1 fl_X1_103_X1) h (fun v1 h => ?_)
  obtain ⟨a2, rfl, hUa2⟩ := h
  have h := hUa2
  refine kW_gO dX1_branchAt_7 (kf1 fl_X1_176_X2) h (fun v3 h => ?_)
  obtain ⟨a4, rfl, hUa4⟩ := h
  have h := hUa4
  obtain ⟨hr, h⟩ := h
  refine kx_callV dX1_branchAt_10 lk_X1_180 (kw_J2_size h) rfl (wR_rc hr rfl) rfl (Nat.le_of_ble_eq_true rfl) (Nat.le_of_ble_eq_true rfl) (Nat.le_of_ble_eq_true rfl) (Nat.le_of_ble_eq_true rfl) (Nat.le_of_ble_eq_true rfl) (fun _ _ _ hx => kx_out rfl (hX _ _ _ hx)) (fun v_ σ6 hq => ?_)
  obtain ⟨v5, rfl, h⟩ := hq
  refine kx_iconst (v := 1) dX1_branchAt_13 (by decide) ?_
  refine kx_isub dX1_branchAt_14 ?_
  refine kx_i2l dX1_branchAt_15 rfl ?_
  refine kx_callS dX1_branchAt_16 lk_X1_140 (kw_X1_inRange h) rfl rfl (Nat.le_of_ble_eq_true rfl) (Nat.le_of_ble_eq_true rfl) (Nat.le_of_ble_eq_true rfl) (Nat.le_of_ble_eq_true rfl) (Nat.le_of_ble_eq_true rfl) (fun _ _ _ hx => kx_out rfl (hX _ _ _ hx)) (fun v_ σ8 hq => ?_)
  obtain ⟨v7, rfl, h⟩ := hq
  obtain ⟨c11, c12, hc, hs, h⟩ := h
  refine kx_callS dX1_branchAt_19 lk_X1_242 (kw_X1_requireIndex h) rfl rfl (Nat.le_of_ble_eq_true rfl) (Nat.le_of_ble_eq_true rfl) (Nat.le_of_ble_eq_true rfl) hc hs (fun _ _ _ hx => kx_out rfl (hX _ _ _ hx)) (fun v_ σ10 hq => ?_)
  obtain ⟨rfl, h⟩ := hq
  refine kx_aload_n dX1_branchAt_22 rfl rfl ?_
  refine kW_gO dX1_branchAt_23 (kf1 fl_X1_103_X1) h (fun v13 h => ?_)
  obtain ⟨a14, rfl, hUa14⟩ := h
  have h := hUa14
  refine kW_gO dX1_branchAt_26 (kf1 fl_X1_176_X2) h (fun v15 h => ?_)
  refine kx_iload_n dX1_branchAt_29 rfl rfl ?_
  obtain ⟨a16, rfl, hUa16⟩ := h
  have h := hUa16
  obtain ⟨hr, h⟩ := h
  refine kx_callV dX1_branchAt_30 lk_X1_245 (kw_J2_get h) rfl (wR_rc hr rfl) rfl (Nat.le_of_ble_eq_true rfl) (Nat.le_of_ble_eq_true rfl) (Nat.le_of_ble_eq_true rfl) (Nat.le_of_ble_eq_true rfl) (Nat.le_of_ble_eq_true rfl) (fun _ _ _ hx => kx_out rfl (hX _ _ _ hx)) (fun v_ σ18 hq => ?_)
  obtain ⟨v17, rfl, h⟩ := hq
  obtain ⟨a19, rfl, hUa19⟩ := h
  have h := hUa19
  obtain ⟨⟨tc, fc, hr⟩, h⟩ := h
  refine kx_castS dX1_branchAt_33 hr rfl q1943 ?_
  exact kx_aret dX1_branchAt_36 rfl (Or.inl ⟨_, rfl⟩) (Or.inr ⟨_, rfl⟩) (hQ _ _ ⟨some _, rfl, h⟩)
set_option maxHeartbeats 8000000 in
theorem kw_X1_loadAt {G : KG} {bc bs : Nat} {σ : KHp} {x0 : Nat} {x1 : Int32} {Q : Option Nat → KHp → Prop} {X : String → Nat → KHp → Prop} (h : W_X1_loadAt G bc bs σ x0 x1 Q X) : kx_c G yX1_loadAt (ws_ yX1_loadAt cX1_loadAt 2 (Option.some (Jvm.ClassFile.FieldType.object "ArcRecorder$Load"))) 9 bc bs [.ref (x0), .int (x1)] σ (fun rv σ' => ∃ r, rv = some (va_rf (r)) ∧ Q r σ') X := by
  refine kx_mk3 (ini := false) rfl (Nat.le_of_ble_eq_true rfl) (fun h => by cases h) (fun Q1 X1 hQ hX => ?_)
  unfold W_X1_loadAt at h
  refine kx_iload_n dX1_loadAt_0 rfl rfl ?_
  refine kx_i2l dX1_loadAt_1 rfl ?_
  refine kx_lconst (v := 0) dX1_loadAt_2 (by decide) ?_
  refine kx_aload_n dX1_loadAt_3 rfl rfl ?_
  obtain ⟨hr, h⟩ := h
  refine kx_callV dX1_loadAt_4 lk_X1_217 (kw_X1_loadCount h) rfl (wR_rc hr rfl) rfl (Nat.le_of_ble_eq_true rfl) (Nat.le_of_ble_eq_true rfl) (Nat.le_of_ble_eq_true rfl) (Nat.le_of_ble_eq_true rfl) (Nat.le_of_ble_eq_true rfl) (fun _ _ _ hx => kx_out rfl (hX _ _ _ hx)) (fun v_ σ2 hq => ?_)
  obtain ⟨v1, rfl, h⟩ := hq
  refine kx_iconst (v := 1) dX1_loadAt_7 (by decide) ?_
  refine kx_isub dX1_loadAt_8 ?_
  refine kx_i2l dX1_loadAt_9 rfl ?_
  refine kx_callS dX1_loadAt_10 lk_X1_140 (kw_X1_inRange h) rfl rfl (Nat.le_of_ble_eq_true rfl) (Nat.le_of_ble_eq_true rfl) (Nat.le_of_ble_eq_true rfl) (Nat.le_of_ble_eq_true rfl) (Nat.le_of_ble_eq_true rfl) (fun _ _ _ hx => kx_out rfl (hX _ _ _ hx)) (fun v_ σ4 hq => ?_)
  obtain ⟨v3, rfl, h⟩ := hq
  obtain ⟨c7, c8, hc, hs, h⟩ := h
  refine kx_callS dX1_loadAt_13 lk_X1_242 (kw_X1_requireIndex h) rfl rfl (Nat.le_of_ble_eq_true rfl) (Nat.le_of_ble_eq_true rfl) (Nat.le_of_ble_eq_true rfl) hc hs (fun _ _ _ hx => kx_out rfl (hX _ _ _ hx)) (fun v_ σ6 hq => ?_)
  obtain ⟨rfl, h⟩ := hq
  refine kx_aload_n dX1_loadAt_16 rfl rfl ?_
  refine kW_gO dX1_loadAt_17 (kf1 fl_X1_103_X1) h (fun v9 h => ?_)
  obtain ⟨a10, rfl, hUa10⟩ := h
  have h := hUa10
  refine kW_gO dX1_loadAt_20 (kf1 fl_X1_205_X2) h (fun v11 h => ?_)
  obtain ⟨a12, rfl, hUa12⟩ := h
  have h := hUa12
  refine kW_gO dX1_loadAt_23 (kf1 fl_X1_209_X3) h (fun v13 h => ?_)
  refine kx_iload_n dX1_loadAt_26 rfl rfl ?_
  obtain ⟨a14, rfl, hUa14⟩ := h
  have h := hUa14
  obtain ⟨hr, h⟩ := h
  refine kx_callV dX1_loadAt_27 lk_X1_245 (kw_J2_get h) rfl (wR_rc hr rfl) rfl (Nat.le_of_ble_eq_true rfl) (Nat.le_of_ble_eq_true rfl) (Nat.le_of_ble_eq_true rfl) (Nat.le_of_ble_eq_true rfl) (Nat.le_of_ble_eq_true rfl) (fun _ _ _ hx => kx_out rfl (hX _ _ _ hx)) (fun v_ σ16 hq => ?_)
  obtain ⟨v15, rfl, h⟩ := hq
  obtain ⟨a17, rfl, hUa17⟩ := h
  have h := hUa17
  obtain ⟨hr, h⟩ := h
  refine kW_castL dX1_loadAt_30 (C := "ArcRecorder$Load") (by rcases hr with hr | hr | hr | hr <;> first | exact ⟨_, wR_rc hr rfl, q3475⟩ | exact ⟨_, wR_rc hr rfl, q3476⟩ | exact ⟨_, wR_rc hr rfl, q3474⟩ | exact ⟨_, wR_rc hr rfl, q3473⟩) q2072 ?_
  exact kx_aret dX1_loadAt_33 rfl (Or.inl ⟨_, rfl⟩) (Or.inr ⟨_, rfl⟩) (hQ _ _ ⟨some _, rfl, h⟩)
set_option maxHeartbeats 8000000 in
theorem kw_X1_isOn {G : KG} {bc bs : Nat} {σ : KHp} {x0 : Nat} {x1 : Int32} {Q : Int32 → KHp → Prop} {X : String → Nat → KHp → Prop} (h : W_X1_isOn G bc bs σ x0 x1 Q X) : kx_c G yX1_isOn (ws_ yX1_isOn cX1_isOn 2 (Option.some Jvm.ClassFile.FieldType.boolean)) 10 bc bs [.ref (x0), .int (x1)] σ (fun rv σ' => ∃ r, rv = some (.int (r)) ∧ Q r σ') X := by
  refine kx_mk3 (ini := false) rfl (Nat.le_of_ble_eq_true rfl) (fun h => by cases h) (fun Q1 X1 hQ hX => ?_)
  unfold W_X1_isOn at h
  refine kx_aload_n dX1_isOn_0 rfl rfl ?_
  refine kx_iload_n dX1_isOn_1 rfl rfl ?_
  obtain ⟨hr, h⟩ := h
  obtain ⟨c3, c4, hc, hs, h⟩ := h
  refine kx_callV dX1_isOn_2 lk_X1_262 (kw_X1_loadAt h) rfl (wR_rc hr rfl) rfl (Nat.le_of_ble_eq_true rfl) (Nat.le_of_ble_eq_true rfl) (Nat.le_of_ble_eq_true rfl) hc hs (fun _ _ _ hx => kx_out rfl (hX _ _ _ hx)) (fun v_ σ2 hq => ?_)
  obtain ⟨v1, rfl, h⟩ := hq
  refine kx_pop dX1_isOn_5 (va_cat _) ?_
  refine kx_aload_n dX1_isOn_6 rfl rfl ?_
  refine kW_gO dX1_isOn_7 (kf1 fl_X1_103_X1) h (fun v5 h => ?_)
  obtain ⟨a6, rfl, hUa6⟩ := h
  have h := hUa6
  refine kW_gO dX1_isOn_10 (kf1 fl_X1_280_X2) h (fun v7 h => ?_)
  refine kx_iload_n dX1_isOn_13 rfl rfl ?_
  obtain ⟨a8, rfl, hUa8⟩ := h
  have h := hUa8
  refine kW_lB dX1_isOn_14 h (fun v9 h => ?_)
  exact kx_zret dX1_isOn_15 rfl h.1 (hQ _ _ ⟨_, rfl, h.2⟩)
set_option maxHeartbeats 8000000 in
theorem kw_X1_state {G : KG} {bc bs : Nat} {σ : KHp} {x0 : Nat} {x1 : Int32} {Q : Int32 → KHp → Prop} {X : String → Nat → KHp → Prop} (h : W_X1_state G bc bs σ x0 x1 Q X) : kx_c G yX1_state (ws_ yX1_state cX1_state 2 (Option.some Jvm.ClassFile.FieldType.int)) 10 bc bs [.ref (x0), .int (x1)] σ (fun rv σ' => ∃ r, rv = some (.int (r)) ∧ Q r σ') X := by
  refine kx_mk3 (ini := false) rfl (Nat.le_of_ble_eq_true rfl) (fun h => by cases h) (fun Q1 X1 hQ hX => ?_)
  unfold W_X1_state at h
  refine kx_aload_n dX1_state_0 rfl rfl ?_
  refine kx_iload_n dX1_state_1 rfl rfl ?_
  obtain ⟨hr, h⟩ := h
  obtain ⟨c3, c4, hc, hs, h⟩ := h
  refine kx_callV dX1_state_2 lk_X1_255 (kw_X1_branchAt h) rfl (wR_rc hr rfl) rfl (Nat.le_of_ble_eq_true rfl) (Nat.le_of_ble_eq_true rfl) (Nat.le_of_ble_eq_true rfl) hc hs (fun _ _ _ hx => kx_out rfl (hX _ _ _ hx)) (fun v_ σ2 hq => ?_)
  obtain ⟨v1, rfl, h⟩ := hq
  obtain ⟨a5, rfl, hUa5⟩ := h
  have h := hUa5
  refine kW_gI dX1_state_5 (kf1 fl_X1_311_X5) h (fun v6 h => ?_)
  exact kx_iret dX1_state_8 rfl (hQ _ _ ⟨_, rfl, h⟩)
set_option maxHeartbeats 8000000 in
theorem kw_X1_sample {G : KG} {bc bs : Nat} {σ : KHp} {x0 : Nat} {x1 : Int32} {x2 : Int32} {Q : UInt32 → KHp → Prop} {X : String → Nat → KHp → Prop} (h : W_X1_sample G bc bs σ x0 x1 x2 Q X) : kx_c G yX1_sample (ws_ yX1_sample cX1_sample 4 (Option.some Jvm.ClassFile.FieldType.float)) 10 bc bs [.ref (x0), .int (x1), .int (x2)] σ (fun rv σ' => ∃ r, rv = some (.float (r)) ∧ Q r σ') X := by
  refine kx_mk3 (ini := false) rfl (Nat.le_of_ble_eq_true rfl) (fun h => by cases h) (fun Q1 X1 hQ hX => ?_)
  unfold W_X1_sample at h
  refine kx_aload_n dX1_sample_0 rfl rfl ?_
  refine kx_iload_n dX1_sample_1 rfl rfl ?_
  obtain ⟨hr, h⟩ := h
  obtain ⟨c3, c4, hc, hs, h⟩ := h
  refine kx_callV dX1_sample_2 lk_X1_255 (kw_X1_branchAt h) rfl (wR_rc hr rfl) rfl (Nat.le_of_ble_eq_true rfl) (Nat.le_of_ble_eq_true rfl) (Nat.le_of_ble_eq_true rfl) hc hs (fun _ _ _ hx => kx_out rfl (hX _ _ _ hx)) (fun v_ σ2 hq => ?_)
  obtain ⟨v1, rfl, h⟩ := hq
  refine kx_astore_nO dX1_sample_5 rfl (Nat.le_of_ble_eq_true rfl) ?_
  refine kx_iload_n dX1_sample_6 rfl rfl ?_
  refine kx_i2l dX1_sample_7 rfl ?_
  refine kx_lconst (v := 0) dX1_sample_8 (by decide) ?_
  refine kx_aload_n dX1_sample_9 rfl rfl ?_
  refine kW_gO dX1_sample_10 (kf1 fl_X1_103_X1) h (fun v5 h => ?_)
  obtain ⟨a6, rfl, hUa6⟩ := h
  have h := hUa6
  refine kW_gO dX1_sample_13 (kf1 fl_X1_205_X2) h (fun v7 h => ?_)
  obtain ⟨a8, rfl, hUa8⟩ := h
  have h := hUa8
  refine kW_gI dX1_sample_16 (kf1 fl_X1_233_X3) h (fun v9 h => ?_)
  refine kx_iconst (v := 1) dX1_sample_19 (by decide) ?_
  refine kx_isub dX1_sample_20 ?_
  refine kx_i2l dX1_sample_21 rfl ?_
  refine kx_callS dX1_sample_22 lk_X1_140 (kw_X1_inRange h) rfl rfl (Nat.le_of_ble_eq_true rfl) (Nat.le_of_ble_eq_true rfl) (Nat.le_of_ble_eq_true rfl) (Nat.le_of_ble_eq_true rfl) (Nat.le_of_ble_eq_true rfl) (fun _ _ _ hx => kx_out rfl (hX _ _ _ hx)) (fun v_ σ11 hq => ?_)
  obtain ⟨v10, rfl, h⟩ := hq
  obtain ⟨c14, c15, hc, hs, h⟩ := h
  refine kx_callS dX1_sample_25 lk_X1_144 (kw_X1_requireArgument h) rfl rfl (Nat.le_of_ble_eq_true rfl) (Nat.le_of_ble_eq_true rfl) (Nat.le_of_ble_eq_true rfl) hc hs (fun _ _ _ hx => kx_out rfl (hX _ _ _ hx)) (fun v_ σ13 hq => ?_)
  obtain ⟨rfl, h⟩ := hq
  refine kx_aload_nO dX1_sample_28 rfl rfl ?_
  obtain ⟨a16, rfl, hUa16⟩ := h
  have h := hUa16
  refine kW_gI dX1_sample_29 (kf1 fl_X1_325_X5) h (fun v17 h => ?_)
  refine kW_jIa 40 [] h (fun v19 σ20 bcv19 bsv19 h => ?_) (fun k18 jk18 h => ?_)
  · skip
    obtain ⟨c23, c24, hc, hs, h⟩ := h
    refine kx_callS dX1_sample_40 lk_X1_328 (kw_X1_requireElement h) rfl rfl (Nat.le_of_ble_eq_true rfl) (Nat.le_of_ble_eq_true rfl) (Nat.le_of_ble_eq_true rfl) hc hs (fun _ _ _ hx => kx_out rfl (hX _ _ _ hx)) (fun v_ σ22 hq => ?_)
    obtain ⟨rfl, h⟩ := hq
    refine kx_aload_n dX1_sample_43 rfl rfl ?_
    refine kW_gO dX1_sample_44 (kf1 fl_X1_331_X5) h (fun v25 h => ?_)
    refine kx_iload_n dX1_sample_47 rfl rfl ?_
    obtain ⟨a26, rfl, hUa26⟩ := h
    have h := hUa26
    refine kW_lF dX1_sample_48 h (fun v27 h => ?_)
    exact kx_fret dX1_sample_49 rfl (hQ _ _ ⟨_, rfl, h⟩)
  · skip
    refine kx_if_le (tgt := 39) dX1_sample_32 (by decide) (fun c => ?_) (fun c => ?_)
    · have h := w_ift c h
      refine kx_iconst (v := 0) dX1_sample_39 (by decide) ?_
      exact jk18 _ _ _ _ h
    · have h := w_iff c h
      refine kx_iconst (v := 1) dX1_sample_35 (by decide) ?_
      refine kx_goto (tgt := 40) dX1_sample_36 (by decide) ?_
      exact jk18 _ _ _ _ h
set_option maxHeartbeats 8000000 in
theorem kw_X1_feature {G : KG} {bc bs : Nat} {σ : KHp} {x0 : Nat} {x1 : Int32} {x2 : Int32} {Q : UInt32 → KHp → Prop} {X : String → Nat → KHp → Prop} (h : W_X1_feature G bc bs σ x0 x1 x2 Q X) : kx_c G yX1_feature (ws_ yX1_feature cX1_feature 4 (Option.some Jvm.ClassFile.FieldType.float)) 10 bc bs [.ref (x0), .int (x1), .int (x2)] σ (fun rv σ' => ∃ r, rv = some (.float (r)) ∧ Q r σ') X := by
  refine kx_mk3 (ini := false) rfl (Nat.le_of_ble_eq_true rfl) (fun h => by cases h) (fun Q1 X1 hQ hX => ?_)
  unfold W_X1_feature at h
  refine kx_aload_n dX1_feature_0 rfl rfl ?_
  refine kx_iload_n dX1_feature_1 rfl rfl ?_
  obtain ⟨hr, h⟩ := h
  obtain ⟨c3, c4, hc, hs, h⟩ := h
  refine kx_callV dX1_feature_2 lk_X1_255 (kw_X1_branchAt h) rfl (wR_rc hr rfl) rfl (Nat.le_of_ble_eq_true rfl) (Nat.le_of_ble_eq_true rfl) (Nat.le_of_ble_eq_true rfl) hc hs (fun _ _ _ hx => kx_out rfl (hX _ _ _ hx)) (fun v_ σ2 hq => ?_)
  obtain ⟨v1, rfl, h⟩ := hq
  refine kx_astore_nO dX1_feature_5 rfl (Nat.le_of_ble_eq_true rfl) ?_
  refine kx_iload_n dX1_feature_6 rfl rfl ?_
  obtain ⟨c7, c8, hc, hs, h⟩ := h
  refine kx_callS dX1_feature_7 lk_X1_337 (kw_X1_requireFeature h) rfl rfl (Nat.le_of_ble_eq_true rfl) (Nat.le_of_ble_eq_true rfl) (Nat.le_of_ble_eq_true rfl) hc hs (fun _ _ _ hx => kx_out rfl (hX _ _ _ hx)) (fun v_ σ6 hq => ?_)
  obtain ⟨rfl, h⟩ := hq
  refine kx_aload_nO dX1_feature_10 rfl rfl ?_
  obtain ⟨a9, rfl, hUa9⟩ := h
  have h := hUa9
  refine kW_gI dX1_feature_11 (kf1 fl_X1_325_X5) h (fun v10 h => ?_)
  refine kW_jIa 22 [] h (fun v12 σ13 bcv12 bsv12 h => ?_) (fun k11 jk11 h => ?_)
  · skip
    obtain ⟨c16, c17, hc, hs, h⟩ := h
    refine kx_callS dX1_feature_22 lk_X1_328 (kw_X1_requireElement h) rfl rfl (Nat.le_of_ble_eq_true rfl) (Nat.le_of_ble_eq_true rfl) (Nat.le_of_ble_eq_true rfl) hc hs (fun _ _ _ hx => kx_out rfl (hX _ _ _ hx)) (fun v_ σ15 hq => ?_)
    obtain ⟨rfl, h⟩ := hq
    refine kx_aload_n dX1_feature_25 rfl rfl ?_
    refine kW_gO dX1_feature_26 (kf1 fl_X1_340_X5) h (fun v18 h => ?_)
    refine kx_iload_n dX1_feature_29 rfl rfl ?_
    obtain ⟨a19, rfl, hUa19⟩ := h
    have h := hUa19
    refine kW_lF dX1_feature_30 h (fun v20 h => ?_)
    exact kx_fret dX1_feature_31 rfl (hQ _ _ ⟨_, rfl, h⟩)
  · skip
    refine kx_if_le (tgt := 21) dX1_feature_14 (by decide) (fun c => ?_) (fun c => ?_)
    · have h := w_ift c h
      refine kx_iconst (v := 0) dX1_feature_21 (by decide) ?_
      exact jk11 _ _ _ _ h
    · have h := w_iff c h
      refine kx_iconst (v := 1) dX1_feature_17 (by decide) ?_
      refine kx_goto (tgt := 22) dX1_feature_18 (by decide) ?_
      exact jk11 _ _ _ _ h
set_option maxHeartbeats 8000000 in
theorem kw_X1_matching {G : KG} {bc bs : Nat} {σ : KHp} {x0 : Nat} {x1 : Int32} {Q : Int32 → KHp → Prop} {X : String → Nat → KHp → Prop} (h : W_X1_matching G bc bs σ x0 x1 Q X) : kx_c G yX1_matching (ws_ yX1_matching cX1_matching 2 (Option.some Jvm.ClassFile.FieldType.int)) 10 bc bs [.ref (x0), .int (x1)] σ (fun rv σ' => ∃ r, rv = some (.int (r)) ∧ Q r σ') X := by
  refine kx_mk3 (ini := false) rfl (Nat.le_of_ble_eq_true rfl) (fun h => by cases h) (fun Q1 X1 hQ hX => ?_)
  unfold W_X1_matching at h
  refine kx_aload_n dX1_matching_0 rfl rfl ?_
  refine kx_iload_n dX1_matching_1 rfl rfl ?_
  obtain ⟨hr, h⟩ := h
  obtain ⟨c3, c4, hc, hs, h⟩ := h
  refine kx_callV dX1_matching_2 lk_X1_255 (kw_X1_branchAt h) rfl (wR_rc hr rfl) rfl (Nat.le_of_ble_eq_true rfl) (Nat.le_of_ble_eq_true rfl) (Nat.le_of_ble_eq_true rfl) hc hs (fun _ _ _ hx => kx_out rfl (hX _ _ _ hx)) (fun v_ σ2 hq => ?_)
  obtain ⟨v1, rfl, h⟩ := hq
  obtain ⟨a5, rfl, hUa5⟩ := h
  have h := hUa5
  refine kW_gI dX1_matching_5 (kf1 fl_X1_343_X5) h (fun v6 h => ?_)
  exact kx_iret dX1_matching_8 rfl (hQ _ _ ⟨_, rfl, h⟩)
set_option maxHeartbeats 8000000 in
theorem kw_X1_hiding {G : KG} {bc bs : Nat} {σ : KHp} {x0 : Nat} {x1 : Int32} {Q : Int32 → KHp → Prop} {X : String → Nat → KHp → Prop} (h : W_X1_hiding G bc bs σ x0 x1 Q X) : kx_c G yX1_hiding (ws_ yX1_hiding cX1_hiding 2 (Option.some Jvm.ClassFile.FieldType.int)) 10 bc bs [.ref (x0), .int (x1)] σ (fun rv σ' => ∃ r, rv = some (.int (r)) ∧ Q r σ') X := by
  refine kx_mk3 (ini := false) rfl (Nat.le_of_ble_eq_true rfl) (fun h => by cases h) (fun Q1 X1 hQ hX => ?_)
  unfold W_X1_hiding at h
  refine kx_aload_n dX1_hiding_0 rfl rfl ?_
  refine kx_iload_n dX1_hiding_1 rfl rfl ?_
  obtain ⟨hr, h⟩ := h
  obtain ⟨c3, c4, hc, hs, h⟩ := h
  refine kx_callV dX1_hiding_2 lk_X1_255 (kw_X1_branchAt h) rfl (wR_rc hr rfl) rfl (Nat.le_of_ble_eq_true rfl) (Nat.le_of_ble_eq_true rfl) (Nat.le_of_ble_eq_true rfl) hc hs (fun _ _ _ hx => kx_out rfl (hX _ _ _ hx)) (fun v_ σ2 hq => ?_)
  obtain ⟨v1, rfl, h⟩ := hq
  obtain ⟨a5, rfl, hUa5⟩ := h
  have h := hUa5
  refine kW_gI dX1_hiding_5 (kf1 fl_X1_346_X5) h (fun v6 h => ?_)
  exact kx_iret dX1_hiding_8 rfl (hQ _ _ ⟨_, rfl, h⟩)
set_option maxHeartbeats 8000000 in
theorem kw_X1_isSuspect {G : KG} {bc bs : Nat} {σ : KHp} {x0 : Nat} {x1 : Int32} {Q : Int32 → KHp → Prop} {X : String → Nat → KHp → Prop} (h : W_X1_isSuspect G bc bs σ x0 x1 Q X) : kx_c G yX1_isSuspect (ws_ yX1_isSuspect cX1_isSuspect 2 (Option.some Jvm.ClassFile.FieldType.boolean)) 10 bc bs [.ref (x0), .int (x1)] σ (fun rv σ' => ∃ r, rv = some (.int (r)) ∧ Q r σ') X := by
  refine kx_mk3 (ini := false) rfl (Nat.le_of_ble_eq_true rfl) (fun h => by cases h) (fun Q1 X1 hQ hX => ?_)
  unfold W_X1_isSuspect at h
  refine kx_aload_n dX1_isSuspect_0 rfl rfl ?_
  refine kx_iload_n dX1_isSuspect_1 rfl rfl ?_
  obtain ⟨hr, h⟩ := h
  obtain ⟨c3, c4, hc, hs, h⟩ := h
  refine kx_callV dX1_isSuspect_2 lk_X1_255 (kw_X1_branchAt h) rfl (wR_rc hr rfl) rfl (Nat.le_of_ble_eq_true rfl) (Nat.le_of_ble_eq_true rfl) (Nat.le_of_ble_eq_true rfl) hc hs (fun _ _ _ hx => kx_out rfl (hX _ _ _ hx)) (fun v_ σ2 hq => ?_)
  obtain ⟨v1, rfl, h⟩ := hq
  obtain ⟨a5, rfl, hUa5⟩ := h
  have h := hUa5
  refine kW_gI dX1_isSuspect_5 (kf1 fl_X1_349_X5) h (fun v6 h => ?_)
  exact kx_zret dX1_isSuspect_8 rfl h.1 (hQ _ _ ⟨_, rfl, h.2⟩)
set_option maxHeartbeats 8000000 in
theorem kw_X1_wasSuspect {G : KG} {bc bs : Nat} {σ : KHp} {x0 : Nat} {x1 : Int32} {x2 : Int32} {Q : Int32 → KHp → Prop} {X : String → Nat → KHp → Prop} (h : W_X1_wasSuspect G bc bs σ x0 x1 x2 Q X) : kx_c G yX1_wasSuspect (ws_ yX1_wasSuspect cX1_wasSuspect 4 (Option.some Jvm.ClassFile.FieldType.boolean)) 10 bc bs [.ref (x0), .int (x1), .int (x2)] σ (fun rv σ' => ∃ r, rv = some (.int (r)) ∧ Q r σ') X := by
  refine kx_mk3 (ini := false) rfl (Nat.le_of_ble_eq_true rfl) (fun h => by cases h) (fun Q1 X1 hQ hX => ?_)
  unfold W_X1_wasSuspect at h
  refine kx_aload_n dX1_wasSuspect_0 rfl rfl ?_
  refine kx_iload_n dX1_wasSuspect_1 rfl rfl ?_
  obtain ⟨hr, h⟩ := h
  obtain ⟨c3, c4, hc, hs, h⟩ := h
  refine kx_callV dX1_wasSuspect_2 lk_X1_255 (kw_X1_branchAt h) rfl (wR_rc hr rfl) rfl (Nat.le_of_ble_eq_true rfl) (Nat.le_of_ble_eq_true rfl) (Nat.le_of_ble_eq_true rfl) hc hs (fun _ _ _ hx => kx_out rfl (hX _ _ _ hx)) (fun v_ σ2 hq => ?_)
  obtain ⟨v1, rfl, h⟩ := hq
  refine kx_astore_nO dX1_wasSuspect_5 rfl (Nat.le_of_ble_eq_true rfl) ?_
  refine kx_iload_n dX1_wasSuspect_6 rfl rfl ?_
  refine kx_i2l dX1_wasSuspect_7 rfl ?_
  refine kx_lconst (v := 0) dX1_wasSuspect_8 (by decide) ?_
  refine kx_ldc2 dX1_wasSuspect_9 q2411 ?_
  refine kx_callS dX1_wasSuspect_12 lk_X1_140 (kw_X1_inRange h) rfl rfl (Nat.le_of_ble_eq_true rfl) (Nat.le_of_ble_eq_true rfl) (Nat.le_of_ble_eq_true rfl) (Nat.le_of_ble_eq_true rfl) (Nat.le_of_ble_eq_true rfl) (fun _ _ _ hx => kx_out rfl (hX _ _ _ hx)) (fun v_ σ6 hq => ?_)
  obtain ⟨v5, rfl, h⟩ := hq
  obtain ⟨c9, c10, hc, hs, h⟩ := h
  refine kx_callS dX1_wasSuspect_15 lk_X1_144 (kw_X1_requireArgument h) rfl rfl (Nat.le_of_ble_eq_true rfl) (Nat.le_of_ble_eq_true rfl) (Nat.le_of_ble_eq_true rfl) hc hs (fun _ _ _ hx => kx_out rfl (hX _ _ _ hx)) (fun v_ σ8 hq => ?_)
  obtain ⟨rfl, h⟩ := hq
  refine kx_iload_n dX1_wasSuspect_18 rfl rfl ?_
  refine kx_aload_n dX1_wasSuspect_19 rfl rfl ?_
  refine kW_gO dX1_wasSuspect_20 (kf1 fl_X1_103_X1) h (fun v11 h => ?_)
  obtain ⟨a12, rfl, hUa12⟩ := h
  have h := hUa12
  refine kW_gI dX1_wasSuspect_23 (kf1 fl_X1_235_X2) h (fun v13 h => ?_)
  refine kW_jIa 42 [] h (fun v18 σ19 bcv18 bsv18 h => ?_) (fun k14 jk14 h => ?_)
  · skip
    exact kx_zret dX1_wasSuspect_42 rfl h.1 (hQ _ _ ⟨_, rfl, h.2⟩)
  · skip
    refine kx_icmp_ge (tgt := 41) dX1_wasSuspect_26 (by decide) (fun c => ?_) (fun c => ?_)
    · have h := w_ift c h
      refine kx_iconst (v := 0) dX1_wasSuspect_41 (by decide) ?_
      exact jk14 _ _ _ _ h
    · have h := w_iff c h
      refine kx_aload_nO dX1_wasSuspect_29 rfl rfl ?_
      refine kx_iload_n dX1_wasSuspect_30 rfl rfl ?_
      obtain ⟨a15, rfl, hUa15⟩ := h
      have h := hUa15
      obtain ⟨hr, h⟩ := h
      refine kx_callV dX1_wasSuspect_31 lk_X1_358 (kw_X5_was h) rfl (wR_rc hr rfl) rfl (Nat.le_of_ble_eq_true rfl) (Nat.le_of_ble_eq_true rfl) (Nat.le_of_ble_eq_true rfl) (Nat.le_of_ble_eq_true rfl) (Nat.le_of_ble_eq_true rfl) (fun _ _ _ hx => kx_out rfl (hX _ _ _ hx)) (fun v_ σ17 hq => ?_)
      obtain ⟨v16, rfl, h⟩ := hq
      refine kx_if_eq (tgt := 41) dX1_wasSuspect_34 (by decide) (fun c => ?_) (fun c => ?_)
      · have h := w_ift c h
        refine kx_iconst (v := 0) dX1_wasSuspect_41 (by decide) ?_
        exact jk14 _ _ _ _ h
      · have h := w_iff c h
        refine kx_iconst (v := 1) dX1_wasSuspect_37 (by decide) ?_
        refine kx_goto (tgt := 42) dX1_wasSuspect_38 (by decide) ?_
        exact jk14 _ _ _ _ h
set_option maxHeartbeats 8000000 in
theorem kw_X1_signatureAt {G : KG} {bc bs : Nat} {σ : KHp} {x0 : Nat} {x1 : Int32} {Q : Option Nat → KHp → Prop} {X : String → Nat → KHp → Prop} (h : W_X1_signatureAt G bc bs σ x0 x1 Q X) : kx_c G yX1_signatureAt (ws_ yX1_signatureAt cX1_signatureAt 2 (Option.some (Jvm.ClassFile.FieldType.object "ArcRecorder$Pattern"))) 9 bc bs [.ref (x0), .int (x1)] σ (fun rv σ' => ∃ r, rv = some (va_rf (r)) ∧ Q r σ') X := by
  refine kx_mk3 (ini := false) rfl (Nat.le_of_ble_eq_true rfl) (fun h => by cases h) (fun Q1 X1 hQ hX => ?_)
  unfold W_X1_signatureAt at h
  refine kx_iload_n dX1_signatureAt_0 rfl rfl ?_
  refine kx_i2l dX1_signatureAt_1 rfl ?_
  refine kx_lconst (v := 0) dX1_signatureAt_2 (by decide) ?_
  refine kx_aload_n dX1_signatureAt_3 rfl rfl ?_
  obtain ⟨hr, h⟩ := h
  refine kx_callV dX1_signatureAt_4 lk_X1_220 (kw_X1_signatureCount h) rfl (wR_rc hr rfl) rfl (Nat.le_of_ble_eq_true rfl) (Nat.le_of_ble_eq_true rfl) (Nat.le_of_ble_eq_true rfl) (Nat.le_of_ble_eq_true rfl) (Nat.le_of_ble_eq_true rfl) (fun _ _ _ hx => kx_out rfl (hX _ _ _ hx)) (fun v_ σ2 hq => ?_)
  obtain ⟨v1, rfl, h⟩ := hq
  refine kx_iconst (v := 1) dX1_signatureAt_7 (by decide) ?_
  refine kx_isub dX1_signatureAt_8 ?_
  refine kx_i2l dX1_signatureAt_9 rfl ?_
  refine kx_callS dX1_signatureAt_10 lk_X1_140 (kw_X1_inRange h) rfl rfl (Nat.le_of_ble_eq_true rfl) (Nat.le_of_ble_eq_true rfl) (Nat.le_of_ble_eq_true rfl) (Nat.le_of_ble_eq_true rfl) (Nat.le_of_ble_eq_true rfl) (fun _ _ _ hx => kx_out rfl (hX _ _ _ hx)) (fun v_ σ4 hq => ?_)
  obtain ⟨v3, rfl, h⟩ := hq
  obtain ⟨c7, c8, hc, hs, h⟩ := h
  refine kx_callS dX1_signatureAt_13 lk_X1_242 (kw_X1_requireIndex h) rfl rfl (Nat.le_of_ble_eq_true rfl) (Nat.le_of_ble_eq_true rfl) (Nat.le_of_ble_eq_true rfl) hc hs (fun _ _ _ hx => kx_out rfl (hX _ _ _ hx)) (fun v_ σ6 hq => ?_)
  obtain ⟨rfl, h⟩ := hq
  refine kx_aload_n dX1_signatureAt_16 rfl rfl ?_
  refine kW_gO dX1_signatureAt_17 (kf1 fl_X1_103_X1) h (fun v9 h => ?_)
  obtain ⟨a10, rfl, hUa10⟩ := h
  have h := hUa10
  refine kW_gO dX1_signatureAt_20 (kf1 fl_X1_205_X2) h (fun v11 h => ?_)
  obtain ⟨a12, rfl, hUa12⟩ := h
  have h := hUa12
  refine kW_gO dX1_signatureAt_23 (kf1 fl_X1_212_X3) h (fun v13 h => ?_)
  refine kx_iload_n dX1_signatureAt_26 rfl rfl ?_
  obtain ⟨a14, rfl, hUa14⟩ := h
  have h := hUa14
  obtain ⟨hr, h⟩ := h
  refine kx_callV dX1_signatureAt_27 lk_X1_245 (kw_J2_get h) rfl (wR_rc hr rfl) rfl (Nat.le_of_ble_eq_true rfl) (Nat.le_of_ble_eq_true rfl) (Nat.le_of_ble_eq_true rfl) (Nat.le_of_ble_eq_true rfl) (Nat.le_of_ble_eq_true rfl) (fun _ _ _ hx => kx_out rfl (hX _ _ _ hx)) (fun v_ σ16 hq => ?_)
  obtain ⟨v15, rfl, h⟩ := hq
  obtain ⟨a17, rfl, hUa17⟩ := h
  have h := hUa17
  obtain ⟨⟨tc, fc, hr⟩, h⟩ := h
  refine kx_castS dX1_signatureAt_30 hr rfl q2436 ?_
  exact kx_aret dX1_signatureAt_33 rfl (Or.inl ⟨_, rfl⟩) (Or.inr ⟨_, rfl⟩) (hQ _ _ ⟨some _, rfl, h⟩)
set_option maxHeartbeats 8000000 in
theorem kw_X1_isAlways {G : KG} {bc bs : Nat} {σ : KHp} {x0 : Nat} {x1 : Int32} {Q : Int32 → KHp → Prop} {X : String → Nat → KHp → Prop} (h : W_X1_isAlways G bc bs σ x0 x1 Q X) : kx_c G yX1_isAlways (ws_ yX1_isAlways cX1_isAlways 2 (Option.some Jvm.ClassFile.FieldType.boolean)) 10 bc bs [.ref (x0), .int (x1)] σ (fun rv σ' => ∃ r, rv = some (.int (r)) ∧ Q r σ') X := by
  refine kx_mk3 (ini := false) rfl (Nat.le_of_ble_eq_true rfl) (fun h => by cases h) (fun Q1 X1 hQ hX => ?_)
  unfold W_X1_isAlways at h
  refine kx_aload_n dX1_isAlways_0 rfl rfl ?_
  refine kx_iload_n dX1_isAlways_1 rfl rfl ?_
  obtain ⟨hr, h⟩ := h
  obtain ⟨c3, c4, hc, hs, h⟩ := h
  refine kx_callV dX1_isAlways_2 lk_X1_366 (kw_X1_signatureAt h) rfl (wR_rc hr rfl) rfl (Nat.le_of_ble_eq_true rfl) (Nat.le_of_ble_eq_true rfl) (Nat.le_of_ble_eq_true rfl) hc hs (fun _ _ _ hx => kx_out rfl (hX _ _ _ hx)) (fun v_ σ2 hq => ?_)
  obtain ⟨v1, rfl, h⟩ := hq
  obtain ⟨a5, rfl, hUa5⟩ := h
  have h := hUa5
  refine kW_gI dX1_isAlways_5 (kf1 fl_X1_373_X14) h (fun v6 h => ?_)
  exact kx_zret dX1_isAlways_8 rfl h.1 (hQ _ _ ⟨_, rfl, h.2⟩)
set_option maxHeartbeats 8000000 in
theorem kw_X1_nuisanceAt {G : KG} {bc bs : Nat} {σ : KHp} {x0 : Nat} {x1 : Int32} {Q : Option Nat → KHp → Prop} {X : String → Nat → KHp → Prop} (h : W_X1_nuisanceAt G bc bs σ x0 x1 Q X) : kx_c G yX1_nuisanceAt (ws_ yX1_nuisanceAt cX1_nuisanceAt 2 (Option.some (Jvm.ClassFile.FieldType.object "ArcRecorder$Nuisance"))) 9 bc bs [.ref (x0), .int (x1)] σ (fun rv σ' => ∃ r, rv = some (va_rf (r)) ∧ Q r σ') X := by
  refine kx_mk3 (ini := false) rfl (Nat.le_of_ble_eq_true rfl) (fun h => by cases h) (fun Q1 X1 hQ hX => ?_)
  unfold W_X1_nuisanceAt at h
  refine kx_iload_n dX1_nuisanceAt_0 rfl rfl ?_
  refine kx_i2l dX1_nuisanceAt_1 rfl ?_
  refine kx_lconst (v := 0) dX1_nuisanceAt_2 (by decide) ?_
  refine kx_aload_n dX1_nuisanceAt_3 rfl rfl ?_
  refine kW_gO dX1_nuisanceAt_4 (kf1 fl_X1_103_X1) h (fun v1 h => ?_)
  obtain ⟨a2, rfl, hUa2⟩ := h
  have h := hUa2
  refine kW_gO dX1_nuisanceAt_7 (kf1 fl_X1_223_X2) h (fun v3 h => ?_)
  obtain ⟨a4, rfl, hUa4⟩ := h
  have h := hUa4
  obtain ⟨hr, h⟩ := h
  refine kx_callV dX1_nuisanceAt_10 lk_X1_180 (kw_J2_size h) rfl (wR_rc hr rfl) rfl (Nat.le_of_ble_eq_true rfl) (Nat.le_of_ble_eq_true rfl) (Nat.le_of_ble_eq_true rfl) (Nat.le_of_ble_eq_true rfl) (Nat.le_of_ble_eq_true rfl) (fun _ _ _ hx => kx_out rfl (hX _ _ _ hx)) (fun v_ σ6 hq => ?_)
  obtain ⟨v5, rfl, h⟩ := hq
  refine kx_iconst (v := 1) dX1_nuisanceAt_13 (by decide) ?_
  refine kx_isub dX1_nuisanceAt_14 ?_
  refine kx_i2l dX1_nuisanceAt_15 rfl ?_
  refine kx_callS dX1_nuisanceAt_16 lk_X1_140 (kw_X1_inRange h) rfl rfl (Nat.le_of_ble_eq_true rfl) (Nat.le_of_ble_eq_true rfl) (Nat.le_of_ble_eq_true rfl) (Nat.le_of_ble_eq_true rfl) (Nat.le_of_ble_eq_true rfl) (fun _ _ _ hx => kx_out rfl (hX _ _ _ hx)) (fun v_ σ8 hq => ?_)
  obtain ⟨v7, rfl, h⟩ := hq
  obtain ⟨c11, c12, hc, hs, h⟩ := h
  refine kx_callS dX1_nuisanceAt_19 lk_X1_242 (kw_X1_requireIndex h) rfl rfl (Nat.le_of_ble_eq_true rfl) (Nat.le_of_ble_eq_true rfl) (Nat.le_of_ble_eq_true rfl) hc hs (fun _ _ _ hx => kx_out rfl (hX _ _ _ hx)) (fun v_ σ10 hq => ?_)
  obtain ⟨rfl, h⟩ := hq
  refine kx_aload_n dX1_nuisanceAt_22 rfl rfl ?_
  refine kW_gO dX1_nuisanceAt_23 (kf1 fl_X1_103_X1) h (fun v13 h => ?_)
  obtain ⟨a14, rfl, hUa14⟩ := h
  have h := hUa14
  refine kW_gO dX1_nuisanceAt_26 (kf1 fl_X1_223_X2) h (fun v15 h => ?_)
  refine kx_iload_n dX1_nuisanceAt_29 rfl rfl ?_
  obtain ⟨a16, rfl, hUa16⟩ := h
  have h := hUa16
  obtain ⟨hr, h⟩ := h
  refine kx_callV dX1_nuisanceAt_30 lk_X1_245 (kw_J2_get h) rfl (wR_rc hr rfl) rfl (Nat.le_of_ble_eq_true rfl) (Nat.le_of_ble_eq_true rfl) (Nat.le_of_ble_eq_true rfl) (Nat.le_of_ble_eq_true rfl) (Nat.le_of_ble_eq_true rfl) (fun _ _ _ hx => kx_out rfl (hX _ _ _ hx)) (fun v_ σ18 hq => ?_)
  obtain ⟨v17, rfl, h⟩ := hq
  obtain ⟨a19, rfl, hUa19⟩ := h
  have h := hUa19
  obtain ⟨⟨tc, fc, hr⟩, h⟩ := h
  refine kx_castS dX1_nuisanceAt_33 hr rfl q2455 ?_
  exact kx_aret dX1_nuisanceAt_36 rfl (Or.inl ⟨_, rfl⟩) (Or.inr ⟨_, rfl⟩) (hQ _ _ ⟨some _, rfl, h⟩)
