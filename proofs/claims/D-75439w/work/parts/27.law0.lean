set_option maxRecDepth 100000
def W_X0_truncate (G : KG) (bc bs : Nat) (σ : KHp) (x0 : Option Nat) (x1 : Int32) (Q : Int32 → KHp → Prop) (X : String → Nat → KHp → Prop) : Prop :=
  wU x0 (fun a1 =>
 (wR σ a1 0 ∧
 wC bc bs (fun c4 c5 =>
 W_X1_truncate G c4 c5 σ a1 (x1) (fun σ3 =>
 Q ((0 : Int32)) σ3) (fun E6 q7 σ8 => (E6 = "java/lang/IllegalArgumentException" ∧ Q ((1 : Int32)) σ8)))))
set_option maxHeartbeats 8000000 in
theorem kw_X0_truncate {G : KG} {bc bs : Nat} {σ : KHp} {x0 : Option Nat} {x1 : Int32} {Q : Int32 → KHp → Prop} {X : String → Nat → KHp → Prop} (h : W_X0_truncate G bc bs σ x0 x1 Q X) : kx_c G yX0_truncate (wsW_ yX0_truncate cX0_truncate 3 (Option.some Jvm.ClassFile.FieldType.int) [((0 : Nat), (5 : Nat), (8 : Nat), (19 : Nat))]) 10 bc bs [va_rf (x0), .int (x1)] σ (fun rv σ' => ∃ r, rv = some (.int (r)) ∧ Q r σ') X := by
  refine kx_mk3W (ini := false) rfl (by cases x0 <;> exact Nat.le_of_ble_eq_true rfl) (fun h => by cases h) (fun Q1 X1 hQ hX => ?_)
  unfold W_X0_truncate at h
  refine kx_lwF [(0, va_rf (x0)), (1, .int (x1))] (by cases x0 <;> exact ⟨rfl, rfl, trivial⟩) ?_
  refine kx_aload_nO dX0_truncate_0 rfl rfl ?_
  refine kx_iload_n dX0_truncate_1 rfl rfl ?_
  obtain ⟨a1, rfl, hUa1⟩ := h
  have h := hUa1
  obtain ⟨hr, h⟩ := h
  obtain ⟨c4, c5, hc, hs, h⟩ := h
  refine kx_callV dX0_truncate_2 lk_X0_15 (kw_X1_truncate h) rfl (wR_rc hr rfl) rfl (Nat.le_of_ble_eq_true rfl) (Nat.le_of_ble_eq_true rfl) (Nat.le_of_ble_eq_true rfl) hc hs (fun E6 q7 σ8 hx => ?_) (fun v_ σ3 hq => ?_)
  · rcases hx with ⟨rfl, h⟩
    · skip
      refine kx_catch (tableOf []) ⟨0, 5, 8, 19⟩ (tableOf []) rfl (fun z hz => by cases hz) rfl (by decide) q1995 q234 ?_
      refine kx_astore_n dX0_truncate_8 rfl (Nat.le_of_ble_eq_true rfl) ?_
      refine kx_iconst (v := 1) dX0_truncate_9 (by decide) ?_
      exact kx_iret dX0_truncate_10 rfl (hQ _ _ ⟨_, rfl, h⟩)
  obtain ⟨rfl, h⟩ := hq
  refine kx_goto (tgt := 11) dX0_truncate_5 (by decide) ?_
  refine kx_iconst (v := 0) dX0_truncate_11 (by decide) ?_
  exact kx_iret dX0_truncate_12 rfl (hQ _ _ ⟨_, rfl, h⟩)
def W_X0_append (G : KG) (bc bs : Nat) (σ : KHp) (x0 : Option Nat) (x1 : Int32) (x2 : Int32) (x3 : Int32) (x4 : Int32) (x5 : Int32) (x6 : Option Nat) (Q : Int32 → KHp → Prop) (X : String → Nat → KHp → Prop) : Prop :=
  wU x0 (fun a1 =>
 (wR σ a1 0 ∧
 wC bc bs (fun c4 c5 =>
 W_X1_append G c4 c5 σ a1 (x1) (x2) (x3) (x4) (x5) (fun v2 σ3 =>
 wU x6 (fun a9 =>
 wSJ σ3 a9 (0 : Int32) (((v2).toInt64)) (fun σ10 =>
 Q ((0 : Int32)) σ10))) (fun E6 q7 σ8 => (E6 = "java/lang/IllegalStateException" ∧ Q ((1 : Int32)) σ8)))))
set_option maxHeartbeats 8000000 in
theorem kw_X0_append {G : KG} {bc bs : Nat} {σ : KHp} {x0 : Option Nat} {x1 : Int32} {x2 : Int32} {x3 : Int32} {x4 : Int32} {x5 : Int32} {x6 : Option Nat} {Q : Int32 → KHp → Prop} {X : String → Nat → KHp → Prop} (h : W_X0_append G bc bs σ x0 x1 x2 x3 x4 x5 x6 Q X) : kx_c G yX0_append (wsW_ yX0_append cX0_append 8 (Option.some Jvm.ClassFile.FieldType.int) [((0 : Nat), (16 : Nat), (19 : Nat), (13 : Nat))]) 10 bc bs [va_rf (x0), .int (x1), .int (x2), .int (x3), .int (x4), .int (x5), va_rf (x6)] σ (fun rv σ' => ∃ r, rv = some (.int (r)) ∧ Q r σ') X := by
  refine kx_mk3W (ini := false) rfl (by cases x0 <;> cases x6 <;> exact Nat.le_of_ble_eq_true rfl) (fun h => by cases h) (fun Q1 X1 hQ hX => ?_)
  unfold W_X0_append at h
  refine kx_lwF [(0, va_rf (x0)), (1, .int (x1)), (2, .int (x2)), (3, .int (x3)), (4, .int (x4)), (5, .int (x5)), (6, va_rf (x6))] (by cases x0 <;> cases x6 <;> exact ⟨rfl, rfl, rfl, rfl, rfl, rfl, rfl, trivial⟩) ?_
  refine kx_aloadO dX0_append_0 rfl ?_
  refine kx_iconst (v := 0) dX0_append_2 (by decide) ?_
  refine kx_aload_nO dX0_append_3 rfl rfl ?_
  refine kx_iload_n dX0_append_4 rfl rfl ?_
  refine kx_iload_n dX0_append_5 rfl rfl ?_
  refine kx_iload_n dX0_append_6 rfl rfl ?_
  refine kx_iload dX0_append_7 rfl ?_
  refine kx_iload dX0_append_9 rfl ?_
  obtain ⟨a1, rfl, hUa1⟩ := h
  have h := hUa1
  obtain ⟨hr, h⟩ := h
  obtain ⟨c4, c5, hc, hs, h⟩ := h
  refine kx_callV dX0_append_11 lk_X0_7 (kw_X1_append h) rfl (wR_rc hr rfl) rfl (by cases x6 <;> exact Nat.le_of_ble_eq_true rfl) (Nat.le_of_ble_eq_true rfl) (Nat.le_of_ble_eq_true rfl) hc hs (fun E6 q7 σ8 hx => ?_) (fun v_ σ3 hq => ?_)
  · rcases hx with ⟨rfl, h⟩
    · skip
      refine kx_catch (tableOf []) ⟨0, 16, 19, 13⟩ (tableOf []) rfl (fun z hz => by cases hz) rfl (by decide) q1975 q1566 ?_
      refine kx_astore dX0_append_19 (Nat.le_of_ble_eq_true rfl) ?_
      refine kx_iconst (v := 1) dX0_append_21 (by decide) ?_
      exact kx_iret dX0_append_22 rfl (hQ _ _ ⟨_, rfl, h⟩)
  obtain ⟨v2, rfl, h⟩ := hq
  refine kx_i2l dX0_append_14 rfl ?_
  obtain ⟨a9, rfl, hUa9⟩ := h
  have h := hUa9
  refine kW_sJ dX0_append_15 h (fun σ10 h => ?_)
  refine kx_goto (tgt := 23) dX0_append_16 (by decide) ?_
  refine kx_iconst (v := 0) dX0_append_23 (by decide) ?_
  exact kx_iret dX0_append_24 rfl (hQ _ _ ⟨_, rfl, h⟩)
def W_X0_count (G : KG) (bc bs : Nat) (σ : KHp) (x0 : Option Nat) (x1 : Int32) (x2 : Option Nat) (Q : Int32 → KHp → Prop) (X : String → Nat → KHp → Prop) : Prop :=
  wU x0 (fun a1 =>
 (wR σ a1 0 ∧
 wC bc bs (fun c4 c5 =>
 W_X1_count G c4 c5 σ a1 (x1) (fun v2 σ3 =>
 wU x2 (fun a9 =>
 wSJ σ3 a9 (0 : Int32) (((v2).toInt64)) (fun σ10 =>
 Q ((0 : Int32)) σ10))) (fun E6 q7 σ8 => (E6 = "java/lang/IllegalArgumentException" ∧ Q ((1 : Int32)) σ8)))))
set_option maxHeartbeats 8000000 in
theorem kw_X0_count {G : KG} {bc bs : Nat} {σ : KHp} {x0 : Option Nat} {x1 : Int32} {x2 : Option Nat} {Q : Int32 → KHp → Prop} {X : String → Nat → KHp → Prop} (h : W_X0_count G bc bs σ x0 x1 x2 Q X) : kx_c G yX0_count (wsW_ yX0_count cX0_count 4 (Option.some Jvm.ClassFile.FieldType.int) [((0 : Nat), (9 : Nat), (12 : Nat), (19 : Nat))]) 10 bc bs [va_rf (x0), .int (x1), va_rf (x2)] σ (fun rv σ' => ∃ r, rv = some (.int (r)) ∧ Q r σ') X := by
  refine kx_mk3W (ini := false) rfl (by cases x0 <;> cases x2 <;> exact Nat.le_of_ble_eq_true rfl) (fun h => by cases h) (fun Q1 X1 hQ hX => ?_)
  unfold W_X0_count at h
  refine kx_lwF [(0, va_rf (x0)), (1, .int (x1)), (2, va_rf (x2))] (by cases x0 <;> cases x2 <;> exact ⟨rfl, rfl, rfl, trivial⟩) ?_
  refine kx_aload_nO dX0_count_0 rfl rfl ?_
  refine kx_iconst (v := 0) dX0_count_1 (by decide) ?_
  refine kx_aload_nO dX0_count_2 rfl rfl ?_
  refine kx_iload_n dX0_count_3 rfl rfl ?_
  obtain ⟨a1, rfl, hUa1⟩ := h
  have h := hUa1
  obtain ⟨hr, h⟩ := h
  obtain ⟨c4, c5, hc, hs, h⟩ := h
  refine kx_callV dX0_count_4 lk_X0_21 (kw_X1_count h) rfl (wR_rc hr rfl) rfl (by cases x2 <;> exact Nat.le_of_ble_eq_true rfl) (Nat.le_of_ble_eq_true rfl) (Nat.le_of_ble_eq_true rfl) hc hs (fun E6 q7 σ8 hx => ?_) (fun v_ σ3 hq => ?_)
  · rcases hx with ⟨rfl, h⟩
    · skip
      refine kx_catch (tableOf []) ⟨0, 9, 12, 19⟩ (tableOf []) rfl (fun z hz => by cases hz) rfl (by decide) q1995 q234 ?_
      refine kx_astore_n dX0_count_12 rfl (Nat.le_of_ble_eq_true rfl) ?_
      refine kx_iconst (v := 1) dX0_count_13 (by decide) ?_
      exact kx_iret dX0_count_14 rfl (hQ _ _ ⟨_, rfl, h⟩)
  obtain ⟨v2, rfl, h⟩ := hq
  refine kx_i2l dX0_count_7 rfl ?_
  obtain ⟨a9, rfl, hUa9⟩ := h
  have h := hUa9
  refine kW_sJ dX0_count_8 h (fun σ10 h => ?_)
  refine kx_goto (tgt := 15) dX0_count_9 (by decide) ?_
  refine kx_iconst (v := 0) dX0_count_15 (by decide) ?_
  exact kx_iret dX0_count_16 rfl (hQ _ _ ⟨_, rfl, h⟩)
def W_X0_isOn (G : KG) (bc bs : Nat) (σ : KHp) (x0 : Option Nat) (x1 : Int32) (x2 : Option Nat) (Q : Int32 → KHp → Prop) (X : String → Nat → KHp → Prop) : Prop :=
  wU x0 (fun a1 =>
 (wR σ a1 0 ∧
 wC bc bs (fun c4 c5 =>
 W_X1_isOn G c4 c5 σ a1 (x1) (fun v2 σ3 =>
 jn (κ := Int64 → KHp → Nat → Nat → Prop) (fun v10 σ11 bcv10 bsv10 =>
 wU x2 (fun a12 =>
 wSJ σ11 a12 (0 : Int32) (v10) (fun σ13 =>
 Q ((0 : Int32)) σ13))) (fun k9 =>
 wIf (v2 = 0)
 (k9 (0 : Int64) σ3 (bc - c4) (bs - c5))
 (k9 (1 : Int64) σ3 (bc - c4) (bs - c5)))) (fun E6 q7 σ8 => (E6 = "java/lang/IndexOutOfBoundsException" ∧ Q ((1 : Int32)) σ8)))))
set_option maxHeartbeats 8000000 in
theorem kw_X0_isOn {G : KG} {bc bs : Nat} {σ : KHp} {x0 : Option Nat} {x1 : Int32} {x2 : Option Nat} {Q : Int32 → KHp → Prop} {X : String → Nat → KHp → Prop} (h : W_X0_isOn G bc bs σ x0 x1 x2 Q X) : kx_c G yX0_isOn (wsW_ yX0_isOn cX0_isOn 4 (Option.some Jvm.ClassFile.FieldType.int) [((0 : Nat), (16 : Nat), (19 : Nat), (28 : Nat))]) 11 bc bs [va_rf (x0), .int (x1), va_rf (x2)] σ (fun rv σ' => ∃ r, rv = some (.int (r)) ∧ Q r σ') X := by
  refine kx_mk3W (ini := false) rfl (by cases x0 <;> cases x2 <;> exact Nat.le_of_ble_eq_true rfl) (fun h => by cases h) (fun Q1 X1 hQ hX => ?_)
  unfold W_X0_isOn at h
  refine kx_lwF [(0, va_rf (x0)), (1, .int (x1)), (2, va_rf (x2))] (by cases x0 <;> cases x2 <;> exact ⟨rfl, rfl, rfl, trivial⟩) ?_
  refine kx_aload_nO dX0_isOn_0 rfl rfl ?_
  refine kx_iconst (v := 0) dX0_isOn_1 (by decide) ?_
  refine kx_aload_nO dX0_isOn_2 rfl rfl ?_
  refine kx_iload_n dX0_isOn_3 rfl rfl ?_
  obtain ⟨a1, rfl, hUa1⟩ := h
  have h := hUa1
  obtain ⟨hr, h⟩ := h
  obtain ⟨c4, c5, hc, hs, h⟩ := h
  refine kx_callV dX0_isOn_4 lk_X0_34 (kw_X1_isOn h) rfl (wR_rc hr rfl) rfl (by cases x2 <;> exact Nat.le_of_ble_eq_true rfl) (Nat.le_of_ble_eq_true rfl) (Nat.le_of_ble_eq_true rfl) hc hs (fun E6 q7 σ8 hx => ?_) (fun v_ σ3 hq => ?_)
  · rcases hx with ⟨rfl, h⟩
    · skip
      refine kx_catch (tableOf []) ⟨0, 16, 19, 28⟩ (tableOf []) rfl (fun z hz => by cases hz) rfl (by decide) q2029 q1664 ?_
      refine kx_astore_n dX0_isOn_19 rfl (Nat.le_of_ble_eq_true rfl) ?_
      refine kx_iconst (v := 1) dX0_isOn_20 (by decide) ?_
      exact kx_iret dX0_isOn_21 rfl (hQ _ _ ⟨_, rfl, h⟩)
  obtain ⟨v2, rfl, h⟩ := hq
  refine kW_jLa 15 [.int ((0 : Int32)), va_rf (x2)] h (fun v10 σ11 bcv10 bsv10 h => ?_) (fun k9 jk9 h => ?_)
  · skip
    obtain ⟨a12, rfl, hUa12⟩ := h
    have h := hUa12
    refine kW_sJ dX0_isOn_15 h (fun σ13 h => ?_)
    refine kx_goto (tgt := 22) dX0_isOn_16 (by decide) ?_
    refine kx_iconst (v := 0) dX0_isOn_22 (by decide) ?_
    exact kx_iret dX0_isOn_23 rfl (hQ _ _ ⟨_, rfl, h⟩)
  · skip
    refine kx_if_eq (tgt := 14) dX0_isOn_7 (by decide) (fun c => ?_) (fun c => ?_)
    · have h := w_ift c h
      refine kx_lconst (v := 0) dX0_isOn_14 (by decide) ?_
      exact jk9 _ _ _ _ h
    · have h := w_iff c h
      refine kx_lconst (v := 1) dX0_isOn_10 (by decide) ?_
      refine kx_goto (tgt := 15) dX0_isOn_11 (by decide) ?_
      exact jk9 _ _ _ _ h
def W_X0_state (G : KG) (bc bs : Nat) (σ : KHp) (x0 : Option Nat) (x1 : Int32) (x2 : Option Nat) (Q : Int32 → KHp → Prop) (X : String → Nat → KHp → Prop) : Prop :=
  wU x0 (fun a1 =>
 (wR σ a1 0 ∧
 wC bc bs (fun c4 c5 =>
 W_X1_state G c4 c5 σ a1 (x1) (fun v2 σ3 =>
 wU x2 (fun a9 =>
 wSJ σ3 a9 (0 : Int32) (((v2).toInt64)) (fun σ10 =>
 Q ((0 : Int32)) σ10))) (fun E6 q7 σ8 => (E6 = "java/lang/IndexOutOfBoundsException" ∧ Q ((1 : Int32)) σ8)))))
set_option maxHeartbeats 8000000 in
theorem kw_X0_state {G : KG} {bc bs : Nat} {σ : KHp} {x0 : Option Nat} {x1 : Int32} {x2 : Option Nat} {Q : Int32 → KHp → Prop} {X : String → Nat → KHp → Prop} (h : W_X0_state G bc bs σ x0 x1 x2 Q X) : kx_c G yX0_state (wsW_ yX0_state cX0_state 4 (Option.some Jvm.ClassFile.FieldType.int) [((0 : Nat), (9 : Nat), (12 : Nat), (28 : Nat))]) 11 bc bs [va_rf (x0), .int (x1), va_rf (x2)] σ (fun rv σ' => ∃ r, rv = some (.int (r)) ∧ Q r σ') X := by
  refine kx_mk3W (ini := false) rfl (by cases x0 <;> cases x2 <;> exact Nat.le_of_ble_eq_true rfl) (fun h => by cases h) (fun Q1 X1 hQ hX => ?_)
  unfold W_X0_state at h
  refine kx_lwF [(0, va_rf (x0)), (1, .int (x1)), (2, va_rf (x2))] (by cases x0 <;> cases x2 <;> exact ⟨rfl, rfl, rfl, trivial⟩) ?_
  refine kx_aload_nO dX0_state_0 rfl rfl ?_
  refine kx_iconst (v := 0) dX0_state_1 (by decide) ?_
  refine kx_aload_nO dX0_state_2 rfl rfl ?_
  refine kx_iload_n dX0_state_3 rfl rfl ?_
  obtain ⟨a1, rfl, hUa1⟩ := h
  have h := hUa1
  obtain ⟨hr, h⟩ := h
  obtain ⟨c4, c5, hc, hs, h⟩ := h
  refine kx_callV dX0_state_4 lk_X0_49 (kw_X1_state h) rfl (wR_rc hr rfl) rfl (by cases x2 <;> exact Nat.le_of_ble_eq_true rfl) (Nat.le_of_ble_eq_true rfl) (Nat.le_of_ble_eq_true rfl) hc hs (fun E6 q7 σ8 hx => ?_) (fun v_ σ3 hq => ?_)
  · rcases hx with ⟨rfl, h⟩
    · skip
      refine kx_catch (tableOf []) ⟨0, 9, 12, 28⟩ (tableOf []) rfl (fun z hz => by cases hz) rfl (by decide) q2029 q1664 ?_
      refine kx_astore_n dX0_state_12 rfl (Nat.le_of_ble_eq_true rfl) ?_
      refine kx_iconst (v := 1) dX0_state_13 (by decide) ?_
      exact kx_iret dX0_state_14 rfl (hQ _ _ ⟨_, rfl, h⟩)
  obtain ⟨v2, rfl, h⟩ := hq
  refine kx_i2l dX0_state_7 rfl ?_
  obtain ⟨a9, rfl, hUa9⟩ := h
  have h := hUa9
  refine kW_sJ dX0_state_8 h (fun σ10 h => ?_)
  refine kx_goto (tgt := 15) dX0_state_9 (by decide) ?_
  refine kx_iconst (v := 0) dX0_state_15 (by decide) ?_
  exact kx_iret dX0_state_16 rfl (hQ _ _ ⟨_, rfl, h⟩)
def W_X0_sample (G : KG) (bc bs : Nat) (σ : KHp) (x0 : Option Nat) (x1 : Int32) (x2 : Int32) (x3 : Option Nat) (Q : Int32 → KHp → Prop) (X : String → Nat → KHp → Prop) : Prop :=
  wU x0 (fun a1 =>
 (wR σ a1 0 ∧
 wC bc bs (fun c4 c5 =>
 W_X1_sample G c4 c5 σ a1 (x1) (x2) (fun v2 σ3 =>
 wD (FP.f2d v2) (fun v9 =>
 wU x3 (fun a10 =>
 wSD σ3 a10 (0 : Int32) (v9) (fun σ11 =>
 Q ((0 : Int32)) σ11)))) (fun E6 q7 σ8 => (E6 = "java/lang/IndexOutOfBoundsException" ∧ Q ((1 : Int32)) σ8) ∨ (E6 = "java/lang/IllegalArgumentException" ∧ Q ((2 : Int32)) σ8) ∨ (E6 = "java/util/NoSuchElementException" ∧ Q ((3 : Int32)) σ8)))))
set_option maxHeartbeats 8000000 in
theorem kw_X0_sample {G : KG} {bc bs : Nat} {σ : KHp} {x0 : Option Nat} {x1 : Int32} {x2 : Int32} {x3 : Option Nat} {Q : Int32 → KHp → Prop} {X : String → Nat → KHp → Prop} (h : W_X0_sample G bc bs σ x0 x1 x2 x3 Q X) : kx_c G yX0_sample (wsW_ yX0_sample cX0_sample 5 (Option.some Jvm.ClassFile.FieldType.int) [((0 : Nat), (10 : Nat), (13 : Nat), (28 : Nat)), ((0 : Nat), (10 : Nat), (17 : Nat), (19 : Nat)), ((0 : Nat), (10 : Nat), (21 : Nat), (59 : Nat))]) 11 bc bs [va_rf (x0), .int (x1), .int (x2), va_rf (x3)] σ (fun rv σ' => ∃ r, rv = some (.int (r)) ∧ Q r σ') X := by
  refine kx_mk3W (ini := false) rfl (by cases x0 <;> cases x3 <;> exact Nat.le_of_ble_eq_true rfl) (fun h => by cases h) (fun Q1 X1 hQ hX => ?_)
  unfold W_X0_sample at h
  refine kx_lwF [(0, va_rf (x0)), (1, .int (x1)), (2, .int (x2)), (3, va_rf (x3))] (by cases x0 <;> cases x3 <;> exact ⟨rfl, rfl, rfl, rfl, trivial⟩) ?_
  refine kx_aload_nO dX0_sample_0 rfl rfl ?_
  refine kx_iconst (v := 0) dX0_sample_1 (by decide) ?_
  refine kx_aload_nO dX0_sample_2 rfl rfl ?_
  refine kx_iload_n dX0_sample_3 rfl rfl ?_
  refine kx_iload_n dX0_sample_4 rfl rfl ?_
  obtain ⟨a1, rfl, hUa1⟩ := h
  have h := hUa1
  obtain ⟨hr, h⟩ := h
  obtain ⟨c4, c5, hc, hs, h⟩ := h
  refine kx_callV dX0_sample_5 lk_X0_55 (kw_X1_sample h) rfl (wR_rc hr rfl) rfl (by cases x3 <;> exact Nat.le_of_ble_eq_true rfl) (Nat.le_of_ble_eq_true rfl) (Nat.le_of_ble_eq_true rfl) hc hs (fun E6 q7 σ8 hx => ?_) (fun v_ σ3 hq => ?_)
  · rcases hx with ⟨rfl, h⟩ | ⟨rfl, h⟩ | ⟨rfl, h⟩
    · skip
      refine kx_catch (tableOf []) ⟨0, 10, 13, 28⟩ (tableOf [((0 : Nat), (10 : Nat), (17 : Nat), (19 : Nat)), ((0 : Nat), (10 : Nat), (21 : Nat), (59 : Nat))]) rfl (fun z hz => by cases hz) rfl (by decide) q2029 q1664 ?_
      refine kx_astore dX0_sample_13 (Nat.le_of_ble_eq_true rfl) ?_
      refine kx_iconst (v := 1) dX0_sample_15 (by decide) ?_
      exact kx_iret dX0_sample_16 rfl (hQ _ _ ⟨_, rfl, h⟩)
    · skip
      refine kx_catch (tableOf [((0 : Nat), (10 : Nat), (13 : Nat), (28 : Nat))]) ⟨0, 10, 17, 19⟩ (tableOf [((0 : Nat), (10 : Nat), (21 : Nat), (59 : Nat))]) rfl (by intro z hz; simp only [tableOf, List.map, List.mem_cons, List.not_mem_nil, or_false] at hz; rcases hz with rfl <;> exact Or.inr ⟨by decide, _, by first | exact ⟨q2029, (List.mem_of_getElem? (i := 161) rfl)⟩⟩) rfl (by decide) q1995 q234 ?_
      refine kx_astore dX0_sample_17 (Nat.le_of_ble_eq_true rfl) ?_
      refine kx_iconst (v := 2) dX0_sample_19 (by decide) ?_
      exact kx_iret dX0_sample_20 rfl (hQ _ _ ⟨_, rfl, h⟩)
    · skip
      refine kx_catch (tableOf [((0 : Nat), (10 : Nat), (13 : Nat), (28 : Nat)), ((0 : Nat), (10 : Nat), (17 : Nat), (19 : Nat))]) ⟨0, 10, 21, 59⟩ (tableOf []) rfl (by intro z hz; simp only [tableOf, List.map, List.mem_cons, List.not_mem_nil, or_false] at hz; rcases hz with rfl | rfl <;> exact Or.inr ⟨by decide, _, by first | exact ⟨q2029, (List.mem_of_getElem? (i := 188) rfl)⟩ | exact ⟨q1995, (List.mem_of_getElem? (i := 148) rfl)⟩⟩) rfl (by decide) q2354 q1532 ?_
      refine kx_astore dX0_sample_21 (Nat.le_of_ble_eq_true rfl) ?_
      refine kx_iconst (v := 3) dX0_sample_23 (by decide) ?_
      exact kx_iret dX0_sample_24 rfl (hQ _ _ ⟨_, rfl, h⟩)
  obtain ⟨v2, rfl, h⟩ := hq
  refine kW_f2d dX0_sample_8 h (fun v9 h => ?_)
  obtain ⟨a10, rfl, hUa10⟩ := h
  have h := hUa10
  refine kW_sD dX0_sample_9 h (fun σ11 h => ?_)
  refine kx_goto (tgt := 25) dX0_sample_10 (by decide) ?_
  refine kx_iconst (v := 0) dX0_sample_25 (by decide) ?_
  exact kx_iret dX0_sample_26 rfl (hQ _ _ ⟨_, rfl, h⟩)
def W_X0_feature (G : KG) (bc bs : Nat) (σ : KHp) (x0 : Option Nat) (x1 : Int32) (x2 : Int32) (x3 : Option Nat) (Q : Int32 → KHp → Prop) (X : String → Nat → KHp → Prop) : Prop :=
  wU x0 (fun a1 =>
 (wR σ a1 0 ∧
 wC bc bs (fun c4 c5 =>
 W_X1_feature G c4 c5 σ a1 (x1) (x2) (fun v2 σ3 =>
 wD (FP.f2d v2) (fun v9 =>
 wU x3 (fun a10 =>
 wSD σ3 a10 (0 : Int32) (v9) (fun σ11 =>
 Q ((0 : Int32)) σ11)))) (fun E6 q7 σ8 => (E6 = "java/lang/IndexOutOfBoundsException" ∧ Q ((1 : Int32)) σ8) ∨ (E6 = "java/lang/IllegalArgumentException" ∧ Q ((2 : Int32)) σ8) ∨ (E6 = "java/util/NoSuchElementException" ∧ Q ((3 : Int32)) σ8)))))
set_option maxHeartbeats 8000000 in
theorem kw_X0_feature {G : KG} {bc bs : Nat} {σ : KHp} {x0 : Option Nat} {x1 : Int32} {x2 : Int32} {x3 : Option Nat} {Q : Int32 → KHp → Prop} {X : String → Nat → KHp → Prop} (h : W_X0_feature G bc bs σ x0 x1 x2 x3 Q X) : kx_c G yX0_feature (wsW_ yX0_feature cX0_feature 5 (Option.some Jvm.ClassFile.FieldType.int) [((0 : Nat), (10 : Nat), (13 : Nat), (28 : Nat)), ((0 : Nat), (10 : Nat), (17 : Nat), (19 : Nat)), ((0 : Nat), (10 : Nat), (21 : Nat), (59 : Nat))]) 11 bc bs [va_rf (x0), .int (x1), .int (x2), va_rf (x3)] σ (fun rv σ' => ∃ r, rv = some (.int (r)) ∧ Q r σ') X := by
  refine kx_mk3W (ini := false) rfl (by cases x0 <;> cases x3 <;> exact Nat.le_of_ble_eq_true rfl) (fun h => by cases h) (fun Q1 X1 hQ hX => ?_)
  unfold W_X0_feature at h
  refine kx_lwF [(0, va_rf (x0)), (1, .int (x1)), (2, .int (x2)), (3, va_rf (x3))] (by cases x0 <;> cases x3 <;> exact ⟨rfl, rfl, rfl, rfl, trivial⟩) ?_
  refine kx_aload_nO dX0_feature_0 rfl rfl ?_
  refine kx_iconst (v := 0) dX0_feature_1 (by decide) ?_
  refine kx_aload_nO dX0_feature_2 rfl rfl ?_
  refine kx_iload_n dX0_feature_3 rfl rfl ?_
  refine kx_iload_n dX0_feature_4 rfl rfl ?_
  obtain ⟨a1, rfl, hUa1⟩ := h
  have h := hUa1
  obtain ⟨hr, h⟩ := h
  obtain ⟨c4, c5, hc, hs, h⟩ := h
  refine kx_callV dX0_feature_5 lk_X0_61 (kw_X1_feature h) rfl (wR_rc hr rfl) rfl (by cases x3 <;> exact Nat.le_of_ble_eq_true rfl) (Nat.le_of_ble_eq_true rfl) (Nat.le_of_ble_eq_true rfl) hc hs (fun E6 q7 σ8 hx => ?_) (fun v_ σ3 hq => ?_)
  · rcases hx with ⟨rfl, h⟩ | ⟨rfl, h⟩ | ⟨rfl, h⟩
    · skip
      refine kx_catch (tableOf []) ⟨0, 10, 13, 28⟩ (tableOf [((0 : Nat), (10 : Nat), (17 : Nat), (19 : Nat)), ((0 : Nat), (10 : Nat), (21 : Nat), (59 : Nat))]) rfl (fun z hz => by cases hz) rfl (by decide) q2029 q1664 ?_
      refine kx_astore dX0_feature_13 (Nat.le_of_ble_eq_true rfl) ?_
      refine kx_iconst (v := 1) dX0_feature_15 (by decide) ?_
      exact kx_iret dX0_feature_16 rfl (hQ _ _ ⟨_, rfl, h⟩)
    · skip
      refine kx_catch (tableOf [((0 : Nat), (10 : Nat), (13 : Nat), (28 : Nat))]) ⟨0, 10, 17, 19⟩ (tableOf [((0 : Nat), (10 : Nat), (21 : Nat), (59 : Nat))]) rfl (by intro z hz; simp only [tableOf, List.map, List.mem_cons, List.not_mem_nil, or_false] at hz; rcases hz with rfl <;> exact Or.inr ⟨by decide, _, by first | exact ⟨q2029, (List.mem_of_getElem? (i := 161) rfl)⟩⟩) rfl (by decide) q1995 q234 ?_
      refine kx_astore dX0_feature_17 (Nat.le_of_ble_eq_true rfl) ?_
      refine kx_iconst (v := 2) dX0_feature_19 (by decide) ?_
      exact kx_iret dX0_feature_20 rfl (hQ _ _ ⟨_, rfl, h⟩)
    · skip
      refine kx_catch (tableOf [((0 : Nat), (10 : Nat), (13 : Nat), (28 : Nat)), ((0 : Nat), (10 : Nat), (17 : Nat), (19 : Nat))]) ⟨0, 10, 21, 59⟩ (tableOf []) rfl (by intro z hz; simp only [tableOf, List.map, List.mem_cons, List.not_mem_nil, or_false] at hz; rcases hz with rfl | rfl <;> exact Or.inr ⟨by decide, _, by first | exact ⟨q2029, (List.mem_of_getElem? (i := 188) rfl)⟩ | exact ⟨q1995, (List.mem_of_getElem? (i := 148) rfl)⟩⟩) rfl (by decide) q2354 q1532 ?_
      refine kx_astore dX0_feature_21 (Nat.le_of_ble_eq_true rfl) ?_
      refine kx_iconst (v := 3) dX0_feature_23 (by decide) ?_
      exact kx_iret dX0_feature_24 rfl (hQ _ _ ⟨_, rfl, h⟩)
  obtain ⟨v2, rfl, h⟩ := hq
  refine kW_f2d dX0_feature_8 h (fun v9 h => ?_)
  obtain ⟨a10, rfl, hUa10⟩ := h
  have h := hUa10
  refine kW_sD dX0_feature_9 h (fun σ11 h => ?_)
  refine kx_goto (tgt := 25) dX0_feature_10 (by decide) ?_
  refine kx_iconst (v := 0) dX0_feature_25 (by decide) ?_
  exact kx_iret dX0_feature_26 rfl (hQ _ _ ⟨_, rfl, h⟩)
def W_X0_matching (G : KG) (bc bs : Nat) (σ : KHp) (x0 : Option Nat) (x1 : Int32) (x2 : Option Nat) (Q : Int32 → KHp → Prop) (X : String → Nat → KHp → Prop) : Prop :=
  wU x0 (fun a1 =>
 (wR σ a1 0 ∧
 wC bc bs (fun c4 c5 =>
 W_X1_matching G c4 c5 σ a1 (x1) (fun v2 σ3 =>
 wU x2 (fun a9 =>
 wSJ σ3 a9 (0 : Int32) (((v2).toInt64)) (fun σ10 =>
 Q ((0 : Int32)) σ10))) (fun E6 q7 σ8 => (E6 = "java/lang/IndexOutOfBoundsException" ∧ Q ((1 : Int32)) σ8)))))
set_option maxHeartbeats 8000000 in
theorem kw_X0_matching {G : KG} {bc bs : Nat} {σ : KHp} {x0 : Option Nat} {x1 : Int32} {x2 : Option Nat} {Q : Int32 → KHp → Prop} {X : String → Nat → KHp → Prop} (h : W_X0_matching G bc bs σ x0 x1 x2 Q X) : kx_c G yX0_matching (wsW_ yX0_matching cX0_matching 4 (Option.some Jvm.ClassFile.FieldType.int) [((0 : Nat), (9 : Nat), (12 : Nat), (28 : Nat))]) 11 bc bs [va_rf (x0), .int (x1), va_rf (x2)] σ (fun rv σ' => ∃ r, rv = some (.int (r)) ∧ Q r σ') X := by
  refine kx_mk3W (ini := false) rfl (by cases x0 <;> cases x2 <;> exact Nat.le_of_ble_eq_true rfl) (fun h => by cases h) (fun Q1 X1 hQ hX => ?_)
  unfold W_X0_matching at h
  refine kx_lwF [(0, va_rf (x0)), (1, .int (x1)), (2, va_rf (x2))] (by cases x0 <;> cases x2 <;> exact ⟨rfl, rfl, rfl, trivial⟩) ?_
  refine kx_aload_nO dX0_matching_0 rfl rfl ?_
  refine kx_iconst (v := 0) dX0_matching_1 (by decide) ?_
  refine kx_aload_nO dX0_matching_2 rfl rfl ?_
  refine kx_iload_n dX0_matching_3 rfl rfl ?_
  obtain ⟨a1, rfl, hUa1⟩ := h
  have h := hUa1
  obtain ⟨hr, h⟩ := h
  obtain ⟨c4, c5, hc, hs, h⟩ := h
  refine kx_callV dX0_matching_4 lk_X0_64 (kw_X1_matching h) rfl (wR_rc hr rfl) rfl (by cases x2 <;> exact Nat.le_of_ble_eq_true rfl) (Nat.le_of_ble_eq_true rfl) (Nat.le_of_ble_eq_true rfl) hc hs (fun E6 q7 σ8 hx => ?_) (fun v_ σ3 hq => ?_)
  · rcases hx with ⟨rfl, h⟩
    · skip
      refine kx_catch (tableOf []) ⟨0, 9, 12, 28⟩ (tableOf []) rfl (fun z hz => by cases hz) rfl (by decide) q2029 q1664 ?_
      refine kx_astore_n dX0_matching_12 rfl (Nat.le_of_ble_eq_true rfl) ?_
      refine kx_iconst (v := 1) dX0_matching_13 (by decide) ?_
      exact kx_iret dX0_matching_14 rfl (hQ _ _ ⟨_, rfl, h⟩)
  obtain ⟨v2, rfl, h⟩ := hq
  refine kx_i2l dX0_matching_7 rfl ?_
  obtain ⟨a9, rfl, hUa9⟩ := h
  have h := hUa9
  refine kW_sJ dX0_matching_8 h (fun σ10 h => ?_)
  refine kx_goto (tgt := 15) dX0_matching_9 (by decide) ?_
  refine kx_iconst (v := 0) dX0_matching_15 (by decide) ?_
  exact kx_iret dX0_matching_16 rfl (hQ _ _ ⟨_, rfl, h⟩)
def W_X0_hiding (G : KG) (bc bs : Nat) (σ : KHp) (x0 : Option Nat) (x1 : Int32) (x2 : Option Nat) (Q : Int32 → KHp → Prop) (X : String → Nat → KHp → Prop) : Prop :=
  wU x0 (fun a1 =>
 (wR σ a1 0 ∧
 wC bc bs (fun c4 c5 =>
 W_X1_hiding G c4 c5 σ a1 (x1) (fun v2 σ3 =>
 wU x2 (fun a9 =>
 wSJ σ3 a9 (0 : Int32) (((v2).toInt64)) (fun σ10 =>
 Q ((0 : Int32)) σ10))) (fun E6 q7 σ8 => (E6 = "java/lang/IndexOutOfBoundsException" ∧ Q ((1 : Int32)) σ8)))))
set_option maxHeartbeats 8000000 in
theorem kw_X0_hiding {G : KG} {bc bs : Nat} {σ : KHp} {x0 : Option Nat} {x1 : Int32} {x2 : Option Nat} {Q : Int32 → KHp → Prop} {X : String → Nat → KHp → Prop} (h : W_X0_hiding G bc bs σ x0 x1 x2 Q X) : kx_c G yX0_hiding (wsW_ yX0_hiding cX0_hiding 4 (Option.some Jvm.ClassFile.FieldType.int) [((0 : Nat), (9 : Nat), (12 : Nat), (28 : Nat))]) 11 bc bs [va_rf (x0), .int (x1), va_rf (x2)] σ (fun rv σ' => ∃ r, rv = some (.int (r)) ∧ Q r σ') X := by
  refine kx_mk3W (ini := false) rfl (by cases x0 <;> cases x2 <;> exact Nat.le_of_ble_eq_true rfl) (fun h => by cases h) (fun Q1 X1 hQ hX => ?_)
  unfold W_X0_hiding at h
  refine kx_lwF [(0, va_rf (x0)), (1, .int (x1)), (2, va_rf (x2))] (by cases x0 <;> cases x2 <;> exact ⟨rfl, rfl, rfl, trivial⟩) ?_
  refine kx_aload_nO dX0_hiding_0 rfl rfl ?_
  refine kx_iconst (v := 0) dX0_hiding_1 (by decide) ?_
  refine kx_aload_nO dX0_hiding_2 rfl rfl ?_
  refine kx_iload_n dX0_hiding_3 rfl rfl ?_
  obtain ⟨a1, rfl, hUa1⟩ := h
  have h := hUa1
  obtain ⟨hr, h⟩ := h
  obtain ⟨c4, c5, hc, hs, h⟩ := h
  refine kx_callV dX0_hiding_4 lk_X0_67 (kw_X1_hiding h) rfl (wR_rc hr rfl) rfl (by cases x2 <;> exact Nat.le_of_ble_eq_true rfl) (Nat.le_of_ble_eq_true rfl) (Nat.le_of_ble_eq_true rfl) hc hs (fun E6 q7 σ8 hx => ?_) (fun v_ σ3 hq => ?_)
  · rcases hx with ⟨rfl, h⟩
    · skip
      refine kx_catch (tableOf []) ⟨0, 9, 12, 28⟩ (tableOf []) rfl (fun z hz => by cases hz) rfl (by decide) q2029 q1664 ?_
      refine kx_astore_n dX0_hiding_12 rfl (Nat.le_of_ble_eq_true rfl) ?_
      refine kx_iconst (v := 1) dX0_hiding_13 (by decide) ?_
      exact kx_iret dX0_hiding_14 rfl (hQ _ _ ⟨_, rfl, h⟩)
  obtain ⟨v2, rfl, h⟩ := hq
  refine kx_i2l dX0_hiding_7 rfl ?_
  obtain ⟨a9, rfl, hUa9⟩ := h
  have h := hUa9
  refine kW_sJ dX0_hiding_8 h (fun σ10 h => ?_)
  refine kx_goto (tgt := 15) dX0_hiding_9 (by decide) ?_
  refine kx_iconst (v := 0) dX0_hiding_15 (by decide) ?_
  exact kx_iret dX0_hiding_16 rfl (hQ _ _ ⟨_, rfl, h⟩)
def W_X0_isSuspect (G : KG) (bc bs : Nat) (σ : KHp) (x0 : Option Nat) (x1 : Int32) (x2 : Option Nat) (Q : Int32 → KHp → Prop) (X : String → Nat → KHp → Prop) : Prop :=
  wU x0 (fun a1 =>
 (wR σ a1 0 ∧
 wC bc bs (fun c4 c5 =>
 W_X1_isSuspect G c4 c5 σ a1 (x1) (fun v2 σ3 =>
 jn (κ := Int64 → KHp → Nat → Nat → Prop) (fun v10 σ11 bcv10 bsv10 =>
 wU x2 (fun a12 =>
 wSJ σ11 a12 (0 : Int32) (v10) (fun σ13 =>
 Q ((0 : Int32)) σ13))) (fun k9 =>
 wIf (v2 = 0)
 (k9 (0 : Int64) σ3 (bc - c4) (bs - c5))
 (k9 (1 : Int64) σ3 (bc - c4) (bs - c5)))) (fun E6 q7 σ8 => (E6 = "java/lang/IndexOutOfBoundsException" ∧ Q ((1 : Int32)) σ8)))))
set_option maxHeartbeats 8000000 in
theorem kw_X0_isSuspect {G : KG} {bc bs : Nat} {σ : KHp} {x0 : Option Nat} {x1 : Int32} {x2 : Option Nat} {Q : Int32 → KHp → Prop} {X : String → Nat → KHp → Prop} (h : W_X0_isSuspect G bc bs σ x0 x1 x2 Q X) : kx_c G yX0_isSuspect (wsW_ yX0_isSuspect cX0_isSuspect 4 (Option.some Jvm.ClassFile.FieldType.int) [((0 : Nat), (16 : Nat), (19 : Nat), (28 : Nat))]) 11 bc bs [va_rf (x0), .int (x1), va_rf (x2)] σ (fun rv σ' => ∃ r, rv = some (.int (r)) ∧ Q r σ') X := by
  refine kx_mk3W (ini := false) rfl (by cases x0 <;> cases x2 <;> exact Nat.le_of_ble_eq_true rfl) (fun h => by cases h) (fun Q1 X1 hQ hX => ?_)
  unfold W_X0_isSuspect at h
  refine kx_lwF [(0, va_rf (x0)), (1, .int (x1)), (2, va_rf (x2))] (by cases x0 <;> cases x2 <;> exact ⟨rfl, rfl, rfl, trivial⟩) ?_
  refine kx_aload_nO dX0_isSuspect_0 rfl rfl ?_
  refine kx_iconst (v := 0) dX0_isSuspect_1 (by decide) ?_
  refine kx_aload_nO dX0_isSuspect_2 rfl rfl ?_
  refine kx_iload_n dX0_isSuspect_3 rfl rfl ?_
  obtain ⟨a1, rfl, hUa1⟩ := h
  have h := hUa1
  obtain ⟨hr, h⟩ := h
  obtain ⟨c4, c5, hc, hs, h⟩ := h
  refine kx_callV dX0_isSuspect_4 lk_X0_70 (kw_X1_isSuspect h) rfl (wR_rc hr rfl) rfl (by cases x2 <;> exact Nat.le_of_ble_eq_true rfl) (Nat.le_of_ble_eq_true rfl) (Nat.le_of_ble_eq_true rfl) hc hs (fun E6 q7 σ8 hx => ?_) (fun v_ σ3 hq => ?_)
  · rcases hx with ⟨rfl, h⟩
    · skip
      refine kx_catch (tableOf []) ⟨0, 16, 19, 28⟩ (tableOf []) rfl (fun z hz => by cases hz) rfl (by decide) q2029 q1664 ?_
      refine kx_astore_n dX0_isSuspect_19 rfl (Nat.le_of_ble_eq_true rfl) ?_
      refine kx_iconst (v := 1) dX0_isSuspect_20 (by decide) ?_
      exact kx_iret dX0_isSuspect_21 rfl (hQ _ _ ⟨_, rfl, h⟩)
  obtain ⟨v2, rfl, h⟩ := hq
  refine kW_jLa 15 [.int ((0 : Int32)), va_rf (x2)] h (fun v10 σ11 bcv10 bsv10 h => ?_) (fun k9 jk9 h => ?_)
  · skip
    obtain ⟨a12, rfl, hUa12⟩ := h
    have h := hUa12
    refine kW_sJ dX0_isSuspect_15 h (fun σ13 h => ?_)
    refine kx_goto (tgt := 22) dX0_isSuspect_16 (by decide) ?_
    refine kx_iconst (v := 0) dX0_isSuspect_22 (by decide) ?_
    exact kx_iret dX0_isSuspect_23 rfl (hQ _ _ ⟨_, rfl, h⟩)
  · skip
    refine kx_if_eq (tgt := 14) dX0_isSuspect_7 (by decide) (fun c => ?_) (fun c => ?_)
    · have h := w_ift c h
      refine kx_lconst (v := 0) dX0_isSuspect_14 (by decide) ?_
      exact jk9 _ _ _ _ h
    · have h := w_iff c h
      refine kx_lconst (v := 1) dX0_isSuspect_10 (by decide) ?_
      refine kx_goto (tgt := 15) dX0_isSuspect_11 (by decide) ?_
      exact jk9 _ _ _ _ h
def W_X0_wasSuspect (G : KG) (bc bs : Nat) (σ : KHp) (x0 : Option Nat) (x1 : Int32) (x2 : Int32) (x3 : Option Nat) (Q : Int32 → KHp → Prop) (X : String → Nat → KHp → Prop) : Prop :=
  wU x0 (fun a1 =>
 (wR σ a1 0 ∧
 wC bc bs (fun c4 c5 =>
 W_X1_wasSuspect G c4 c5 σ a1 (x1) (x2) (fun v2 σ3 =>
 jn (κ := Int64 → KHp → Nat → Nat → Prop) (fun v10 σ11 bcv10 bsv10 =>
 wU x3 (fun a12 =>
 wSJ σ11 a12 (0 : Int32) (v10) (fun σ13 =>
 Q ((0 : Int32)) σ13))) (fun k9 =>
 wIf (v2 = 0)
 (k9 (0 : Int64) σ3 (bc - c4) (bs - c5))
 (k9 (1 : Int64) σ3 (bc - c4) (bs - c5)))) (fun E6 q7 σ8 => (E6 = "java/lang/IndexOutOfBoundsException" ∧ Q ((1 : Int32)) σ8) ∨ (E6 = "java/lang/IllegalArgumentException" ∧ Q ((2 : Int32)) σ8)))))
set_option maxHeartbeats 8000000 in
theorem kw_X0_wasSuspect {G : KG} {bc bs : Nat} {σ : KHp} {x0 : Option Nat} {x1 : Int32} {x2 : Int32} {x3 : Option Nat} {Q : Int32 → KHp → Prop} {X : String → Nat → KHp → Prop} (h : W_X0_wasSuspect G bc bs σ x0 x1 x2 x3 Q X) : kx_c G yX0_wasSuspect (wsW_ yX0_wasSuspect cX0_wasSuspect 5 (Option.some Jvm.ClassFile.FieldType.int) [((0 : Nat), (17 : Nat), (20 : Nat), (28 : Nat)), ((0 : Nat), (17 : Nat), (24 : Nat), (19 : Nat))]) 11 bc bs [va_rf (x0), .int (x1), .int (x2), va_rf (x3)] σ (fun rv σ' => ∃ r, rv = some (.int (r)) ∧ Q r σ') X := by
  refine kx_mk3W (ini := false) rfl (by cases x0 <;> cases x3 <;> exact Nat.le_of_ble_eq_true rfl) (fun h => by cases h) (fun Q1 X1 hQ hX => ?_)
  unfold W_X0_wasSuspect at h
  refine kx_lwF [(0, va_rf (x0)), (1, .int (x1)), (2, .int (x2)), (3, va_rf (x3))] (by cases x0 <;> cases x3 <;> exact ⟨rfl, rfl, rfl, rfl, trivial⟩) ?_
  refine kx_aload_nO dX0_wasSuspect_0 rfl rfl ?_
  refine kx_iconst (v := 0) dX0_wasSuspect_1 (by decide) ?_
  refine kx_aload_nO dX0_wasSuspect_2 rfl rfl ?_
  refine kx_iload_n dX0_wasSuspect_3 rfl rfl ?_
  refine kx_iload_n dX0_wasSuspect_4 rfl rfl ?_
  obtain ⟨a1, rfl, hUa1⟩ := h
  have h := hUa1
  obtain ⟨hr, h⟩ := h
  obtain ⟨c4, c5, hc, hs, h⟩ := h
  refine kx_callV dX0_wasSuspect_5 lk_X0_76 (kw_X1_wasSuspect h) rfl (wR_rc hr rfl) rfl (by cases x3 <;> exact Nat.le_of_ble_eq_true rfl) (Nat.le_of_ble_eq_true rfl) (Nat.le_of_ble_eq_true rfl) hc hs (fun E6 q7 σ8 hx => ?_) (fun v_ σ3 hq => ?_)
  · rcases hx with ⟨rfl, h⟩ | ⟨rfl, h⟩
    · skip
      refine kx_catch (tableOf []) ⟨0, 17, 20, 28⟩ (tableOf [((0 : Nat), (17 : Nat), (24 : Nat), (19 : Nat))]) rfl (fun z hz => by cases hz) rfl (by decide) q2029 q1664 ?_
      refine kx_astore dX0_wasSuspect_20 (Nat.le_of_ble_eq_true rfl) ?_
      refine kx_iconst (v := 1) dX0_wasSuspect_22 (by decide) ?_
      exact kx_iret dX0_wasSuspect_23 rfl (hQ _ _ ⟨_, rfl, h⟩)
    · skip
      refine kx_catch (tableOf [((0 : Nat), (17 : Nat), (20 : Nat), (28 : Nat))]) ⟨0, 17, 24, 19⟩ (tableOf []) rfl (by intro z hz; simp only [tableOf, List.map, List.mem_cons, List.not_mem_nil, or_false] at hz; rcases hz with rfl <;> exact Or.inr ⟨by decide, _, by first | exact ⟨q2029, (List.mem_of_getElem? (i := 161) rfl)⟩⟩) rfl (by decide) q1995 q234 ?_
      refine kx_astore dX0_wasSuspect_24 (Nat.le_of_ble_eq_true rfl) ?_
      refine kx_iconst (v := 2) dX0_wasSuspect_26 (by decide) ?_
      exact kx_iret dX0_wasSuspect_27 rfl (hQ _ _ ⟨_, rfl, h⟩)
  obtain ⟨v2, rfl, h⟩ := hq
  refine kW_jLa 16 [.int ((0 : Int32)), va_rf (x3)] h (fun v10 σ11 bcv10 bsv10 h => ?_) (fun k9 jk9 h => ?_)
  · skip
    obtain ⟨a12, rfl, hUa12⟩ := h
    have h := hUa12
    refine kW_sJ dX0_wasSuspect_16 h (fun σ13 h => ?_)
    refine kx_goto (tgt := 28) dX0_wasSuspect_17 (by decide) ?_
    refine kx_iconst (v := 0) dX0_wasSuspect_28 (by decide) ?_
    exact kx_iret dX0_wasSuspect_29 rfl (hQ _ _ ⟨_, rfl, h⟩)
  · skip
    refine kx_if_eq (tgt := 15) dX0_wasSuspect_8 (by decide) (fun c => ?_) (fun c => ?_)
    · have h := w_ift c h
      refine kx_lconst (v := 0) dX0_wasSuspect_15 (by decide) ?_
      exact jk9 _ _ _ _ h
    · have h := w_iff c h
      refine kx_lconst (v := 1) dX0_wasSuspect_11 (by decide) ?_
      refine kx_goto (tgt := 16) dX0_wasSuspect_12 (by decide) ?_
      exact jk9 _ _ _ _ h
def W_X0_isAlways (G : KG) (bc bs : Nat) (σ : KHp) (x0 : Option Nat) (x1 : Int32) (x2 : Option Nat) (Q : Int32 → KHp → Prop) (X : String → Nat → KHp → Prop) : Prop :=
  wU x0 (fun a1 =>
 (wR σ a1 0 ∧
 wC bc bs (fun c4 c5 =>
 W_X1_isAlways G c4 c5 σ a1 (x1) (fun v2 σ3 =>
 jn (κ := Int64 → KHp → Nat → Nat → Prop) (fun v10 σ11 bcv10 bsv10 =>
 wU x2 (fun a12 =>
 wSJ σ11 a12 (0 : Int32) (v10) (fun σ13 =>
 Q ((0 : Int32)) σ13))) (fun k9 =>
 wIf (v2 = 0)
 (k9 (0 : Int64) σ3 (bc - c4) (bs - c5))
 (k9 (1 : Int64) σ3 (bc - c4) (bs - c5)))) (fun E6 q7 σ8 => (E6 = "java/lang/IndexOutOfBoundsException" ∧ Q ((1 : Int32)) σ8)))))
set_option maxHeartbeats 8000000 in
theorem kw_X0_isAlways {G : KG} {bc bs : Nat} {σ : KHp} {x0 : Option Nat} {x1 : Int32} {x2 : Option Nat} {Q : Int32 → KHp → Prop} {X : String → Nat → KHp → Prop} (h : W_X0_isAlways G bc bs σ x0 x1 x2 Q X) : kx_c G yX0_isAlways (wsW_ yX0_isAlways cX0_isAlways 4 (Option.some Jvm.ClassFile.FieldType.int) [((0 : Nat), (16 : Nat), (19 : Nat), (28 : Nat))]) 11 bc bs [va_rf (x0), .int (x1), va_rf (x2)] σ (fun rv σ' => ∃ r, rv = some (.int (r)) ∧ Q r σ') X := by
  refine kx_mk3W (ini := false) rfl (by cases x0 <;> cases x2 <;> exact Nat.le_of_ble_eq_true rfl) (fun h => by cases h) (fun Q1 X1 hQ hX => ?_)
  unfold W_X0_isAlways at h
  refine kx_lwF [(0, va_rf (x0)), (1, .int (x1)), (2, va_rf (x2))] (by cases x0 <;> cases x2 <;> exact ⟨rfl, rfl, rfl, trivial⟩) ?_
  refine kx_aload_nO dX0_isAlways_0 rfl rfl ?_
  refine kx_iconst (v := 0) dX0_isAlways_1 (by decide) ?_
  refine kx_aload_nO dX0_isAlways_2 rfl rfl ?_
  refine kx_iload_n dX0_isAlways_3 rfl rfl ?_
  obtain ⟨a1, rfl, hUa1⟩ := h
  have h := hUa1
  obtain ⟨hr, h⟩ := h
  obtain ⟨c4, c5, hc, hs, h⟩ := h
  refine kx_callV dX0_isAlways_4 lk_X0_86 (kw_X1_isAlways h) rfl (wR_rc hr rfl) rfl (by cases x2 <;> exact Nat.le_of_ble_eq_true rfl) (Nat.le_of_ble_eq_true rfl) (Nat.le_of_ble_eq_true rfl) hc hs (fun E6 q7 σ8 hx => ?_) (fun v_ σ3 hq => ?_)
  · rcases hx with ⟨rfl, h⟩
    · skip
      refine kx_catch (tableOf []) ⟨0, 16, 19, 28⟩ (tableOf []) rfl (fun z hz => by cases hz) rfl (by decide) q2029 q1664 ?_
      refine kx_astore_n dX0_isAlways_19 rfl (Nat.le_of_ble_eq_true rfl) ?_
      refine kx_iconst (v := 1) dX0_isAlways_20 (by decide) ?_
      exact kx_iret dX0_isAlways_21 rfl (hQ _ _ ⟨_, rfl, h⟩)
  obtain ⟨v2, rfl, h⟩ := hq
  refine kW_jLa 15 [.int ((0 : Int32)), va_rf (x2)] h (fun v10 σ11 bcv10 bsv10 h => ?_) (fun k9 jk9 h => ?_)
  · skip
    obtain ⟨a12, rfl, hUa12⟩ := h
    have h := hUa12
    refine kW_sJ dX0_isAlways_15 h (fun σ13 h => ?_)
    refine kx_goto (tgt := 22) dX0_isAlways_16 (by decide) ?_
    refine kx_iconst (v := 0) dX0_isAlways_22 (by decide) ?_
    exact kx_iret dX0_isAlways_23 rfl (hQ _ _ ⟨_, rfl, h⟩)
  · skip
    refine kx_if_eq (tgt := 14) dX0_isAlways_7 (by decide) (fun c => ?_) (fun c => ?_)
    · have h := w_ift c h
      refine kx_lconst (v := 0) dX0_isAlways_14 (by decide) ?_
      exact jk9 _ _ _ _ h
    · have h := w_iff c h
      refine kx_lconst (v := 1) dX0_isAlways_10 (by decide) ?_
      refine kx_goto (tgt := 15) dX0_isAlways_11 (by decide) ?_
      exact jk9 _ _ _ _ h
def W_X0_isTested (G : KG) (bc bs : Nat) (σ : KHp) (x0 : Option Nat) (x1 : Int32) (x2 : Option Nat) (Q : Int32 → KHp → Prop) (X : String → Nat → KHp → Prop) : Prop :=
  wU x0 (fun a1 =>
 (wR σ a1 0 ∧
 wC bc bs (fun c4 c5 =>
 W_X1_isTested G c4 c5 σ a1 (x1) (fun v2 σ3 =>
 jn (κ := Int64 → KHp → Nat → Nat → Prop) (fun v10 σ11 bcv10 bsv10 =>
 wU x2 (fun a12 =>
 wSJ σ11 a12 (0 : Int32) (v10) (fun σ13 =>
 Q ((0 : Int32)) σ13))) (fun k9 =>
 wIf (v2 = 0)
 (k9 (0 : Int64) σ3 (bc - c4) (bs - c5))
 (k9 (1 : Int64) σ3 (bc - c4) (bs - c5)))) (fun E6 q7 σ8 => (E6 = "java/lang/IndexOutOfBoundsException" ∧ Q ((1 : Int32)) σ8)))))
set_option maxHeartbeats 8000000 in
theorem kw_X0_isTested {G : KG} {bc bs : Nat} {σ : KHp} {x0 : Option Nat} {x1 : Int32} {x2 : Option Nat} {Q : Int32 → KHp → Prop} {X : String → Nat → KHp → Prop} (h : W_X0_isTested G bc bs σ x0 x1 x2 Q X) : kx_c G yX0_isTested (wsW_ yX0_isTested cX0_isTested 4 (Option.some Jvm.ClassFile.FieldType.int) [((0 : Nat), (16 : Nat), (19 : Nat), (28 : Nat))]) 11 bc bs [va_rf (x0), .int (x1), va_rf (x2)] σ (fun rv σ' => ∃ r, rv = some (.int (r)) ∧ Q r σ') X := by
  refine kx_mk3W (ini := false) rfl (by cases x0 <;> cases x2 <;> exact Nat.le_of_ble_eq_true rfl) (fun h => by cases h) (fun Q1 X1 hQ hX => ?_)
  unfold W_X0_isTested at h
  refine kx_lwF [(0, va_rf (x0)), (1, .int (x1)), (2, va_rf (x2))] (by cases x0 <;> cases x2 <;> exact ⟨rfl, rfl, rfl, trivial⟩) ?_
  refine kx_aload_nO dX0_isTested_0 rfl rfl ?_
  refine kx_iconst (v := 0) dX0_isTested_1 (by decide) ?_
  refine kx_aload_nO dX0_isTested_2 rfl rfl ?_
  refine kx_iload_n dX0_isTested_3 rfl rfl ?_
  obtain ⟨a1, rfl, hUa1⟩ := h
  have h := hUa1
  obtain ⟨hr, h⟩ := h
  obtain ⟨c4, c5, hc, hs, h⟩ := h
  refine kx_callV dX0_isTested_4 lk_X0_114 (kw_X1_isTested h) rfl (wR_rc hr rfl) rfl (by cases x2 <;> exact Nat.le_of_ble_eq_true rfl) (Nat.le_of_ble_eq_true rfl) (Nat.le_of_ble_eq_true rfl) hc hs (fun E6 q7 σ8 hx => ?_) (fun v_ σ3 hq => ?_)
  · rcases hx with ⟨rfl, h⟩
    · skip
      refine kx_catch (tableOf []) ⟨0, 16, 19, 28⟩ (tableOf []) rfl (fun z hz => by cases hz) rfl (by decide) q2029 q1664 ?_
      refine kx_astore_n dX0_isTested_19 rfl (Nat.le_of_ble_eq_true rfl) ?_
      refine kx_iconst (v := 1) dX0_isTested_20 (by decide) ?_
      exact kx_iret dX0_isTested_21 rfl (hQ _ _ ⟨_, rfl, h⟩)
  obtain ⟨v2, rfl, h⟩ := hq
  refine kW_jLa 15 [.int ((0 : Int32)), va_rf (x2)] h (fun v10 σ11 bcv10 bsv10 h => ?_) (fun k9 jk9 h => ?_)
  · skip
    obtain ⟨a12, rfl, hUa12⟩ := h
    have h := hUa12
    refine kW_sJ dX0_isTested_15 h (fun σ13 h => ?_)
    refine kx_goto (tgt := 22) dX0_isTested_16 (by decide) ?_
    refine kx_iconst (v := 0) dX0_isTested_22 (by decide) ?_
    exact kx_iret dX0_isTested_23 rfl (hQ _ _ ⟨_, rfl, h⟩)
  · skip
    refine kx_if_eq (tgt := 14) dX0_isTested_7 (by decide) (fun c => ?_) (fun c => ?_)
    · have h := w_ift c h
      refine kx_lconst (v := 0) dX0_isTested_14 (by decide) ?_
      exact jk9 _ _ _ _ h
    · have h := w_iff c h
      refine kx_lconst (v := 1) dX0_isTested_10 (by decide) ?_
      refine kx_goto (tgt := 15) dX0_isTested_11 (by decide) ?_
      exact jk9 _ _ _ _ h
def W_X0_trips (G : KG) (bc bs : Nat) (σ : KHp) (x0 : Option Nat) (x1 : Int32) (x2 : Option Nat) (Q : Int32 → KHp → Prop) (X : String → Nat → KHp → Prop) : Prop :=
  wU x0 (fun a1 =>
 (wR σ a1 0 ∧
 wC bc bs (fun c4 c5 =>
 W_X1_trips G c4 c5 σ a1 (x1) (fun v2 σ3 =>
 wU x2 (fun a9 =>
 wSJ σ3 a9 (0 : Int32) (((v2).toInt64)) (fun σ10 =>
 Q ((0 : Int32)) σ10))) (fun E6 q7 σ8 => (E6 = "java/lang/IndexOutOfBoundsException" ∧ Q ((1 : Int32)) σ8)))))
set_option maxHeartbeats 8000000 in
theorem kw_X0_trips {G : KG} {bc bs : Nat} {σ : KHp} {x0 : Option Nat} {x1 : Int32} {x2 : Option Nat} {Q : Int32 → KHp → Prop} {X : String → Nat → KHp → Prop} (h : W_X0_trips G bc bs σ x0 x1 x2 Q X) : kx_c G yX0_trips (wsW_ yX0_trips cX0_trips 4 (Option.some Jvm.ClassFile.FieldType.int) [((0 : Nat), (9 : Nat), (12 : Nat), (28 : Nat))]) 11 bc bs [va_rf (x0), .int (x1), va_rf (x2)] σ (fun rv σ' => ∃ r, rv = some (.int (r)) ∧ Q r σ') X := by
  refine kx_mk3W (ini := false) rfl (by cases x0 <;> cases x2 <;> exact Nat.le_of_ble_eq_true rfl) (fun h => by cases h) (fun Q1 X1 hQ hX => ?_)
  unfold W_X0_trips at h
  refine kx_lwF [(0, va_rf (x0)), (1, .int (x1)), (2, va_rf (x2))] (by cases x0 <;> cases x2 <;> exact ⟨rfl, rfl, rfl, trivial⟩) ?_
  refine kx_aload_nO dX0_trips_0 rfl rfl ?_
  refine kx_iconst (v := 0) dX0_trips_1 (by decide) ?_
  refine kx_aload_nO dX0_trips_2 rfl rfl ?_
  refine kx_iload_n dX0_trips_3 rfl rfl ?_
  obtain ⟨a1, rfl, hUa1⟩ := h
  have h := hUa1
  obtain ⟨hr, h⟩ := h
  obtain ⟨c4, c5, hc, hs, h⟩ := h
  refine kx_callV dX0_trips_4 lk_X0_117 (kw_X1_trips h) rfl (wR_rc hr rfl) rfl (by cases x2 <;> exact Nat.le_of_ble_eq_true rfl) (Nat.le_of_ble_eq_true rfl) (Nat.le_of_ble_eq_true rfl) hc hs (fun E6 q7 σ8 hx => ?_) (fun v_ σ3 hq => ?_)
  · rcases hx with ⟨rfl, h⟩
    · skip
      refine kx_catch (tableOf []) ⟨0, 9, 12, 28⟩ (tableOf []) rfl (fun z hz => by cases hz) rfl (by decide) q2029 q1664 ?_
      refine kx_astore_n dX0_trips_12 rfl (Nat.le_of_ble_eq_true rfl) ?_
      refine kx_iconst (v := 1) dX0_trips_13 (by decide) ?_
      exact kx_iret dX0_trips_14 rfl (hQ _ _ ⟨_, rfl, h⟩)
  obtain ⟨v2, rfl, h⟩ := hq
  refine kx_i2l dX0_trips_7 rfl ?_
  obtain ⟨a9, rfl, hUa9⟩ := h
  have h := hUa9
  refine kW_sJ dX0_trips_8 h (fun σ10 h => ?_)
  refine kx_goto (tgt := 15) dX0_trips_9 (by decide) ?_
  refine kx_iconst (v := 0) dX0_trips_15 (by decide) ?_
  exact kx_iret dX0_trips_16 rfl (hQ _ _ ⟨_, rfl, h⟩)
def W_X0_loadSample (G : KG) (bc bs : Nat) (σ : KHp) (x0 : Option Nat) (x1 : Int32) (x2 : Int32) (x3 : Option Nat) (Q : Int32 → KHp → Prop) (X : String → Nat → KHp → Prop) : Prop :=
  wU x0 (fun a1 =>
 (wR σ a1 0 ∧
 wC bc bs (fun c4 c5 =>
 W_X1_loadSample G c4 c5 σ a1 (x1) (x2) (fun v2 σ3 =>
 wD (FP.f2d v2) (fun v9 =>
 wU x3 (fun a10 =>
 wSD σ3 a10 (0 : Int32) (v9) (fun σ11 =>
 Q ((0 : Int32)) σ11)))) (fun E6 q7 σ8 => (E6 = "java/lang/IndexOutOfBoundsException" ∧ Q ((1 : Int32)) σ8) ∨ (E6 = "java/lang/IllegalArgumentException" ∧ Q ((2 : Int32)) σ8)))))
set_option maxHeartbeats 8000000 in
theorem kw_X0_loadSample {G : KG} {bc bs : Nat} {σ : KHp} {x0 : Option Nat} {x1 : Int32} {x2 : Int32} {x3 : Option Nat} {Q : Int32 → KHp → Prop} {X : String → Nat → KHp → Prop} (h : W_X0_loadSample G bc bs σ x0 x1 x2 x3 Q X) : kx_c G yX0_loadSample (wsW_ yX0_loadSample cX0_loadSample 5 (Option.some Jvm.ClassFile.FieldType.int) [((0 : Nat), (10 : Nat), (13 : Nat), (28 : Nat)), ((0 : Nat), (10 : Nat), (17 : Nat), (19 : Nat))]) 11 bc bs [va_rf (x0), .int (x1), .int (x2), va_rf (x3)] σ (fun rv σ' => ∃ r, rv = some (.int (r)) ∧ Q r σ') X := by
  refine kx_mk3W (ini := false) rfl (by cases x0 <;> cases x3 <;> exact Nat.le_of_ble_eq_true rfl) (fun h => by cases h) (fun Q1 X1 hQ hX => ?_)
  unfold W_X0_loadSample at h
  refine kx_lwF [(0, va_rf (x0)), (1, .int (x1)), (2, .int (x2)), (3, va_rf (x3))] (by cases x0 <;> cases x3 <;> exact ⟨rfl, rfl, rfl, rfl, trivial⟩) ?_
  refine kx_aload_nO dX0_loadSample_0 rfl rfl ?_
  refine kx_iconst (v := 0) dX0_loadSample_1 (by decide) ?_
  refine kx_aload_nO dX0_loadSample_2 rfl rfl ?_
  refine kx_iload_n dX0_loadSample_3 rfl rfl ?_
  refine kx_iload_n dX0_loadSample_4 rfl rfl ?_
  obtain ⟨a1, rfl, hUa1⟩ := h
  have h := hUa1
  obtain ⟨hr, h⟩ := h
  obtain ⟨c4, c5, hc, hs, h⟩ := h
  refine kx_callV dX0_loadSample_5 lk_X0_149 (kw_X1_loadSample h) rfl (wR_rc hr rfl) rfl (by cases x3 <;> exact Nat.le_of_ble_eq_true rfl) (Nat.le_of_ble_eq_true rfl) (Nat.le_of_ble_eq_true rfl) hc hs (fun E6 q7 σ8 hx => ?_) (fun v_ σ3 hq => ?_)
  · rcases hx with ⟨rfl, h⟩ | ⟨rfl, h⟩
    · skip
      refine kx_catch (tableOf []) ⟨0, 10, 13, 28⟩ (tableOf [((0 : Nat), (10 : Nat), (17 : Nat), (19 : Nat))]) rfl (fun z hz => by cases hz) rfl (by decide) q2029 q1664 ?_
      refine kx_astore dX0_loadSample_13 (Nat.le_of_ble_eq_true rfl) ?_
      refine kx_iconst (v := 1) dX0_loadSample_15 (by decide) ?_
      exact kx_iret dX0_loadSample_16 rfl (hQ _ _ ⟨_, rfl, h⟩)
    · skip
      refine kx_catch (tableOf [((0 : Nat), (10 : Nat), (13 : Nat), (28 : Nat))]) ⟨0, 10, 17, 19⟩ (tableOf []) rfl (by intro z hz; simp only [tableOf, List.map, List.mem_cons, List.not_mem_nil, or_false] at hz; rcases hz with rfl <;> exact Or.inr ⟨by decide, _, by first | exact ⟨q2029, (List.mem_of_getElem? (i := 161) rfl)⟩⟩) rfl (by decide) q1995 q234 ?_
      refine kx_astore dX0_loadSample_17 (Nat.le_of_ble_eq_true rfl) ?_
      refine kx_iconst (v := 2) dX0_loadSample_19 (by decide) ?_
      exact kx_iret dX0_loadSample_20 rfl (hQ _ _ ⟨_, rfl, h⟩)
  obtain ⟨v2, rfl, h⟩ := hq
  refine kW_f2d dX0_loadSample_8 h (fun v9 h => ?_)
  obtain ⟨a10, rfl, hUa10⟩ := h
  have h := hUa10
  refine kW_sD dX0_loadSample_9 h (fun σ11 h => ?_)
  refine kx_goto (tgt := 21) dX0_loadSample_10 (by decide) ?_
  refine kx_iconst (v := 0) dX0_loadSample_21 (by decide) ?_
  exact kx_iret dX0_loadSample_22 rfl (hQ _ _ ⟨_, rfl, h⟩)
def W_X0_rated (G : KG) (bc bs : Nat) (σ : KHp) (x0 : Option Nat) (x1 : Int32) (x2 : Option Nat) (Q : Int32 → KHp → Prop) (X : String → Nat → KHp → Prop) : Prop :=
  wU x0 (fun a1 =>
 (wR σ a1 0 ∧
 wC bc bs (fun c4 c5 =>
 W_X1_rated G c4 c5 σ a1 (x1) (fun v2 σ3 =>
 wU x2 (fun a9 =>
 wSJ σ3 a9 (0 : Int32) (((v2).toInt64)) (fun σ10 =>
 Q ((0 : Int32)) σ10))) (fun E6 q7 σ8 => (E6 = "java/lang/IndexOutOfBoundsException" ∧ Q ((1 : Int32)) σ8)))))
set_option maxHeartbeats 8000000 in
theorem kw_X0_rated {G : KG} {bc bs : Nat} {σ : KHp} {x0 : Option Nat} {x1 : Int32} {x2 : Option Nat} {Q : Int32 → KHp → Prop} {X : String → Nat → KHp → Prop} (h : W_X0_rated G bc bs σ x0 x1 x2 Q X) : kx_c G yX0_rated (wsW_ yX0_rated cX0_rated 4 (Option.some Jvm.ClassFile.FieldType.int) [((0 : Nat), (9 : Nat), (12 : Nat), (28 : Nat))]) 11 bc bs [va_rf (x0), .int (x1), va_rf (x2)] σ (fun rv σ' => ∃ r, rv = some (.int (r)) ∧ Q r σ') X := by
  refine kx_mk3W (ini := false) rfl (by cases x0 <;> cases x2 <;> exact Nat.le_of_ble_eq_true rfl) (fun h => by cases h) (fun Q1 X1 hQ hX => ?_)
  unfold W_X0_rated at h
  refine kx_lwF [(0, va_rf (x0)), (1, .int (x1)), (2, va_rf (x2))] (by cases x0 <;> cases x2 <;> exact ⟨rfl, rfl, rfl, trivial⟩) ?_
  refine kx_aload_nO dX0_rated_0 rfl rfl ?_
  refine kx_iconst (v := 0) dX0_rated_1 (by decide) ?_
  refine kx_aload_nO dX0_rated_2 rfl rfl ?_
  refine kx_iload_n dX0_rated_3 rfl rfl ?_
  obtain ⟨a1, rfl, hUa1⟩ := h
  have h := hUa1
  obtain ⟨hr, h⟩ := h
  obtain ⟨c4, c5, hc, hs, h⟩ := h
  refine kx_callV dX0_rated_4 lk_X0_25 (kw_X1_rated h) rfl (wR_rc hr rfl) rfl (by cases x2 <;> exact Nat.le_of_ble_eq_true rfl) (Nat.le_of_ble_eq_true rfl) (Nat.le_of_ble_eq_true rfl) hc hs (fun E6 q7 σ8 hx => ?_) (fun v_ σ3 hq => ?_)
  · rcases hx with ⟨rfl, h⟩
    · skip
      refine kx_catch (tableOf []) ⟨0, 9, 12, 28⟩ (tableOf []) rfl (fun z hz => by cases hz) rfl (by decide) q2029 q1664 ?_
      refine kx_astore_n dX0_rated_12 rfl (Nat.le_of_ble_eq_true rfl) ?_
      refine kx_iconst (v := 1) dX0_rated_13 (by decide) ?_
      exact kx_iret dX0_rated_14 rfl (hQ _ _ ⟨_, rfl, h⟩)
  obtain ⟨v2, rfl, h⟩ := hq
  refine kx_i2l dX0_rated_7 rfl ?_
  obtain ⟨a9, rfl, hUa9⟩ := h
  have h := hUa9
  refine kW_sJ dX0_rated_8 h (fun σ10 h => ?_)
  refine kx_goto (tgt := 15) dX0_rated_9 (by decide) ?_
  refine kx_iconst (v := 0) dX0_rated_15 (by decide) ?_
  exact kx_iret dX0_rated_16 rfl (hQ _ _ ⟨_, rfl, h⟩)
def W_X0_loadOf (G : KG) (bc bs : Nat) (σ : KHp) (x0 : Option Nat) (x1 : Int32) (x2 : Int32) (x3 : Option Nat) (Q : Int32 → KHp → Prop) (X : String → Nat → KHp → Prop) : Prop :=
  wU x0 (fun a1 =>
 (wR σ a1 0 ∧
 wC bc bs (fun c4 c5 =>
 W_X1_loadOf G c4 c5 σ a1 (x1) (x2) (fun v2 σ3 =>
 wU x3 (fun a9 =>
 wSJ σ3 a9 (0 : Int32) (((v2).toInt64)) (fun σ10 =>
 Q ((0 : Int32)) σ10))) (fun E6 q7 σ8 => (E6 = "java/lang/IndexOutOfBoundsException" ∧ Q ((1 : Int32)) σ8) ∨ (E6 = "java/lang/IllegalArgumentException" ∧ Q ((2 : Int32)) σ8)))))
set_option maxHeartbeats 8000000 in
theorem kw_X0_loadOf {G : KG} {bc bs : Nat} {σ : KHp} {x0 : Option Nat} {x1 : Int32} {x2 : Int32} {x3 : Option Nat} {Q : Int32 → KHp → Prop} {X : String → Nat → KHp → Prop} (h : W_X0_loadOf G bc bs σ x0 x1 x2 x3 Q X) : kx_c G yX0_loadOf (wsW_ yX0_loadOf cX0_loadOf 5 (Option.some Jvm.ClassFile.FieldType.int) [((0 : Nat), (10 : Nat), (13 : Nat), (28 : Nat)), ((0 : Nat), (10 : Nat), (17 : Nat), (19 : Nat))]) 11 bc bs [va_rf (x0), .int (x1), .int (x2), va_rf (x3)] σ (fun rv σ' => ∃ r, rv = some (.int (r)) ∧ Q r σ') X := by
  refine kx_mk3W (ini := false) rfl (by cases x0 <;> cases x3 <;> exact Nat.le_of_ble_eq_true rfl) (fun h => by cases h) (fun Q1 X1 hQ hX => ?_)
  unfold W_X0_loadOf at h
  refine kx_lwF [(0, va_rf (x0)), (1, .int (x1)), (2, .int (x2)), (3, va_rf (x3))] (by cases x0 <;> cases x3 <;> exact ⟨rfl, rfl, rfl, rfl, trivial⟩) ?_
  refine kx_aload_nO dX0_loadOf_0 rfl rfl ?_
  refine kx_iconst (v := 0) dX0_loadOf_1 (by decide) ?_
  refine kx_aload_nO dX0_loadOf_2 rfl rfl ?_
  refine kx_iload_n dX0_loadOf_3 rfl rfl ?_
  refine kx_iload_n dX0_loadOf_4 rfl rfl ?_
  obtain ⟨a1, rfl, hUa1⟩ := h
  have h := hUa1
  obtain ⟨hr, h⟩ := h
  obtain ⟨c4, c5, hc, hs, h⟩ := h
  refine kx_callV dX0_loadOf_5 lk_X0_30 (kw_X1_loadOf h) rfl (wR_rc hr rfl) rfl (by cases x3 <;> exact Nat.le_of_ble_eq_true rfl) (Nat.le_of_ble_eq_true rfl) (Nat.le_of_ble_eq_true rfl) hc hs (fun E6 q7 σ8 hx => ?_) (fun v_ σ3 hq => ?_)
  · rcases hx with ⟨rfl, h⟩ | ⟨rfl, h⟩
    · skip
      refine kx_catch (tableOf []) ⟨0, 10, 13, 28⟩ (tableOf [((0 : Nat), (10 : Nat), (17 : Nat), (19 : Nat))]) rfl (fun z hz => by cases hz) rfl (by decide) q2029 q1664 ?_
      refine kx_astore dX0_loadOf_13 (Nat.le_of_ble_eq_true rfl) ?_
      refine kx_iconst (v := 1) dX0_loadOf_15 (by decide) ?_
      exact kx_iret dX0_loadOf_16 rfl (hQ _ _ ⟨_, rfl, h⟩)
    · skip
      refine kx_catch (tableOf [((0 : Nat), (10 : Nat), (13 : Nat), (28 : Nat))]) ⟨0, 10, 17, 19⟩ (tableOf []) rfl (by intro z hz; simp only [tableOf, List.map, List.mem_cons, List.not_mem_nil, or_false] at hz; rcases hz with rfl <;> exact Or.inr ⟨by decide, _, by first | exact ⟨q2029, (List.mem_of_getElem? (i := 161) rfl)⟩⟩) rfl (by decide) q1995 q234 ?_
      refine kx_astore dX0_loadOf_17 (Nat.le_of_ble_eq_true rfl) ?_
      refine kx_iconst (v := 2) dX0_loadOf_19 (by decide) ?_
      exact kx_iret dX0_loadOf_20 rfl (hQ _ _ ⟨_, rfl, h⟩)
  obtain ⟨v2, rfl, h⟩ := hq
  refine kx_i2l dX0_loadOf_8 rfl ?_
  obtain ⟨a9, rfl, hUa9⟩ := h
  have h := hUa9
  refine kW_sJ dX0_loadOf_9 h (fun σ10 h => ?_)
  refine kx_goto (tgt := 21) dX0_loadOf_10 (by decide) ?_
  refine kx_iconst (v := 0) dX0_loadOf_21 (by decide) ?_
  exact kx_iret dX0_loadOf_22 rfl (hQ _ _ ⟨_, rfl, h⟩)
def W_X0_suspects (G : KG) (bc bs : Nat) (σ : KHp) (x0 : Option Nat) (x1 : Int32) (x2 : Option Nat) (Q : Int32 → KHp → Prop) (X : String → Nat → KHp → Prop) : Prop :=
  wU x0 (fun a1 =>
 (wR σ a1 0 ∧
 wC bc bs (fun c4 c5 =>
 W_X1_suspects G c4 c5 σ a1 (x1) (fun v2 σ3 =>
 wU x2 (fun a9 =>
 wSJ σ3 a9 (0 : Int32) (((v2).toInt64)) (fun σ10 =>
 Q ((0 : Int32)) σ10))) (fun E6 q7 σ8 => (E6 = "java/lang/IndexOutOfBoundsException" ∧ Q ((1 : Int32)) σ8)))))
set_option maxHeartbeats 8000000 in
theorem kw_X0_suspects {G : KG} {bc bs : Nat} {σ : KHp} {x0 : Option Nat} {x1 : Int32} {x2 : Option Nat} {Q : Int32 → KHp → Prop} {X : String → Nat → KHp → Prop} (h : W_X0_suspects G bc bs σ x0 x1 x2 Q X) : kx_c G yX0_suspects (wsW_ yX0_suspects cX0_suspects 4 (Option.some Jvm.ClassFile.FieldType.int) [((0 : Nat), (9 : Nat), (12 : Nat), (28 : Nat))]) 11 bc bs [va_rf (x0), .int (x1), va_rf (x2)] σ (fun rv σ' => ∃ r, rv = some (.int (r)) ∧ Q r σ') X := by
  refine kx_mk3W (ini := false) rfl (by cases x0 <;> cases x2 <;> exact Nat.le_of_ble_eq_true rfl) (fun h => by cases h) (fun Q1 X1 hQ hX => ?_)
  unfold W_X0_suspects at h
  refine kx_lwF [(0, va_rf (x0)), (1, .int (x1)), (2, va_rf (x2))] (by cases x0 <;> cases x2 <;> exact ⟨rfl, rfl, rfl, trivial⟩) ?_
  refine kx_aload_nO dX0_suspects_0 rfl rfl ?_
  refine kx_iconst (v := 0) dX0_suspects_1 (by decide) ?_
  refine kx_aload_nO dX0_suspects_2 rfl rfl ?_
  refine kx_iload_n dX0_suspects_3 rfl rfl ?_
  obtain ⟨a1, rfl, hUa1⟩ := h
  have h := hUa1
  obtain ⟨hr, h⟩ := h
  obtain ⟨c4, c5, hc, hs, h⟩ := h
  refine kx_callV dX0_suspects_4 lk_X0_73 (kw_X1_suspects h) rfl (wR_rc hr rfl) rfl (by cases x2 <;> exact Nat.le_of_ble_eq_true rfl) (Nat.le_of_ble_eq_true rfl) (Nat.le_of_ble_eq_true rfl) hc hs (fun E6 q7 σ8 hx => ?_) (fun v_ σ3 hq => ?_)
  · rcases hx with ⟨rfl, h⟩
    · skip
      refine kx_catch (tableOf []) ⟨0, 9, 12, 28⟩ (tableOf []) rfl (fun z hz => by cases hz) rfl (by decide) q2029 q1664 ?_
      refine kx_astore_n dX0_suspects_12 rfl (Nat.le_of_ble_eq_true rfl) ?_
      refine kx_iconst (v := 1) dX0_suspects_13 (by decide) ?_
      exact kx_iret dX0_suspects_14 rfl (hQ _ _ ⟨_, rfl, h⟩)
  obtain ⟨v2, rfl, h⟩ := hq
  refine kx_i2l dX0_suspects_7 rfl ?_
  obtain ⟨a9, rfl, hUa9⟩ := h
  have h := hUa9
  refine kW_sJ dX0_suspects_8 h (fun σ10 h => ?_)
  refine kx_goto (tgt := 15) dX0_suspects_9 (by decide) ?_
  refine kx_iconst (v := 0) dX0_suspects_15 (by decide) ?_
  exact kx_iret dX0_suspects_16 rfl (hQ _ _ ⟨_, rfl, h⟩)
def W_X0_margin (G : KG) (bc bs : Nat) (σ : KHp) (x0 : Option Nat) (x1 : Int32) (x2 : Option Nat) (Q : Int32 → KHp → Prop) (X : String → Nat → KHp → Prop) : Prop :=
  wU x0 (fun a1 =>
 (wR σ a1 0 ∧
 wC bc bs (fun c4 c5 =>
 W_X1_margin G c4 c5 σ a1 (x1) (fun v2 σ3 =>
 wU x2 (fun a9 =>
 wSJ σ3 a9 (0 : Int32) (((v2).toInt64)) (fun σ10 =>
 Q ((0 : Int32)) σ10))) (fun E6 q7 σ8 => (E6 = "java/lang/IndexOutOfBoundsException" ∧ Q ((1 : Int32)) σ8)))))
set_option maxHeartbeats 8000000 in
theorem kw_X0_margin {G : KG} {bc bs : Nat} {σ : KHp} {x0 : Option Nat} {x1 : Int32} {x2 : Option Nat} {Q : Int32 → KHp → Prop} {X : String → Nat → KHp → Prop} (h : W_X0_margin G bc bs σ x0 x1 x2 Q X) : kx_c G yX0_margin (wsW_ yX0_margin cX0_margin 4 (Option.some Jvm.ClassFile.FieldType.int) [((0 : Nat), (9 : Nat), (12 : Nat), (28 : Nat))]) 11 bc bs [va_rf (x0), .int (x1), va_rf (x2)] σ (fun rv σ' => ∃ r, rv = some (.int (r)) ∧ Q r σ') X := by
  refine kx_mk3W (ini := false) rfl (by cases x0 <;> cases x2 <;> exact Nat.le_of_ble_eq_true rfl) (fun h => by cases h) (fun Q1 X1 hQ hX => ?_)
  unfold W_X0_margin at h
  refine kx_lwF [(0, va_rf (x0)), (1, .int (x1)), (2, va_rf (x2))] (by cases x0 <;> cases x2 <;> exact ⟨rfl, rfl, rfl, trivial⟩) ?_
  refine kx_aload_nO dX0_margin_0 rfl rfl ?_
  refine kx_iconst (v := 0) dX0_margin_1 (by decide) ?_
  refine kx_aload_nO dX0_margin_2 rfl rfl ?_
  refine kx_iload_n dX0_margin_3 rfl rfl ?_
  obtain ⟨a1, rfl, hUa1⟩ := h
  have h := hUa1
  obtain ⟨hr, h⟩ := h
  obtain ⟨c4, c5, hc, hs, h⟩ := h
  refine kx_callV dX0_margin_4 lk_X0_80 (kw_X1_margin h) rfl (wR_rc hr rfl) rfl (by cases x2 <;> exact Nat.le_of_ble_eq_true rfl) (Nat.le_of_ble_eq_true rfl) (Nat.le_of_ble_eq_true rfl) hc hs (fun E6 q7 σ8 hx => ?_) (fun v_ σ3 hq => ?_)
  · rcases hx with ⟨rfl, h⟩
    · skip
      refine kx_catch (tableOf []) ⟨0, 9, 12, 28⟩ (tableOf []) rfl (fun z hz => by cases hz) rfl (by decide) q2029 q1664 ?_
      refine kx_astore_n dX0_margin_12 rfl (Nat.le_of_ble_eq_true rfl) ?_
      refine kx_iconst (v := 1) dX0_margin_13 (by decide) ?_
      exact kx_iret dX0_margin_14 rfl (hQ _ _ ⟨_, rfl, h⟩)
  obtain ⟨v2, rfl, h⟩ := hq
  refine kx_i2l dX0_margin_7 rfl ?_
  obtain ⟨a9, rfl, hUa9⟩ := h
  have h := hUa9
  refine kW_sJ dX0_margin_8 h (fun σ10 h => ?_)
  refine kx_goto (tgt := 15) dX0_margin_9 (by decide) ?_
  refine kx_iconst (v := 0) dX0_margin_15 (by decide) ?_
  exact kx_iret dX0_margin_16 rfl (hQ _ _ ⟨_, rfl, h⟩)
def W_X0_hits (G : KG) (bc bs : Nat) (σ : KHp) (x0 : Option Nat) (x1 : Int32) (x2 : Option Nat) (Q : Int32 → KHp → Prop) (X : String → Nat → KHp → Prop) : Prop :=
  wU x0 (fun a1 =>
 (wR σ a1 0 ∧
 wC bc bs (fun c4 c5 =>
 W_X1_hits G c4 c5 σ a1 (x1) (fun v2 σ3 =>
 wU x2 (fun a9 =>
 wSJ σ3 a9 (0 : Int32) (((v2).toInt64)) (fun σ10 =>
 Q ((0 : Int32)) σ10))) (fun E6 q7 σ8 => (E6 = "java/lang/IndexOutOfBoundsException" ∧ Q ((1 : Int32)) σ8)))))
set_option maxHeartbeats 8000000 in
theorem kw_X0_hits {G : KG} {bc bs : Nat} {σ : KHp} {x0 : Option Nat} {x1 : Int32} {x2 : Option Nat} {Q : Int32 → KHp → Prop} {X : String → Nat → KHp → Prop} (h : W_X0_hits G bc bs σ x0 x1 x2 Q X) : kx_c G yX0_hits (wsW_ yX0_hits cX0_hits 4 (Option.some Jvm.ClassFile.FieldType.int) [((0 : Nat), (9 : Nat), (12 : Nat), (28 : Nat))]) 11 bc bs [va_rf (x0), .int (x1), va_rf (x2)] σ (fun rv σ' => ∃ r, rv = some (.int (r)) ∧ Q r σ') X := by
  refine kx_mk3W (ini := false) rfl (by cases x0 <;> cases x2 <;> exact Nat.le_of_ble_eq_true rfl) (fun h => by cases h) (fun Q1 X1 hQ hX => ?_)
  unfold W_X0_hits at h
  refine kx_lwF [(0, va_rf (x0)), (1, .int (x1)), (2, va_rf (x2))] (by cases x0 <;> cases x2 <;> exact ⟨rfl, rfl, rfl, trivial⟩) ?_
  refine kx_aload_nO dX0_hits_0 rfl rfl ?_
  refine kx_iconst (v := 0) dX0_hits_1 (by decide) ?_
  refine kx_aload_nO dX0_hits_2 rfl rfl ?_
  refine kx_iload_n dX0_hits_3 rfl rfl ?_
  obtain ⟨a1, rfl, hUa1⟩ := h
  have h := hUa1
  obtain ⟨hr, h⟩ := h
  obtain ⟨c4, c5, hc, hs, h⟩ := h
  refine kx_callV dX0_hits_4 lk_X0_83 (kw_X1_hits h) rfl (wR_rc hr rfl) rfl (by cases x2 <;> exact Nat.le_of_ble_eq_true rfl) (Nat.le_of_ble_eq_true rfl) (Nat.le_of_ble_eq_true rfl) hc hs (fun E6 q7 σ8 hx => ?_) (fun v_ σ3 hq => ?_)
  · rcases hx with ⟨rfl, h⟩
    · skip
      refine kx_catch (tableOf []) ⟨0, 9, 12, 28⟩ (tableOf []) rfl (fun z hz => by cases hz) rfl (by decide) q2029 q1664 ?_
      refine kx_astore_n dX0_hits_12 rfl (Nat.le_of_ble_eq_true rfl) ?_
      refine kx_iconst (v := 1) dX0_hits_13 (by decide) ?_
      exact kx_iret dX0_hits_14 rfl (hQ _ _ ⟨_, rfl, h⟩)
  obtain ⟨v2, rfl, h⟩ := hq
  refine kx_i2l dX0_hits_7 rfl ?_
  obtain ⟨a9, rfl, hUa9⟩ := h
  have h := hUa9
  refine kW_sJ dX0_hits_8 h (fun σ10 h => ?_)
  refine kx_goto (tgt := 15) dX0_hits_9 (by decide) ?_
  refine kx_iconst (v := 0) dX0_hits_15 (by decide) ?_
  exact kx_iret dX0_hits_16 rfl (hQ _ _ ⟨_, rfl, h⟩)
def W_X0_nuisanceHits (G : KG) (bc bs : Nat) (σ : KHp) (x0 : Option Nat) (x1 : Int32) (x2 : Option Nat) (Q : Int32 → KHp → Prop) (X : String → Nat → KHp → Prop) : Prop :=
  wU x0 (fun a1 =>
 (wR σ a1 0 ∧
 wC bc bs (fun c4 c5 =>
 W_X1_nuisanceHits G c4 c5 σ a1 (x1) (fun v2 σ3 =>
 wU x2 (fun a9 =>
 wSJ σ3 a9 (0 : Int32) (((v2).toInt64)) (fun σ10 =>
 Q ((0 : Int32)) σ10))) (fun E6 q7 σ8 => (E6 = "java/lang/IndexOutOfBoundsException" ∧ Q ((1 : Int32)) σ8)))))
set_option maxHeartbeats 8000000 in
theorem kw_X0_nuisanceHits {G : KG} {bc bs : Nat} {σ : KHp} {x0 : Option Nat} {x1 : Int32} {x2 : Option Nat} {Q : Int32 → KHp → Prop} {X : String → Nat → KHp → Prop} (h : W_X0_nuisanceHits G bc bs σ x0 x1 x2 Q X) : kx_c G yX0_nuisanceHits (wsW_ yX0_nuisanceHits cX0_nuisanceHits 4 (Option.some Jvm.ClassFile.FieldType.int) [((0 : Nat), (9 : Nat), (12 : Nat), (28 : Nat))]) 11 bc bs [va_rf (x0), .int (x1), va_rf (x2)] σ (fun rv σ' => ∃ r, rv = some (.int (r)) ∧ Q r σ') X := by
  refine kx_mk3W (ini := false) rfl (by cases x0 <;> cases x2 <;> exact Nat.le_of_ble_eq_true rfl) (fun h => by cases h) (fun Q1 X1 hQ hX => ?_)
  unfold W_X0_nuisanceHits at h
  refine kx_lwF [(0, va_rf (x0)), (1, .int (x1)), (2, va_rf (x2))] (by cases x0 <;> cases x2 <;> exact ⟨rfl, rfl, rfl, trivial⟩) ?_
  refine kx_aload_nO dX0_nuisanceHits_0 rfl rfl ?_
  refine kx_iconst (v := 0) dX0_nuisanceHits_1 (by decide) ?_
  refine kx_aload_nO dX0_nuisanceHits_2 rfl rfl ?_
  refine kx_iload_n dX0_nuisanceHits_3 rfl rfl ?_
  obtain ⟨a1, rfl, hUa1⟩ := h
  have h := hUa1
  obtain ⟨hr, h⟩ := h
  obtain ⟨c4, c5, hc, hs, h⟩ := h
  refine kx_callV dX0_nuisanceHits_4 lk_X0_89 (kw_X1_nuisanceHits h) rfl (wR_rc hr rfl) rfl (by cases x2 <;> exact Nat.le_of_ble_eq_true rfl) (Nat.le_of_ble_eq_true rfl) (Nat.le_of_ble_eq_true rfl) hc hs (fun E6 q7 σ8 hx => ?_) (fun v_ σ3 hq => ?_)
  · rcases hx with ⟨rfl, h⟩
    · skip
      refine kx_catch (tableOf []) ⟨0, 9, 12, 28⟩ (tableOf []) rfl (fun z hz => by cases hz) rfl (by decide) q2029 q1664 ?_
      refine kx_astore_n dX0_nuisanceHits_12 rfl (Nat.le_of_ble_eq_true rfl) ?_
      refine kx_iconst (v := 1) dX0_nuisanceHits_13 (by decide) ?_
      exact kx_iret dX0_nuisanceHits_14 rfl (hQ _ _ ⟨_, rfl, h⟩)
  obtain ⟨v2, rfl, h⟩ := hq
  refine kx_i2l dX0_nuisanceHits_7 rfl ?_
  obtain ⟨a9, rfl, hUa9⟩ := h
  have h := hUa9
  refine kW_sJ dX0_nuisanceHits_8 h (fun σ10 h => ?_)
  refine kx_goto (tgt := 15) dX0_nuisanceHits_9 (by decide) ?_
  refine kx_iconst (v := 0) dX0_nuisanceHits_15 (by decide) ?_
  exact kx_iret dX0_nuisanceHits_16 rfl (hQ _ _ ⟨_, rfl, h⟩)
def W_X0_wouldMatch (G : KG) (bc bs : Nat) (σ : KHp) (x0 : Option Nat) (x1 : Int32) (x2 : UInt32) (x3 : UInt32) (x4 : UInt32) (x5 : UInt32) (x6 : UInt32) (x7 : Option Nat) (Q : Int32 → KHp → Prop) (X : String → Nat → KHp → Prop) : Prop :=
  wU x0 (fun a1 =>
 (wR σ a1 0 ∧
 wC bc bs (fun c4 c5 =>
 W_X1_wouldMatch G c4 c5 σ a1 (x1) (x2) (x3) (x4) (x5) (x6) (fun v2 σ3 =>
 jn (κ := Int64 → KHp → Nat → Nat → Prop) (fun v10 σ11 bcv10 bsv10 =>
 wU x7 (fun a12 =>
 wSJ σ11 a12 (0 : Int32) (v10) (fun σ13 =>
 Q ((0 : Int32)) σ13))) (fun k9 =>
 wIf (v2 = 0)
 (k9 (0 : Int64) σ3 (bc - c4) (bs - c5))
 (k9 (1 : Int64) σ3 (bc - c4) (bs - c5)))) (fun E6 q7 σ8 => (E6 = "java/lang/IndexOutOfBoundsException" ∧ Q ((1 : Int32)) σ8)))))
set_option maxHeartbeats 8000000 in
theorem kw_X0_wouldMatch {G : KG} {bc bs : Nat} {σ : KHp} {x0 : Option Nat} {x1 : Int32} {x2 : UInt32} {x3 : UInt32} {x4 : UInt32} {x5 : UInt32} {x6 : UInt32} {x7 : Option Nat} {Q : Int32 → KHp → Prop} {X : String → Nat → KHp → Prop} (h : W_X0_wouldMatch G bc bs σ x0 x1 x2 x3 x4 x5 x6 x7 Q X) : kx_c G yX0_wouldMatch (wsW_ yX0_wouldMatch cX0_wouldMatch 9 (Option.some Jvm.ClassFile.FieldType.int) [((0 : Nat), (25 : Nat), (28 : Nat), (28 : Nat))]) 11 bc bs [va_rf (x0), .int (x1), .float (x2), .float (x3), .float (x4), .float (x5), .float (x6), va_rf (x7)] σ (fun rv σ' => ∃ r, rv = some (.int (r)) ∧ Q r σ') X := by
  refine kx_mk3W (ini := false) rfl (by cases x0 <;> cases x7 <;> exact Nat.le_of_ble_eq_true rfl) (fun h => by cases h) (fun Q1 X1 hQ hX => ?_)
  unfold W_X0_wouldMatch at h
  refine kx_lwF [(0, va_rf (x0)), (1, .int (x1)), (2, .float (x2)), (3, .float (x3)), (4, .float (x4)), (5, .float (x5)), (6, .float (x6)), (7, va_rf (x7))] (by cases x0 <;> cases x7 <;> exact ⟨rfl, rfl, rfl, rfl, rfl, rfl, rfl, rfl, trivial⟩) ?_
  refine kx_aloadO dX0_wouldMatch_0 rfl ?_
  refine kx_iconst (v := 0) dX0_wouldMatch_2 (by decide) ?_
  refine kx_aload_nO dX0_wouldMatch_3 rfl rfl ?_
  refine kx_iload_n dX0_wouldMatch_4 rfl rfl ?_
  refine kx_fload_n dX0_wouldMatch_5 rfl rfl ?_
  refine kx_fload_n dX0_wouldMatch_6 rfl rfl ?_
  refine kx_fload dX0_wouldMatch_7 rfl ?_
  refine kx_fload dX0_wouldMatch_9 rfl ?_
  refine kx_fload dX0_wouldMatch_11 rfl ?_
  obtain ⟨a1, rfl, hUa1⟩ := h
  have h := hUa1
  obtain ⟨hr, h⟩ := h
  obtain ⟨c4, c5, hc, hs, h⟩ := h
  refine kx_callV dX0_wouldMatch_13 lk_X0_92 (kw_X1_wouldMatch h) rfl (wR_rc hr rfl) rfl (by cases x7 <;> exact Nat.le_of_ble_eq_true rfl) (Nat.le_of_ble_eq_true rfl) (Nat.le_of_ble_eq_true rfl) hc hs (fun E6 q7 σ8 hx => ?_) (fun v_ σ3 hq => ?_)
  · rcases hx with ⟨rfl, h⟩
    · skip
      refine kx_catch (tableOf []) ⟨0, 25, 28, 28⟩ (tableOf []) rfl (fun z hz => by cases hz) rfl (by decide) q2029 q1664 ?_
      refine kx_astore dX0_wouldMatch_28 (Nat.le_of_ble_eq_true rfl) ?_
      refine kx_iconst (v := 1) dX0_wouldMatch_30 (by decide) ?_
      exact kx_iret dX0_wouldMatch_31 rfl (hQ _ _ ⟨_, rfl, h⟩)
  obtain ⟨v2, rfl, h⟩ := hq
  refine kW_jLa 24 [.int ((0 : Int32)), va_rf (x7)] h (fun v10 σ11 bcv10 bsv10 h => ?_) (fun k9 jk9 h => ?_)
  · skip
    obtain ⟨a12, rfl, hUa12⟩ := h
    have h := hUa12
    refine kW_sJ dX0_wouldMatch_24 h (fun σ13 h => ?_)
    refine kx_goto (tgt := 32) dX0_wouldMatch_25 (by decide) ?_
    refine kx_iconst (v := 0) dX0_wouldMatch_32 (by decide) ?_
    exact kx_iret dX0_wouldMatch_33 rfl (hQ _ _ ⟨_, rfl, h⟩)
  · skip
    refine kx_if_eq (tgt := 23) dX0_wouldMatch_16 (by decide) (fun c => ?_) (fun c => ?_)
    · have h := w_ift c h
      refine kx_lconst (v := 0) dX0_wouldMatch_23 (by decide) ?_
      exact jk9 _ _ _ _ h
    · have h := w_iff c h
      refine kx_lconst (v := 1) dX0_wouldMatch_19 (by decide) ?_
      refine kx_goto (tgt := 24) dX0_wouldMatch_20 (by decide) ?_
      exact jk9 _ _ _ _ h
def W_X0_named (G : KG) (bc bs : Nat) (σ : KHp) (x0 : Option Nat) (x1 : Int32) (x2 : Int32) (x3 : Option Nat) (Q : Int32 → KHp → Prop) (X : String → Nat → KHp → Prop) : Prop :=
  wU x0 (fun a1 =>
 (wR σ a1 0 ∧
 wC bc bs (fun c4 c5 =>
 W_X1_named G c4 c5 σ a1 (x1) (x2) (fun v2 σ3 =>
 wU x3 (fun a9 =>
 wSJ σ3 a9 (0 : Int32) (((v2).toInt64)) (fun σ10 =>
 Q ((0 : Int32)) σ10))) (fun E6 q7 σ8 => (E6 = "java/lang/IndexOutOfBoundsException" ∧ Q ((1 : Int32)) σ8) ∨ (E6 = "java/util/NoSuchElementException" ∧ Q ((2 : Int32)) σ8)))))
set_option maxHeartbeats 8000000 in
theorem kw_X0_named {G : KG} {bc bs : Nat} {σ : KHp} {x0 : Option Nat} {x1 : Int32} {x2 : Int32} {x3 : Option Nat} {Q : Int32 → KHp → Prop} {X : String → Nat → KHp → Prop} (h : W_X0_named G bc bs σ x0 x1 x2 x3 Q X) : kx_c G yX0_named (wsW_ yX0_named cX0_named 5 (Option.some Jvm.ClassFile.FieldType.int) [((0 : Nat), (10 : Nat), (13 : Nat), (28 : Nat)), ((0 : Nat), (10 : Nat), (17 : Nat), (59 : Nat))]) 11 bc bs [va_rf (x0), .int (x1), .int (x2), va_rf (x3)] σ (fun rv σ' => ∃ r, rv = some (.int (r)) ∧ Q r σ') X := by
  refine kx_mk3W (ini := false) rfl (by cases x0 <;> cases x3 <;> exact Nat.le_of_ble_eq_true rfl) (fun h => by cases h) (fun Q1 X1 hQ hX => ?_)
  unfold W_X0_named at h
  refine kx_lwF [(0, va_rf (x0)), (1, .int (x1)), (2, .int (x2)), (3, va_rf (x3))] (by cases x0 <;> cases x3 <;> exact ⟨rfl, rfl, rfl, rfl, trivial⟩) ?_
  refine kx_aload_nO dX0_named_0 rfl rfl ?_
  refine kx_iconst (v := 0) dX0_named_1 (by decide) ?_
  refine kx_aload_nO dX0_named_2 rfl rfl ?_
  refine kx_iload_n dX0_named_3 rfl rfl ?_
  refine kx_iload_n dX0_named_4 rfl rfl ?_
  obtain ⟨a1, rfl, hUa1⟩ := h
  have h := hUa1
  obtain ⟨hr, h⟩ := h
  obtain ⟨c4, c5, hc, hs, h⟩ := h
  refine kx_callV dX0_named_5 lk_X0_123 (kw_X1_named h) rfl (wR_rc hr rfl) rfl (by cases x3 <;> exact Nat.le_of_ble_eq_true rfl) (Nat.le_of_ble_eq_true rfl) (Nat.le_of_ble_eq_true rfl) hc hs (fun E6 q7 σ8 hx => ?_) (fun v_ σ3 hq => ?_)
  · rcases hx with ⟨rfl, h⟩ | ⟨rfl, h⟩
    · skip
      refine kx_catch (tableOf []) ⟨0, 10, 13, 28⟩ (tableOf [((0 : Nat), (10 : Nat), (17 : Nat), (59 : Nat))]) rfl (fun z hz => by cases hz) rfl (by decide) q2029 q1664 ?_
      refine kx_astore dX0_named_13 (Nat.le_of_ble_eq_true rfl) ?_
      refine kx_iconst (v := 1) dX0_named_15 (by decide) ?_
      exact kx_iret dX0_named_16 rfl (hQ _ _ ⟨_, rfl, h⟩)
    · skip
      refine kx_catch (tableOf [((0 : Nat), (10 : Nat), (13 : Nat), (28 : Nat))]) ⟨0, 10, 17, 59⟩ (tableOf []) rfl (by intro z hz; simp only [tableOf, List.map, List.mem_cons, List.not_mem_nil, or_false] at hz; rcases hz with rfl <;> exact Or.inr ⟨by decide, _, by first | exact ⟨q2029, (List.mem_of_getElem? (i := 188) rfl)⟩⟩) rfl (by decide) q2354 q1532 ?_
      refine kx_astore dX0_named_17 (Nat.le_of_ble_eq_true rfl) ?_
      refine kx_iconst (v := 2) dX0_named_19 (by decide) ?_
      exact kx_iret dX0_named_20 rfl (hQ _ _ ⟨_, rfl, h⟩)
  obtain ⟨v2, rfl, h⟩ := hq
  refine kx_i2l dX0_named_8 rfl ?_
  obtain ⟨a9, rfl, hUa9⟩ := h
  have h := hUa9
  refine kW_sJ dX0_named_9 h (fun σ10 h => ?_)
  refine kx_goto (tgt := 21) dX0_named_10 (by decide) ?_
  refine kx_iconst (v := 0) dX0_named_21 (by decide) ?_
  exact kx_iret dX0_named_22 rfl (hQ _ _ ⟨_, rfl, h⟩)
def W_X0_peakOf (G : KG) (bc bs : Nat) (σ : KHp) (x0 : Option Nat) (x1 : Int32) (x2 : Option Nat) (Q : Int32 → KHp → Prop) (X : String → Nat → KHp → Prop) : Prop :=
  wU x0 (fun a1 =>
 (wR σ a1 0 ∧
 wC bc bs (fun c4 c5 =>
 W_X1_peakOf G c4 c5 σ a1 (x1) (fun v2 σ3 =>
 wD (FP.f2d v2) (fun v9 =>
 wU x2 (fun a10 =>
 wSD σ3 a10 (0 : Int32) (v9) (fun σ11 =>
 Q ((0 : Int32)) σ11)))) (fun E6 q7 σ8 => (E6 = "java/lang/IndexOutOfBoundsException" ∧ Q ((1 : Int32)) σ8)))))
set_option maxHeartbeats 8000000 in
theorem kw_X0_peakOf {G : KG} {bc bs : Nat} {σ : KHp} {x0 : Option Nat} {x1 : Int32} {x2 : Option Nat} {Q : Int32 → KHp → Prop} {X : String → Nat → KHp → Prop} (h : W_X0_peakOf G bc bs σ x0 x1 x2 Q X) : kx_c G yX0_peakOf (wsW_ yX0_peakOf cX0_peakOf 4 (Option.some Jvm.ClassFile.FieldType.int) [((0 : Nat), (9 : Nat), (12 : Nat), (28 : Nat))]) 11 bc bs [va_rf (x0), .int (x1), va_rf (x2)] σ (fun rv σ' => ∃ r, rv = some (.int (r)) ∧ Q r σ') X := by
  refine kx_mk3W (ini := false) rfl (by cases x0 <;> cases x2 <;> exact Nat.le_of_ble_eq_true rfl) (fun h => by cases h) (fun Q1 X1 hQ hX => ?_)
  unfold W_X0_peakOf at h
  refine kx_lwF [(0, va_rf (x0)), (1, .int (x1)), (2, va_rf (x2))] (by cases x0 <;> cases x2 <;> exact ⟨rfl, rfl, rfl, trivial⟩) ?_
  refine kx_aload_nO dX0_peakOf_0 rfl rfl ?_
  refine kx_iconst (v := 0) dX0_peakOf_1 (by decide) ?_
  refine kx_aload_nO dX0_peakOf_2 rfl rfl ?_
  refine kx_iload_n dX0_peakOf_3 rfl rfl ?_
  obtain ⟨a1, rfl, hUa1⟩ := h
  have h := hUa1
  obtain ⟨hr, h⟩ := h
  obtain ⟨c4, c5, hc, hs, h⟩ := h
  refine kx_callV dX0_peakOf_4 lk_X0_126 (kw_X1_peakOf h) rfl (wR_rc hr rfl) rfl (by cases x2 <;> exact Nat.le_of_ble_eq_true rfl) (Nat.le_of_ble_eq_true rfl) (Nat.le_of_ble_eq_true rfl) hc hs (fun E6 q7 σ8 hx => ?_) (fun v_ σ3 hq => ?_)
  · rcases hx with ⟨rfl, h⟩
    · skip
      refine kx_catch (tableOf []) ⟨0, 9, 12, 28⟩ (tableOf []) rfl (fun z hz => by cases hz) rfl (by decide) q2029 q1664 ?_
      refine kx_astore_n dX0_peakOf_12 rfl (Nat.le_of_ble_eq_true rfl) ?_
      refine kx_iconst (v := 1) dX0_peakOf_13 (by decide) ?_
      exact kx_iret dX0_peakOf_14 rfl (hQ _ _ ⟨_, rfl, h⟩)
  obtain ⟨v2, rfl, h⟩ := hq
  refine kW_f2d dX0_peakOf_7 h (fun v9 h => ?_)
  obtain ⟨a10, rfl, hUa10⟩ := h
  have h := hUa10
  refine kW_sD dX0_peakOf_8 h (fun σ11 h => ?_)
  refine kx_goto (tgt := 15) dX0_peakOf_9 (by decide) ?_
  refine kx_iconst (v := 0) dX0_peakOf_15 (by decide) ?_
  exact kx_iret dX0_peakOf_16 rfl (hQ _ _ ⟨_, rfl, h⟩)
def W_X0_undo (G : KG) (bc bs : Nat) (σ : KHp) (x0 : Option Nat) (x1 : Option Nat) (Q : Int32 → KHp → Prop) (X : String → Nat → KHp → Prop) : Prop :=
  wU x0 (fun a1 =>
 (wR σ a1 0 ∧
 wC bc bs (fun c4 c5 =>
 W_X1_undo G c4 c5 σ a1  (fun v2 σ3 =>
 wU x1 (fun a9 =>
 wSJ σ3 a9 (0 : Int32) (((v2).toInt64)) (fun σ10 =>
 Q ((0 : Int32)) σ10))) (fun E6 q7 σ8 => (E6 = "java/lang/IllegalStateException" ∧ Q ((1 : Int32)) σ8)))))
set_option maxHeartbeats 8000000 in
theorem kw_X0_undo {G : KG} {bc bs : Nat} {σ : KHp} {x0 : Option Nat} {x1 : Option Nat} {Q : Int32 → KHp → Prop} {X : String → Nat → KHp → Prop} (h : W_X0_undo G bc bs σ x0 x1 Q X) : kx_c G yX0_undo (wsW_ yX0_undo cX0_undo 3 (Option.some Jvm.ClassFile.FieldType.int) [((0 : Nat), (8 : Nat), (11 : Nat), (13 : Nat))]) 10 bc bs [va_rf (x0), va_rf (x1)] σ (fun rv σ' => ∃ r, rv = some (.int (r)) ∧ Q r σ') X := by
  refine kx_mk3W (ini := false) rfl (by cases x0 <;> cases x1 <;> exact Nat.le_of_ble_eq_true rfl) (fun h => by cases h) (fun Q1 X1 hQ hX => ?_)
  unfold W_X0_undo at h
  refine kx_lwF [(0, va_rf (x0)), (1, va_rf (x1))] (by cases x0 <;> cases x1 <;> exact ⟨rfl, rfl, trivial⟩) ?_
  refine kx_aload_nO dX0_undo_0 rfl rfl ?_
  refine kx_iconst (v := 0) dX0_undo_1 (by decide) ?_
  refine kx_aload_nO dX0_undo_2 rfl rfl ?_
  obtain ⟨a1, rfl, hUa1⟩ := h
  have h := hUa1
  obtain ⟨hr, h⟩ := h
  obtain ⟨c4, c5, hc, hs, h⟩ := h
  refine kx_callV dX0_undo_3 lk_X0_152 (kw_X1_undo h) rfl (wR_rc hr rfl) rfl (by cases x1 <;> exact Nat.le_of_ble_eq_true rfl) (Nat.le_of_ble_eq_true rfl) (Nat.le_of_ble_eq_true rfl) hc hs (fun E6 q7 σ8 hx => ?_) (fun v_ σ3 hq => ?_)
  · rcases hx with ⟨rfl, h⟩
    · skip
      refine kx_catch (tableOf []) ⟨0, 8, 11, 13⟩ (tableOf []) rfl (fun z hz => by cases hz) rfl (by decide) q1975 q1566 ?_
      refine kx_astore_n dX0_undo_11 rfl (Nat.le_of_ble_eq_true rfl) ?_
      refine kx_iconst (v := 1) dX0_undo_12 (by decide) ?_
      exact kx_iret dX0_undo_13 rfl (hQ _ _ ⟨_, rfl, h⟩)
  obtain ⟨v2, rfl, h⟩ := hq
  refine kx_i2l dX0_undo_6 rfl ?_
  obtain ⟨a9, rfl, hUa9⟩ := h
  have h := hUa9
  refine kW_sJ dX0_undo_7 h (fun σ10 h => ?_)
  refine kx_goto (tgt := 14) dX0_undo_8 (by decide) ?_
  refine kx_iconst (v := 0) dX0_undo_14 (by decide) ?_
  exact kx_iret dX0_undo_15 rfl (hQ _ _ ⟨_, rfl, h⟩)
def W_X0_outputByte (G : KG) (bc bs : Nat) (σ : KHp) (x0 : Option Nat) (x1 : Int32) (x2 : Option Nat) (Q : Int32 → KHp → Prop) (X : String → Nat → KHp → Prop) : Prop :=
  wU x0 (fun a1 =>
 (wR σ a1 0 ∧
 wC bc bs (fun c4 c5 =>
 W_X1_outputByte G c4 c5 σ a1 (x1) (fun v2 σ3 =>
 wU x2 (fun a9 =>
 wSJ σ3 a9 (0 : Int32) (((v2).toInt64)) (fun σ10 =>
 Q ((0 : Int32)) σ10))) (fun E6 q7 σ8 => (E6 = "java/lang/IndexOutOfBoundsException" ∧ Q ((1 : Int32)) σ8)))))
set_option maxHeartbeats 8000000 in
theorem kw_X0_outputByte {G : KG} {bc bs : Nat} {σ : KHp} {x0 : Option Nat} {x1 : Int32} {x2 : Option Nat} {Q : Int32 → KHp → Prop} {X : String → Nat → KHp → Prop} (h : W_X0_outputByte G bc bs σ x0 x1 x2 Q X) : kx_c G yX0_outputByte (wsW_ yX0_outputByte cX0_outputByte 4 (Option.some Jvm.ClassFile.FieldType.int) [((0 : Nat), (9 : Nat), (12 : Nat), (28 : Nat))]) 10 bc bs [va_rf (x0), .int (x1), va_rf (x2)] σ (fun rv σ' => ∃ r, rv = some (.int (r)) ∧ Q r σ') X := by
  refine kx_mk3W (ini := false) rfl (by cases x0 <;> cases x2 <;> exact Nat.le_of_ble_eq_true rfl) (fun h => by cases h) (fun Q1 X1 hQ hX => ?_)
  unfold W_X0_outputByte at h
  refine kx_lwF [(0, va_rf (x0)), (1, .int (x1)), (2, va_rf (x2))] (by cases x0 <;> cases x2 <;> exact ⟨rfl, rfl, rfl, trivial⟩) ?_
  refine kx_aload_nO dX0_outputByte_0 rfl rfl ?_
  refine kx_iconst (v := 0) dX0_outputByte_1 (by decide) ?_
  refine kx_aload_nO dX0_outputByte_2 rfl rfl ?_
  refine kx_iload_n dX0_outputByte_3 rfl rfl ?_
  obtain ⟨a1, rfl, hUa1⟩ := h
  have h := hUa1
  obtain ⟨hr, h⟩ := h
  obtain ⟨c4, c5, hc, hs, h⟩ := h
  refine kx_callV dX0_outputByte_4 lk_X0_159 (kw_X1_outputByte h) rfl (wR_rc hr rfl) rfl (by cases x2 <;> exact Nat.le_of_ble_eq_true rfl) (Nat.le_of_ble_eq_true rfl) (Nat.le_of_ble_eq_true rfl) hc hs (fun E6 q7 σ8 hx => ?_) (fun v_ σ3 hq => ?_)
  · rcases hx with ⟨rfl, h⟩
    · skip
      refine kx_catch (tableOf []) ⟨0, 9, 12, 28⟩ (tableOf []) rfl (fun z hz => by cases hz) rfl (by decide) q2029 q1664 ?_
      refine kx_astore_n dX0_outputByte_12 rfl (Nat.le_of_ble_eq_true rfl) ?_
      refine kx_iconst (v := 1) dX0_outputByte_13 (by decide) ?_
      exact kx_iret dX0_outputByte_14 rfl (hQ _ _ ⟨_, rfl, h⟩)
  obtain ⟨v2, rfl, h⟩ := hq
  refine kx_i2l dX0_outputByte_7 rfl ?_
  obtain ⟨a9, rfl, hUa9⟩ := h
  have h := hUa9
  refine kW_sJ dX0_outputByte_8 h (fun σ10 h => ?_)
  refine kx_goto (tgt := 15) dX0_outputByte_9 (by decide) ?_
  refine kx_iconst (v := 0) dX0_outputByte_15 (by decide) ?_
  exact kx_iret dX0_outputByte_16 rfl (hQ _ _ ⟨_, rfl, h⟩)
def W_X0_nextSwitch (G : KG) (bc bs : Nat) (σ : KHp) (x0 : Option Nat) (x1 : Int32) (x2 : Option Nat) (Q : Int32 → KHp → Prop) (X : String → Nat → KHp → Prop) : Prop :=
  wU x0 (fun a1 =>
 (wR σ a1 0 ∧
 wC bc bs (fun c4 c5 =>
 W_X1_nextSwitch G c4 c5 σ a1 (x1) (fun v2 σ3 =>
 wU x2 (fun a9 =>
 wSJ σ3 a9 (0 : Int32) (((v2).toInt64)) (fun σ10 =>
 Q ((0 : Int32)) σ10))) (fun E6 q7 σ8 => (E6 = "java/lang/IndexOutOfBoundsException" ∧ Q ((1 : Int32)) σ8)))))
set_option maxHeartbeats 8000000 in
theorem kw_X0_nextSwitch {G : KG} {bc bs : Nat} {σ : KHp} {x0 : Option Nat} {x1 : Int32} {x2 : Option Nat} {Q : Int32 → KHp → Prop} {X : String → Nat → KHp → Prop} (h : W_X0_nextSwitch G bc bs σ x0 x1 x2 Q X) : kx_c G yX0_nextSwitch (wsW_ yX0_nextSwitch cX0_nextSwitch 4 (Option.some Jvm.ClassFile.FieldType.int) [((0 : Nat), (9 : Nat), (12 : Nat), (28 : Nat))]) 11 bc bs [va_rf (x0), .int (x1), va_rf (x2)] σ (fun rv σ' => ∃ r, rv = some (.int (r)) ∧ Q r σ') X := by
  refine kx_mk3W (ini := false) rfl (by cases x0 <;> cases x2 <;> exact Nat.le_of_ble_eq_true rfl) (fun h => by cases h) (fun Q1 X1 hQ hX => ?_)
  unfold W_X0_nextSwitch at h
  refine kx_lwF [(0, va_rf (x0)), (1, .int (x1)), (2, va_rf (x2))] (by cases x0 <;> cases x2 <;> exact ⟨rfl, rfl, rfl, trivial⟩) ?_
  refine kx_aload_nO dX0_nextSwitch_0 rfl rfl ?_
  refine kx_iconst (v := 0) dX0_nextSwitch_1 (by decide) ?_
  refine kx_aload_nO dX0_nextSwitch_2 rfl rfl ?_
  refine kx_iload_n dX0_nextSwitch_3 rfl rfl ?_
  obtain ⟨a1, rfl, hUa1⟩ := h
  have h := hUa1
  obtain ⟨hr, h⟩ := h
  obtain ⟨c4, c5, hc, hs, h⟩ := h
  refine kx_callV dX0_nextSwitch_4 lk_X0_46 (kw_X1_nextSwitch h) rfl (wR_rc hr rfl) rfl (by cases x2 <;> exact Nat.le_of_ble_eq_true rfl) (Nat.le_of_ble_eq_true rfl) (Nat.le_of_ble_eq_true rfl) hc hs (fun E6 q7 σ8 hx => ?_) (fun v_ σ3 hq => ?_)
  · rcases hx with ⟨rfl, h⟩
    · skip
      refine kx_catch (tableOf []) ⟨0, 9, 12, 28⟩ (tableOf []) rfl (fun z hz => by cases hz) rfl (by decide) q2029 q1664 ?_
      refine kx_astore_n dX0_nextSwitch_12 rfl (Nat.le_of_ble_eq_true rfl) ?_
      refine kx_iconst (v := 1) dX0_nextSwitch_13 (by decide) ?_
      exact kx_iret dX0_nextSwitch_14 rfl (hQ _ _ ⟨_, rfl, h⟩)
  obtain ⟨v2, rfl, h⟩ := hq
  refine kx_i2l dX0_nextSwitch_7 rfl ?_
  obtain ⟨a9, rfl, hUa9⟩ := h
  have h := hUa9
  refine kW_sJ dX0_nextSwitch_8 h (fun σ10 h => ?_)
  refine kx_goto (tgt := 15) dX0_nextSwitch_9 (by decide) ?_
  refine kx_iconst (v := 0) dX0_nextSwitch_15 (by decide) ?_
  exact kx_iret dX0_nextSwitch_16 rfl (hQ _ _ ⟨_, rfl, h⟩)
def W_X0_memory (G : KG) (bc bs : Nat) (σ : KHp) (x0 : Option Nat) (x1 : Int32) (x2 : Int32) (x3 : Option Nat) (Q : Int32 → KHp → Prop) (X : String → Nat → KHp → Prop) : Prop :=
  wU x0 (fun a1 =>
 (wR σ a1 0 ∧
 wC bc bs (fun c4 c5 =>
 W_X1_memory G c4 c5 σ a1 (x1) (x2) (fun v2 σ3 =>
 wU x3 (fun a9 =>
 wSJ σ3 a9 (0 : Int32) (((v2).toInt64)) (fun σ10 =>
 Q ((0 : Int32)) σ10))) (fun E6 q7 σ8 => (E6 = "java/lang/IndexOutOfBoundsException" ∧ Q ((1 : Int32)) σ8) ∨ (E6 = "java/lang/IllegalArgumentException" ∧ Q ((2 : Int32)) σ8)))))
set_option maxHeartbeats 8000000 in
theorem kw_X0_memory {G : KG} {bc bs : Nat} {σ : KHp} {x0 : Option Nat} {x1 : Int32} {x2 : Int32} {x3 : Option Nat} {Q : Int32 → KHp → Prop} {X : String → Nat → KHp → Prop} (h : W_X0_memory G bc bs σ x0 x1 x2 x3 Q X) : kx_c G yX0_memory (wsW_ yX0_memory cX0_memory 5 (Option.some Jvm.ClassFile.FieldType.int) [((0 : Nat), (10 : Nat), (13 : Nat), (28 : Nat)), ((0 : Nat), (10 : Nat), (17 : Nat), (19 : Nat))]) 11 bc bs [va_rf (x0), .int (x1), .int (x2), va_rf (x3)] σ (fun rv σ' => ∃ r, rv = some (.int (r)) ∧ Q r σ') X := by
  refine kx_mk3W (ini := false) rfl (by cases x0 <;> cases x3 <;> exact Nat.le_of_ble_eq_true rfl) (fun h => by cases h) (fun Q1 X1 hQ hX => ?_)
  unfold W_X0_memory at h
  refine kx_lwF [(0, va_rf (x0)), (1, .int (x1)), (2, .int (x2)), (3, va_rf (x3))] (by cases x0 <;> cases x3 <;> exact ⟨rfl, rfl, rfl, rfl, trivial⟩) ?_
  refine kx_aload_nO dX0_memory_0 rfl rfl ?_
  refine kx_iconst (v := 0) dX0_memory_1 (by decide) ?_
  refine kx_aload_nO dX0_memory_2 rfl rfl ?_
  refine kx_iload_n dX0_memory_3 rfl rfl ?_
  refine kx_iload_n dX0_memory_4 rfl rfl ?_
  obtain ⟨a1, rfl, hUa1⟩ := h
  have h := hUa1
  obtain ⟨hr, h⟩ := h
  obtain ⟨c4, c5, hc, hs, h⟩ := h
  refine kx_callV dX0_memory_5 lk_X0_120 (kw_X1_memory h) rfl (wR_rc hr rfl) rfl (by cases x3 <;> exact Nat.le_of_ble_eq_true rfl) (Nat.le_of_ble_eq_true rfl) (Nat.le_of_ble_eq_true rfl) hc hs (fun E6 q7 σ8 hx => ?_) (fun v_ σ3 hq => ?_)
  · rcases hx with ⟨rfl, h⟩ | ⟨rfl, h⟩
    · skip
      refine kx_catch (tableOf []) ⟨0, 10, 13, 28⟩ (tableOf [((0 : Nat), (10 : Nat), (17 : Nat), (19 : Nat))]) rfl (fun z hz => by cases hz) rfl (by decide) q2029 q1664 ?_
      refine kx_astore dX0_memory_13 (Nat.le_of_ble_eq_true rfl) ?_
      refine kx_iconst (v := 1) dX0_memory_15 (by decide) ?_
      exact kx_iret dX0_memory_16 rfl (hQ _ _ ⟨_, rfl, h⟩)
    · skip
      refine kx_catch (tableOf [((0 : Nat), (10 : Nat), (13 : Nat), (28 : Nat))]) ⟨0, 10, 17, 19⟩ (tableOf []) rfl (by intro z hz; simp only [tableOf, List.map, List.mem_cons, List.not_mem_nil, or_false] at hz; rcases hz with rfl <;> exact Or.inr ⟨by decide, _, by first | exact ⟨q2029, (List.mem_of_getElem? (i := 161) rfl)⟩⟩) rfl (by decide) q1995 q234 ?_
      refine kx_astore dX0_memory_17 (Nat.le_of_ble_eq_true rfl) ?_
      refine kx_iconst (v := 2) dX0_memory_19 (by decide) ?_
      exact kx_iret dX0_memory_20 rfl (hQ _ _ ⟨_, rfl, h⟩)
  obtain ⟨v2, rfl, h⟩ := hq
  refine kx_i2l dX0_memory_8 rfl ?_
  obtain ⟨a9, rfl, hUa9⟩ := h
  have h := hUa9
  refine kW_sJ dX0_memory_9 h (fun σ10 h => ?_)
  refine kx_goto (tgt := 21) dX0_memory_10 (by decide) ?_
  refine kx_iconst (v := 0) dX0_memory_21 (by decide) ?_
  exact kx_iret dX0_memory_22 rfl (hQ _ _ ⟨_, rfl, h⟩)
def W_X0_setOn (G : KG) (bc bs : Nat) (σ : KHp) (x0 : Option Nat) (x1 : Int32) (x2 : Int32) (x3 : Option Nat) (Q : Int32 → KHp → Prop) (X : String → Nat → KHp → Prop) : Prop :=
  wU x0 (fun a1 =>
 (wR σ a1 0 ∧
 wC bc bs (fun c4 c5 =>
 W_X1_setOn G c4 c5 σ a1 (x1) (x2) (fun v2 σ3 =>
 jn (κ := Int64 → KHp → Nat → Nat → Prop) (fun v10 σ11 bcv10 bsv10 =>
 wU x3 (fun a12 =>
 wSJ σ11 a12 (0 : Int32) (v10) (fun σ13 =>
 Q ((0 : Int32)) σ13))) (fun k9 =>
 wIf (v2 = 0)
 (k9 (0 : Int64) σ3 (bc - c4) (bs - c5))
 (k9 (1 : Int64) σ3 (bc - c4) (bs - c5)))) (fun E6 q7 σ8 => (E6 = "java/lang/IndexOutOfBoundsException" ∧ Q ((1 : Int32)) σ8)))))
set_option maxHeartbeats 8000000 in
theorem kw_X0_setOn {G : KG} {bc bs : Nat} {σ : KHp} {x0 : Option Nat} {x1 : Int32} {x2 : Int32} {x3 : Option Nat} {Q : Int32 → KHp → Prop} {X : String → Nat → KHp → Prop} (h : W_X0_setOn G bc bs σ x0 x1 x2 x3 Q X) : kx_c G yX0_setOn (wsW_ yX0_setOn cX0_setOn 5 (Option.some Jvm.ClassFile.FieldType.int) [((0 : Nat), (17 : Nat), (20 : Nat), (28 : Nat))]) 11 bc bs [va_rf (x0), .int (x1), .int (x2), va_rf (x3)] σ (fun rv σ' => ∃ r, rv = some (.int (r)) ∧ Q r σ') X := by
  refine kx_mk3W (ini := false) rfl (by cases x0 <;> cases x3 <;> exact Nat.le_of_ble_eq_true rfl) (fun h => by cases h) (fun Q1 X1 hQ hX => ?_)
  unfold W_X0_setOn at h
  refine kx_lwF [(0, va_rf (x0)), (1, .int (x1)), (2, .int (x2)), (3, va_rf (x3))] (by cases x0 <;> cases x3 <;> exact ⟨rfl, rfl, rfl, rfl, trivial⟩) ?_
  refine kx_aload_nO dX0_setOn_0 rfl rfl ?_
  refine kx_iconst (v := 0) dX0_setOn_1 (by decide) ?_
  refine kx_aload_nO dX0_setOn_2 rfl rfl ?_
  refine kx_iload_n dX0_setOn_3 rfl rfl ?_
  refine kx_iload_n dX0_setOn_4 rfl rfl ?_
  obtain ⟨a1, rfl, hUa1⟩ := h
  have h := hUa1
  obtain ⟨hr, h⟩ := h
  obtain ⟨c4, c5, hc, hs, h⟩ := h
  refine kx_callV dX0_setOn_5 lk_X0_38 (kw_X1_setOn h) rfl (wR_rc hr rfl) rfl (by cases x3 <;> exact Nat.le_of_ble_eq_true rfl) (Nat.le_of_ble_eq_true rfl) (Nat.le_of_ble_eq_true rfl) hc hs (fun E6 q7 σ8 hx => ?_) (fun v_ σ3 hq => ?_)
  · rcases hx with ⟨rfl, h⟩
    · skip
      refine kx_catch (tableOf []) ⟨0, 17, 20, 28⟩ (tableOf []) rfl (fun z hz => by cases hz) rfl (by decide) q2029 q1664 ?_
      refine kx_astore dX0_setOn_20 (Nat.le_of_ble_eq_true rfl) ?_
      refine kx_iconst (v := 1) dX0_setOn_22 (by decide) ?_
      exact kx_iret dX0_setOn_23 rfl (hQ _ _ ⟨_, rfl, h⟩)
  obtain ⟨v2, rfl, h⟩ := hq
  refine kW_jLa 16 [.int ((0 : Int32)), va_rf (x3)] h (fun v10 σ11 bcv10 bsv10 h => ?_) (fun k9 jk9 h => ?_)
  · skip
    obtain ⟨a12, rfl, hUa12⟩ := h
    have h := hUa12
    refine kW_sJ dX0_setOn_16 h (fun σ13 h => ?_)
    refine kx_goto (tgt := 24) dX0_setOn_17 (by decide) ?_
    refine kx_iconst (v := 0) dX0_setOn_24 (by decide) ?_
    exact kx_iret dX0_setOn_25 rfl (hQ _ _ ⟨_, rfl, h⟩)
  · skip
    refine kx_if_eq (tgt := 15) dX0_setOn_8 (by decide) (fun c => ?_) (fun c => ?_)
    · have h := w_ift c h
      refine kx_lconst (v := 0) dX0_setOn_15 (by decide) ?_
      exact jk9 _ _ _ _ h
    · have h := w_iff c h
      refine kx_lconst (v := 1) dX0_setOn_11 (by decide) ?_
      refine kx_goto (tgt := 16) dX0_setOn_12 (by decide) ?_
      exact jk9 _ _ _ _ h
def W_X0_plan (G : KG) (bc bs : Nat) (σ : KHp) (x0 : Option Nat) (x1 : Int32) (x2 : Int32) (x3 : Int32) (x4 : Option Nat) (Q : Int32 → KHp → Prop) (X : String → Nat → KHp → Prop) : Prop :=
  wU x0 (fun a1 =>
 (wR σ a1 0 ∧
 wC bc bs (fun c4 c5 =>
 W_X1_plan G c4 c5 σ a1 (x1) (x2) (x3) (fun v2 σ3 =>
 wU x4 (fun a9 =>
 wSJ σ3 a9 (0 : Int32) (((v2).toInt64)) (fun σ10 =>
 Q ((0 : Int32)) σ10))) (fun E6 q7 σ8 => (E6 = "java/lang/IndexOutOfBoundsException" ∧ Q ((1 : Int32)) σ8) ∨ (E6 = "java/lang/IllegalArgumentException" ∧ Q ((2 : Int32)) σ8) ∨ (E6 = "java/lang/IllegalStateException" ∧ Q ((3 : Int32)) σ8)))))
set_option maxHeartbeats 8000000 in
theorem kw_X0_plan {G : KG} {bc bs : Nat} {σ : KHp} {x0 : Option Nat} {x1 : Int32} {x2 : Int32} {x3 : Int32} {x4 : Option Nat} {Q : Int32 → KHp → Prop} {X : String → Nat → KHp → Prop} (h : W_X0_plan G bc bs σ x0 x1 x2 x3 x4 Q X) : kx_c G yX0_plan (wsW_ yX0_plan cX0_plan 6 (Option.some Jvm.ClassFile.FieldType.int) [((0 : Nat), (12 : Nat), (15 : Nat), (28 : Nat)), ((0 : Nat), (12 : Nat), (19 : Nat), (19 : Nat)), ((0 : Nat), (12 : Nat), (23 : Nat), (13 : Nat))]) 11 bc bs [va_rf (x0), .int (x1), .int (x2), .int (x3), va_rf (x4)] σ (fun rv σ' => ∃ r, rv = some (.int (r)) ∧ Q r σ') X := by
  refine kx_mk3W (ini := false) rfl (by cases x0 <;> cases x4 <;> exact Nat.le_of_ble_eq_true rfl) (fun h => by cases h) (fun Q1 X1 hQ hX => ?_)
  unfold W_X0_plan at h
  refine kx_lwF [(0, va_rf (x0)), (1, .int (x1)), (2, .int (x2)), (3, .int (x3)), (4, va_rf (x4))] (by cases x0 <;> cases x4 <;> exact ⟨rfl, rfl, rfl, rfl, rfl, trivial⟩) ?_
  refine kx_aloadO dX0_plan_0 rfl ?_
  refine kx_iconst (v := 0) dX0_plan_2 (by decide) ?_
  refine kx_aload_nO dX0_plan_3 rfl rfl ?_
  refine kx_iload_n dX0_plan_4 rfl rfl ?_
  refine kx_iload_n dX0_plan_5 rfl rfl ?_
  refine kx_iload_n dX0_plan_6 rfl rfl ?_
  obtain ⟨a1, rfl, hUa1⟩ := h
  have h := hUa1
  obtain ⟨hr, h⟩ := h
  obtain ⟨c4, c5, hc, hs, h⟩ := h
  refine kx_callV dX0_plan_7 lk_X0_42 (kw_X1_plan h) rfl (wR_rc hr rfl) rfl (by cases x4 <;> exact Nat.le_of_ble_eq_true rfl) (Nat.le_of_ble_eq_true rfl) (Nat.le_of_ble_eq_true rfl) hc hs (fun E6 q7 σ8 hx => ?_) (fun v_ σ3 hq => ?_)
  · rcases hx with ⟨rfl, h⟩ | ⟨rfl, h⟩ | ⟨rfl, h⟩
    · skip
      refine kx_catch (tableOf []) ⟨0, 12, 15, 28⟩ (tableOf [((0 : Nat), (12 : Nat), (19 : Nat), (19 : Nat)), ((0 : Nat), (12 : Nat), (23 : Nat), (13 : Nat))]) rfl (fun z hz => by cases hz) rfl (by decide) q2029 q1664 ?_
      refine kx_astore dX0_plan_15 (Nat.le_of_ble_eq_true rfl) ?_
      refine kx_iconst (v := 1) dX0_plan_17 (by decide) ?_
      exact kx_iret dX0_plan_18 rfl (hQ _ _ ⟨_, rfl, h⟩)
    · skip
      refine kx_catch (tableOf [((0 : Nat), (12 : Nat), (15 : Nat), (28 : Nat))]) ⟨0, 12, 19, 19⟩ (tableOf [((0 : Nat), (12 : Nat), (23 : Nat), (13 : Nat))]) rfl (by intro z hz; simp only [tableOf, List.map, List.mem_cons, List.not_mem_nil, or_false] at hz; rcases hz with rfl <;> exact Or.inr ⟨by decide, _, by first | exact ⟨q2029, (List.mem_of_getElem? (i := 161) rfl)⟩⟩) rfl (by decide) q1995 q234 ?_
      refine kx_astore dX0_plan_19 (Nat.le_of_ble_eq_true rfl) ?_
      refine kx_iconst (v := 2) dX0_plan_21 (by decide) ?_
      exact kx_iret dX0_plan_22 rfl (hQ _ _ ⟨_, rfl, h⟩)
    · skip
      refine kx_catch (tableOf [((0 : Nat), (12 : Nat), (15 : Nat), (28 : Nat)), ((0 : Nat), (12 : Nat), (19 : Nat), (19 : Nat))]) ⟨0, 12, 23, 13⟩ (tableOf []) rfl (by intro z hz; simp only [tableOf, List.map, List.mem_cons, List.not_mem_nil, or_false] at hz; rcases hz with rfl | rfl <;> exact Or.inr ⟨by decide, _, by first | exact ⟨q2029, (List.mem_of_getElem? (i := 174) rfl)⟩ | exact ⟨q1995, (List.mem_of_getElem? (i := 134) rfl)⟩⟩) rfl (by decide) q1975 q1566 ?_
      refine kx_astore dX0_plan_23 (Nat.le_of_ble_eq_true rfl) ?_
      refine kx_iconst (v := 3) dX0_plan_25 (by decide) ?_
      exact kx_iret dX0_plan_26 rfl (hQ _ _ ⟨_, rfl, h⟩)
  obtain ⟨v2, rfl, h⟩ := hq
  refine kx_i2l dX0_plan_10 rfl ?_
  obtain ⟨a9, rfl, hUa9⟩ := h
  have h := hUa9
  refine kW_sJ dX0_plan_11 h (fun σ10 h => ?_)
  refine kx_goto (tgt := 27) dX0_plan_12 (by decide) ?_
  refine kx_iconst (v := 0) dX0_plan_27 (by decide) ?_
  exact kx_iret dX0_plan_28 rfl (hQ _ _ ⟨_, rfl, h⟩)
def W_X0_run (G : KG) (bc bs : Nat) (σ : KHp) (x0 : Option Nat) (x1 : Int32) (x2 : Option Nat) (Q : Int32 → KHp → Prop) (X : String → Nat → KHp → Prop) : Prop :=
  wU x0 (fun a1 =>
 (wR σ a1 0 ∧
 wC bc bs (fun c4 c5 =>
 W_X1_run G c4 c5 σ a1 (x1) (fun v2 σ3 =>
 wU x2 (fun a9 =>
 wSJ σ3 a9 (0 : Int32) (((v2).toInt64)) (fun σ10 =>
 Q ((0 : Int32)) σ10))) (fun E6 q7 σ8 => (E6 = "java/lang/IllegalArgumentException" ∧ Q ((1 : Int32)) σ8) ∨ (E6 = "java/lang/IllegalStateException" ∧ Q ((2 : Int32)) σ8)))))
set_option maxHeartbeats 8000000 in
theorem kw_X0_run {G : KG} {bc bs : Nat} {σ : KHp} {x0 : Option Nat} {x1 : Int32} {x2 : Option Nat} {Q : Int32 → KHp → Prop} {X : String → Nat → KHp → Prop} (h : W_X0_run G bc bs σ x0 x1 x2 Q X) : kx_c G yX0_run (wsW_ yX0_run cX0_run 4 (Option.some Jvm.ClassFile.FieldType.int) [((0 : Nat), (9 : Nat), (12 : Nat), (19 : Nat)), ((0 : Nat), (9 : Nat), (15 : Nat), (13 : Nat))]) 11 bc bs [va_rf (x0), .int (x1), va_rf (x2)] σ (fun rv σ' => ∃ r, rv = some (.int (r)) ∧ Q r σ') X := by
  refine kx_mk3W (ini := false) rfl (by cases x0 <;> cases x2 <;> exact Nat.le_of_ble_eq_true rfl) (fun h => by cases h) (fun Q1 X1 hQ hX => ?_)
  unfold W_X0_run at h
  refine kx_lwF [(0, va_rf (x0)), (1, .int (x1)), (2, va_rf (x2))] (by cases x0 <;> cases x2 <;> exact ⟨rfl, rfl, rfl, trivial⟩) ?_
  refine kx_aload_nO dX0_run_0 rfl rfl ?_
  refine kx_iconst (v := 0) dX0_run_1 (by decide) ?_
  refine kx_aload_nO dX0_run_2 rfl rfl ?_
  refine kx_iload_n dX0_run_3 rfl rfl ?_
  obtain ⟨a1, rfl, hUa1⟩ := h
  have h := hUa1
  obtain ⟨hr, h⟩ := h
  obtain ⟨c4, c5, hc, hs, h⟩ := h
  refine kx_callV dX0_run_4 lk_X0_52 (kw_X1_run h) rfl (wR_rc hr rfl) rfl (by cases x2 <;> exact Nat.le_of_ble_eq_true rfl) (Nat.le_of_ble_eq_true rfl) (Nat.le_of_ble_eq_true rfl) hc hs (fun E6 q7 σ8 hx => ?_) (fun v_ σ3 hq => ?_)
  · rcases hx with ⟨rfl, h⟩ | ⟨rfl, h⟩
    · skip
      refine kx_catch (tableOf []) ⟨0, 9, 12, 19⟩ (tableOf [((0 : Nat), (9 : Nat), (15 : Nat), (13 : Nat))]) rfl (fun z hz => by cases hz) rfl (by decide) q1995 q234 ?_
      refine kx_astore_n dX0_run_12 rfl (Nat.le_of_ble_eq_true rfl) ?_
      refine kx_iconst (v := 1) dX0_run_13 (by decide) ?_
      exact kx_iret dX0_run_14 rfl (hQ _ _ ⟨_, rfl, h⟩)
    · skip
      refine kx_catch (tableOf [((0 : Nat), (9 : Nat), (12 : Nat), (19 : Nat))]) ⟨0, 9, 15, 13⟩ (tableOf []) rfl (by intro z hz; simp only [tableOf, List.map, List.mem_cons, List.not_mem_nil, or_false] at hz; rcases hz with rfl <;> exact Or.inr ⟨by decide, _, by first | exact ⟨q1995, (List.mem_of_getElem? (i := 134) rfl)⟩⟩) rfl (by decide) q1975 q1566 ?_
      refine kx_astore_n dX0_run_15 rfl (Nat.le_of_ble_eq_true rfl) ?_
      refine kx_iconst (v := 2) dX0_run_16 (by decide) ?_
      exact kx_iret dX0_run_17 rfl (hQ _ _ ⟨_, rfl, h⟩)
  obtain ⟨v2, rfl, h⟩ := hq
  refine kx_i2l dX0_run_7 rfl ?_
  obtain ⟨a9, rfl, hUa9⟩ := h
  have h := hUa9
  refine kW_sJ dX0_run_8 h (fun σ10 h => ?_)
  refine kx_goto (tgt := 18) dX0_run_9 (by decide) ?_
  refine kx_iconst (v := 0) dX0_run_18 (by decide) ?_
  exact kx_iret dX0_run_19 rfl (hQ _ _ ⟨_, rfl, h⟩)
def W_X0_learn (G : KG) (bc bs : Nat) (σ : KHp) (x0 : Option Nat) (x1 : Int32) (x2 : Option Nat) (Q : Int32 → KHp → Prop) (X : String → Nat → KHp → Prop) : Prop :=
  wU x0 (fun a1 =>
 (wR σ a1 0 ∧
 wC bc bs (fun c4 c5 =>
 W_X1_learn G c4 c5 σ a1 (x1) (fun v2 σ3 =>
 wU x2 (fun a9 =>
 wSJ σ3 a9 (0 : Int32) (((v2).toInt64)) (fun σ10 =>
 Q ((0 : Int32)) σ10))) (fun E6 q7 σ8 => (E6 = "java/lang/IndexOutOfBoundsException" ∧ Q ((1 : Int32)) σ8) ∨ (E6 = "java/lang/IllegalArgumentException" ∧ Q ((2 : Int32)) σ8) ∨ (E6 = "java/lang/IllegalStateException" ∧ Q ((3 : Int32)) σ8) ∨ (E6 = "java/util/NoSuchElementException" ∧ Q ((4 : Int32)) σ8)))))
set_option maxHeartbeats 8000000 in
theorem kw_X0_learn {G : KG} {bc bs : Nat} {σ : KHp} {x0 : Option Nat} {x1 : Int32} {x2 : Option Nat} {Q : Int32 → KHp → Prop} {X : String → Nat → KHp → Prop} (h : W_X0_learn G bc bs σ x0 x1 x2 Q X) : kx_c G yX0_learn (wsW_ yX0_learn cX0_learn 4 (Option.some Jvm.ClassFile.FieldType.int) [((0 : Nat), (9 : Nat), (12 : Nat), (28 : Nat)), ((0 : Nat), (9 : Nat), (15 : Nat), (19 : Nat)), ((0 : Nat), (9 : Nat), (18 : Nat), (13 : Nat)), ((0 : Nat), (9 : Nat), (21 : Nat), (59 : Nat))]) 11 bc bs [va_rf (x0), .int (x1), va_rf (x2)] σ (fun rv σ' => ∃ r, rv = some (.int (r)) ∧ Q r σ') X := by
  refine kx_mk3W (ini := false) rfl (by cases x0 <;> cases x2 <;> exact Nat.le_of_ble_eq_true rfl) (fun h => by cases h) (fun Q1 X1 hQ hX => ?_)
  unfold W_X0_learn at h
  refine kx_lwF [(0, va_rf (x0)), (1, .int (x1)), (2, va_rf (x2))] (by cases x0 <;> cases x2 <;> exact ⟨rfl, rfl, rfl, trivial⟩) ?_
  refine kx_aload_nO dX0_learn_0 rfl rfl ?_
  refine kx_iconst (v := 0) dX0_learn_1 (by decide) ?_
  refine kx_aload_nO dX0_learn_2 rfl rfl ?_
  refine kx_iload_n dX0_learn_3 rfl rfl ?_
  obtain ⟨a1, rfl, hUa1⟩ := h
  have h := hUa1
  obtain ⟨hr, h⟩ := h
  obtain ⟨c4, c5, hc, hs, h⟩ := h
  refine kx_callV dX0_learn_4 lk_X0_96 (kw_X1_learn h) rfl (wR_rc hr rfl) rfl (by cases x2 <;> exact Nat.le_of_ble_eq_true rfl) (Nat.le_of_ble_eq_true rfl) (Nat.le_of_ble_eq_true rfl) hc hs (fun E6 q7 σ8 hx => ?_) (fun v_ σ3 hq => ?_)
  · rcases hx with ⟨rfl, h⟩ | ⟨rfl, h⟩ | ⟨rfl, h⟩ | ⟨rfl, h⟩
    · skip
      refine kx_catch (tableOf []) ⟨0, 9, 12, 28⟩ (tableOf [((0 : Nat), (9 : Nat), (15 : Nat), (19 : Nat)), ((0 : Nat), (9 : Nat), (18 : Nat), (13 : Nat)), ((0 : Nat), (9 : Nat), (21 : Nat), (59 : Nat))]) rfl (fun z hz => by cases hz) rfl (by decide) q2029 q1664 ?_
      refine kx_astore_n dX0_learn_12 rfl (Nat.le_of_ble_eq_true rfl) ?_
      refine kx_iconst (v := 1) dX0_learn_13 (by decide) ?_
      exact kx_iret dX0_learn_14 rfl (hQ _ _ ⟨_, rfl, h⟩)
    · skip
      refine kx_catch (tableOf [((0 : Nat), (9 : Nat), (12 : Nat), (28 : Nat))]) ⟨0, 9, 15, 19⟩ (tableOf [((0 : Nat), (9 : Nat), (18 : Nat), (13 : Nat)), ((0 : Nat), (9 : Nat), (21 : Nat), (59 : Nat))]) rfl (by intro z hz; simp only [tableOf, List.map, List.mem_cons, List.not_mem_nil, or_false] at hz; rcases hz with rfl <;> exact Or.inr ⟨by decide, _, by first | exact ⟨q2029, (List.mem_of_getElem? (i := 161) rfl)⟩⟩) rfl (by decide) q1995 q234 ?_
      refine kx_astore_n dX0_learn_15 rfl (Nat.le_of_ble_eq_true rfl) ?_
      refine kx_iconst (v := 2) dX0_learn_16 (by decide) ?_
      exact kx_iret dX0_learn_17 rfl (hQ _ _ ⟨_, rfl, h⟩)
    · skip
      refine kx_catch (tableOf [((0 : Nat), (9 : Nat), (12 : Nat), (28 : Nat)), ((0 : Nat), (9 : Nat), (15 : Nat), (19 : Nat))]) ⟨0, 9, 18, 13⟩ (tableOf [((0 : Nat), (9 : Nat), (21 : Nat), (59 : Nat))]) rfl (by intro z hz; simp only [tableOf, List.map, List.mem_cons, List.not_mem_nil, or_false] at hz; rcases hz with rfl | rfl <;> exact Or.inr ⟨by decide, _, by first | exact ⟨q2029, (List.mem_of_getElem? (i := 174) rfl)⟩ | exact ⟨q1995, (List.mem_of_getElem? (i := 134) rfl)⟩⟩) rfl (by decide) q1975 q1566 ?_
      refine kx_astore_n dX0_learn_18 rfl (Nat.le_of_ble_eq_true rfl) ?_
      refine kx_iconst (v := 3) dX0_learn_19 (by decide) ?_
      exact kx_iret dX0_learn_20 rfl (hQ _ _ ⟨_, rfl, h⟩)
    · skip
      refine kx_catch (tableOf [((0 : Nat), (9 : Nat), (12 : Nat), (28 : Nat)), ((0 : Nat), (9 : Nat), (15 : Nat), (19 : Nat)), ((0 : Nat), (9 : Nat), (18 : Nat), (13 : Nat))]) ⟨0, 9, 21, 59⟩ (tableOf []) rfl (by intro z hz; simp only [tableOf, List.map, List.mem_cons, List.not_mem_nil, or_false] at hz; rcases hz with rfl | rfl | rfl <;> exact Or.inr ⟨by decide, _, by first | exact ⟨q2029, (List.mem_of_getElem? (i := 188) rfl)⟩ | exact ⟨q1995, (List.mem_of_getElem? (i := 148) rfl)⟩ | exact ⟨q1975, (List.mem_of_getElem? (i := 109) rfl)⟩⟩) rfl (by decide) q2354 q1532 ?_
      refine kx_astore_n dX0_learn_21 rfl (Nat.le_of_ble_eq_true rfl) ?_
      refine kx_iconst (v := 4) dX0_learn_22 (by decide) ?_
      exact kx_iret dX0_learn_23 rfl (hQ _ _ ⟨_, rfl, h⟩)
  obtain ⟨v2, rfl, h⟩ := hq
  refine kx_i2l dX0_learn_7 rfl ?_
  obtain ⟨a9, rfl, hUa9⟩ := h
  have h := hUa9
  refine kW_sJ dX0_learn_8 h (fun σ10 h => ?_)
  refine kx_goto (tgt := 24) dX0_learn_9 (by decide) ?_
  refine kx_iconst (v := 0) dX0_learn_24 (by decide) ?_
  exact kx_iret dX0_learn_25 rfl (hQ _ _ ⟨_, rfl, h⟩)
def W_X0_forget (G : KG) (bc bs : Nat) (σ : KHp) (x0 : Option Nat) (x1 : Int32) (x2 : Option Nat) (Q : Int32 → KHp → Prop) (X : String → Nat → KHp → Prop) : Prop :=
  wU x0 (fun a1 =>
 (wR σ a1 0 ∧
 wC bc bs (fun c4 c5 =>
 W_X1_forget G c4 c5 σ a1 (x1) (fun v2 σ3 =>
 wU x2 (fun a9 =>
 wSJ σ3 a9 (0 : Int32) (((v2).toInt64)) (fun σ10 =>
 Q ((0 : Int32)) σ10))) (fun E6 q7 σ8 => (E6 = "java/lang/IndexOutOfBoundsException" ∧ Q ((1 : Int32)) σ8)))))
set_option maxHeartbeats 8000000 in
theorem kw_X0_forget {G : KG} {bc bs : Nat} {σ : KHp} {x0 : Option Nat} {x1 : Int32} {x2 : Option Nat} {Q : Int32 → KHp → Prop} {X : String → Nat → KHp → Prop} (h : W_X0_forget G bc bs σ x0 x1 x2 Q X) : kx_c G yX0_forget (wsW_ yX0_forget cX0_forget 4 (Option.some Jvm.ClassFile.FieldType.int) [((0 : Nat), (9 : Nat), (12 : Nat), (28 : Nat))]) 11 bc bs [va_rf (x0), .int (x1), va_rf (x2)] σ (fun rv σ' => ∃ r, rv = some (.int (r)) ∧ Q r σ') X := by
  refine kx_mk3W (ini := false) rfl (by cases x0 <;> cases x2 <;> exact Nat.le_of_ble_eq_true rfl) (fun h => by cases h) (fun Q1 X1 hQ hX => ?_)
  unfold W_X0_forget at h
  refine kx_lwF [(0, va_rf (x0)), (1, .int (x1)), (2, va_rf (x2))] (by cases x0 <;> cases x2 <;> exact ⟨rfl, rfl, rfl, trivial⟩) ?_
  refine kx_aload_nO dX0_forget_0 rfl rfl ?_
  refine kx_iconst (v := 0) dX0_forget_1 (by decide) ?_
  refine kx_aload_nO dX0_forget_2 rfl rfl ?_
  refine kx_iload_n dX0_forget_3 rfl rfl ?_
  obtain ⟨a1, rfl, hUa1⟩ := h
  have h := hUa1
  obtain ⟨hr, h⟩ := h
  obtain ⟨c4, c5, hc, hs, h⟩ := h
  refine kx_callV dX0_forget_4 lk_X0_99 (kw_X1_forget h) rfl (wR_rc hr rfl) rfl (by cases x2 <;> exact Nat.le_of_ble_eq_true rfl) (Nat.le_of_ble_eq_true rfl) (Nat.le_of_ble_eq_true rfl) hc hs (fun E6 q7 σ8 hx => ?_) (fun v_ σ3 hq => ?_)
  · rcases hx with ⟨rfl, h⟩
    · skip
      refine kx_catch (tableOf []) ⟨0, 9, 12, 28⟩ (tableOf []) rfl (fun z hz => by cases hz) rfl (by decide) q2029 q1664 ?_
      refine kx_astore_n dX0_forget_12 rfl (Nat.le_of_ble_eq_true rfl) ?_
      refine kx_iconst (v := 1) dX0_forget_13 (by decide) ?_
      exact kx_iret dX0_forget_14 rfl (hQ _ _ ⟨_, rfl, h⟩)
  obtain ⟨v2, rfl, h⟩ := hq
  refine kx_i2l dX0_forget_7 rfl ?_
  obtain ⟨a9, rfl, hUa9⟩ := h
  have h := hUa9
  refine kW_sJ dX0_forget_8 h (fun σ10 h => ?_)
  refine kx_goto (tgt := 15) dX0_forget_9 (by decide) ?_
  refine kx_iconst (v := 0) dX0_forget_15 (by decide) ?_
  exact kx_iret dX0_forget_16 rfl (hQ _ _ ⟨_, rfl, h⟩)
def W_X0_setLimits (G : KG) (bc bs : Nat) (σ : KHp) (x0 : Option Nat) (x1 : Int32) (x2 : Int32) (x3 : Option Nat) (Q : Int32 → KHp → Prop) (X : String → Nat → KHp → Prop) : Prop :=
  wU x0 (fun a1 =>
 (wR σ a1 0 ∧
 wC bc bs (fun c4 c5 =>
 W_X1_setLimits G c4 c5 σ a1 (x1) (x2) (fun v2 σ3 =>
 wU x3 (fun a9 =>
 wSJ σ3 a9 (0 : Int32) (((v2).toInt64)) (fun σ10 =>
 Q ((0 : Int32)) σ10))) (fun E6 q7 σ8 => (E6 = "java/lang/IllegalArgumentException" ∧ Q ((1 : Int32)) σ8)))))
set_option maxHeartbeats 8000000 in
theorem kw_X0_setLimits {G : KG} {bc bs : Nat} {σ : KHp} {x0 : Option Nat} {x1 : Int32} {x2 : Int32} {x3 : Option Nat} {Q : Int32 → KHp → Prop} {X : String → Nat → KHp → Prop} (h : W_X0_setLimits G bc bs σ x0 x1 x2 x3 Q X) : kx_c G yX0_setLimits (wsW_ yX0_setLimits cX0_setLimits 5 (Option.some Jvm.ClassFile.FieldType.int) [((0 : Nat), (10 : Nat), (13 : Nat), (19 : Nat))]) 11 bc bs [va_rf (x0), .int (x1), .int (x2), va_rf (x3)] σ (fun rv σ' => ∃ r, rv = some (.int (r)) ∧ Q r σ') X := by
  refine kx_mk3W (ini := false) rfl (by cases x0 <;> cases x3 <;> exact Nat.le_of_ble_eq_true rfl) (fun h => by cases h) (fun Q1 X1 hQ hX => ?_)
  unfold W_X0_setLimits at h
  refine kx_lwF [(0, va_rf (x0)), (1, .int (x1)), (2, .int (x2)), (3, va_rf (x3))] (by cases x0 <;> cases x3 <;> exact ⟨rfl, rfl, rfl, rfl, trivial⟩) ?_
  refine kx_aload_nO dX0_setLimits_0 rfl rfl ?_
  refine kx_iconst (v := 0) dX0_setLimits_1 (by decide) ?_
  refine kx_aload_nO dX0_setLimits_2 rfl rfl ?_
  refine kx_iload_n dX0_setLimits_3 rfl rfl ?_
  refine kx_iload_n dX0_setLimits_4 rfl rfl ?_
  obtain ⟨a1, rfl, hUa1⟩ := h
  have h := hUa1
  obtain ⟨hr, h⟩ := h
  obtain ⟨c4, c5, hc, hs, h⟩ := h
  refine kx_callV dX0_setLimits_5 lk_X0_102 (kw_X1_setLimits h) rfl (wR_rc hr rfl) rfl (by cases x3 <;> exact Nat.le_of_ble_eq_true rfl) (Nat.le_of_ble_eq_true rfl) (Nat.le_of_ble_eq_true rfl) hc hs (fun E6 q7 σ8 hx => ?_) (fun v_ σ3 hq => ?_)
  · rcases hx with ⟨rfl, h⟩
    · skip
      refine kx_catch (tableOf []) ⟨0, 10, 13, 19⟩ (tableOf []) rfl (fun z hz => by cases hz) rfl (by decide) q1995 q234 ?_
      refine kx_astore dX0_setLimits_13 (Nat.le_of_ble_eq_true rfl) ?_
      refine kx_iconst (v := 1) dX0_setLimits_15 (by decide) ?_
      exact kx_iret dX0_setLimits_16 rfl (hQ _ _ ⟨_, rfl, h⟩)
  obtain ⟨v2, rfl, h⟩ := hq
  refine kx_i2l dX0_setLimits_8 rfl ?_
  obtain ⟨a9, rfl, hUa9⟩ := h
  have h := hUa9
  refine kW_sJ dX0_setLimits_9 h (fun σ10 h => ?_)
  refine kx_goto (tgt := 17) dX0_setLimits_10 (by decide) ?_
  refine kx_iconst (v := 0) dX0_setLimits_17 (by decide) ?_
  exact kx_iret dX0_setLimits_18 rfl (hQ _ _ ⟨_, rfl, h⟩)
def W_X0_reset (G : KG) (bc bs : Nat) (σ : KHp) (x0 : Option Nat) (x1 : Int32) (x2 : Option Nat) (Q : Int32 → KHp → Prop) (X : String → Nat → KHp → Prop) : Prop :=
  wU x0 (fun a1 =>
 (wR σ a1 0 ∧
 wC bc bs (fun c4 c5 =>
 W_X1_reset G c4 c5 σ a1 (x1) (fun v2 σ3 =>
 wU x2 (fun a9 =>
 wSJ σ3 a9 (0 : Int32) (((v2).toInt64)) (fun σ10 =>
 Q ((0 : Int32)) σ10))) (fun E6 q7 σ8 => (E6 = "java/lang/IndexOutOfBoundsException" ∧ Q ((1 : Int32)) σ8) ∨ (E6 = "java/lang/IllegalStateException" ∧ Q ((2 : Int32)) σ8)))))
set_option maxHeartbeats 8000000 in
theorem kw_X0_reset {G : KG} {bc bs : Nat} {σ : KHp} {x0 : Option Nat} {x1 : Int32} {x2 : Option Nat} {Q : Int32 → KHp → Prop} {X : String → Nat → KHp → Prop} (h : W_X0_reset G bc bs σ x0 x1 x2 Q X) : kx_c G yX0_reset (wsW_ yX0_reset cX0_reset 4 (Option.some Jvm.ClassFile.FieldType.int) [((0 : Nat), (9 : Nat), (12 : Nat), (28 : Nat)), ((0 : Nat), (9 : Nat), (15 : Nat), (13 : Nat))]) 11 bc bs [va_rf (x0), .int (x1), va_rf (x2)] σ (fun rv σ' => ∃ r, rv = some (.int (r)) ∧ Q r σ') X := by
  refine kx_mk3W (ini := false) rfl (by cases x0 <;> cases x2 <;> exact Nat.le_of_ble_eq_true rfl) (fun h => by cases h) (fun Q1 X1 hQ hX => ?_)
  unfold W_X0_reset at h
  refine kx_lwF [(0, va_rf (x0)), (1, .int (x1)), (2, va_rf (x2))] (by cases x0 <;> cases x2 <;> exact ⟨rfl, rfl, rfl, trivial⟩) ?_
  refine kx_aload_nO dX0_reset_0 rfl rfl ?_
  refine kx_iconst (v := 0) dX0_reset_1 (by decide) ?_
  refine kx_aload_nO dX0_reset_2 rfl rfl ?_
  refine kx_iload_n dX0_reset_3 rfl rfl ?_
  obtain ⟨a1, rfl, hUa1⟩ := h
  have h := hUa1
  obtain ⟨hr, h⟩ := h
  obtain ⟨c4, c5, hc, hs, h⟩ := h
  refine kx_callV dX0_reset_4 lk_X0_105 (kw_X1_reset h) rfl (wR_rc hr rfl) rfl (by cases x2 <;> exact Nat.le_of_ble_eq_true rfl) (Nat.le_of_ble_eq_true rfl) (Nat.le_of_ble_eq_true rfl) hc hs (fun E6 q7 σ8 hx => ?_) (fun v_ σ3 hq => ?_)
  · rcases hx with ⟨rfl, h⟩ | ⟨rfl, h⟩
    · skip
      refine kx_catch (tableOf []) ⟨0, 9, 12, 28⟩ (tableOf [((0 : Nat), (9 : Nat), (15 : Nat), (13 : Nat))]) rfl (fun z hz => by cases hz) rfl (by decide) q2029 q1664 ?_
      refine kx_astore_n dX0_reset_12 rfl (Nat.le_of_ble_eq_true rfl) ?_
      refine kx_iconst (v := 1) dX0_reset_13 (by decide) ?_
      exact kx_iret dX0_reset_14 rfl (hQ _ _ ⟨_, rfl, h⟩)
    · skip
      refine kx_catch (tableOf [((0 : Nat), (9 : Nat), (12 : Nat), (28 : Nat))]) ⟨0, 9, 15, 13⟩ (tableOf []) rfl (by intro z hz; simp only [tableOf, List.map, List.mem_cons, List.not_mem_nil, or_false] at hz; rcases hz with rfl <;> exact Or.inr ⟨by decide, _, by first | exact ⟨q2029, (List.mem_of_getElem? (i := 174) rfl)⟩⟩) rfl (by decide) q1975 q1566 ?_
      refine kx_astore_n dX0_reset_15 rfl (Nat.le_of_ble_eq_true rfl) ?_
      refine kx_iconst (v := 2) dX0_reset_16 (by decide) ?_
      exact kx_iret dX0_reset_17 rfl (hQ _ _ ⟨_, rfl, h⟩)
  obtain ⟨v2, rfl, h⟩ := hq
  refine kx_i2l dX0_reset_7 rfl ?_
  obtain ⟨a9, rfl, hUa9⟩ := h
  have h := hUa9
  refine kW_sJ dX0_reset_8 h (fun σ10 h => ?_)
  refine kx_goto (tgt := 18) dX0_reset_9 (by decide) ?_
  refine kx_iconst (v := 0) dX0_reset_18 (by decide) ?_
  exact kx_iret dX0_reset_19 rfl (hQ _ _ ⟨_, rfl, h⟩)
def W_X0_service (G : KG) (bc bs : Nat) (σ : KHp) (x0 : Option Nat) (x1 : Int32) (x2 : Option Nat) (Q : Int32 → KHp → Prop) (X : String → Nat → KHp → Prop) : Prop :=
  wU x0 (fun a1 =>
 (wR σ a1 0 ∧
 wC bc bs (fun c4 c5 =>
 W_X1_service G c4 c5 σ a1 (x1) (fun v2 σ3 =>
 wU x2 (fun a9 =>
 wSJ σ3 a9 (0 : Int32) (((v2).toInt64)) (fun σ10 =>
 Q ((0 : Int32)) σ10))) (fun E6 q7 σ8 => (E6 = "java/lang/IndexOutOfBoundsException" ∧ Q ((1 : Int32)) σ8)))))
set_option maxHeartbeats 8000000 in
theorem kw_X0_service {G : KG} {bc bs : Nat} {σ : KHp} {x0 : Option Nat} {x1 : Int32} {x2 : Option Nat} {Q : Int32 → KHp → Prop} {X : String → Nat → KHp → Prop} (h : W_X0_service G bc bs σ x0 x1 x2 Q X) : kx_c G yX0_service (wsW_ yX0_service cX0_service 4 (Option.some Jvm.ClassFile.FieldType.int) [((0 : Nat), (9 : Nat), (12 : Nat), (28 : Nat))]) 11 bc bs [va_rf (x0), .int (x1), va_rf (x2)] σ (fun rv σ' => ∃ r, rv = some (.int (r)) ∧ Q r σ') X := by
  refine kx_mk3W (ini := false) rfl (by cases x0 <;> cases x2 <;> exact Nat.le_of_ble_eq_true rfl) (fun h => by cases h) (fun Q1 X1 hQ hX => ?_)
  unfold W_X0_service at h
  refine kx_lwF [(0, va_rf (x0)), (1, .int (x1)), (2, va_rf (x2))] (by cases x0 <;> cases x2 <;> exact ⟨rfl, rfl, rfl, trivial⟩) ?_
  refine kx_aload_nO dX0_service_0 rfl rfl ?_
  refine kx_iconst (v := 0) dX0_service_1 (by decide) ?_
  refine kx_aload_nO dX0_service_2 rfl rfl ?_
  refine kx_iload_n dX0_service_3 rfl rfl ?_
  obtain ⟨a1, rfl, hUa1⟩ := h
  have h := hUa1
  obtain ⟨hr, h⟩ := h
  obtain ⟨c4, c5, hc, hs, h⟩ := h
  refine kx_callV dX0_service_4 lk_X0_108 (kw_X1_service h) rfl (wR_rc hr rfl) rfl (by cases x2 <;> exact Nat.le_of_ble_eq_true rfl) (Nat.le_of_ble_eq_true rfl) (Nat.le_of_ble_eq_true rfl) hc hs (fun E6 q7 σ8 hx => ?_) (fun v_ σ3 hq => ?_)
  · rcases hx with ⟨rfl, h⟩
    · skip
      refine kx_catch (tableOf []) ⟨0, 9, 12, 28⟩ (tableOf []) rfl (fun z hz => by cases hz) rfl (by decide) q2029 q1664 ?_
      refine kx_astore_n dX0_service_12 rfl (Nat.le_of_ble_eq_true rfl) ?_
      refine kx_iconst (v := 1) dX0_service_13 (by decide) ?_
      exact kx_iret dX0_service_14 rfl (hQ _ _ ⟨_, rfl, h⟩)
  obtain ⟨v2, rfl, h⟩ := hq
  refine kx_i2l dX0_service_7 rfl ?_
  obtain ⟨a9, rfl, hUa9⟩ := h
  have h := hUa9
  refine kW_sJ dX0_service_8 h (fun σ10 h => ?_)
  refine kx_goto (tgt := 15) dX0_service_9 (by decide) ?_
  refine kx_iconst (v := 0) dX0_service_15 (by decide) ?_
  exact kx_iret dX0_service_16 rfl (hQ _ _ ⟨_, rfl, h⟩)
def W_X0_test (G : KG) (bc bs : Nat) (σ : KHp) (x0 : Option Nat) (x1 : Int32) (x2 : Option Nat) (Q : Int32 → KHp → Prop) (X : String → Nat → KHp → Prop) : Prop :=
  wU x0 (fun a1 =>
 (wR σ a1 0 ∧
 wC bc bs (fun c4 c5 =>
 W_X1_test G c4 c5 σ a1 (x1) (fun v2 σ3 =>
 wU x2 (fun a9 =>
 wSJ σ3 a9 (0 : Int32) (((v2).toInt64)) (fun σ10 =>
 Q ((0 : Int32)) σ10))) (fun E6 q7 σ8 => (E6 = "java/lang/IndexOutOfBoundsException" ∧ Q ((1 : Int32)) σ8) ∨ (E6 = "java/lang/IllegalStateException" ∧ Q ((2 : Int32)) σ8)))))
set_option maxHeartbeats 8000000 in
theorem kw_X0_test {G : KG} {bc bs : Nat} {σ : KHp} {x0 : Option Nat} {x1 : Int32} {x2 : Option Nat} {Q : Int32 → KHp → Prop} {X : String → Nat → KHp → Prop} (h : W_X0_test G bc bs σ x0 x1 x2 Q X) : kx_c G yX0_test (wsW_ yX0_test cX0_test 4 (Option.some Jvm.ClassFile.FieldType.int) [((0 : Nat), (9 : Nat), (12 : Nat), (28 : Nat)), ((0 : Nat), (9 : Nat), (15 : Nat), (13 : Nat))]) 12 bc bs [va_rf (x0), .int (x1), va_rf (x2)] σ (fun rv σ' => ∃ r, rv = some (.int (r)) ∧ Q r σ') X := by
  refine kx_mk3W (ini := false) rfl (by cases x0 <;> cases x2 <;> exact Nat.le_of_ble_eq_true rfl) (fun h => by cases h) (fun Q1 X1 hQ hX => ?_)
  unfold W_X0_test at h
  refine kx_lwF [(0, va_rf (x0)), (1, .int (x1)), (2, va_rf (x2))] (by cases x0 <;> cases x2 <;> exact ⟨rfl, rfl, rfl, trivial⟩) ?_
  refine kx_aload_nO dX0_test_0 rfl rfl ?_
  refine kx_iconst (v := 0) dX0_test_1 (by decide) ?_
  refine kx_aload_nO dX0_test_2 rfl rfl ?_
  refine kx_iload_n dX0_test_3 rfl rfl ?_
  obtain ⟨a1, rfl, hUa1⟩ := h
  have h := hUa1
  obtain ⟨hr, h⟩ := h
  obtain ⟨c4, c5, hc, hs, h⟩ := h
  refine kx_callV dX0_test_4 lk_X0_111 (kw_X1_test h) rfl (wR_rc hr rfl) rfl (by cases x2 <;> exact Nat.le_of_ble_eq_true rfl) (Nat.le_of_ble_eq_true rfl) (Nat.le_of_ble_eq_true rfl) hc hs (fun E6 q7 σ8 hx => ?_) (fun v_ σ3 hq => ?_)
  · rcases hx with ⟨rfl, h⟩ | ⟨rfl, h⟩
    · skip
      refine kx_catch (tableOf []) ⟨0, 9, 12, 28⟩ (tableOf [((0 : Nat), (9 : Nat), (15 : Nat), (13 : Nat))]) rfl (fun z hz => by cases hz) rfl (by decide) q2029 q1664 ?_
      refine kx_astore_n dX0_test_12 rfl (Nat.le_of_ble_eq_true rfl) ?_
      refine kx_iconst (v := 1) dX0_test_13 (by decide) ?_
      exact kx_iret dX0_test_14 rfl (hQ _ _ ⟨_, rfl, h⟩)
    · skip
      refine kx_catch (tableOf [((0 : Nat), (9 : Nat), (12 : Nat), (28 : Nat))]) ⟨0, 9, 15, 13⟩ (tableOf []) rfl (by intro z hz; simp only [tableOf, List.map, List.mem_cons, List.not_mem_nil, or_false] at hz; rcases hz with rfl <;> exact Or.inr ⟨by decide, _, by first | exact ⟨q2029, (List.mem_of_getElem? (i := 174) rfl)⟩⟩) rfl (by decide) q1975 q1566 ?_
      refine kx_astore_n dX0_test_15 rfl (Nat.le_of_ble_eq_true rfl) ?_
      refine kx_iconst (v := 2) dX0_test_16 (by decide) ?_
      exact kx_iret dX0_test_17 rfl (hQ _ _ ⟨_, rfl, h⟩)
  obtain ⟨v2, rfl, h⟩ := hq
  refine kx_i2l dX0_test_7 rfl ?_
  obtain ⟨a9, rfl, hUa9⟩ := h
  have h := hUa9
  refine kW_sJ dX0_test_8 h (fun σ10 h => ?_)
  refine kx_goto (tgt := 18) dX0_test_9 (by decide) ?_
  refine kx_iconst (v := 0) dX0_test_18 (by decide) ?_
  exact kx_iret dX0_test_19 rfl (hQ _ _ ⟨_, rfl, h⟩)
def W_X0_tripIn (G : KG) (bc bs : Nat) (σ : KHp) (x0 : Option Nat) (x1 : Int32) (x2 : Option Nat) (Q : Int32 → KHp → Prop) (X : String → Nat → KHp → Prop) : Prop :=
  wU x0 (fun a1 =>
 (wR σ a1 0 ∧
 wC bc bs (fun c4 c5 =>
 W_X1_tripIn G c4 c5 σ a1 (x1) (fun v2 σ3 =>
 wU x2 (fun a9 =>
 wSJ σ3 a9 (0 : Int32) (((v2).toInt64)) (fun σ10 =>
 Q ((0 : Int32)) σ10))) (fun E6 q7 σ8 => (E6 = "java/lang/IndexOutOfBoundsException" ∧ Q ((1 : Int32)) σ8)))))
set_option maxHeartbeats 8000000 in
theorem kw_X0_tripIn {G : KG} {bc bs : Nat} {σ : KHp} {x0 : Option Nat} {x1 : Int32} {x2 : Option Nat} {Q : Int32 → KHp → Prop} {X : String → Nat → KHp → Prop} (h : W_X0_tripIn G bc bs σ x0 x1 x2 Q X) : kx_c G yX0_tripIn (wsW_ yX0_tripIn cX0_tripIn 4 (Option.some Jvm.ClassFile.FieldType.int) [((0 : Nat), (9 : Nat), (12 : Nat), (28 : Nat))]) 11 bc bs [va_rf (x0), .int (x1), va_rf (x2)] σ (fun rv σ' => ∃ r, rv = some (.int (r)) ∧ Q r σ') X := by
  refine kx_mk3W (ini := false) rfl (by cases x0 <;> cases x2 <;> exact Nat.le_of_ble_eq_true rfl) (fun h => by cases h) (fun Q1 X1 hQ hX => ?_)
  unfold W_X0_tripIn at h
  refine kx_lwF [(0, va_rf (x0)), (1, .int (x1)), (2, va_rf (x2))] (by cases x0 <;> cases x2 <;> exact ⟨rfl, rfl, rfl, trivial⟩) ?_
  refine kx_aload_nO dX0_tripIn_0 rfl rfl ?_
  refine kx_iconst (v := 0) dX0_tripIn_1 (by decide) ?_
  refine kx_aload_nO dX0_tripIn_2 rfl rfl ?_
  refine kx_iload_n dX0_tripIn_3 rfl rfl ?_
  obtain ⟨a1, rfl, hUa1⟩ := h
  have h := hUa1
  obtain ⟨hr, h⟩ := h
  obtain ⟨c4, c5, hc, hs, h⟩ := h
  refine kx_callV dX0_tripIn_4 lk_X0_130 (kw_X1_tripIn h) rfl (wR_rc hr rfl) rfl (by cases x2 <;> exact Nat.le_of_ble_eq_true rfl) (Nat.le_of_ble_eq_true rfl) (Nat.le_of_ble_eq_true rfl) hc hs (fun E6 q7 σ8 hx => ?_) (fun v_ σ3 hq => ?_)
  · rcases hx with ⟨rfl, h⟩
    · skip
      refine kx_catch (tableOf []) ⟨0, 9, 12, 28⟩ (tableOf []) rfl (fun z hz => by cases hz) rfl (by decide) q2029 q1664 ?_
      refine kx_astore_n dX0_tripIn_12 rfl (Nat.le_of_ble_eq_true rfl) ?_
      refine kx_iconst (v := 1) dX0_tripIn_13 (by decide) ?_
      exact kx_iret dX0_tripIn_14 rfl (hQ _ _ ⟨_, rfl, h⟩)
  obtain ⟨v2, rfl, h⟩ := hq
  refine kx_i2l dX0_tripIn_7 rfl ?_
  obtain ⟨a9, rfl, hUa9⟩ := h
  have h := hUa9
  refine kW_sJ dX0_tripIn_8 h (fun σ10 h => ?_)
  refine kx_goto (tgt := 15) dX0_tripIn_9 (by decide) ?_
  refine kx_iconst (v := 0) dX0_tripIn_15 (by decide) ?_
  exact kx_iret dX0_tripIn_16 rfl (hQ _ _ ⟨_, rfl, h⟩)
def W_X0_tripping (G : KG) (bc bs : Nat) (σ : KHp) (x0 : Option Nat) (x1 : Int32) (x2 : Option Nat) (Q : Int32 → KHp → Prop) (X : String → Nat → KHp → Prop) : Prop :=
  wU x0 (fun a1 =>
 (wR σ a1 0 ∧
 wC bc bs (fun c4 c5 =>
 W_X1_tripping G c4 c5 σ a1 (x1) (fun v2 σ3 =>
 wU x2 (fun a9 =>
 wSJ σ3 a9 (0 : Int32) (((v2).toInt64)) (fun σ10 =>
 Q ((0 : Int32)) σ10))) (fun E6 q7 σ8 => (E6 = "java/lang/IllegalArgumentException" ∧ Q ((1 : Int32)) σ8)))))
set_option maxHeartbeats 8000000 in
theorem kw_X0_tripping {G : KG} {bc bs : Nat} {σ : KHp} {x0 : Option Nat} {x1 : Int32} {x2 : Option Nat} {Q : Int32 → KHp → Prop} {X : String → Nat → KHp → Prop} (h : W_X0_tripping G bc bs σ x0 x1 x2 Q X) : kx_c G yX0_tripping (wsW_ yX0_tripping cX0_tripping 4 (Option.some Jvm.ClassFile.FieldType.int) [((0 : Nat), (9 : Nat), (12 : Nat), (19 : Nat))]) 10 bc bs [va_rf (x0), .int (x1), va_rf (x2)] σ (fun rv σ' => ∃ r, rv = some (.int (r)) ∧ Q r σ') X := by
  refine kx_mk3W (ini := false) rfl (by cases x0 <;> cases x2 <;> exact Nat.le_of_ble_eq_true rfl) (fun h => by cases h) (fun Q1 X1 hQ hX => ?_)
  unfold W_X0_tripping at h
  refine kx_lwF [(0, va_rf (x0)), (1, .int (x1)), (2, va_rf (x2))] (by cases x0 <;> cases x2 <;> exact ⟨rfl, rfl, rfl, trivial⟩) ?_
  refine kx_aload_nO dX0_tripping_0 rfl rfl ?_
  refine kx_iconst (v := 0) dX0_tripping_1 (by decide) ?_
  refine kx_aload_nO dX0_tripping_2 rfl rfl ?_
  refine kx_iload_n dX0_tripping_3 rfl rfl ?_
  obtain ⟨a1, rfl, hUa1⟩ := h
  have h := hUa1
  obtain ⟨hr, h⟩ := h
  obtain ⟨c4, c5, hc, hs, h⟩ := h
  refine kx_callV dX0_tripping_4 lk_X0_133 (kw_X1_tripping h) rfl (wR_rc hr rfl) rfl (by cases x2 <;> exact Nat.le_of_ble_eq_true rfl) (Nat.le_of_ble_eq_true rfl) (Nat.le_of_ble_eq_true rfl) hc hs (fun E6 q7 σ8 hx => ?_) (fun v_ σ3 hq => ?_)
  · rcases hx with ⟨rfl, h⟩
    · skip
      refine kx_catch (tableOf []) ⟨0, 9, 12, 19⟩ (tableOf []) rfl (fun z hz => by cases hz) rfl (by decide) q1995 q234 ?_
      refine kx_astore_n dX0_tripping_12 rfl (Nat.le_of_ble_eq_true rfl) ?_
      refine kx_iconst (v := 1) dX0_tripping_13 (by decide) ?_
      exact kx_iret dX0_tripping_14 rfl (hQ _ _ ⟨_, rfl, h⟩)
  obtain ⟨v2, rfl, h⟩ := hq
  refine kx_i2l dX0_tripping_7 rfl ?_
  obtain ⟨a9, rfl, hUa9⟩ := h
  have h := hUa9
  refine kW_sJ dX0_tripping_8 h (fun σ10 h => ?_)
  refine kx_goto (tgt := 15) dX0_tripping_9 (by decide) ?_
  refine kx_iconst (v := 0) dX0_tripping_15 (by decide) ?_
  exact kx_iret dX0_tripping_16 rfl (hQ _ _ ⟨_, rfl, h⟩)
def W_X0_featureAfter (G : KG) (bc bs : Nat) (σ : KHp) (x0 : Option Nat) (x1 : Int32) (x2 : Int32) (x3 : Int32) (x4 : Option Nat) (Q : Int32 → KHp → Prop) (X : String → Nat → KHp → Prop) : Prop :=
  wU x0 (fun a1 =>
 (wR σ a1 0 ∧
 wC bc bs (fun c4 c5 =>
 W_X1_featureAfter G c4 c5 σ a1 (x1) (x2) (x3) (fun v2 σ3 =>
 wD (FP.f2d v2) (fun v9 =>
 wU x4 (fun a10 =>
 wSD σ3 a10 (0 : Int32) (v9) (fun σ11 =>
 Q ((0 : Int32)) σ11)))) (fun E6 q7 σ8 => (E6 = "java/lang/IndexOutOfBoundsException" ∧ Q ((1 : Int32)) σ8) ∨ (E6 = "java/lang/IllegalArgumentException" ∧ Q ((2 : Int32)) σ8) ∨ (E6 = "java/util/NoSuchElementException" ∧ Q ((3 : Int32)) σ8)))))
set_option maxHeartbeats 8000000 in
theorem kw_X0_featureAfter {G : KG} {bc bs : Nat} {σ : KHp} {x0 : Option Nat} {x1 : Int32} {x2 : Int32} {x3 : Int32} {x4 : Option Nat} {Q : Int32 → KHp → Prop} {X : String → Nat → KHp → Prop} (h : W_X0_featureAfter G bc bs σ x0 x1 x2 x3 x4 Q X) : kx_c G yX0_featureAfter (wsW_ yX0_featureAfter cX0_featureAfter 6 (Option.some Jvm.ClassFile.FieldType.int) [((0 : Nat), (12 : Nat), (15 : Nat), (28 : Nat)), ((0 : Nat), (12 : Nat), (19 : Nat), (19 : Nat)), ((0 : Nat), (12 : Nat), (23 : Nat), (59 : Nat))]) 11 bc bs [va_rf (x0), .int (x1), .int (x2), .int (x3), va_rf (x4)] σ (fun rv σ' => ∃ r, rv = some (.int (r)) ∧ Q r σ') X := by
  refine kx_mk3W (ini := false) rfl (by cases x0 <;> cases x4 <;> exact Nat.le_of_ble_eq_true rfl) (fun h => by cases h) (fun Q1 X1 hQ hX => ?_)
  unfold W_X0_featureAfter at h
  refine kx_lwF [(0, va_rf (x0)), (1, .int (x1)), (2, .int (x2)), (3, .int (x3)), (4, va_rf (x4))] (by cases x0 <;> cases x4 <;> exact ⟨rfl, rfl, rfl, rfl, rfl, trivial⟩) ?_
  refine kx_aloadO dX0_featureAfter_0 rfl ?_
  refine kx_iconst (v := 0) dX0_featureAfter_2 (by decide) ?_
  refine kx_aload_nO dX0_featureAfter_3 rfl rfl ?_
  refine kx_iload_n dX0_featureAfter_4 rfl rfl ?_
  refine kx_iload_n dX0_featureAfter_5 rfl rfl ?_
  refine kx_iload_n dX0_featureAfter_6 rfl rfl ?_
  obtain ⟨a1, rfl, hUa1⟩ := h
  have h := hUa1
  obtain ⟨hr, h⟩ := h
  obtain ⟨c4, c5, hc, hs, h⟩ := h
  refine kx_callV dX0_featureAfter_7 lk_X0_136 (kw_X1_featureAfter h) rfl (wR_rc hr rfl) rfl (by cases x4 <;> exact Nat.le_of_ble_eq_true rfl) (Nat.le_of_ble_eq_true rfl) (Nat.le_of_ble_eq_true rfl) hc hs (fun E6 q7 σ8 hx => ?_) (fun v_ σ3 hq => ?_)
  · rcases hx with ⟨rfl, h⟩ | ⟨rfl, h⟩ | ⟨rfl, h⟩
    · skip
      refine kx_catch (tableOf []) ⟨0, 12, 15, 28⟩ (tableOf [((0 : Nat), (12 : Nat), (19 : Nat), (19 : Nat)), ((0 : Nat), (12 : Nat), (23 : Nat), (59 : Nat))]) rfl (fun z hz => by cases hz) rfl (by decide) q2029 q1664 ?_
      refine kx_astore dX0_featureAfter_15 (Nat.le_of_ble_eq_true rfl) ?_
      refine kx_iconst (v := 1) dX0_featureAfter_17 (by decide) ?_
      exact kx_iret dX0_featureAfter_18 rfl (hQ _ _ ⟨_, rfl, h⟩)
    · skip
      refine kx_catch (tableOf [((0 : Nat), (12 : Nat), (15 : Nat), (28 : Nat))]) ⟨0, 12, 19, 19⟩ (tableOf [((0 : Nat), (12 : Nat), (23 : Nat), (59 : Nat))]) rfl (by intro z hz; simp only [tableOf, List.map, List.mem_cons, List.not_mem_nil, or_false] at hz; rcases hz with rfl <;> exact Or.inr ⟨by decide, _, by first | exact ⟨q2029, (List.mem_of_getElem? (i := 161) rfl)⟩⟩) rfl (by decide) q1995 q234 ?_
      refine kx_astore dX0_featureAfter_19 (Nat.le_of_ble_eq_true rfl) ?_
      refine kx_iconst (v := 2) dX0_featureAfter_21 (by decide) ?_
      exact kx_iret dX0_featureAfter_22 rfl (hQ _ _ ⟨_, rfl, h⟩)
    · skip
      refine kx_catch (tableOf [((0 : Nat), (12 : Nat), (15 : Nat), (28 : Nat)), ((0 : Nat), (12 : Nat), (19 : Nat), (19 : Nat))]) ⟨0, 12, 23, 59⟩ (tableOf []) rfl (by intro z hz; simp only [tableOf, List.map, List.mem_cons, List.not_mem_nil, or_false] at hz; rcases hz with rfl | rfl <;> exact Or.inr ⟨by decide, _, by first | exact ⟨q2029, (List.mem_of_getElem? (i := 188) rfl)⟩ | exact ⟨q1995, (List.mem_of_getElem? (i := 148) rfl)⟩⟩) rfl (by decide) q2354 q1532 ?_
      refine kx_astore dX0_featureAfter_23 (Nat.le_of_ble_eq_true rfl) ?_
      refine kx_iconst (v := 3) dX0_featureAfter_25 (by decide) ?_
      exact kx_iret dX0_featureAfter_26 rfl (hQ _ _ ⟨_, rfl, h⟩)
  obtain ⟨v2, rfl, h⟩ := hq
  refine kW_f2d dX0_featureAfter_10 h (fun v9 h => ?_)
  obtain ⟨a10, rfl, hUa10⟩ := h
  have h := hUa10
  refine kW_sD dX0_featureAfter_11 h (fun σ11 h => ?_)
  refine kx_goto (tgt := 27) dX0_featureAfter_12 (by decide) ?_
  refine kx_iconst (v := 0) dX0_featureAfter_27 (by decide) ?_
  exact kx_iret dX0_featureAfter_28 rfl (hQ _ _ ⟨_, rfl, h⟩)
def W_X0_culprit (G : KG) (bc bs : Nat) (σ : KHp) (x0 : Option Nat) (x1 : Int32) (x2 : Option Nat) (Q : Int32 → KHp → Prop) (X : String → Nat → KHp → Prop) : Prop :=
  wU x0 (fun a1 =>
 (wR σ a1 0 ∧
 wC bc bs (fun c4 c5 =>
 W_X1_culprit G c4 c5 σ a1 (x1) (fun v2 σ3 =>
 wU x2 (fun a9 =>
 wSJ σ3 a9 (0 : Int32) (((v2).toInt64)) (fun σ10 =>
 Q ((0 : Int32)) σ10))) (fun E6 q7 σ8 => (E6 = "java/lang/IndexOutOfBoundsException" ∧ Q ((1 : Int32)) σ8)))))
set_option maxHeartbeats 8000000 in
theorem kw_X0_culprit {G : KG} {bc bs : Nat} {σ : KHp} {x0 : Option Nat} {x1 : Int32} {x2 : Option Nat} {Q : Int32 → KHp → Prop} {X : String → Nat → KHp → Prop} (h : W_X0_culprit G bc bs σ x0 x1 x2 Q X) : kx_c G yX0_culprit (wsW_ yX0_culprit cX0_culprit 4 (Option.some Jvm.ClassFile.FieldType.int) [((0 : Nat), (9 : Nat), (12 : Nat), (28 : Nat))]) 11 bc bs [va_rf (x0), .int (x1), va_rf (x2)] σ (fun rv σ' => ∃ r, rv = some (.int (r)) ∧ Q r σ') X := by
  refine kx_mk3W (ini := false) rfl (by cases x0 <;> cases x2 <;> exact Nat.le_of_ble_eq_true rfl) (fun h => by cases h) (fun Q1 X1 hQ hX => ?_)
  unfold W_X0_culprit at h
  refine kx_lwF [(0, va_rf (x0)), (1, .int (x1)), (2, va_rf (x2))] (by cases x0 <;> cases x2 <;> exact ⟨rfl, rfl, rfl, trivial⟩) ?_
  refine kx_aload_nO dX0_culprit_0 rfl rfl ?_
  refine kx_iconst (v := 0) dX0_culprit_1 (by decide) ?_
  refine kx_aload_nO dX0_culprit_2 rfl rfl ?_
  refine kx_iload_n dX0_culprit_3 rfl rfl ?_
  obtain ⟨a1, rfl, hUa1⟩ := h
  have h := hUa1
  obtain ⟨hr, h⟩ := h
  obtain ⟨c4, c5, hc, hs, h⟩ := h
  refine kx_callV dX0_culprit_4 lk_X0_140 (kw_X1_culprit h) rfl (wR_rc hr rfl) rfl (by cases x2 <;> exact Nat.le_of_ble_eq_true rfl) (Nat.le_of_ble_eq_true rfl) (Nat.le_of_ble_eq_true rfl) hc hs (fun E6 q7 σ8 hx => ?_) (fun v_ σ3 hq => ?_)
  · rcases hx with ⟨rfl, h⟩
    · skip
      refine kx_catch (tableOf []) ⟨0, 9, 12, 28⟩ (tableOf []) rfl (fun z hz => by cases hz) rfl (by decide) q2029 q1664 ?_
      refine kx_astore_n dX0_culprit_12 rfl (Nat.le_of_ble_eq_true rfl) ?_
      refine kx_iconst (v := 1) dX0_culprit_13 (by decide) ?_
      exact kx_iret dX0_culprit_14 rfl (hQ _ _ ⟨_, rfl, h⟩)
  obtain ⟨v2, rfl, h⟩ := hq
  refine kx_i2l dX0_culprit_7 rfl ?_
  obtain ⟨a9, rfl, hUa9⟩ := h
  have h := hUa9
  refine kW_sJ dX0_culprit_8 h (fun σ10 h => ?_)
  refine kx_goto (tgt := 15) dX0_culprit_9 (by decide) ?_
  refine kx_iconst (v := 0) dX0_culprit_15 (by decide) ?_
  exact kx_iret dX0_culprit_16 rfl (hQ _ _ ⟨_, rfl, h⟩)
def W_X0_hitsAhead (G : KG) (bc bs : Nat) (σ : KHp) (x0 : Option Nat) (x1 : Int32) (x2 : Option Nat) (Q : Int32 → KHp → Prop) (X : String → Nat → KHp → Prop) : Prop :=
  wU x0 (fun a1 =>
 (wR σ a1 0 ∧
 wC bc bs (fun c4 c5 =>
 W_X1_hitsAhead G c4 c5 σ a1 (x1) (fun v2 σ3 =>
 wU x2 (fun a9 =>
 wSJ σ3 a9 (0 : Int32) (((v2).toInt64)) (fun σ10 =>
 Q ((0 : Int32)) σ10))) (fun E6 q7 σ8 => (E6 = "java/lang/IndexOutOfBoundsException" ∧ Q ((1 : Int32)) σ8)))))
set_option maxHeartbeats 8000000 in
theorem kw_X0_hitsAhead {G : KG} {bc bs : Nat} {σ : KHp} {x0 : Option Nat} {x1 : Int32} {x2 : Option Nat} {Q : Int32 → KHp → Prop} {X : String → Nat → KHp → Prop} (h : W_X0_hitsAhead G bc bs σ x0 x1 x2 Q X) : kx_c G yX0_hitsAhead (wsW_ yX0_hitsAhead cX0_hitsAhead 4 (Option.some Jvm.ClassFile.FieldType.int) [((0 : Nat), (9 : Nat), (12 : Nat), (28 : Nat))]) 11 bc bs [va_rf (x0), .int (x1), va_rf (x2)] σ (fun rv σ' => ∃ r, rv = some (.int (r)) ∧ Q r σ') X := by
  refine kx_mk3W (ini := false) rfl (by cases x0 <;> cases x2 <;> exact Nat.le_of_ble_eq_true rfl) (fun h => by cases h) (fun Q1 X1 hQ hX => ?_)
  unfold W_X0_hitsAhead at h
  refine kx_lwF [(0, va_rf (x0)), (1, .int (x1)), (2, va_rf (x2))] (by cases x0 <;> cases x2 <;> exact ⟨rfl, rfl, rfl, trivial⟩) ?_
  refine kx_aload_nO dX0_hitsAhead_0 rfl rfl ?_
  refine kx_iconst (v := 0) dX0_hitsAhead_1 (by decide) ?_
  refine kx_aload_nO dX0_hitsAhead_2 rfl rfl ?_
  refine kx_iload_n dX0_hitsAhead_3 rfl rfl ?_
  obtain ⟨a1, rfl, hUa1⟩ := h
  have h := hUa1
  obtain ⟨hr, h⟩ := h
  obtain ⟨c4, c5, hc, hs, h⟩ := h
  refine kx_callV dX0_hitsAhead_4 lk_X0_143 (kw_X1_hitsAhead h) rfl (wR_rc hr rfl) rfl (by cases x2 <;> exact Nat.le_of_ble_eq_true rfl) (Nat.le_of_ble_eq_true rfl) (Nat.le_of_ble_eq_true rfl) hc hs (fun E6 q7 σ8 hx => ?_) (fun v_ σ3 hq => ?_)
  · rcases hx with ⟨rfl, h⟩
    · skip
      refine kx_catch (tableOf []) ⟨0, 9, 12, 28⟩ (tableOf []) rfl (fun z hz => by cases hz) rfl (by decide) q2029 q1664 ?_
      refine kx_astore_n dX0_hitsAhead_12 rfl (Nat.le_of_ble_eq_true rfl) ?_
      refine kx_iconst (v := 1) dX0_hitsAhead_13 (by decide) ?_
      exact kx_iret dX0_hitsAhead_14 rfl (hQ _ _ ⟨_, rfl, h⟩)
  obtain ⟨v2, rfl, h⟩ := hq
  refine kx_i2l dX0_hitsAhead_7 rfl ?_
  obtain ⟨a9, rfl, hUa9⟩ := h
  have h := hUa9
  refine kW_sJ dX0_hitsAhead_8 h (fun σ10 h => ?_)
  refine kx_goto (tgt := 15) dX0_hitsAhead_9 (by decide) ?_
  refine kx_iconst (v := 0) dX0_hitsAhead_15 (by decide) ?_
  exact kx_iret dX0_hitsAhead_16 rfl (hQ _ _ ⟨_, rfl, h⟩)
def W_X0_largestCount (G : KG) (bc bs : Nat) (σ : KHp) (x0 : Option Nat) (x1 : Int32) (x2 : Option Nat) (Q : Int32 → KHp → Prop) (X : String → Nat → KHp → Prop) : Prop :=
  wU x0 (fun a1 =>
 (wR σ a1 0 ∧
 wC bc bs (fun c4 c5 =>
 W_X1_largestCount G c4 c5 σ a1 (x1) (fun v2 σ3 =>
 wU x2 (fun a9 =>
 wSJ σ3 a9 (0 : Int32) (((v2).toInt64)) (fun σ10 =>
 Q ((0 : Int32)) σ10))) (fun E6 q7 σ8 => (E6 = "java/lang/IndexOutOfBoundsException" ∧ Q ((1 : Int32)) σ8)))))
set_option maxHeartbeats 8000000 in
theorem kw_X0_largestCount {G : KG} {bc bs : Nat} {σ : KHp} {x0 : Option Nat} {x1 : Int32} {x2 : Option Nat} {Q : Int32 → KHp → Prop} {X : String → Nat → KHp → Prop} (h : W_X0_largestCount G bc bs σ x0 x1 x2 Q X) : kx_c G yX0_largestCount (wsW_ yX0_largestCount cX0_largestCount 4 (Option.some Jvm.ClassFile.FieldType.int) [((0 : Nat), (9 : Nat), (12 : Nat), (28 : Nat))]) 11 bc bs [va_rf (x0), .int (x1), va_rf (x2)] σ (fun rv σ' => ∃ r, rv = some (.int (r)) ∧ Q r σ') X := by
  refine kx_mk3W (ini := false) rfl (by cases x0 <;> cases x2 <;> exact Nat.le_of_ble_eq_true rfl) (fun h => by cases h) (fun Q1 X1 hQ hX => ?_)
  unfold W_X0_largestCount at h
  refine kx_lwF [(0, va_rf (x0)), (1, .int (x1)), (2, va_rf (x2))] (by cases x0 <;> cases x2 <;> exact ⟨rfl, rfl, rfl, trivial⟩) ?_
  refine kx_aload_nO dX0_largestCount_0 rfl rfl ?_
  refine kx_iconst (v := 0) dX0_largestCount_1 (by decide) ?_
  refine kx_aload_nO dX0_largestCount_2 rfl rfl ?_
  refine kx_iload_n dX0_largestCount_3 rfl rfl ?_
  obtain ⟨a1, rfl, hUa1⟩ := h
  have h := hUa1
  obtain ⟨hr, h⟩ := h
  obtain ⟨c4, c5, hc, hs, h⟩ := h
  refine kx_callV dX0_largestCount_4 lk_X0_146 (kw_X1_largestCount h) rfl (wR_rc hr rfl) rfl (by cases x2 <;> exact Nat.le_of_ble_eq_true rfl) (Nat.le_of_ble_eq_true rfl) (Nat.le_of_ble_eq_true rfl) hc hs (fun E6 q7 σ8 hx => ?_) (fun v_ σ3 hq => ?_)
  · rcases hx with ⟨rfl, h⟩
    · skip
      refine kx_catch (tableOf []) ⟨0, 9, 12, 28⟩ (tableOf []) rfl (fun z hz => by cases hz) rfl (by decide) q2029 q1664 ?_
      refine kx_astore_n dX0_largestCount_12 rfl (Nat.le_of_ble_eq_true rfl) ?_
      refine kx_iconst (v := 1) dX0_largestCount_13 (by decide) ?_
      exact kx_iret dX0_largestCount_14 rfl (hQ _ _ ⟨_, rfl, h⟩)
  obtain ⟨v2, rfl, h⟩ := hq
  refine kx_i2l dX0_largestCount_7 rfl ?_
  obtain ⟨a9, rfl, hUa9⟩ := h
  have h := hUa9
  refine kW_sJ dX0_largestCount_8 h (fun σ10 h => ?_)
  refine kx_goto (tgt := 15) dX0_largestCount_9 (by decide) ?_
  refine kx_iconst (v := 0) dX0_largestCount_15 (by decide) ?_
  exact kx_iret dX0_largestCount_16 rfl (hQ _ _ ⟨_, rfl, h⟩)
def W_X0_writeTrip (G : KG) (bc bs : Nat) (σ : KHp) (x0 : Option Nat) (x1 : Int32) (x2 : Option Nat) (Q : Int32 → KHp → Prop) (X : String → Nat → KHp → Prop) : Prop :=
  wU x0 (fun a1 =>
 (wR σ a1 0 ∧
 wC bc bs (fun c4 c5 =>
 W_X1_writeTrip G c4 c5 σ a1 (x1) (fun v2 σ3 =>
 wU x2 (fun a9 =>
 wSJ σ3 a9 (0 : Int32) (((v2).toInt64)) (fun σ10 =>
 Q ((0 : Int32)) σ10))) (fun E6 q7 σ8 => (E6 = "java/lang/IndexOutOfBoundsException" ∧ Q ((1 : Int32)) σ8)))))
set_option maxHeartbeats 8000000 in
theorem kw_X0_writeTrip {G : KG} {bc bs : Nat} {σ : KHp} {x0 : Option Nat} {x1 : Int32} {x2 : Option Nat} {Q : Int32 → KHp → Prop} {X : String → Nat → KHp → Prop} (h : W_X0_writeTrip G bc bs σ x0 x1 x2 Q X) : kx_c G yX0_writeTrip (wsW_ yX0_writeTrip cX0_writeTrip 4 (Option.some Jvm.ClassFile.FieldType.int) [((0 : Nat), (9 : Nat), (12 : Nat), (28 : Nat))]) 12 bc bs [va_rf (x0), .int (x1), va_rf (x2)] σ (fun rv σ' => ∃ r, rv = some (.int (r)) ∧ Q r σ') X := by
  refine kx_mk3W (ini := false) rfl (by cases x0 <;> cases x2 <;> exact Nat.le_of_ble_eq_true rfl) (fun h => by cases h) (fun Q1 X1 hQ hX => ?_)
  unfold W_X0_writeTrip at h
  refine kx_lwF [(0, va_rf (x0)), (1, .int (x1)), (2, va_rf (x2))] (by cases x0 <;> cases x2 <;> exact ⟨rfl, rfl, rfl, trivial⟩) ?_
  refine kx_aload_nO dX0_writeTrip_0 rfl rfl ?_
  refine kx_iconst (v := 0) dX0_writeTrip_1 (by decide) ?_
  refine kx_aload_nO dX0_writeTrip_2 rfl rfl ?_
  refine kx_iload_n dX0_writeTrip_3 rfl rfl ?_
  obtain ⟨a1, rfl, hUa1⟩ := h
  have h := hUa1
  obtain ⟨hr, h⟩ := h
  obtain ⟨c4, c5, hc, hs, h⟩ := h
  refine kx_callV dX0_writeTrip_4 lk_X0_156 (kw_X1_writeTrip h) rfl (wR_rc hr rfl) rfl (by cases x2 <;> exact Nat.le_of_ble_eq_true rfl) (Nat.le_of_ble_eq_true rfl) (Nat.le_of_ble_eq_true rfl) hc hs (fun E6 q7 σ8 hx => ?_) (fun v_ σ3 hq => ?_)
  · rcases hx with ⟨rfl, h⟩
    · skip
      refine kx_catch (tableOf []) ⟨0, 9, 12, 28⟩ (tableOf []) rfl (fun z hz => by cases hz) rfl (by decide) q2029 q1664 ?_
      refine kx_astore_n dX0_writeTrip_12 rfl (Nat.le_of_ble_eq_true rfl) ?_
      refine kx_iconst (v := 1) dX0_writeTrip_13 (by decide) ?_
      exact kx_iret dX0_writeTrip_14 rfl (hQ _ _ ⟨_, rfl, h⟩)
  obtain ⟨v2, rfl, h⟩ := hq
  refine kx_i2l dX0_writeTrip_7 rfl ?_
  obtain ⟨a9, rfl, hUa9⟩ := h
  have h := hUa9
  refine kW_sJ dX0_writeTrip_8 h (fun σ10 h => ?_)
  refine kx_goto (tgt := 15) dX0_writeTrip_9 (by decide) ?_
  refine kx_iconst (v := 0) dX0_writeTrip_15 (by decide) ?_
  exact kx_iret dX0_writeTrip_16 rfl (hQ _ _ ⟨_, rfl, h⟩)
