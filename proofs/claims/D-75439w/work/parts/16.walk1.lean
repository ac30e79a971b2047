set_option maxRecDepth 100000
theorem loopK_0_0  {B : TS → Option ((TS) ⊕ (TS))} (K : TS → Prop) (KE : TS → Prop) (step : ∀ s  r, B s  = some r → (∀ s , r = .inl (s) → K s ) → (∀ s , r = .inr (s) → KE s ) → K s ) (n : Nat) (a : TS) (z : TS) (h : loopN (fun w : TS => B w) n a = some z) (hz : KE z) : K a :=
  loopN_k (fun a => K a) (fun b => KE b) (fun a r h kI kE => step a r h (fun s  e => kI _ e) (fun s  e => kE _ e)) n a z h hz
theorem loopK_1_T {A0 β : Type} {B : TS → A0 → Option ((TS × A0) ⊕ (β))} (K : TS → A0 → Prop) (KE : β → Prop) (step : ∀ s x0 r, B s x0 = some r → (∀ s x0, r = .inl (s, x0) → K s x0) → (∀ b, r = .inr b → KE b) → K s x0) (n : Nat) (a : TS × A0) (z : β) (h : loopN (fun w : TS × A0 => B w.1 w.2) n a = some z) (hz : KE z) : K a.1 a.2 :=
  loopN_k (fun a => K a.1 a.2) (fun b => KE b) (fun a r h kI kE => step a.1 a.2 r h (fun s x0 e => kI _ e) (fun b e => kE b e)) n a z h hz
theorem loopK_1_0 {A0 : Type} {B : TS → A0 → Option ((TS × A0) ⊕ (TS))} (K : TS → A0 → Prop) (KE : TS → Prop) (step : ∀ s x0 r, B s x0 = some r → (∀ s x0, r = .inl (s, x0) → K s x0) → (∀ s , r = .inr (s) → KE s ) → K s x0) (n : Nat) (a : TS × A0) (z : TS) (h : loopN (fun w : TS × A0 => B w.1 w.2) n a = some z) (hz : KE z) : K a.1 a.2 :=
  loopN_k (fun a => K a.1 a.2) (fun b => KE b) (fun a r h kI kE => step a.1 a.2 r h (fun s x0 e => kI _ e) (fun s  e => kE _ e)) n a z h hz
theorem loopK_1_1 {A0 C0 : Type} {B : TS → A0 → Option ((TS × A0) ⊕ (TS × C0))} (K : TS → A0 → Prop) (KE : TS → C0 → Prop) (step : ∀ s x0 r, B s x0 = some r → (∀ s x0, r = .inl (s, x0) → K s x0) → (∀ s y0, r = .inr (s, y0) → KE s y0) → K s x0) (n : Nat) (a : TS × A0) (z : TS × C0) (h : loopN (fun w : TS × A0 => B w.1 w.2) n a = some z) (hz : KE z.1 z.2) : K a.1 a.2 :=
  loopN_k (fun a => K a.1 a.2) (fun b => KE b.1 b.2) (fun a r h kI kE => step a.1 a.2 r h (fun s x0 e => kI _ e) (fun s y0 e => kE _ e)) n a z h hz
theorem loopK_2_0 {A0 A1 : Type} {B : TS → A0 → A1 → Option ((TS × A0 × A1) ⊕ (TS))} (K : TS → A0 → A1 → Prop) (KE : TS → Prop) (step : ∀ s x0 x1 r, B s x0 x1 = some r → (∀ s x0 x1, r = .inl (s, x0, x1) → K s x0 x1) → (∀ s , r = .inr (s) → KE s ) → K s x0 x1) (n : Nat) (a : TS × A0 × A1) (z : TS) (h : loopN (fun w : TS × A0 × A1 => B w.1 w.2.1 w.2.2) n a = some z) (hz : KE z) : K a.1 a.2.1 a.2.2 :=
  loopN_k (fun a => K a.1 a.2.1 a.2.2) (fun b => KE b) (fun a r h kI kE => step a.1 a.2.1 a.2.2 r h (fun s x0 x1 e => kI _ e) (fun s  e => kE _ e)) n a z h hz
theorem loopK_2_1 {A0 A1 C0 : Type} {B : TS → A0 → A1 → Option ((TS × A0 × A1) ⊕ (TS × C0))} (K : TS → A0 → A1 → Prop) (KE : TS → C0 → Prop) (step : ∀ s x0 x1 r, B s x0 x1 = some r → (∀ s x0 x1, r = .inl (s, x0, x1) → K s x0 x1) → (∀ s y0, r = .inr (s, y0) → KE s y0) → K s x0 x1) (n : Nat) (a : TS × A0 × A1) (z : TS × C0) (h : loopN (fun w : TS × A0 × A1 => B w.1 w.2.1 w.2.2) n a = some z) (hz : KE z.1 z.2) : K a.1 a.2.1 a.2.2 :=
  loopN_k (fun a => K a.1 a.2.1 a.2.2) (fun b => KE b.1 b.2) (fun a r h kI kE => step a.1 a.2.1 a.2.2 r h (fun s x0 x1 e => kI _ e) (fun s y0 e => kE _ e)) n a z h hz
theorem loopK_6_4 {A0 A1 A2 A3 A4 A5 C0 C1 C2 C3 : Type} {B : TS → A0 → A1 → A2 → A3 → A4 → A5 → Option ((TS × A0 × A1 × A2 × A3 × A4 × A5) ⊕ (TS × C0 × C1 × C2 × C3))} (K : TS → A0 → A1 → A2 → A3 → A4 → A5 → Prop) (KE : TS → C0 → C1 → C2 → C3 → Prop) (step : ∀ s x0 x1 x2 x3 x4 x5 r, B s x0 x1 x2 x3 x4 x5 = some r → (∀ s x0 x1 x2 x3 x4 x5, r = .inl (s, x0, x1, x2, x3, x4, x5) → K s x0 x1 x2 x3 x4 x5) → (∀ s y0 y1 y2 y3, r = .inr (s, y0, y1, y2, y3) → KE s y0 y1 y2 y3) → K s x0 x1 x2 x3 x4 x5) (n : Nat) (a : TS × A0 × A1 × A2 × A3 × A4 × A5) (z : TS × C0 × C1 × C2 × C3) (h : loopN (fun w : TS × A0 × A1 × A2 × A3 × A4 × A5 => B w.1 w.2.1 w.2.2.1 w.2.2.2.1 w.2.2.2.2.1 w.2.2.2.2.2.1 w.2.2.2.2.2.2) n a = some z) (hz : KE z.1 z.2.1 z.2.2.1 z.2.2.2.1 z.2.2.2.2) : K a.1 a.2.1 a.2.2.1 a.2.2.2.1 a.2.2.2.2.1 a.2.2.2.2.2.1 a.2.2.2.2.2.2 :=
  loopN_k (fun a => K a.1 a.2.1 a.2.2.1 a.2.2.2.1 a.2.2.2.2.1 a.2.2.2.2.2.1 a.2.2.2.2.2.2) (fun b => KE b.1 b.2.1 b.2.2.1 b.2.2.2.1 b.2.2.2.2) (fun a r h kI kE => step a.1 a.2.1 a.2.2.1 a.2.2.2.1 a.2.2.2.2.1 a.2.2.2.2.2.1 a.2.2.2.2.2.2 r h (fun s x0 x1 x2 x3 x4 x5 e => kI _ e) (fun s y0 y1 y2 y3 e => kE _ e)) n a z h hz
set_option maxHeartbeats 4000000 in
theorem mM_thrown {G : KG} {τ : KHp} {m : Nat} {ad : Nat → Nat} {s : TS}  {z : TS × Int32} (hd : Md m ad) (h : P_thrown s  = some z) : kx_c G yX6_thrown (ws_ yX6_thrown cX6_thrown 1 (Option.some Jvm.ClassFile.FieldType.int)) 1 0 0 [.ref m] (MP τ m ad s) (fun rv σ' => rv = some (.int z.2) ∧ σ' = MP τ m ad z.1) kx_n := by
  refine kx_mk3 (ini := false) rfl (Nat.le_of_ble_eq_true rfl) (fun h => by cases h) (fun Q X hQ hX => ?_)
  unfold P_thrown at h
  refine kx_aload_n dX6_thrown_0 rfl rfl ?_
  refine kx_getf dX6_thrown_1 fl_X6_3_X6 kN_m rfl ?_
  exact kx_iret dX6_thrown_4 rfl (hQ _ _ (rtI (Option.some.inj h)))
set_option maxHeartbeats 4000000 in
theorem mM_passes4 {G : KG} {τ : KHp} {m : Nat} {ad : Nat → Nat} {s : TS} {x1 : Int32} {x2 : Int32} {x3 : Int32} {x4 : Int32} {z : TS × Int32} (hd : Md m ad) (h : P_passes4 s x1 x2 x3 x4 = some z) : kx_c G yX6_passes4 (ws_ yX6_passes4 cX6_passes4 5 (Option.some Jvm.ClassFile.FieldType.boolean)) 1 0 0 [.ref m, .int (x1), .int (x2), .int (x3), .int (x4)] (MP τ m ad s) (fun rv σ' => rv = some (.int z.2) ∧ σ' = MP τ m ad z.1) kx_n := by
  refine kx_mk3 (ini := false) rfl (Nat.le_of_ble_eq_true rfl) (fun h => by cases h) (fun Q X hQ hX => ?_)
  unfold P_passes4 at h
  refine kx_aload_n dX6_passes4_0 rfl rfl ?_
  refine kx_iload_n dX6_passes4_1 rfl rfl ?_
  obtain ⟨r1, er1, h⟩ := bd_s h
  refine kN_j (MP τ m ad r1.1) 35 [.int (r1.2), .ref m] ?_ (fun jr1 => ?_)
  · skip
    refine kN_put dX6_passes4_35 fl_X6_3_X6 (Or.inl rfl) rfl h rfl (fun s2 es2 h => ?_)
    refine kx_aload_n dX6_passes4_38 rfl rfl ?_
    refine kx_getf dX6_passes4_39 fl_X6_3_X6 kN_m rfl ?_
    obtain ⟨r3, er3, h⟩ := bd_s h
    refine kN_j (MP τ m ad r3.1) 50 [.int (r3.2)] ?_ (fun jr3 => ?_)
    · skip
      refine kN_zret dX6_passes4_50 rfl h (fun v4 ev4 h => hQ _ _ (by subst ev4; exact rtI (Option.some.inj h)))
    · have h := er3
      refine kx_if_ne (tgt := 49) dX6_passes4_42 (by decide) (fun c => ?_) (fun c => ?_)
      · have h := if_f c h
        refine kx_iconst (v := 0) dX6_passes4_49 (by decide) ?_
        exact jnI h jr3
      · have h := if_t c h
        refine kx_iconst (v := 1) dX6_passes4_45 (by decide) ?_
        refine kx_goto (tgt := 50) dX6_passes4_46 (by decide) ?_
        exact jnI h jr3
  · have h := er1
    refine kx_if_ne (tgt := 9) dX6_passes4_2 (by decide) (fun c => ?_) (fun c => ?_)
    · have h := if_f c h
      refine kx_iload_n dX6_passes4_9 rfl rfl ?_
      refine kx_if_ne (tgt := 17) dX6_passes4_10 (by decide) (fun c => ?_) (fun c => ?_)
      · have h := if_f c h
        refine kx_iload_n dX6_passes4_17 rfl rfl ?_
        refine kx_if_ne (tgt := 25) dX6_passes4_18 (by decide) (fun c => ?_) (fun c => ?_)
        · have h := if_f c h
          refine kx_iload dX6_passes4_25 rfl ?_
          refine kx_if_ne (tgt := 34) dX6_passes4_27 (by decide) (fun c => ?_) (fun c => ?_)
          · have h := if_f c h
            refine kx_iconst (v := 0) dX6_passes4_34 (by decide) ?_
            exact jnI h jr1
          · have h := if_t c h
            refine kx_iconst (v := 4) dX6_passes4_30 (by decide) ?_
            refine kx_goto (tgt := 35) dX6_passes4_31 (by decide) ?_
            exact jnI h jr1
        · have h := if_t c h
          refine kx_iconst (v := 3) dX6_passes4_21 (by decide) ?_
          refine kx_goto (tgt := 35) dX6_passes4_22 (by decide) ?_
          exact jnI h jr1
      · have h := if_t c h
        refine kx_iconst (v := 2) dX6_passes4_13 (by decide) ?_
        refine kx_goto (tgt := 35) dX6_passes4_14 (by decide) ?_
        exact jnI h jr1
    · have h := if_t c h
      refine kx_iconst (v := 1) dX6_passes4_5 (by decide) ?_
      refine kx_goto (tgt := 35) dX6_passes4_6 (by decide) ?_
      exact jnI h jr1
set_option maxHeartbeats 4000000 in
theorem mL_appendFour_3 {G : KG} {τ : KHp} {m : Nat} {ad : Nat → Nat} {Q : KQ} {X : KX} {y1 : Int32} {a0 : TS × Int32} {z : TS} (hd : Md m ad) (h : loopN (fun w : TS × Int32 => B_appendFour_3 y1 w.1 w.2) 9000 a0 = some z) (kk : kx G (yX6_appendFour.cls, cX6_appendFour, 3, (Option.none : Option Jvm.ClassFile.FieldType), false, []) (1, 0, 0, Q, X) 0 0 (MP τ m ad z) 36 (kF []) []) : kx G (yX6_appendFour.cls, cX6_appendFour, 3, (Option.none : Option Jvm.ClassFile.FieldType), false, []) (1, 0, 0, Q, X) 0 0 (MP τ m ad a0.1) 3 (kF [(0, .ref m), (1, .int (y1)), (2, .int (a0.2))]) [] := by
  refine loopK_1_0 (B := B_appendFour_3 y1) (fun (a : TS) (a2 : Int32) => kx G (yX6_appendFour.cls, cX6_appendFour, 3, (Option.none : Option Jvm.ClassFile.FieldType), false, []) (1, 0, 0, Q, X) 0 0 (MP τ m ad a) 3 (kF [(0, .ref m), (1, .int (y1)), (2, .int (a2))]) []) (fun (b : TS) => kx G (yX6_appendFour.cls, cX6_appendFour, 3, (Option.none : Option Jvm.ClassFile.FieldType), false, []) (1, 0, 0, Q, X) 0 0 (MP τ m ad b) 36 (kF []) []) (fun a a2 r h kI kE => ?_) _ _ _ h kk
  · unfold B_appendFour_3 at h
    refine kx_iload_n dX6_appendFour_3 rfl rfl ?_
    refine kx_if_lt (tgt := 36) dX6_appendFour_4 (by decide) (fun c => ?_) (fun c => ?_)
    · have h := if_t c h
      exact kx_lwF [] trivial (kE (a) (Option.some.inj h).symm)
    · have h := if_f c h
      refine kx_aload_n dX6_appendFour_7 rfl rfl ?_
      refine kx_getf dX6_appendFour_8 fl_X6_31_X6 kN_m rfl ?_
      refine kx_aload_n dX6_appendFour_11 rfl rfl ?_
      refine kx_getf dX6_appendFour_12 fl_X6_74_X6 kN_m rfl ?_
      refine kx_iload_n dX6_appendFour_15 rfl rfl ?_
      refine kx_iload_n dX6_appendFour_16 rfl rfl ?_
      refine kx_ishr dX6_appendFour_17 ?_
      refine kx_i2b dX6_appendFour_18 rfl ?_
      refine kN_bst hd dX6_appendFour_19 h (fun s3001 es3001 h => ?_)
      refine kx_aload_n dX6_appendFour_20 rfl rfl ?_
      refine kx_dup dX6_appendFour_21 rfl ?_
      refine kx_getf dX6_appendFour_22 fl_X6_74_X6 kN_m rfl ?_
      refine kx_iconst (v := 1) dX6_appendFour_25 (by decide) ?_
      refine kx_iadd dX6_appendFour_26 ?_
      refine kN_put dX6_appendFour_27 fl_X6_74_X6 (Or.inl rfl) rfl h rfl (fun s3002 es3002 h => ?_)
      refine kx_iinc2 (v := -8) dX6_appendFour_30 rfl (by decide) ?_
      refine kx_goto (tgt := 3) dX6_appendFour_33 (by decide) ?_
      exact kx_lwF [(0, .ref m), (1, .int (y1)), (2, .int ((a2 + (-8 : Int32))))] ⟨rfl, rfl, rfl, trivial⟩ (kI (s3002) ((a2 + (-8 : Int32))) (Option.some.inj h).symm)
set_option maxHeartbeats 4000000 in
theorem mM_appendFour {G : KG} {τ : KHp} {m : Nat} {ad : Nat → Nat} {s : TS} {x1 : Int32} {z : TS} (hd : Md m ad) (h : P_appendFour s x1 = some z) : kx_c G yX6_appendFour (ws_ yX6_appendFour cX6_appendFour 3 (Option.none : Option Jvm.ClassFile.FieldType)) 1 0 0 [.ref m, .int (x1)] (MP τ m ad s) (fun rv σ' => rv = none ∧ σ' = MP τ m ad z) kx_n := by
  refine kx_mk3 (ini := false) rfl (Nat.le_of_ble_eq_true rfl) (fun h => by cases h) (fun Q X hQ hX => ?_)
  unfold P_appendFour at h
  refine kx_bipush (v := 24) dX6_appendFour_0 (by decide) ?_
  refine kx_istore_n dX6_appendFour_2 rfl (Nat.le_of_ble_eq_true rfl) ?_
  obtain ⟨b1, eb1, h⟩ := bd_s h
  refine kx_lwF [(0, .ref m), (1, .int (x1)), (2, .int ((24 : Int32)))] ⟨rfl, rfl, rfl, trivial⟩ (mL_appendFour_3 hd (a0 := (s, (24 : Int32))) eb1 ?_)
  exact kx_vret dX6_appendFour_36 rfl (hQ _ _ (rtV (Option.some.inj h)))
set_option maxHeartbeats 4000000 in
theorem mM_in {G : KG} {τ : KHp} {m : Nat} {ad : Nat → Nat} {s : TS} {x0 : Int64} {x2 : Int64} {x4 : Int64} {z : TS × Int32} (hd : Md m ad) (h : P_in s x0 x2 x4 = some z) : kx_c G yX6_in (ws_ yX6_in cX6_in 6 (Option.some Jvm.ClassFile.FieldType.boolean)) 1 0 0 [.long (x0), .long (x2), .long (x4)] (MP τ m ad s) (fun rv σ' => rv = some (.int z.2) ∧ σ' = MP τ m ad z.1) kx_n := by
  refine kx_mk3 (ini := false) rfl (Nat.le_of_ble_eq_true rfl) (fun h => by cases h) (fun Q X hQ hX => ?_)
  unfold P_in at h
  refine kx_lload_n dX6_in_0 rfl rfl ?_
  refine kx_lload_n dX6_in_1 rfl rfl ?_
  refine kx_lcmp dX6_in_2 ?_
  obtain ⟨r1, er1, h⟩ := bd_s h
  refine kN_j (MP τ m ad r1.1) 18 [.int (r1.2)] ?_ (fun jr1 => ?_)
  · skip
    refine kN_zret dX6_in_18 rfl h (fun v2 ev2 h => hQ _ _ (by subst ev2; exact rtI (Option.some.inj h)))
  · have h := er1
    refine kx_if_lt (tgt := 17) dX6_in_3 (by decide) (fun c => ?_) (fun c => ?_)
    · have h := if_t c h
      refine kx_iconst (v := 0) dX6_in_17 (by decide) ?_
      exact jnI h jr1
    · have h := if_f c h
      refine kx_lload_n dX6_in_6 rfl rfl ?_
      refine kx_lload dX6_in_7 rfl ?_
      refine kx_lcmp dX6_in_9 ?_
      refine kx_if_gt (tgt := 17) dX6_in_10 (by decide) (fun c => ?_) (fun c => ?_)
      · have h := if_t c h
        refine kx_iconst (v := 0) dX6_in_17 (by decide) ?_
        exact jnI h jr1
      · have h := if_f c h
        refine kx_iconst (v := 1) dX6_in_13 (by decide) ?_
        refine kx_goto (tgt := 18) dX6_in_14 (by decide) ?_
        exact jnI h jr1
set_option maxHeartbeats 4000000 in
theorem mM_byteAt {G : KG} {τ : KHp} {m : Nat} {ad : Nat → Nat} {s : TS} {x1 : Int32} {z : TS × Int32} (hd : Md m ad) (h : P_byteAt s x1 = some z) : kx_c G yX6_byteAt (ws_ yX6_byteAt cX6_byteAt 2 (Option.some Jvm.ClassFile.FieldType.int)) 1 0 0 [.ref m, .int (x1)] (MP τ m ad s) (fun rv σ' => rv = some (.int z.2) ∧ σ' = MP τ m ad z.1) kx_n := by
  refine kx_mk3 (ini := false) rfl (Nat.le_of_ble_eq_true rfl) (fun h => by cases h) (fun Q X hQ hX => ?_)
  unfold P_byteAt at h
  refine kx_iload_n dX6_byteAt_0 rfl rfl ?_
  refine kx_aload_n dX6_byteAt_1 rfl rfl ?_
  refine kx_getf dX6_byteAt_2 fl_X6_95_X6 kN_m rfl ?_
  obtain ⟨r1, er1, h⟩ := bd_s h
  refine kN_j (MP τ m ad r1.1) 22 [.int (r1.2)] ?_ (fun jr1 => ?_)
  · skip
    exact kx_iret dX6_byteAt_22 rfl (hQ _ _ (rtI (Option.some.inj h)))
  · have h := er1
    refine kx_icmp_ge (tgt := 21) dX6_byteAt_5 (by decide) (fun c => ?_) (fun c => ?_)
    · have h := if_t c h
      refine kx_iconst (v := -1) dX6_byteAt_21 (by decide) ?_
      exact jnI h jr1
    · have h := if_f c h
      refine kx_aload_n dX6_byteAt_8 rfl rfl ?_
      refine kx_getf dX6_byteAt_9 fl_X6_31_X6 kN_m rfl ?_
      refine kx_iload_n dX6_byteAt_12 rfl rfl ?_
      refine kN_bld hd dX6_byteAt_13 h (fun v2 ev2 h => ?_)
      refine kx_sipush (v := 255) dX6_byteAt_14 (by decide) ?_
      refine kx_iand dX6_byteAt_17 ?_
      refine kx_goto (tgt := 22) dX6_byteAt_18 (by decide) ?_
      exact jnI h jr1
set_option maxHeartbeats 4000000 in
theorem mM_good {G : KG} {τ : KHp} {m : Nat} {ad : Nat → Nat} {s : TS}  {z : TS × Int32} (hd : Md m ad) (h : P_good s  = some z) : kx_c G yX6_good (ws_ yX6_good cX6_good 1 (Option.some Jvm.ClassFile.FieldType.boolean)) 1 0 0 [.ref m] (MP τ m ad s) (fun rv σ' => rv = some (.int z.2) ∧ σ' = MP τ m ad z.1) kx_n := by
  refine kx_mk3 (ini := false) rfl (Nat.le_of_ble_eq_true rfl) (fun h => by cases h) (fun Q X hQ hX => ?_)
  unfold P_good at h
  refine kx_aload_n dX6_good_0 rfl rfl ?_
  refine kx_getf dX6_good_1 fl_X6_85_X6 kN_m rfl ?_
  obtain ⟨r1, er1, h⟩ := bd_s h
  refine kN_j (MP τ m ad r1.1) 12 [.int (r1.2)] ?_ (fun jr1 => ?_)
  · skip
    refine kN_zret dX6_good_12 rfl h (fun v2 ev2 h => hQ _ _ (by subst ev2; exact rtI (Option.some.inj h)))
  · have h := er1
    refine kx_if_ne (tgt := 11) dX6_good_4 (by decide) (fun c => ?_) (fun c => ?_)
    · have h := if_f c h
      refine kx_iconst (v := 0) dX6_good_11 (by decide) ?_
      exact jnI h jr1
    · have h := if_t c h
      refine kx_iconst (v := 1) dX6_good_7 (by decide) ?_
      refine kx_goto (tgt := 12) dX6_good_8 (by decide) ?_
      exact jnI h jr1
set_option maxHeartbeats 4000000 in
theorem mL_isWord_24 {G : KG} {τ : KHp} {m : Nat} {ad : Nat → Nat} {Q : KQ} {X : KX} {y1 : Nat} {a0 : TS × Int32 × Int32} {z : TS × Int32} (hd : Md m ad) (h : loopN (fun w : TS × Int32 × Int32 => B_isWord_24 y1 w.1 w.2.1 w.2.2) 9000 a0 = some z) (kk : kx G (yX6_isWord.cls, cX6_isWord, 4, (Option.some Jvm.ClassFile.FieldType.boolean), false, []) (5, 0, 0, Q, X) 0 0 (MP τ m ad z.1) 67 (kF [(2, .int (z.2))]) []) : kx G (yX6_isWord.cls, cX6_isWord, 4, (Option.some Jvm.ClassFile.FieldType.boolean), false, []) (5, 0, 0, Q, X) 0 0 (MP τ m ad a0.1) 24 (kF [(0, .ref m), (1, .ref (kx_K G (y1))), (2, .int (a0.2.1)), (3, .int (a0.2.2))]) [] := by
  refine loopK_2_1 (B := B_isWord_24 y1) (fun (a : TS) (a2 : Int32) (a3 : Int32) => kx G (yX6_isWord.cls, cX6_isWord, 4, (Option.some Jvm.ClassFile.FieldType.boolean), false, []) (5, 0, 0, Q, X) 0 0 (MP τ m ad a) 24 (kF [(0, .ref m), (1, .ref (kx_K G (y1))), (2, .int (a2)), (3, .int (a3))]) []) (fun (b : TS) (b2 : Int32) => kx G (yX6_isWord.cls, cX6_isWord, 4, (Option.some Jvm.ClassFile.FieldType.boolean), false, []) (5, 0, 0, Q, X) 0 0 (MP τ m ad b) 67 (kF [(2, .int (b2))]) []) (fun a a2 a3 r h kI kE => ?_) _ _ _ h kk
  · unfold B_isWord_24 at h
    refine kx_iload_n dX6_isWord_24 rfl rfl ?_
    refine kx_aload_n dX6_isWord_25 rfl rfl ?_
    obtain ⟨v24001, ev24001, h⟩ := bd_s h
    refine kx_know (fun hg hk => ?_)
    refine kx_callV dX6_isWord_26 lk_X6_128 (mJ_slen hg hk ev24001) rfl (kS_rc hg hk ev24001) rfl (Nat.le_of_ble_eq_true rfl) (Nat.le_of_ble_eq_true rfl) (Nat.le_of_ble_eq_true rfl) (Nat.le_of_ble_eq_true rfl) (Nat.le_of_ble_eq_true rfl) (fun _ _ _ h => h.elim) (fun w_ σ_ hq => ?_)
    obtain ⟨rfl, rfl⟩ := hq
    refine kx_icmp_ge (tgt := 67) dX6_isWord_29 (by decide) (fun c => ?_) (fun c => ?_)
    · have h := if_t c h
      exact kx_lwF [(2, .int (a2))] ⟨rfl, trivial⟩ (kE (a) (a2) (Option.some.inj h).symm)
    · have h := if_f c h
      refine kx_iload_n dX6_isWord_32 rfl rfl ?_
      refine kx_if_eq (tgt := 67) dX6_isWord_33 (by decide) (fun c => ?_) (fun c => ?_)
      · have h := if_t c h
        exact kx_lwF [(2, .int (a2))] ⟨rfl, trivial⟩ (kE (a) (a2) (Option.some.inj h).symm)
      · have h := if_f c h
        refine kx_aload_n dX6_isWord_36 rfl rfl ?_
        refine kx_getf dX6_isWord_37 fl_X6_31_X6 kN_m rfl ?_
        refine kx_aload_n dX6_isWord_40 rfl rfl ?_
        refine kx_getf dX6_isWord_41 fl_X6_92_X6 kN_m rfl ?_
        refine kx_iload_n dX6_isWord_44 rfl rfl ?_
        refine kx_iadd dX6_isWord_45 ?_
        refine kN_bld hd dX6_isWord_46 h (fun v24002 ev24002 h => ?_)
        refine kx_aload_n dX6_isWord_47 rfl rfl ?_
        refine kx_iload_n dX6_isWord_48 rfl rfl ?_
        obtain ⟨v24003, ev24003, h⟩ := bd_s h
        refine kx_know (fun hg hk => ?_)
        refine kx_callV dX6_isWord_49 lk_X6_134 (mJ_sat hg hk ev24003) rfl (kS_rc2 hg hk ev24003) rfl (Nat.le_of_ble_eq_true rfl) (Nat.le_of_ble_eq_true rfl) (Nat.le_of_ble_eq_true rfl) (Nat.le_of_ble_eq_true rfl) (Nat.le_of_ble_eq_true rfl) (fun _ _ _ h => h.elim) (fun w_ σ_ hq => ?_)
        obtain ⟨rfl, rfl⟩ := hq
        obtain ⟨r24004, er24004, h⟩ := bd_s h
        refine kN_j (MP τ m ad r24004.1) 60 [.int (r24004.2)] ?_ (fun jr24004 => ?_)
        · skip
          refine kx_istore_n dX6_isWord_60 rfl (Nat.le_of_ble_eq_true rfl) ?_
          refine kx_iinc2 (v := 1) dX6_isWord_61 rfl (by decide) ?_
          refine kx_goto (tgt := 24) dX6_isWord_64 (by decide) ?_
          exact kx_lwF [(0, .ref m), (1, .ref (kx_K G (y1))), (2, .int (r24004.2)), (3, .int ((a3 + (1 : Int32))))] ⟨rfl, rfl, rfl, rfl, trivial⟩ (kI (r24004.1) (r24004.2) ((a3 + (1 : Int32))) (Option.some.inj h).symm)
        · have h := er24004
          refine kx_icmp_ne (tgt := 59) dX6_isWord_52 (by decide) (fun c => ?_) (fun c => ?_)
          · have h := if_f c h
            refine kx_iconst (v := 0) dX6_isWord_59 (by decide) ?_
            exact jnI h jr24004
          · have h := if_t c h
            refine kx_iconst (v := 1) dX6_isWord_55 (by decide) ?_
            refine kx_goto (tgt := 60) dX6_isWord_56 (by decide) ?_
            exact jnI h jr24004
set_option maxHeartbeats 4000000 in
theorem mM_isWord {G : KG} {τ : KHp} {m : Nat} {ad : Nat → Nat} {s : TS} {x1 : Nat} {z : TS × Int32} (hd : Md m ad) (h : P_isWord s x1 = some z) : kx_c G yX6_isWord (ws_ yX6_isWord cX6_isWord 4 (Option.some Jvm.ClassFile.FieldType.boolean)) 5 0 0 [.ref m, .ref (kx_K G (x1))] (MP τ m ad s) (fun rv σ' => rv = some (.int z.2) ∧ σ' = MP τ m ad z.1) kx_n := by
  refine kx_mk3 (ini := false) rfl (Nat.le_of_ble_eq_true rfl) (fun h => by cases h) (fun Q X hQ hX => ?_)
  unfold P_isWord at h
  refine kx_aload_n dX6_isWord_0 rfl rfl ?_
  refine kx_getf dX6_isWord_1 fl_X6_98_X6 kN_m rfl ?_
  refine kx_aload_n dX6_isWord_4 rfl rfl ?_
  refine kx_getf dX6_isWord_5 fl_X6_92_X6 kN_m rfl ?_
  refine kx_isub dX6_isWord_8 ?_
  refine kx_aload_n dX6_isWord_9 rfl rfl ?_
  obtain ⟨v1, ev1, h⟩ := bd_s h
  refine kx_know (fun hg hk => ?_)
  refine kx_callV dX6_isWord_10 lk_X6_128 (mJ_slen hg hk ev1) rfl (kS_rc hg hk ev1) rfl (Nat.le_of_ble_eq_true rfl) (Nat.le_of_ble_eq_true rfl) (Nat.le_of_ble_eq_true rfl) (Nat.le_of_ble_eq_true rfl) (Nat.le_of_ble_eq_true rfl) (fun _ _ _ h => h.elim) (fun w_ σ_ hq => ?_)
  obtain ⟨rfl, rfl⟩ := hq
  obtain ⟨r2, er2, h⟩ := bd_s h
  refine kN_j (MP τ m ad r2.1) 21 [.int (r2.2)] ?_ (fun jr2 => ?_)
  · skip
    refine kx_istore_n dX6_isWord_21 rfl (Nat.le_of_ble_eq_true rfl) ?_
    refine kx_iconst (v := 0) dX6_isWord_22 (by decide) ?_
    refine kx_istore_n dX6_isWord_23 rfl (Nat.le_of_ble_eq_true rfl) ?_
    obtain ⟨b3, eb3, h⟩ := bd_s h
    refine kx_lwF [(0, .ref m), (1, .ref (kx_K G (x1))), (2, .int (r2.2)), (3, .int ((0 : Int32)))] ⟨rfl, rfl, rfl, rfl, trivial⟩ (mL_isWord_24 hd (a0 := (r2.1, r2.2, (0 : Int32))) eb3 ?_)
    refine kx_iload_n dX6_isWord_67 rfl rfl ?_
    refine kN_zret dX6_isWord_68 rfl h (fun v4 ev4 h => hQ _ _ (by subst ev4; exact rtI (Option.some.inj h)))
  · have h := er2
    refine kx_icmp_ne (tgt := 20) dX6_isWord_13 (by decide) (fun c => ?_) (fun c => ?_)
    · have h := if_f c h
      refine kx_iconst (v := 0) dX6_isWord_20 (by decide) ?_
      exact jnI h jr2
    · have h := if_t c h
      refine kx_iconst (v := 1) dX6_isWord_16 (by decide) ?_
      refine kx_goto (tgt := 21) dX6_isWord_17 (by decide) ?_
      exact jnI h jr2
set_option maxHeartbeats 4000000 in
theorem mM_errs {G : KG} {τ : KHp} {m : Nat} {ad : Nat → Nat} {s : TS} {x1 : Int32} {z : TS} (hd : Md m ad) (h : P_errs s x1 = some z) : kx_c G yX6_errs (ws_ yX6_errs cX6_errs 2 (Option.none : Option Jvm.ClassFile.FieldType)) 2 0 0 [.ref m, .int (x1)] (MP τ m ad s) (fun rv σ' => rv = none ∧ σ' = MP τ m ad z) kx_n := by
  refine kx_mk3 (ini := false) rfl (Nat.le_of_ble_eq_true rfl) (fun h => by cases h) (fun Q X hQ hX => ?_)
  unfold P_errs at h
  refine kx_aload_n dX6_errs_0 rfl rfl ?_
  obtain ⟨r1, er1, h⟩ := bd_s h
  refine kx_callV dX6_errs_1 lk_X6_88 (mM_good hd er1) rfl kN_rc rfl (Nat.le_of_ble_eq_true rfl) (Nat.le_of_ble_eq_true rfl) (Nat.le_of_ble_eq_true rfl) (Nat.le_of_ble_eq_true rfl) (Nat.le_of_ble_eq_true rfl) (fun _ _ _ h => h.elim) (fun w_ σ_ hq => ?_)
  obtain ⟨rfl, rfl⟩ := hq
  refine kx_if_ne (tgt := 8) dX6_errs_4 (by decide) (fun c => ?_) (fun c => ?_)
  · have h := if_f c h
    refine kx_aload_n dX6_errs_8 rfl rfl ?_
    refine kx_iload_n dX6_errs_9 rfl rfl ?_
    refine kN_put dX6_errs_10 fl_X6_85_X6 (Or.inl rfl) rfl h rfl (fun s2 es2 h => ?_)
    refine kx_aload_n dX6_errs_13 rfl rfl ?_
    refine kx_aload_n dX6_errs_14 rfl rfl ?_
    refine kx_getf dX6_errs_15 fl_X6_92_X6 kN_m rfl ?_
    refine kN_put dX6_errs_18 fl_X6_35_X6 (Or.inl rfl) rfl h rfl (fun s3 es3 h => ?_)
    exact kx_vret dX6_errs_21 rfl (hQ _ _ (rtV (Option.some.inj h)))
  · have h := if_t c h
    exact kx_vret dX6_errs_7 rfl (hQ _ _ (rtV (Option.some.inj h)))
set_option maxHeartbeats 4000000 in
theorem mM_isSymbol {G : KG} {τ : KHp} {m : Nat} {ad : Nat → Nat} {s : TS} {x1 : Int32} {z : TS × Int32} (hd : Md m ad) (h : P_isSymbol s x1 = some z) : kx_c G yX6_isSymbol (ws_ yX6_isSymbol cX6_isSymbol 2 (Option.some Jvm.ClassFile.FieldType.boolean)) 2 0 0 [.ref m, .int (x1)] (MP τ m ad s) (fun rv σ' => rv = some (.int z.2) ∧ σ' = MP τ m ad z.1) kx_n := by
  refine kx_mk3 (ini := false) rfl (Nat.le_of_ble_eq_true rfl) (fun h => by cases h) (fun Q X hQ hX => ?_)
  unfold P_isSymbol at h
  refine kx_aload_n dX6_isSymbol_0 rfl rfl ?_
  obtain ⟨r1, er1, h⟩ := bd_s h
  refine kx_callV dX6_isSymbol_1 lk_X6_88 (mM_good hd er1) rfl kN_rc rfl (Nat.le_of_ble_eq_true rfl) (Nat.le_of_ble_eq_true rfl) (Nat.le_of_ble_eq_true rfl) (Nat.le_of_ble_eq_true rfl) (Nat.le_of_ble_eq_true rfl) (fun _ _ _ h => h.elim) (fun w_ σ_ hq => ?_)
  obtain ⟨rfl, rfl⟩ := hq
  obtain ⟨r2, er2, h⟩ := bd_s h
  refine kN_j (MP τ m ad r2.1) 28 [.int (r2.2)] ?_ (fun jr2 => ?_)
  · skip
    refine kN_zret dX6_isSymbol_28 rfl h (fun v3 ev3 h => hQ _ _ (by subst ev3; exact rtI (Option.some.inj h)))
  · have h := er2
    refine kx_if_eq (tgt := 27) dX6_isSymbol_4 (by decide) (fun c => ?_) (fun c => ?_)
    · have h := if_t c h
      refine kx_iconst (v := 0) dX6_isSymbol_27 (by decide) ?_
      exact jnI h jr2
    · have h := if_f c h
      refine kx_aload_n dX6_isSymbol_7 rfl rfl ?_
      refine kx_getf dX6_isSymbol_8 fl_X6_105_X6 kN_m rfl ?_
      refine kx_iconst (v := 3) dX6_isSymbol_11 (by decide) ?_
      refine kx_icmp_ne (tgt := 27) dX6_isSymbol_12 (by decide) (fun c => ?_) (fun c => ?_)
      · have h := if_f c h
        refine kx_iconst (v := 0) dX6_isSymbol_27 (by decide) ?_
        exact jnI h jr2
      · have h := if_t c h
        refine kx_aload_n dX6_isSymbol_15 rfl rfl ?_
        refine kx_getf dX6_isSymbol_16 fl_X6_116_X6 kN_m rfl ?_
        refine kx_iload_n dX6_isSymbol_19 rfl rfl ?_
        refine kx_icmp_ne (tgt := 27) dX6_isSymbol_20 (by decide) (fun c => ?_) (fun c => ?_)
        · have h := if_f c h
          refine kx_iconst (v := 0) dX6_isSymbol_27 (by decide) ?_
          exact jnI h jr2
        · have h := if_t c h
          refine kx_iconst (v := 1) dX6_isSymbol_23 (by decide) ?_
          refine kx_goto (tgt := 28) dX6_isSymbol_24 (by decide) ?_
          exact jnI h jr2
set_option maxHeartbeats 4000000 in
theorem mM_kindHere {G : KG} {τ : KHp} {m : Nat} {ad : Nat → Nat} {s : TS}  {z : TS × Int32} (hd : Md m ad) (h : P_kindHere s  = some z) : kx_c G yX6_kindHere (ws_ yX6_kindHere cX6_kindHere 1 (Option.some Jvm.ClassFile.FieldType.int)) 6 0 0 [.ref m] (MP τ m ad s) (fun rv σ' => rv = some (.int z.2) ∧ σ' = MP τ m ad z.1) kx_n := by
  refine kx_mk3 (ini := false) rfl (Nat.le_of_ble_eq_true rfl) (fun h => by cases h) (fun Q X hQ hX => ?_)
  unfold P_kindHere at h
  refine kx_aload_n dX6_kindHere_0 rfl rfl ?_
  refine kx_ldcS dX6_kindHere_1 ks_ArcRecorderModel_154 ?_
  obtain ⟨r1, er1, h⟩ := bd_s h
  refine kx_callV dX6_kindHere_3 lk_X6_138 (mM_isWord hd er1) rfl kN_rc rfl (Nat.le_of_ble_eq_true rfl) (Nat.le_of_ble_eq_true rfl) (Nat.le_of_ble_eq_true rfl) (Nat.le_of_ble_eq_true rfl) (Nat.le_of_ble_eq_true rfl) (fun _ _ _ h => h.elim) (fun w_ σ_ hq => ?_)
  obtain ⟨rfl, rfl⟩ := hq
  obtain ⟨r2, er2, h⟩ := bd_s h
  refine kN_j (MP τ m ad r2.1) 53 [.int (r2.2)] ?_ (fun jr2 => ?_)
  · skip
    exact kx_iret dX6_kindHere_53 rfl (hQ _ _ (rtI (Option.some.inj h)))
  · have h := er2
    refine kx_if_eq (tgt := 13) dX6_kindHere_6 (by decide) (fun c => ?_) (fun c => ?_)
    · have h := if_t c h
      refine kx_aload_n dX6_kindHere_13 rfl rfl ?_
      refine kx_ldcS dX6_kindHere_14 ks_ArcRecorderModel_156 ?_
      obtain ⟨r3, er3, h⟩ := bd_s h
      refine kx_callV dX6_kindHere_16 lk_X6_138 (mM_isWord hd er3) rfl kN_rc rfl (Nat.le_of_ble_eq_true rfl) (Nat.le_of_ble_eq_true rfl) (Nat.le_of_ble_eq_true rfl) (Nat.le_of_ble_eq_true rfl) (Nat.le_of_ble_eq_true rfl) (fun _ _ _ h => h.elim) (fun w_ σ_ hq => ?_)
      obtain ⟨rfl, rfl⟩ := hq
      refine kx_if_eq (tgt := 26) dX6_kindHere_19 (by decide) (fun c => ?_) (fun c => ?_)
      · have h := if_t c h
        refine kx_aload_n dX6_kindHere_26 rfl rfl ?_
        refine kx_ldcS dX6_kindHere_27 ks_ArcRecorderModel_158 ?_
        obtain ⟨r4, er4, h⟩ := bd_s h
        refine kx_callV dX6_kindHere_29 lk_X6_138 (mM_isWord hd er4) rfl kN_rc rfl (Nat.le_of_ble_eq_true rfl) (Nat.le_of_ble_eq_true rfl) (Nat.le_of_ble_eq_true rfl) (Nat.le_of_ble_eq_true rfl) (Nat.le_of_ble_eq_true rfl) (fun _ _ _ h => h.elim) (fun w_ σ_ hq => ?_)
        obtain ⟨rfl, rfl⟩ := hq
        refine kx_if_eq (tgt := 39) dX6_kindHere_32 (by decide) (fun c => ?_) (fun c => ?_)
        · have h := if_t c h
          refine kx_aload_n dX6_kindHere_39 rfl rfl ?_
          refine kx_ldcS dX6_kindHere_40 ks_ArcRecorderModel_160 ?_
          obtain ⟨r5, er5, h⟩ := bd_s h
          refine kx_callV dX6_kindHere_42 lk_X6_138 (mM_isWord hd er5) rfl kN_rc rfl (Nat.le_of_ble_eq_true rfl) (Nat.le_of_ble_eq_true rfl) (Nat.le_of_ble_eq_true rfl) (Nat.le_of_ble_eq_true rfl) (Nat.le_of_ble_eq_true rfl) (fun _ _ _ h => h.elim) (fun w_ σ_ hq => ?_)
          obtain ⟨rfl, rfl⟩ := hq
          refine kx_if_eq (tgt := 52) dX6_kindHere_45 (by decide) (fun c => ?_) (fun c => ?_)
          · have h := if_t c h
            refine kx_iconst (v := -1) dX6_kindHere_52 (by decide) ?_
            exact jnI h jr2
          · have h := if_f c h
            refine kx_iconst (v := 3) dX6_kindHere_48 (by decide) ?_
            refine kx_goto (tgt := 53) dX6_kindHere_49 (by decide) ?_
            exact jnI h jr2
        · have h := if_f c h
          refine kx_iconst (v := 2) dX6_kindHere_35 (by decide) ?_
          refine kx_goto (tgt := 53) dX6_kindHere_36 (by decide) ?_
          exact jnI h jr2
      · have h := if_f c h
        refine kx_iconst (v := 1) dX6_kindHere_22 (by decide) ?_
        refine kx_goto (tgt := 53) dX6_kindHere_23 (by decide) ?_
        exact jnI h jr2
    · have h := if_f c h
      refine kx_iconst (v := 0) dX6_kindHere_9 (by decide) ?_
      refine kx_goto (tgt := 53) dX6_kindHere_10 (by decide) ?_
      exact jnI h jr2
set_option maxHeartbeats 4000000 in
theorem mM_featureHere {G : KG} {τ : KHp} {m : Nat} {ad : Nat → Nat} {s : TS}  {z : TS × Int32} (hd : Md m ad) (h : P_featureHere s  = some z) : kx_c G yX6_featureHere (ws_ yX6_featureHere cX6_featureHere 1 (Option.some Jvm.ClassFile.FieldType.int)) 6 0 0 [.ref m] (MP τ m ad s) (fun rv σ' => rv = some (.int z.2) ∧ σ' = MP τ m ad z.1) kx_n := by
  refine kx_mk3 (ini := false) rfl (Nat.le_of_ble_eq_true rfl) (fun h => by cases h) (fun Q X hQ hX => ?_)
  unfold P_featureHere at h
  refine kx_aload_n dX6_featureHere_0 rfl rfl ?_
  refine kx_ldcS dX6_featureHere_1 ks_ArcRecorderModel_142 ?_
  obtain ⟨r1, er1, h⟩ := bd_s h
  refine kx_callV dX6_featureHere_3 lk_X6_138 (mM_isWord hd er1) rfl kN_rc rfl (Nat.le_of_ble_eq_true rfl) (Nat.le_of_ble_eq_true rfl) (Nat.le_of_ble_eq_true rfl) (Nat.le_of_ble_eq_true rfl) (Nat.le_of_ble_eq_true rfl) (fun _ _ _ h => h.elim) (fun w_ σ_ hq => ?_)
  obtain ⟨rfl, rfl⟩ := hq
  obtain ⟨r2, er2, h⟩ := bd_s h
  refine kN_j (MP τ m ad r2.1) 79 [.int (r2.2)] ?_ (fun jr2 => ?_)
  · skip
    exact kx_iret dX6_featureHere_79 rfl (hQ _ _ (rtI (Option.some.inj h)))
  · have h := er2
    refine kx_if_eq (tgt := 13) dX6_featureHere_6 (by decide) (fun c => ?_) (fun c => ?_)
    · have h := if_t c h
      refine kx_aload_n dX6_featureHere_13 rfl rfl ?_
      refine kx_ldcS dX6_featureHere_14 ks_ArcRecorderModel_144 ?_
      obtain ⟨r3, er3, h⟩ := bd_s h
      refine kx_callV dX6_featureHere_16 lk_X6_138 (mM_isWord hd er3) rfl kN_rc rfl (Nat.le_of_ble_eq_true rfl) (Nat.le_of_ble_eq_true rfl) (Nat.le_of_ble_eq_true rfl) (Nat.le_of_ble_eq_true rfl) (Nat.le_of_ble_eq_true rfl) (fun _ _ _ h => h.elim) (fun w_ σ_ hq => ?_)
      obtain ⟨rfl, rfl⟩ := hq
      refine kx_if_eq (tgt := 26) dX6_featureHere_19 (by decide) (fun c => ?_) (fun c => ?_)
      · have h := if_t c h
        refine kx_aload_n dX6_featureHere_26 rfl rfl ?_
        refine kx_ldcS dX6_featureHere_27 ks_ArcRecorderModel_146 ?_
        obtain ⟨r4, er4, h⟩ := bd_s h
        refine kx_callV dX6_featureHere_29 lk_X6_138 (mM_isWord hd er4) rfl kN_rc rfl (Nat.le_of_ble_eq_true rfl) (Nat.le_of_ble_eq_true rfl) (Nat.le_of_ble_eq_true rfl) (Nat.le_of_ble_eq_true rfl) (Nat.le_of_ble_eq_true rfl) (fun _ _ _ h => h.elim) (fun w_ σ_ hq => ?_)
        obtain ⟨rfl, rfl⟩ := hq
        refine kx_if_eq (tgt := 39) dX6_featureHere_32 (by decide) (fun c => ?_) (fun c => ?_)
        · have h := if_t c h
          refine kx_aload_n dX6_featureHere_39 rfl rfl ?_
          refine kx_ldcS dX6_featureHere_40 ks_ArcRecorderModel_148 ?_
          obtain ⟨r5, er5, h⟩ := bd_s h
          refine kx_callV dX6_featureHere_42 lk_X6_138 (mM_isWord hd er5) rfl kN_rc rfl (Nat.le_of_ble_eq_true rfl) (Nat.le_of_ble_eq_true rfl) (Nat.le_of_ble_eq_true rfl) (Nat.le_of_ble_eq_true rfl) (Nat.le_of_ble_eq_true rfl) (fun _ _ _ h => h.elim) (fun w_ σ_ hq => ?_)
          obtain ⟨rfl, rfl⟩ := hq
          refine kx_if_eq (tgt := 52) dX6_featureHere_45 (by decide) (fun c => ?_) (fun c => ?_)
          · have h := if_t c h
            refine kx_aload_n dX6_featureHere_52 rfl rfl ?_
            refine kx_ldcS dX6_featureHere_53 ks_ArcRecorderModel_150 ?_
            obtain ⟨r6, er6, h⟩ := bd_s h
            refine kx_callV dX6_featureHere_55 lk_X6_138 (mM_isWord hd er6) rfl kN_rc rfl (Nat.le_of_ble_eq_true rfl) (Nat.le_of_ble_eq_true rfl) (Nat.le_of_ble_eq_true rfl) (Nat.le_of_ble_eq_true rfl) (Nat.le_of_ble_eq_true rfl) (fun _ _ _ h => h.elim) (fun w_ σ_ hq => ?_)
            obtain ⟨rfl, rfl⟩ := hq
            refine kx_if_eq (tgt := 65) dX6_featureHere_58 (by decide) (fun c => ?_) (fun c => ?_)
            · have h := if_t c h
              refine kx_aload_n dX6_featureHere_65 rfl rfl ?_
              refine kx_ldcS dX6_featureHere_66 ks_ArcRecorderModel_152 ?_
              obtain ⟨r7, er7, h⟩ := bd_s h
              refine kx_callV dX6_featureHere_68 lk_X6_138 (mM_isWord hd er7) rfl kN_rc rfl (Nat.le_of_ble_eq_true rfl) (Nat.le_of_ble_eq_true rfl) (Nat.le_of_ble_eq_true rfl) (Nat.le_of_ble_eq_true rfl) (Nat.le_of_ble_eq_true rfl) (fun _ _ _ h => h.elim) (fun w_ σ_ hq => ?_)
              obtain ⟨rfl, rfl⟩ := hq
              refine kx_if_eq (tgt := 78) dX6_featureHere_71 (by decide) (fun c => ?_) (fun c => ?_)
              · have h := if_t c h
                refine kx_iconst (v := -1) dX6_featureHere_78 (by decide) ?_
                exact jnI h jr2
              · have h := if_f c h
                refine kx_iconst (v := 5) dX6_featureHere_74 (by decide) ?_
                refine kx_goto (tgt := 79) dX6_featureHere_75 (by decide) ?_
                exact jnI h jr2
            · have h := if_f c h
              refine kx_iconst (v := 4) dX6_featureHere_61 (by decide) ?_
              refine kx_goto (tgt := 79) dX6_featureHere_62 (by decide) ?_
              exact jnI h jr2
          · have h := if_f c h
            refine kx_iconst (v := 3) dX6_featureHere_48 (by decide) ?_
            refine kx_goto (tgt := 79) dX6_featureHere_49 (by decide) ?_
            exact jnI h jr2
        · have h := if_f c h
          refine kx_iconst (v := 2) dX6_featureHere_35 (by decide) ?_
          refine kx_goto (tgt := 79) dX6_featureHere_36 (by decide) ?_
          exact jnI h jr2
      · have h := if_f c h
        refine kx_iconst (v := 1) dX6_featureHere_22 (by decide) ?_
        refine kx_goto (tgt := 79) dX6_featureHere_23 (by decide) ?_
        exact jnI h jr2
    · have h := if_f c h
      refine kx_iconst (v := 0) dX6_featureHere_9 (by decide) ?_
      refine kx_goto (tgt := 79) dX6_featureHere_10 (by decide) ?_
      exact jnI h jr2
set_option maxHeartbeats 4000000 in
theorem mM_letter {G : KG} {τ : KHp} {m : Nat} {ad : Nat → Nat} {s : TS} {x1 : Int32} {z : TS × Int32} (hd : Md m ad) (h : P_letter s x1 = some z) : kx_c G yX6_letter (ws_ yX6_letter cX6_letter 2 (Option.some Jvm.ClassFile.FieldType.int)) 1 0 0 [.ref m, .int (x1)] (MP τ m ad s) (fun rv σ' => rv = some (.int z.2) ∧ σ' = MP τ m ad z.1) kx_n := by
  refine kx_mk3 (ini := false) rfl (Nat.le_of_ble_eq_true rfl) (fun h => by cases h) (fun Q X hQ hX => ?_)
  unfold P_letter at h
  refine kx_iload_n dX6_letter_0 rfl rfl ?_
  refine kx_aload_n dX6_letter_1 rfl rfl ?_
  refine kx_getf dX6_letter_2 fl_X6_98_X6 kN_m rfl ?_
  refine kx_aload_n dX6_letter_5 rfl rfl ?_
  refine kx_getf dX6_letter_6 fl_X6_92_X6 kN_m rfl ?_
  refine kx_isub dX6_letter_9 ?_
  obtain ⟨r1, er1, h⟩ := bd_s h
  refine kN_j (MP τ m ad r1.1) 28 [.int (r1.2)] ?_ (fun jr1 => ?_)
  · skip
    exact kx_iret dX6_letter_28 rfl (hQ _ _ (rtI (Option.some.inj h)))
  · have h := er1
    refine kx_icmp_ge (tgt := 27) dX6_letter_10 (by decide) (fun c => ?_) (fun c => ?_)
    · have h := if_t c h
      refine kx_iconst (v := 0) dX6_letter_27 (by decide) ?_
      exact jnI h jr1
    · have h := if_f c h
      refine kx_aload_n dX6_letter_13 rfl rfl ?_
      refine kx_getf dX6_letter_14 fl_X6_31_X6 kN_m rfl ?_
      refine kx_aload_n dX6_letter_17 rfl rfl ?_
      refine kx_getf dX6_letter_18 fl_X6_92_X6 kN_m rfl ?_
      refine kx_iload_n dX6_letter_21 rfl rfl ?_
      refine kx_iadd dX6_letter_22 ?_
      refine kN_bld hd dX6_letter_23 h (fun v2 ev2 h => ?_)
      refine kx_goto (tgt := 28) dX6_letter_24 (by decide) ?_
      exact jnI h jr1
set_option maxHeartbeats 4000000 in
theorem mL_keepName_2 {G : KG} {τ : KHp} {m : Nat} {ad : Nat → Nat} {Q : KQ} {X : KX} {y1 : Int32} {a0 : TS × Int32} {z : TS} (hd : Md m ad) (h : loopN (fun w : TS × Int32 => B_keepName_2 y1 w.1 w.2) 9000 a0 = some z) (kk : kx G (yX6_keepName.cls, cX6_keepName, 3, (Option.none : Option Jvm.ClassFile.FieldType), false, []) (2, 0, 0, Q, X) 0 0 (MP τ m ad z) 27 (kF []) []) : kx G (yX6_keepName.cls, cX6_keepName, 3, (Option.none : Option Jvm.ClassFile.FieldType), false, []) (2, 0, 0, Q, X) 0 0 (MP τ m ad a0.1) 2 (kF [(0, .ref m), (1, .int (y1)), (2, .int (a0.2))]) [] := by
  refine loopK_1_0 (B := B_keepName_2 y1) (fun (a : TS) (a2 : Int32) => kx G (yX6_keepName.cls, cX6_keepName, 3, (Option.none : Option Jvm.ClassFile.FieldType), false, []) (2, 0, 0, Q, X) 0 0 (MP τ m ad a) 2 (kF [(0, .ref m), (1, .int (y1)), (2, .int (a2))]) []) (fun (b : TS) => kx G (yX6_keepName.cls, cX6_keepName, 3, (Option.none : Option Jvm.ClassFile.FieldType), false, []) (2, 0, 0, Q, X) 0 0 (MP τ m ad b) 27 (kF []) []) (fun a a2 r h kI kE => ?_) _ _ _ h kk
  · unfold B_keepName_2 at h
    refine kx_iload_n dX6_keepName_2 rfl rfl ?_
    refine kx_bipush (v := 6) dX6_keepName_3 (by decide) ?_
    refine kx_icmp_ge (tgt := 27) dX6_keepName_5 (by decide) (fun c => ?_) (fun c => ?_)
    · have h := if_t c h
      exact kx_lwF [] trivial (kE (a) (Option.some.inj h).symm)
    · have h := if_f c h
      refine kx_aload_n dX6_keepName_8 rfl rfl ?_
      refine kx_getf dX6_keepName_9 fl_X6_24_X6 kN_m rfl ?_
      refine kx_iload_n dX6_keepName_12 rfl rfl ?_
      refine kx_iload_n dX6_keepName_13 rfl rfl ?_
      refine kx_iadd dX6_keepName_14 ?_
      refine kx_aload_n dX6_keepName_15 rfl rfl ?_
      refine kx_iload_n dX6_keepName_16 rfl rfl ?_
      obtain ⟨r2001, er2001, h⟩ := bd_s h
      refine kx_callV dX6_keepName_17 lk_X6_224 (mM_letter hd er2001) rfl kN_rc rfl (Nat.le_of_ble_eq_true rfl) (Nat.le_of_ble_eq_true rfl) (Nat.le_of_ble_eq_true rfl) (Nat.le_of_ble_eq_true rfl) (Nat.le_of_ble_eq_true rfl) (fun _ _ _ h => h.elim) (fun w_ σ_ hq => ?_)
      obtain ⟨rfl, rfl⟩ := hq
      refine kN_ast hd dX6_keepName_20 h (fun s2002 es2002 h => ?_)
      refine kx_iinc2 (v := 1) dX6_keepName_21 rfl (by decide) ?_
      refine kx_goto (tgt := 2) dX6_keepName_24 (by decide) ?_
      exact kx_lwF [(0, .ref m), (1, .int (y1)), (2, .int ((a2 + (1 : Int32))))] ⟨rfl, rfl, rfl, trivial⟩ (kI (s2002) ((a2 + (1 : Int32))) (Option.some.inj h).symm)
set_option maxHeartbeats 4000000 in
theorem mM_keepName {G : KG} {τ : KHp} {m : Nat} {ad : Nat → Nat} {s : TS} {x1 : Int32} {z : TS} (hd : Md m ad) (h : P_keepName s x1 = some z) : kx_c G yX6_keepName (ws_ yX6_keepName cX6_keepName 3 (Option.none : Option Jvm.ClassFile.FieldType)) 2 0 0 [.ref m, .int (x1)] (MP τ m ad s) (fun rv σ' => rv = none ∧ σ' = MP τ m ad z) kx_n := by
  refine kx_mk3 (ini := false) rfl (Nat.le_of_ble_eq_true rfl) (fun h => by cases h) (fun Q X hQ hX => ?_)
  unfold P_keepName at h
  refine kx_iconst (v := 0) dX6_keepName_0 (by decide) ?_
  refine kx_istore_n dX6_keepName_1 rfl (Nat.le_of_ble_eq_true rfl) ?_
  obtain ⟨b1, eb1, h⟩ := bd_s h
  refine kx_lwF [(0, .ref m), (1, .int (x1)), (2, .int ((0 : Int32)))] ⟨rfl, rfl, rfl, trivial⟩ (mL_keepName_2 hd (a0 := (s, (0 : Int32))) eb1 ?_)
  exact kx_vret dX6_keepName_27 rfl (hQ _ _ (rtV (Option.some.inj h)))
set_option maxHeartbeats 4000000 in
theorem mM_setLoad {G : KG} {τ : KHp} {m : Nat} {ad : Nat → Nat} {s : TS} {x1 : Int32} {x2 : Int32} {x3 : Int32} {z : TS} (hd : Md m ad) (h : P_setLoad s x1 x2 x3 = some z) : kx_c G yX6_setLoad (ws_ yX6_setLoad cX6_setLoad 4 (Option.none : Option Jvm.ClassFile.FieldType)) 1 0 0 [.ref m, .int (x1), .int (x2), .int (x3)] (MP τ m ad s) (fun rv σ' => rv = none ∧ σ' = MP τ m ad z) kx_n := by
  refine kx_mk3 (ini := false) rfl (Nat.le_of_ble_eq_true rfl) (fun h => by cases h) (fun Q X hQ hX => ?_)
  unfold P_setLoad at h
  refine kx_aload_n dX6_setLoad_0 rfl rfl ?_
  refine kx_getf dX6_setLoad_1 fl_X6_24_X6 kN_m rfl ?_
  refine kx_sipush (v := 331) dX6_setLoad_4 (by decide) ?_
  refine kx_bipush (v := 12) dX6_setLoad_7 (by decide) ?_
  refine kx_iload_n dX6_setLoad_9 rfl rfl ?_
  refine kx_imul dX6_setLoad_10 ?_
  refine kx_iadd dX6_setLoad_11 ?_
  refine kx_iload_n dX6_setLoad_12 rfl rfl ?_
  refine kx_iadd dX6_setLoad_13 ?_
  refine kx_iload_n dX6_setLoad_14 rfl rfl ?_
  refine kN_ast hd dX6_setLoad_15 h (fun s1 es1 h => ?_)
  exact kx_vret dX6_setLoad_16 rfl (hQ _ _ (rtV (Option.some.inj h)))
set_option maxHeartbeats 4000000 in
theorem mM_setBranch {G : KG} {τ : KHp} {m : Nat} {ad : Nat → Nat} {s : TS} {x1 : Int32} {x2 : Int32} {x3 : Int32} {z : TS} (hd : Md m ad) (h : P_setBranch s x1 x2 x3 = some z) : kx_c G yX6_setBranch (ws_ yX6_setBranch cX6_setBranch 4 (Option.none : Option Jvm.ClassFile.FieldType)) 1 0 0 [.ref m, .int (x1), .int (x2), .int (x3)] (MP τ m ad s) (fun rv σ' => rv = none ∧ σ' = MP τ m ad z) kx_n := by
  refine kx_mk3 (ini := false) rfl (Nat.le_of_ble_eq_true rfl) (fun h => by cases h) (fun Q X hQ hX => ?_)
  unfold P_setBranch at h
  refine kx_aload_n dX6_setBranch_0 rfl rfl ?_
  refine kx_getf dX6_setBranch_1 fl_X6_24_X6 kN_m rfl ?_
  refine kx_bipush (v := 11) dX6_setBranch_4 (by decide) ?_
  refine kx_bipush (v := 80) dX6_setBranch_6 (by decide) ?_
  refine kx_iload_n dX6_setBranch_8 rfl rfl ?_
  refine kx_imul dX6_setBranch_9 ?_
  refine kx_iadd dX6_setBranch_10 ?_
  refine kx_iload_n dX6_setBranch_11 rfl rfl ?_
  refine kx_iadd dX6_setBranch_12 ?_
  refine kx_iload_n dX6_setBranch_13 rfl rfl ?_
  refine kN_ast hd dX6_setBranch_14 h (fun s1 es1 h => ?_)
  exact kx_vret dX6_setBranch_15 rfl (hQ _ _ (rtV (Option.some.inj h)))
set_option maxHeartbeats 4000000 in
theorem mM_layPlan {G : KG} {τ : KHp} {m : Nat} {ad : Nat → Nat} {s : TS} {x1 : Int32} {x2 : Int32} {x3 : Int32} {z : TS} (hd : Md m ad) (h : P_layPlan s x1 x2 x3 = some z) : kx_c G yX6_layPlan (ws_ yX6_layPlan cX6_layPlan 5 (Option.none : Option Jvm.ClassFile.FieldType)) 1 0 0 [.ref m, .int (x1), .int (x2), .int (x3)] (MP τ m ad s) (fun rv σ' => rv = none ∧ σ' = MP τ m ad z) kx_n := by
  refine kx_mk3 (ini := false) rfl (Nat.le_of_ble_eq_true rfl) (fun h => by cases h) (fun Q X hQ hX => ?_)
  unfold P_layPlan at h
  refine kx_sipush (v := 853) dX6_layPlan_0 (by decide) ?_
  refine kx_iconst (v := 3) dX6_layPlan_3 (by decide) ?_
  refine kx_aload_n dX6_layPlan_4 rfl rfl ?_
  refine kx_getf dX6_layPlan_5 fl_X6_24_X6 kN_m rfl ?_
  refine kx_bipush (v := 7) dX6_layPlan_8 (by decide) ?_
  refine kN_ald hd dX6_layPlan_10 h (fun v1 ev1 h => ?_)
  refine kx_imul dX6_layPlan_11 ?_
  refine kx_iadd dX6_layPlan_12 ?_
  refine kx_istore dX6_layPlan_13 (Nat.le_of_ble_eq_true rfl) ?_
  refine kx_aload_n dX6_layPlan_15 rfl rfl ?_
  refine kx_getf dX6_layPlan_16 fl_X6_24_X6 kN_m rfl ?_
  refine kx_iload dX6_layPlan_19 rfl ?_
  refine kx_iload_n dX6_layPlan_21 rfl rfl ?_
  refine kN_ast hd dX6_layPlan_22 h (fun s2 es2 h => ?_)
  refine kx_aload_n dX6_layPlan_23 rfl rfl ?_
  refine kx_getf dX6_layPlan_24 fl_X6_24_X6 kN_m rfl ?_
  refine kx_iload dX6_layPlan_27 rfl ?_
  refine kx_iconst (v := 1) dX6_layPlan_29 (by decide) ?_
  refine kx_iadd dX6_layPlan_30 ?_
  refine kx_iload_n dX6_layPlan_31 rfl rfl ?_
  refine kN_ast hd dX6_layPlan_32 h (fun s3 es3 h => ?_)
  refine kx_aload_n dX6_layPlan_33 rfl rfl ?_
  refine kx_getf dX6_layPlan_34 fl_X6_24_X6 kN_m rfl ?_
  refine kx_iload dX6_layPlan_37 rfl ?_
  refine kx_iconst (v := 2) dX6_layPlan_39 (by decide) ?_
  refine kx_iadd dX6_layPlan_40 ?_
  refine kx_iload_n dX6_layPlan_41 rfl rfl ?_
  refine kN_ast hd dX6_layPlan_42 h (fun s4 es4 h => ?_)
  refine kx_aload_n dX6_layPlan_43 rfl rfl ?_
  refine kx_getf dX6_layPlan_44 fl_X6_24_X6 kN_m rfl ?_
  refine kx_bipush (v := 7) dX6_layPlan_47 (by decide) ?_
  refine kx_dup2_11 dX6_layPlan_49 rfl rfl ?_
  refine kN_ald hd dX6_layPlan_50 h (fun v5 ev5 h => ?_)
  refine kx_iconst (v := 1) dX6_layPlan_51 (by decide) ?_
  refine kx_iadd dX6_layPlan_52 ?_
  refine kN_ast hd dX6_layPlan_53 h (fun s6 es6 h => ?_)
  exact kx_vret dX6_layPlan_54 rfl (hQ _ _ (rtV (Option.some.inj h)))
set_option maxHeartbeats 4000000 in
theorem mL_remember_87 {G : KG} {τ : KHp} {m : Nat} {ad : Nat → Nat} {Q : KQ} {X : KX}  {a0 : TS × Int32} {z : TS} (hd : Md m ad) (h : loopN (fun w : TS × Int32 => B_remember_87  w.1 w.2) 9000 a0 = some z) (kk : kx G (yX6_remember.cls, cX6_remember, 2, (Option.none : Option Jvm.ClassFile.FieldType), false, []) (1, 0, 0, Q, X) 0 0 (MP τ m ad z) 121 (kF [(0, .ref m)]) []) : kx G (yX6_remember.cls, cX6_remember, 2, (Option.none : Option Jvm.ClassFile.FieldType), false, []) (1, 0, 0, Q, X) 0 0 (MP τ m ad a0.1) 87 (kF [(0, .ref m), (1, .int (a0.2))]) [] := by
  refine loopK_1_0 (B := B_remember_87 ) (fun (a : TS) (a1 : Int32) => kx G (yX6_remember.cls, cX6_remember, 2, (Option.none : Option Jvm.ClassFile.FieldType), false, []) (1, 0, 0, Q, X) 0 0 (MP τ m ad a) 87 (kF [(0, .ref m), (1, .int (a1))]) []) (fun (b : TS) => kx G (yX6_remember.cls, cX6_remember, 2, (Option.none : Option Jvm.ClassFile.FieldType), false, []) (1, 0, 0, Q, X) 0 0 (MP τ m ad b) 121 (kF [(0, .ref m)]) []) (fun a a1 r h kI kE => ?_) _ _ _ h kk
  · unfold B_remember_87 at h
    refine kx_iload_n dX6_remember_87 rfl rfl ?_
    refine kx_sipush (v := 1465) dX6_remember_88 (by decide) ?_
    refine kx_icmp_ge (tgt := 121) dX6_remember_91 (by decide) (fun c => ?_) (fun c => ?_)
    · have h := if_t c h
      exact kx_lwF [(0, .ref m)] ⟨rfl, trivial⟩ (kE (a) (Option.some.inj h).symm)
    · have h := if_f c h
      refine kx_aload_n dX6_remember_94 rfl rfl ?_
      refine kx_getf dX6_remember_95 fl_X6_57_X6 kN_m rfl ?_
      refine kx_sipush (v := 1465) dX6_remember_98 (by decide) ?_
      refine kx_aload_n dX6_remember_101 rfl rfl ?_
      refine kx_getf dX6_remember_102 fl_X6_483_X6 kN_m rfl ?_
      refine kx_imul dX6_remember_105 ?_
      refine kx_iload_n dX6_remember_106 rfl rfl ?_
      refine kx_iadd dX6_remember_107 ?_
      refine kx_aload_n dX6_remember_108 rfl rfl ?_
      refine kx_getf dX6_remember_109 fl_X6_17_X6 kN_m rfl ?_
      refine kx_iload_n dX6_remember_112 rfl rfl ?_
      refine kN_ald hd dX6_remember_113 h (fun v87001 ev87001 h => ?_)
      refine kN_ast hd dX6_remember_114 h (fun s87002 es87002 h => ?_)
      refine kx_iinc2 (v := 1) dX6_remember_115 rfl (by decide) ?_
      refine kx_goto (tgt := 87) dX6_remember_118 (by decide) ?_
      exact kx_lwF [(0, .ref m), (1, .int ((a1 + (1 : Int32))))] ⟨rfl, rfl, trivial⟩ (kI (s87002) ((a1 + (1 : Int32))) (Option.some.inj h).symm)
set_option maxHeartbeats 4000000 in
theorem mL_remember_123 {G : KG} {τ : KHp} {m : Nat} {ad : Nat → Nat} {Q : KQ} {X : KX}  {a0 : TS × Int32} {z : TS} (hd : Md m ad) (h : loopN (fun w : TS × Int32 => B_remember_123  w.1 w.2) 9000 a0 = some z) (kk : kx G (yX6_remember.cls, cX6_remember, 2, (Option.none : Option Jvm.ClassFile.FieldType), false, []) (1, 0, 0, Q, X) 0 0 (MP τ m ad z) 157 (kF [(0, .ref m)]) []) : kx G (yX6_remember.cls, cX6_remember, 2, (Option.none : Option Jvm.ClassFile.FieldType), false, []) (1, 0, 0, Q, X) 0 0 (MP τ m ad a0.1) 123 (kF [(0, .ref m), (1, .int (a0.2))]) [] := by
  refine loopK_1_0 (B := B_remember_123 ) (fun (a : TS) (a1 : Int32) => kx G (yX6_remember.cls, cX6_remember, 2, (Option.none : Option Jvm.ClassFile.FieldType), false, []) (1, 0, 0, Q, X) 0 0 (MP τ m ad a) 123 (kF [(0, .ref m), (1, .int (a1))]) []) (fun (b : TS) => kx G (yX6_remember.cls, cX6_remember, 2, (Option.none : Option Jvm.ClassFile.FieldType), false, []) (1, 0, 0, Q, X) 0 0 (MP τ m ad b) 157 (kF [(0, .ref m)]) []) (fun a a1 r h kI kE => ?_) _ _ _ h kk
  · unfold B_remember_123 at h
    refine kx_iload_n dX6_remember_123 rfl rfl ?_
    refine kx_sipush (v := 160) dX6_remember_124 (by decide) ?_
    refine kx_icmp_ge (tgt := 157) dX6_remember_127 (by decide) (fun c => ?_) (fun c => ?_)
    · have h := if_t c h
      exact kx_lwF [(0, .ref m)] ⟨rfl, trivial⟩ (kE (a) (Option.some.inj h).symm)
    · have h := if_f c h
      refine kx_aload_n dX6_remember_130 rfl rfl ?_
      refine kx_getf dX6_remember_131 fl_X6_60_X6 kN_m rfl ?_
      refine kx_sipush (v := 160) dX6_remember_134 (by decide) ?_
      refine kx_aload_n dX6_remember_137 rfl rfl ?_
      refine kx_getf dX6_remember_138 fl_X6_483_X6 kN_m rfl ?_
      refine kx_imul dX6_remember_141 ?_
      refine kx_iload_n dX6_remember_142 rfl rfl ?_
      refine kx_iadd dX6_remember_143 ?_
      refine kx_aload_n dX6_remember_144 rfl rfl ?_
      refine kx_getf dX6_remember_145 fl_X6_27_X6 kN_m rfl ?_
      refine kx_iload_n dX6_remember_148 rfl rfl ?_
      refine kN_fld hd dX6_remember_149 h (fun v123001 ev123001 h => ?_)
      refine kN_fst hd dX6_remember_150 h (fun s123002 es123002 h => ?_)
      refine kx_iinc2 (v := 1) dX6_remember_151 rfl (by decide) ?_
      refine kx_goto (tgt := 123) dX6_remember_154 (by decide) ?_
      exact kx_lwF [(0, .ref m), (1, .int ((a1 + (1 : Int32))))] ⟨rfl, rfl, trivial⟩ (kI (s123002) ((a1 + (1 : Int32))) (Option.some.inj h).symm)
set_option maxHeartbeats 4000000 in
theorem mL_remember_13 {G : KG} {τ : KHp} {m : Nat} {ad : Nat → Nat} {Q : KQ} {X : KX}  {a0 : TS × Int32} {z : TS} (hd : Md m ad) (h : loopN (fun w : TS × Int32 => B_remember_13  w.1 w.2) 9000 a0 = some z) (kk : kx G (yX6_remember.cls, cX6_remember, 2, (Option.none : Option Jvm.ClassFile.FieldType), false, []) (1, 0, 0, Q, X) 0 0 (MP τ m ad z) 42 (kF [(0, .ref m)]) []) : kx G (yX6_remember.cls, cX6_remember, 2, (Option.none : Option Jvm.ClassFile.FieldType), false, []) (1, 0, 0, Q, X) 0 0 (MP τ m ad a0.1) 13 (kF [(0, .ref m), (1, .int (a0.2))]) [] := by
  refine loopK_1_0 (B := B_remember_13 ) (fun (a : TS) (a1 : Int32) => kx G (yX6_remember.cls, cX6_remember, 2, (Option.none : Option Jvm.ClassFile.FieldType), false, []) (1, 0, 0, Q, X) 0 0 (MP τ m ad a) 13 (kF [(0, .ref m), (1, .int (a1))]) []) (fun (b : TS) => kx G (yX6_remember.cls, cX6_remember, 2, (Option.none : Option Jvm.ClassFile.FieldType), false, []) (1, 0, 0, Q, X) 0 0 (MP τ m ad b) 42 (kF [(0, .ref m)]) []) (fun a a1 r h kI kE => ?_) _ _ _ h kk
  · unfold B_remember_13 at h
    refine kx_iload_n dX6_remember_13 rfl rfl ?_
    refine kx_sipush (v := 8790) dX6_remember_14 (by decide) ?_
    refine kx_icmp_ge (tgt := 42) dX6_remember_17 (by decide) (fun c => ?_) (fun c => ?_)
    · have h := if_t c h
      exact kx_lwF [(0, .ref m)] ⟨rfl, trivial⟩ (kE (a) (Option.some.inj h).symm)
    · have h := if_f c h
      refine kx_aload_n dX6_remember_20 rfl rfl ?_
      refine kx_getf dX6_remember_21 fl_X6_57_X6 kN_m rfl ?_
      refine kx_iload_n dX6_remember_24 rfl rfl ?_
      refine kx_sipush (v := 1465) dX6_remember_25 (by decide) ?_
      refine kx_isub dX6_remember_28 ?_
      refine kx_aload_n dX6_remember_29 rfl rfl ?_
      refine kx_getf dX6_remember_30 fl_X6_57_X6 kN_m rfl ?_
      refine kx_iload_n dX6_remember_33 rfl rfl ?_
      refine kN_ald hd dX6_remember_34 h (fun v13001 ev13001 h => ?_)
      refine kN_ast hd dX6_remember_35 h (fun s13002 es13002 h => ?_)
      refine kx_iinc2 (v := 1) dX6_remember_36 rfl (by decide) ?_
      refine kx_goto (tgt := 13) dX6_remember_39 (by decide) ?_
      exact kx_lwF [(0, .ref m), (1, .int ((a1 + (1 : Int32))))] ⟨rfl, rfl, trivial⟩ (kI (s13002) ((a1 + (1 : Int32))) (Option.some.inj h).symm)
set_option maxHeartbeats 4000000 in
theorem mL_remember_46 {G : KG} {τ : KHp} {m : Nat} {ad : Nat → Nat} {Q : KQ} {X : KX}  {a0 : TS × Int32} {z : TS} (hd : Md m ad) (h : loopN (fun w : TS × Int32 => B_remember_46  w.1 w.2) 9000 a0 = some z) (kk : kx G (yX6_remember.cls, cX6_remember, 2, (Option.none : Option Jvm.ClassFile.FieldType), false, []) (1, 0, 0, Q, X) 0 0 (MP τ m ad z) 75 (kF [(0, .ref m)]) []) : kx G (yX6_remember.cls, cX6_remember, 2, (Option.none : Option Jvm.ClassFile.FieldType), false, []) (1, 0, 0, Q, X) 0 0 (MP τ m ad a0.1) 46 (kF [(0, .ref m), (1, .int (a0.2))]) [] := by
  refine loopK_1_0 (B := B_remember_46 ) (fun (a : TS) (a1 : Int32) => kx G (yX6_remember.cls, cX6_remember, 2, (Option.none : Option Jvm.ClassFile.FieldType), false, []) (1, 0, 0, Q, X) 0 0 (MP τ m ad a) 46 (kF [(0, .ref m), (1, .int (a1))]) []) (fun (b : TS) => kx G (yX6_remember.cls, cX6_remember, 2, (Option.none : Option Jvm.ClassFile.FieldType), false, []) (1, 0, 0, Q, X) 0 0 (MP τ m ad b) 75 (kF [(0, .ref m)]) []) (fun a a1 r h kI kE => ?_) _ _ _ h kk
  · unfold B_remember_46 at h
    refine kx_iload_n dX6_remember_46 rfl rfl ?_
    refine kx_sipush (v := 960) dX6_remember_47 (by decide) ?_
    refine kx_icmp_ge (tgt := 75) dX6_remember_50 (by decide) (fun c => ?_) (fun c => ?_)
    · have h := if_t c h
      exact kx_lwF [(0, .ref m)] ⟨rfl, trivial⟩ (kE (a) (Option.some.inj h).symm)
    · have h := if_f c h
      refine kx_aload_n dX6_remember_53 rfl rfl ?_
      refine kx_getf dX6_remember_54 fl_X6_60_X6 kN_m rfl ?_
      refine kx_iload_n dX6_remember_57 rfl rfl ?_
      refine kx_sipush (v := 160) dX6_remember_58 (by decide) ?_
      refine kx_isub dX6_remember_61 ?_
      refine kx_aload_n dX6_remember_62 rfl rfl ?_
      refine kx_getf dX6_remember_63 fl_X6_60_X6 kN_m rfl ?_
      refine kx_iload_n dX6_remember_66 rfl rfl ?_
      refine kN_fld hd dX6_remember_67 h (fun v46001 ev46001 h => ?_)
      refine kN_fst hd dX6_remember_68 h (fun s46002 es46002 h => ?_)
      refine kx_iinc2 (v := 1) dX6_remember_69 rfl (by decide) ?_
      refine kx_goto (tgt := 46) dX6_remember_72 (by decide) ?_
      exact kx_lwF [(0, .ref m), (1, .int ((a1 + (1 : Int32))))] ⟨rfl, rfl, trivial⟩ (kI (s46002) ((a1 + (1 : Int32))) (Option.some.inj h).symm)
set_option maxHeartbeats 4000000 in
theorem mM_remember {G : KG} {τ : KHp} {m : Nat} {ad : Nat → Nat} {s : TS}  {z : TS} (hd : Md m ad) (h : P_remember s  = some z) : kx_c G yX6_remember (ws_ yX6_remember cX6_remember 2 (Option.none : Option Jvm.ClassFile.FieldType)) 1 0 0 [.ref m] (MP τ m ad s) (fun rv σ' => rv = none ∧ σ' = MP τ m ad z) kx_n := by
  refine kx_mk3 (ini := false) rfl (Nat.le_of_ble_eq_true rfl) (fun h => by cases h) (fun Q X hQ hX => ?_)
  unfold P_remember at h
  refine kx_aload_n dX6_remember_0 rfl rfl ?_
  refine kx_getf dX6_remember_1 fl_X6_483_X6 kN_m rfl ?_
  refine kx_bipush (v := 6) dX6_remember_4 (by decide) ?_
  refine kx_icmp_ne (tgt := 85) dX6_remember_6 (by decide) (fun c => ?_) (fun c => ?_)
  · have h := if_f c h
    refine kx_iconst (v := 0) dX6_remember_85 (by decide) ?_
    refine kx_istore_n dX6_remember_86 rfl (Nat.le_of_ble_eq_true rfl) ?_
    obtain ⟨b1, eb1, h⟩ := bd_s h
    refine kx_lwF [(0, .ref m), (1, .int ((0 : Int32)))] ⟨rfl, rfl, trivial⟩ (mL_remember_87 hd (a0 := (s, (0 : Int32))) eb1 ?_)
    refine kx_iconst (v := 0) dX6_remember_121 (by decide) ?_
    refine kx_istore_n dX6_remember_122 rfl (Nat.le_of_ble_eq_true rfl) ?_
    obtain ⟨b2, eb2, h⟩ := bd_s h
    refine kx_lwF [(0, .ref m), (1, .int ((0 : Int32)))] ⟨rfl, rfl, trivial⟩ (mL_remember_123 hd (a0 := (b1, (0 : Int32))) eb2 ?_)
    refine kx_aload_n dX6_remember_157 rfl rfl ?_
    refine kx_dup dX6_remember_158 rfl ?_
    refine kx_getf dX6_remember_159 fl_X6_483_X6 kN_m rfl ?_
    refine kx_iconst (v := 1) dX6_remember_162 (by decide) ?_
    refine kx_iadd dX6_remember_163 ?_
    refine kN_put dX6_remember_164 fl_X6_483_X6 (Or.inl rfl) rfl h rfl (fun s3 es3 h => ?_)
    exact kx_vret dX6_remember_167 rfl (hQ _ _ (rtV (Option.some.inj h)))
  · have h := if_t c h
    refine kx_sipush (v := 1465) dX6_remember_9 (by decide) ?_
    refine kx_istore_n dX6_remember_12 rfl (Nat.le_of_ble_eq_true rfl) ?_
    obtain ⟨b4, eb4, h⟩ := bd_s h
    refine kx_lwF [(0, .ref m), (1, .int ((1465 : Int32)))] ⟨rfl, rfl, trivial⟩ (mL_remember_13 hd (a0 := (s, (1465 : Int32))) eb4 ?_)
    refine kx_sipush (v := 160) dX6_remember_42 (by decide) ?_
    refine kx_istore_n dX6_remember_45 rfl (Nat.le_of_ble_eq_true rfl) ?_
    obtain ⟨b5, eb5, h⟩ := bd_s h
    refine kx_lwF [(0, .ref m), (1, .int ((160 : Int32)))] ⟨rfl, rfl, trivial⟩ (mL_remember_46 hd (a0 := (b4, (160 : Int32))) eb5 ?_)
    refine kx_aload_n dX6_remember_75 rfl rfl ?_
    refine kx_dup dX6_remember_76 rfl ?_
    refine kx_getf dX6_remember_77 fl_X6_483_X6 kN_m rfl ?_
    refine kx_iconst (v := 1) dX6_remember_80 (by decide) ?_
    refine kx_isub dX6_remember_81 ?_
    refine kN_put dX6_remember_82 fl_X6_483_X6 (Or.inl rfl) rfl h rfl (fun s6 es6 h => ?_)
    refine kx_iconst (v := 0) dX6_remember_85 (by decide) ?_
    refine kx_istore_n dX6_remember_86 rfl (Nat.le_of_ble_eq_true rfl) ?_
    obtain ⟨b7, eb7, h⟩ := bd_s h
    refine kx_lwF [(0, .ref m), (1, .int ((0 : Int32)))] ⟨rfl, rfl, trivial⟩ (mL_remember_87 hd (a0 := (s6, (0 : Int32))) eb7 ?_)
    refine kx_iconst (v := 0) dX6_remember_121 (by decide) ?_
    refine kx_istore_n dX6_remember_122 rfl (Nat.le_of_ble_eq_true rfl) ?_
    obtain ⟨b8, eb8, h⟩ := bd_s h
    refine kx_lwF [(0, .ref m), (1, .int ((0 : Int32)))] ⟨rfl, rfl, trivial⟩ (mL_remember_123 hd (a0 := (b7, (0 : Int32))) eb8 ?_)
    refine kx_aload_n dX6_remember_157 rfl rfl ?_
    refine kx_dup dX6_remember_158 rfl ?_
    refine kx_getf dX6_remember_159 fl_X6_483_X6 kN_m rfl ?_
    refine kx_iconst (v := 1) dX6_remember_162 (by decide) ?_
    refine kx_iadd dX6_remember_163 ?_
    refine kN_put dX6_remember_164 fl_X6_483_X6 (Or.inl rfl) rfl h rfl (fun s9 es9 h => ?_)
    exact kx_vret dX6_remember_167 rfl (hQ _ _ (rtV (Option.some.inj h)))
set_option maxHeartbeats 4000000 in
theorem mM_errorCode {G : KG} {τ : KHp} {m : Nat} {ad : Nat → Nat} {s : TS}  {z : TS × Int32} (hd : Md m ad) (h : P_errorCode s  = some z) : kx_c G yX6_errorCode (ws_ yX6_errorCode cX6_errorCode 1 (Option.some Jvm.ClassFile.FieldType.int)) 1 0 0 [.ref m] (MP τ m ad s) (fun rv σ' => rv = some (.int z.2) ∧ σ' = MP τ m ad z.1) kx_n := by
  refine kx_mk3 (ini := false) rfl (Nat.le_of_ble_eq_true rfl) (fun h => by cases h) (fun Q X hQ hX => ?_)
  unfold P_errorCode at h
  refine kx_aload_n dX6_errorCode_0 rfl rfl ?_
  refine kx_iconst (v := 0) dX6_errorCode_1 (by decide) ?_
  refine kN_put dX6_errorCode_2 fl_X6_3_X6 (Or.inl rfl) rfl h rfl (fun s1 es1 h => ?_)
  refine kx_aload_n dX6_errorCode_5 rfl rfl ?_
  refine kx_getf dX6_errorCode_6 fl_X6_85_X6 kN_m rfl ?_
  exact kx_iret dX6_errorCode_9 rfl (hQ _ _ (rtI (Option.some.inj h)))
set_option maxHeartbeats 4000000 in
theorem mM_errorPosition {G : KG} {τ : KHp} {m : Nat} {ad : Nat → Nat} {s : TS}  {z : TS × Int32} (hd : Md m ad) (h : P_errorPosition s  = some z) : kx_c G yX6_errorPosition (ws_ yX6_errorPosition cX6_errorPosition 1 (Option.some Jvm.ClassFile.FieldType.int)) 1 0 0 [.ref m] (MP τ m ad s) (fun rv σ' => rv = some (.int z.2) ∧ σ' = MP τ m ad z.1) kx_n := by
  refine kx_mk3 (ini := false) rfl (Nat.le_of_ble_eq_true rfl) (fun h => by cases h) (fun Q X hQ hX => ?_)
  unfold P_errorPosition at h
  refine kx_aload_n dX6_errorPosition_0 rfl rfl ?_
  refine kx_iconst (v := 0) dX6_errorPosition_1 (by decide) ?_
  refine kN_put dX6_errorPosition_2 fl_X6_3_X6 (Or.inl rfl) rfl h rfl (fun s1 es1 h => ?_)
  refine kx_aload_n dX6_errorPosition_5 rfl rfl ?_
  refine kx_getf dX6_errorPosition_6 fl_X6_35_X6 kN_m rfl ?_
  exact kx_iret dX6_errorPosition_9 rfl (hQ _ _ (rtI (Option.some.inj h)))
set_option maxHeartbeats 4000000 in
theorem mL_looksAtWord_28 {G : KG} {τ : KHp} {m : Nat} {ad : Nat → Nat} {Q : KQ} {X : KX}  {a0 : TS × Int32 × Int32} {z : TS × Int32} (hd : Md m ad) (h : loopN (fun w : TS × Int32 × Int32 => B_looksAtWord_28  w.1 w.2.1 w.2.2) 9000 a0 = some z) (kk : kx G (yX6_looksAtWord.cls, cX6_looksAtWord, 3, (Option.some Jvm.ClassFile.FieldType.boolean), false, []) (2, 0, 0, Q, X) 0 0 (MP τ m ad z.1) 63 (kF [(1, .int (z.2))]) []) : kx G (yX6_looksAtWord.cls, cX6_looksAtWord, 3, (Option.some Jvm.ClassFile.FieldType.boolean), false, []) (2, 0, 0, Q, X) 0 0 (MP τ m ad a0.1) 28 (kF [(0, .ref m), (1, .int (a0.2.1)), (2, .int (a0.2.2))]) [] := by
  refine loopK_2_1 (B := B_looksAtWord_28 ) (fun (a : TS) (a1 : Int32) (a2 : Int32) => kx G (yX6_looksAtWord.cls, cX6_looksAtWord, 3, (Option.some Jvm.ClassFile.FieldType.boolean), false, []) (2, 0, 0, Q, X) 0 0 (MP τ m ad a) 28 (kF [(0, .ref m), (1, .int (a1)), (2, .int (a2))]) []) (fun (b : TS) (b1 : Int32) => kx G (yX6_looksAtWord.cls, cX6_looksAtWord, 3, (Option.some Jvm.ClassFile.FieldType.boolean), false, []) (2, 0, 0, Q, X) 0 0 (MP τ m ad b) 63 (kF [(1, .int (b1))]) []) (fun a a1 a2 r h kI kE => ?_) _ _ _ h kk
  · unfold B_looksAtWord_28 at h
    refine kx_iload_n dX6_looksAtWord_28 rfl rfl ?_
    refine kx_aload_n dX6_looksAtWord_29 rfl rfl ?_
    refine kx_getf dX6_looksAtWord_30 fl_X6_98_X6 kN_m rfl ?_
    refine kx_icmp_ge (tgt := 63) dX6_looksAtWord_33 (by decide) (fun c => ?_) (fun c => ?_)
    · have h := if_t c h
      exact kx_lwF [(1, .int (a1))] ⟨rfl, trivial⟩ (kE (a) (a1) (Option.some.inj h).symm)
    · have h := if_f c h
      refine kx_iload_n dX6_looksAtWord_36 rfl rfl ?_
      refine kx_if_eq (tgt := 63) dX6_looksAtWord_37 (by decide) (fun c => ?_) (fun c => ?_)
      · have h := if_t c h
        exact kx_lwF [(1, .int (a1))] ⟨rfl, trivial⟩ (kE (a) (a1) (Option.some.inj h).symm)
      · have h := if_f c h
        refine kx_aload_n dX6_looksAtWord_40 rfl rfl ?_
        refine kx_getf dX6_looksAtWord_41 fl_X6_31_X6 kN_m rfl ?_
        refine kx_iload_n dX6_looksAtWord_44 rfl rfl ?_
        refine kN_bld hd dX6_looksAtWord_45 h (fun v28001 ev28001 h => ?_)
        refine kx_i2l dX6_looksAtWord_46 rfl ?_
        refine kx_ldc2 dX6_looksAtWord_47 q2863 ?_
        refine kx_ldc2 dX6_looksAtWord_50 q2864 ?_
        obtain ⟨r28002, er28002, h⟩ := bd_s h
        refine kx_callS dX6_looksAtWord_53 lk_X6_66 (mM_in hd er28002) rfl rfl (Nat.le_of_ble_eq_true rfl) (Nat.le_of_ble_eq_true rfl) (Nat.le_of_ble_eq_true rfl) (Nat.le_of_ble_eq_true rfl) (Nat.le_of_ble_eq_true rfl) (fun _ _ _ h => h.elim) (fun w_ σ_ hq => ?_)
        obtain ⟨rfl, rfl⟩ := hq
        refine kx_istore_n dX6_looksAtWord_56 rfl (Nat.le_of_ble_eq_true rfl) ?_
        refine kx_iinc2 (v := 1) dX6_looksAtWord_57 rfl (by decide) ?_
        refine kx_goto (tgt := 28) dX6_looksAtWord_60 (by decide) ?_
        exact kx_lwF [(0, .ref m), (1, .int (r28002.2)), (2, .int ((a2 + (1 : Int32))))] ⟨rfl, rfl, rfl, trivial⟩ (kI (r28002.1) (r28002.2) ((a2 + (1 : Int32))) (Option.some.inj h).symm)
set_option maxHeartbeats 4000000 in
theorem mM_looksAtWord {G : KG} {τ : KHp} {m : Nat} {ad : Nat → Nat} {s : TS}  {z : TS × Int32} (hd : Md m ad) (h : P_looksAtWord s  = some z) : kx_c G yX6_looksAtWord (ws_ yX6_looksAtWord cX6_looksAtWord 3 (Option.some Jvm.ClassFile.FieldType.boolean)) 2 0 0 [.ref m] (MP τ m ad s) (fun rv σ' => rv = some (.int z.2) ∧ σ' = MP τ m ad z.1) kx_n := by
  refine kx_mk3 (ini := false) rfl (Nat.le_of_ble_eq_true rfl) (fun h => by cases h) (fun Q X hQ hX => ?_)
  unfold P_looksAtWord at h
  refine kx_aload_n dX6_looksAtWord_0 rfl rfl ?_
  refine kx_iconst (v := 0) dX6_looksAtWord_1 (by decide) ?_
  refine kN_put dX6_looksAtWord_2 fl_X6_92_X6 (Or.inl rfl) rfl h rfl (fun s1 es1 h => ?_)
  refine kx_aload_n dX6_looksAtWord_5 rfl rfl ?_
  refine kx_aload_n dX6_looksAtWord_6 rfl rfl ?_
  refine kx_getf dX6_looksAtWord_7 fl_X6_74_X6 kN_m rfl ?_
  refine kN_put dX6_looksAtWord_10 fl_X6_98_X6 (Or.inl rfl) rfl h rfl (fun s2 es2 h => ?_)
  refine kx_aload_n dX6_looksAtWord_13 rfl rfl ?_
  refine kx_getf dX6_looksAtWord_14 fl_X6_98_X6 kN_m rfl ?_
  obtain ⟨r3, er3, h⟩ := bd_s h
  refine kN_j (MP τ m ad r3.1) 25 [.int (r3.2)] ?_ (fun jr3 => ?_)
  · skip
    refine kx_istore_n dX6_looksAtWord_25 rfl (Nat.le_of_ble_eq_true rfl) ?_
    refine kx_iconst (v := 0) dX6_looksAtWord_26 (by decide) ?_
    refine kx_istore_n dX6_looksAtWord_27 rfl (Nat.le_of_ble_eq_true rfl) ?_
    obtain ⟨b4, eb4, h⟩ := bd_s h
    refine kx_lwF [(0, .ref m), (1, .int (r3.2)), (2, .int ((0 : Int32)))] ⟨rfl, rfl, rfl, trivial⟩ (mL_looksAtWord_28 hd (a0 := (r3.1, r3.2, (0 : Int32))) eb4 ?_)
    refine kx_iload_n dX6_looksAtWord_63 rfl rfl ?_
    refine kN_zret dX6_looksAtWord_64 rfl h (fun v5 ev5 h => hQ _ _ (by subst ev5; exact rtI (Option.some.inj h)))
  · have h := er3
    refine kx_if_le (tgt := 24) dX6_looksAtWord_17 (by decide) (fun c => ?_) (fun c => ?_)
    · have h := if_t c h
      refine kx_iconst (v := 0) dX6_looksAtWord_24 (by decide) ?_
      exact jnI h jr3
    · have h := if_f c h
      refine kx_iconst (v := 1) dX6_looksAtWord_20 (by decide) ?_
      refine kx_goto (tgt := 25) dX6_looksAtWord_21 (by decide) ?_
      exact jnI h jr3
set_option maxHeartbeats 4000000 in
theorem mM_now {G : KG} {τ : KHp} {m : Nat} {ad : Nat → Nat} {s : TS}  {z : TS × Int32} (hd : Md m ad) (h : P_now s  = some z) : kx_c G yX6_now (ws_ yX6_now cX6_now 1 (Option.some Jvm.ClassFile.FieldType.int)) 1 0 0 [.ref m] (MP τ m ad s) (fun rv σ' => rv = some (.int z.2) ∧ σ' = MP τ m ad z.1) kx_n := by
  refine kx_mk3 (ini := false) rfl (Nat.le_of_ble_eq_true rfl) (fun h => by cases h) (fun Q X hQ hX => ?_)
  unfold P_now at h
  refine kx_aload_n dX6_now_0 rfl rfl ?_
  refine kx_iconst (v := 0) dX6_now_1 (by decide) ?_
  refine kN_put dX6_now_2 fl_X6_3_X6 (Or.inl rfl) rfl h rfl (fun s1 es1 h => ?_)
  refine kx_aload_n dX6_now_5 rfl rfl ?_
  refine kx_getf dX6_now_6 fl_X6_17_X6 kN_m rfl ?_
  refine kx_bipush (v := 8) dX6_now_9 (by decide) ?_
  refine kN_ald hd dX6_now_11 h (fun v2 ev2 h => ?_)
  exact kx_iret dX6_now_12 rfl (hQ _ _ (rtI (Option.some.inj h)))
set_option maxHeartbeats 4000000 in
theorem mM_isBranch {G : KG} {τ : KHp} {m : Nat} {ad : Nat → Nat} {s : TS} {x1 : Int32} {z : TS × Int32} (hd : Md m ad) (h : P_isBranch s x1 = some z) : kx_c G yX6_isBranch (ws_ yX6_isBranch cX6_isBranch 2 (Option.some Jvm.ClassFile.FieldType.boolean)) 2 0 0 [.ref m, .int (x1)] (MP τ m ad s) (fun rv σ' => rv = some (.int z.2) ∧ σ' = MP τ m ad z.1) kx_n := by
  refine kx_mk3 (ini := false) rfl (Nat.le_of_ble_eq_true rfl) (fun h => by cases h) (fun Q X hQ hX => ?_)
  unfold P_isBranch at h
  refine kx_iload_n dX6_isBranch_0 rfl rfl ?_
  refine kx_i2l dX6_isBranch_1 rfl ?_
  refine kx_lconst (v := 0) dX6_isBranch_2 (by decide) ?_
  refine kx_aload_n dX6_isBranch_3 rfl rfl ?_
  refine kx_getf dX6_isBranch_4 fl_X6_24_X6 kN_m rfl ?_
  refine kx_iconst (v := 3) dX6_isBranch_7 (by decide) ?_
  refine kN_ald hd dX6_isBranch_8 h (fun v1 ev1 h => ?_)
  refine kx_iconst (v := 1) dX6_isBranch_9 (by decide) ?_
  refine kx_isub dX6_isBranch_10 ?_
  refine kx_i2l dX6_isBranch_11 rfl ?_
  obtain ⟨r2, er2, h⟩ := bd_s h
  refine kx_callS dX6_isBranch_12 lk_X6_66 (mM_in hd er2) rfl rfl (Nat.le_of_ble_eq_true rfl) (Nat.le_of_ble_eq_true rfl) (Nat.le_of_ble_eq_true rfl) (Nat.le_of_ble_eq_true rfl) (Nat.le_of_ble_eq_true rfl) (fun _ _ _ h => h.elim) (fun w_ σ_ hq => ?_)
  obtain ⟨rfl, rfl⟩ := hq
  refine kN_zret dX6_isBranch_15 rfl h (fun v3 ev3 h => hQ _ _ (by subst ev3; exact rtI (Option.some.inj h)))
set_option maxHeartbeats 4000000 in
theorem mM_ofBranch {G : KG} {τ : KHp} {m : Nat} {ad : Nat → Nat} {s : TS} {x1 : Int32} {x2 : Int32} {z : TS × Int32} (hd : Md m ad) (h : P_ofBranch s x1 x2 = some z) : kx_c G yX6_ofBranch (ws_ yX6_ofBranch cX6_ofBranch 3 (Option.some Jvm.ClassFile.FieldType.int)) 1 0 0 [.ref m, .int (x1), .int (x2)] (MP τ m ad s) (fun rv σ' => rv = some (.int z.2) ∧ σ' = MP τ m ad z.1) kx_n := by
  refine kx_mk3 (ini := false) rfl (Nat.le_of_ble_eq_true rfl) (fun h => by cases h) (fun Q X hQ hX => ?_)
  unfold P_ofBranch at h
  refine kx_aload_n dX6_ofBranch_0 rfl rfl ?_
  refine kx_getf dX6_ofBranch_1 fl_X6_24_X6 kN_m rfl ?_
  refine kx_bipush (v := 11) dX6_ofBranch_4 (by decide) ?_
  refine kx_bipush (v := 80) dX6_ofBranch_6 (by decide) ?_
  refine kx_iload_n dX6_ofBranch_8 rfl rfl ?_
  refine kx_imul dX6_ofBranch_9 ?_
  refine kx_iadd dX6_ofBranch_10 ?_
  refine kx_iload_n dX6_ofBranch_11 rfl rfl ?_
  refine kx_iadd dX6_ofBranch_12 ?_
  refine kN_ald hd dX6_ofBranch_13 h (fun v1 ev1 h => ?_)
  exact kx_iret dX6_ofBranch_14 rfl (hQ _ _ (rtI (Option.some.inj h)))
set_option maxHeartbeats 4000000 in
theorem mM_isLoad {G : KG} {τ : KHp} {m : Nat} {ad : Nat → Nat} {s : TS} {x1 : Int32} {z : TS × Int32} (hd : Md m ad) (h : P_isLoad s x1 = some z) : kx_c G yX6_isLoad (ws_ yX6_isLoad cX6_isLoad 2 (Option.some Jvm.ClassFile.FieldType.boolean)) 2 0 0 [.ref m, .int (x1)] (MP τ m ad s) (fun rv σ' => rv = some (.int z.2) ∧ σ' = MP τ m ad z.1) kx_n := by
  refine kx_mk3 (ini := false) rfl (Nat.le_of_ble_eq_true rfl) (fun h => by cases h) (fun Q X hQ hX => ?_)
  unfold P_isLoad at h
  refine kx_iload_n dX6_isLoad_0 rfl rfl ?_
  refine kx_i2l dX6_isLoad_1 rfl ?_
  refine kx_lconst (v := 0) dX6_isLoad_2 (by decide) ?_
  refine kx_aload_n dX6_isLoad_3 rfl rfl ?_
  refine kx_getf dX6_isLoad_4 fl_X6_24_X6 kN_m rfl ?_
  refine kx_iconst (v := 4) dX6_isLoad_7 (by decide) ?_
  refine kN_ald hd dX6_isLoad_8 h (fun v1 ev1 h => ?_)
  refine kx_iconst (v := 1) dX6_isLoad_9 (by decide) ?_
  refine kx_isub dX6_isLoad_10 ?_
  refine kx_i2l dX6_isLoad_11 rfl ?_
  obtain ⟨r2, er2, h⟩ := bd_s h
  refine kx_callS dX6_isLoad_12 lk_X6_66 (mM_in hd er2) rfl rfl (Nat.le_of_ble_eq_true rfl) (Nat.le_of_ble_eq_true rfl) (Nat.le_of_ble_eq_true rfl) (Nat.le_of_ble_eq_true rfl) (Nat.le_of_ble_eq_true rfl) (fun _ _ _ h => h.elim) (fun w_ σ_ hq => ?_)
  obtain ⟨rfl, rfl⟩ := hq
  refine kN_zret dX6_isLoad_15 rfl h (fun v3 ev3 h => hQ _ _ (by subst ev3; exact rtI (Option.some.inj h)))
set_option maxHeartbeats 4000000 in
theorem mM_passes2 {G : KG} {τ : KHp} {m : Nat} {ad : Nat → Nat} {s : TS} {x1 : Int32} {x2 : Int32} {z : TS × Int32} (hd : Md m ad) (h : P_passes2 s x1 x2 = some z) : kx_c G yX6_passes2 (ws_ yX6_passes2 cX6_passes2 3 (Option.some Jvm.ClassFile.FieldType.boolean)) 2 0 0 [.ref m, .int (x1), .int (x2)] (MP τ m ad s) (fun rv σ' => rv = some (.int z.2) ∧ σ' = MP τ m ad z.1) kx_n := by
  refine kx_mk3 (ini := false) rfl (Nat.le_of_ble_eq_true rfl) (fun h => by cases h) (fun Q X hQ hX => ?_)
  unfold P_passes2 at h
  refine kx_aload_n dX6_passes2_0 rfl rfl ?_
  refine kx_iload_n dX6_passes2_1 rfl rfl ?_
  refine kx_iload_n dX6_passes2_2 rfl rfl ?_
  refine kx_iconst (v := 1) dX6_passes2_3 (by decide) ?_
  refine kx_iconst (v := 1) dX6_passes2_4 (by decide) ?_
  obtain ⟨r1, er1, h⟩ := bd_s h
  refine kx_callV dX6_passes2_5 lk_X6_7 (mM_passes4 hd er1) rfl kN_rc rfl (Nat.le_of_ble_eq_true rfl) (Nat.le_of_ble_eq_true rfl) (Nat.le_of_ble_eq_true rfl) (Nat.le_of_ble_eq_true rfl) (Nat.le_of_ble_eq_true rfl) (fun _ _ _ h => h.elim) (fun w_ σ_ hq => ?_)
  obtain ⟨rfl, rfl⟩ := hq
  refine kN_zret dX6_passes2_8 rfl h (fun v2 ev2 h => hQ _ _ (by subst ev2; exact rtI (Option.some.inj h)))
set_option maxHeartbeats 4000000 in
theorem mM_ofLoad {G : KG} {τ : KHp} {m : Nat} {ad : Nat → Nat} {s : TS} {x1 : Int32} {x2 : Int32} {z : TS × Int32} (hd : Md m ad) (h : P_ofLoad s x1 x2 = some z) : kx_c G yX6_ofLoad (ws_ yX6_ofLoad cX6_ofLoad 3 (Option.some Jvm.ClassFile.FieldType.int)) 1 0 0 [.ref m, .int (x1), .int (x2)] (MP τ m ad s) (fun rv σ' => rv = some (.int z.2) ∧ σ' = MP τ m ad z.1) kx_n := by
  refine kx_mk3 (ini := false) rfl (Nat.le_of_ble_eq_true rfl) (fun h => by cases h) (fun Q X hQ hX => ?_)
  unfold P_ofLoad at h
  refine kx_aload_n dX6_ofLoad_0 rfl rfl ?_
  refine kx_getf dX6_ofLoad_1 fl_X6_24_X6 kN_m rfl ?_
  refine kx_sipush (v := 331) dX6_ofLoad_4 (by decide) ?_
  refine kx_bipush (v := 12) dX6_ofLoad_7 (by decide) ?_
  refine kx_iload_n dX6_ofLoad_9 rfl rfl ?_
  refine kx_imul dX6_ofLoad_10 ?_
  refine kx_iadd dX6_ofLoad_11 ?_
  refine kx_iload_n dX6_ofLoad_12 rfl rfl ?_
  refine kx_iadd dX6_ofLoad_13 ?_
  refine kN_ald hd dX6_ofLoad_14 h (fun v1 ev1 h => ?_)
  exact kx_iret dX6_ofLoad_15 rfl (hQ _ _ (rtI (Option.some.inj h)))
set_option maxHeartbeats 4000000 in
theorem mM_passes3 {G : KG} {τ : KHp} {m : Nat} {ad : Nat → Nat} {s : TS} {x1 : Int32} {x2 : Int32} {x3 : Int32} {z : TS × Int32} (hd : Md m ad) (h : P_passes3 s x1 x2 x3 = some z) : kx_c G yX6_passes3 (ws_ yX6_passes3 cX6_passes3 4 (Option.some Jvm.ClassFile.FieldType.boolean)) 2 0 0 [.ref m, .int (x1), .int (x2), .int (x3)] (MP τ m ad s) (fun rv σ' => rv = some (.int z.2) ∧ σ' = MP τ m ad z.1) kx_n := by
  refine kx_mk3 (ini := false) rfl (Nat.le_of_ble_eq_true rfl) (fun h => by cases h) (fun Q X hQ hX => ?_)
  unfold P_passes3 at h
  refine kx_aload_n dX6_passes3_0 rfl rfl ?_
  refine kx_iload_n dX6_passes3_1 rfl rfl ?_
  refine kx_iload_n dX6_passes3_2 rfl rfl ?_
  refine kx_iload_n dX6_passes3_3 rfl rfl ?_
  refine kx_iconst (v := 1) dX6_passes3_4 (by decide) ?_
  obtain ⟨r1, er1, h⟩ := bd_s h
  refine kx_callV dX6_passes3_5 lk_X6_7 (mM_passes4 hd er1) rfl kN_rc rfl (Nat.le_of_ble_eq_true rfl) (Nat.le_of_ble_eq_true rfl) (Nat.le_of_ble_eq_true rfl) (Nat.le_of_ble_eq_true rfl) (Nat.le_of_ble_eq_true rfl) (fun _ _ _ h => h.elim) (fun w_ σ_ hq => ?_)
  obtain ⟨rfl, rfl⟩ := hq
  refine kN_zret dX6_passes3_8 rfl h (fun v2 ev2 h => hQ _ _ (by subst ev2; exact rtI (Option.some.inj h)))
set_option maxHeartbeats 4000000 in
theorem mL_doSwitches_66 {G : KG} {τ : KHp} {m : Nat} {ad : Nat → Nat} {Q : KQ} {X : KX} {y1 : Int32} {y2 : Int32} {y3 : Int32} {a0 : TS × Int32} {z : TS} (hd : Md m ad) (h : loopN (fun w : TS × Int32 => B_doSwitches_66 y1 y2 y3 w.1 w.2) 9000 a0 = some z) (kk : kx G (yX6_doSwitches.cls, cX6_doSwitches, 5, (Option.none : Option Jvm.ClassFile.FieldType), false, []) (2, 0, 0, Q, X) 0 0 (MP τ m ad z) 102 (kF [(0, .ref m), (1, .int (y1)), (2, .int (y2))]) []) : kx G (yX6_doSwitches.cls, cX6_doSwitches, 5, (Option.none : Option Jvm.ClassFile.FieldType), false, []) (2, 0, 0, Q, X) 0 0 (MP τ m ad a0.1) 66 (kF [(0, .ref m), (1, .int (y1)), (2, .int (y2)), (3, .int (y3)), (4, .int (a0.2))]) [] := by
  refine loopK_1_0 (B := B_doSwitches_66 y1 y2 y3) (fun (a : TS) (a4 : Int32) => kx G (yX6_doSwitches.cls, cX6_doSwitches, 5, (Option.none : Option Jvm.ClassFile.FieldType), false, []) (2, 0, 0, Q, X) 0 0 (MP τ m ad a) 66 (kF [(0, .ref m), (1, .int (y1)), (2, .int (y2)), (3, .int (y3)), (4, .int (a4))]) []) (fun (b : TS) => kx G (yX6_doSwitches.cls, cX6_doSwitches, 5, (Option.none : Option Jvm.ClassFile.FieldType), false, []) (2, 0, 0, Q, X) 0 0 (MP τ m ad b) 102 (kF [(0, .ref m), (1, .int (y1)), (2, .int (y2))]) []) (fun a a4 r h kI kE => ?_) _ _ _ h kk
  · unfold B_doSwitches_66 at h
    refine kx_iload dX6_doSwitches_66 rfl ?_
    refine kx_iconst (v := 3) dX6_doSwitches_68 (by decide) ?_
    refine kx_icmp_ge (tgt := 102) dX6_doSwitches_69 (by decide) (fun c => ?_) (fun c => ?_)
    · have h := if_t c h
      exact kx_lwF [(0, .ref m), (1, .int (y1)), (2, .int (y2))] ⟨rfl, rfl, rfl, trivial⟩ (kE (a) (Option.some.inj h).symm)
    · have h := if_f c h
      refine kx_aload_n dX6_doSwitches_72 rfl rfl ?_
      refine kx_getf dX6_doSwitches_73 fl_X6_17_X6 kN_m rfl ?_
      refine kx_sipush (v := 853) dX6_doSwitches_76 (by decide) ?_
      refine kx_iconst (v := 3) dX6_doSwitches_79 (by decide) ?_
      refine kx_iload_n dX6_doSwitches_80 rfl rfl ?_
      refine kx_imul dX6_doSwitches_81 ?_
      refine kx_iadd dX6_doSwitches_82 ?_
      refine kx_iload dX6_doSwitches_83 rfl ?_
      refine kx_iadd dX6_doSwitches_85 ?_
      refine kx_aload_n dX6_doSwitches_86 rfl rfl ?_
      refine kx_getf dX6_doSwitches_87 fl_X6_17_X6 kN_m rfl ?_
      refine kx_iload_n dX6_doSwitches_90 rfl rfl ?_
      refine kx_iload dX6_doSwitches_91 rfl ?_
      refine kx_iadd dX6_doSwitches_93 ?_
      refine kN_ald hd dX6_doSwitches_94 h (fun v66001 ev66001 h => ?_)
      refine kN_ast hd dX6_doSwitches_95 h (fun s66002 es66002 h => ?_)
      refine kx_iinc2 (v := 1) dX6_doSwitches_96 rfl (by decide) ?_
      refine kx_goto (tgt := 66) dX6_doSwitches_99 (by decide) ?_
      exact kx_lwF [(0, .ref m), (1, .int (y1)), (2, .int (y2)), (3, .int (y3)), (4, .int ((a4 + (1 : Int32))))] ⟨rfl, rfl, rfl, rfl, rfl, trivial⟩ (kI (s66002) ((a4 + (1 : Int32))) (Option.some.inj h).symm)
set_option maxHeartbeats 4000000 in
theorem mL_doSwitches_4 {G : KG} {τ : KHp} {m : Nat} {ad : Nat → Nat} {Q : KQ} {X : KX}  {a0 : TS × Int32 × Int32} {z : TS × Int32} (hd : Md m ad) (h : loopN (fun w : TS × Int32 × Int32 => B_doSwitches_4  w.1 w.2.1 w.2.2) 9000 a0 = some z) (kk : kx G (yX6_doSwitches.cls, cX6_doSwitches, 5, (Option.none : Option Jvm.ClassFile.FieldType), false, []) (2, 0, 0, Q, X) 0 0 (MP τ m ad z.1) 111 (kF [(0, .ref m), (1, .int (z.2))]) []) : kx G (yX6_doSwitches.cls, cX6_doSwitches, 5, (Option.none : Option Jvm.ClassFile.FieldType), false, []) (2, 0, 0, Q, X) 0 0 (MP τ m ad a0.1) 4 (kF [(0, .ref m), (1, .int (a0.2.1)), (2, .int (a0.2.2))]) [] := by
  refine loopK_2_1 (B := B_doSwitches_4 ) (fun (a : TS) (a1 : Int32) (a2 : Int32) => kx G (yX6_doSwitches.cls, cX6_doSwitches, 5, (Option.none : Option Jvm.ClassFile.FieldType), false, []) (2, 0, 0, Q, X) 0 0 (MP τ m ad a) 4 (kF [(0, .ref m), (1, .int (a1)), (2, .int (a2))]) []) (fun (b : TS) (b1 : Int32) => kx G (yX6_doSwitches.cls, cX6_doSwitches, 5, (Option.none : Option Jvm.ClassFile.FieldType), false, []) (2, 0, 0, Q, X) 0 0 (MP τ m ad b) 111 (kF [(0, .ref m), (1, .int (b1))]) []) (fun a a1 a2 r h kI kE => ?_) _ _ _ h kk
  · unfold B_doSwitches_4 at h
    refine kx_iload_n dX6_doSwitches_4 rfl rfl ?_
    refine kx_aload_n dX6_doSwitches_5 rfl rfl ?_
    refine kx_getf dX6_doSwitches_6 fl_X6_17_X6 kN_m rfl ?_
    refine kx_bipush (v := 7) dX6_doSwitches_9 (by decide) ?_
    refine kN_ald hd dX6_doSwitches_11 h (fun v4001 ev4001 h => ?_)
    refine kx_icmp_ge (tgt := 111) dX6_doSwitches_12 (by decide) (fun c => ?_) (fun c => ?_)
    · have h := if_t c h
      exact kx_lwF [(0, .ref m), (1, .int (a1))] ⟨rfl, rfl, trivial⟩ (kE (a) (a1) (Option.some.inj h).symm)
    · have h := if_f c h
      refine kx_sipush (v := 853) dX6_doSwitches_15 (by decide) ?_
      refine kx_iconst (v := 3) dX6_doSwitches_18 (by decide) ?_
      refine kx_iload_n dX6_doSwitches_19 rfl rfl ?_
      refine kx_imul dX6_doSwitches_20 ?_
      refine kx_iadd dX6_doSwitches_21 ?_
      refine kx_istore_n dX6_doSwitches_22 rfl (Nat.le_of_ble_eq_true rfl) ?_
      refine kx_aload_n dX6_doSwitches_23 rfl rfl ?_
      refine kx_getf dX6_doSwitches_24 fl_X6_17_X6 kN_m rfl ?_
      refine kx_iload_n dX6_doSwitches_27 rfl rfl ?_
      refine kN_ald hd dX6_doSwitches_28 h (fun v4002 ev4002 h => ?_)
      refine kx_aload_n dX6_doSwitches_29 rfl rfl ?_
      refine kx_getf dX6_doSwitches_30 fl_X6_17_X6 kN_m rfl ?_
      refine kx_bipush (v := 8) dX6_doSwitches_33 (by decide) ?_
      refine kN_ald hd dX6_doSwitches_35 h (fun v4003 ev4003 h => ?_)
      refine kx_icmp_ne (tgt := 63) dX6_doSwitches_36 (by decide) (fun c => ?_) (fun c => ?_)
      · have h := if_f c h
        refine kx_iconst (v := 0) dX6_doSwitches_63 (by decide) ?_
        refine kx_istore dX6_doSwitches_64 (Nat.le_of_ble_eq_true rfl) ?_
        obtain ⟨b4004, eb4004, h⟩ := bd_s h
        refine kx_lwF [(0, .ref m), (1, .int (a1)), (2, .int (a2)), (3, .int (((853 : Int32) + ((3 : Int32) * a2)))), (4, .int ((0 : Int32)))] ⟨rfl, rfl, rfl, rfl, rfl, trivial⟩ (mL_doSwitches_66 hd (a0 := (a, (0 : Int32))) eb4004 ?_)
        refine kx_iinc2 (v := 1) dX6_doSwitches_102 rfl (by decide) ?_
        refine kx_iinc2 (v := 1) dX6_doSwitches_105 rfl (by decide) ?_
        refine kx_goto (tgt := 4) dX6_doSwitches_108 (by decide) ?_
        exact kx_lwF [(0, .ref m), (1, .int ((a1 + (1 : Int32)))), (2, .int ((a2 + (1 : Int32))))] ⟨rfl, rfl, rfl, trivial⟩ (kI (b4004) ((a1 + (1 : Int32))) ((a2 + (1 : Int32))) (Option.some.inj h).symm)
      · have h := if_t c h
        refine kx_aload_n dX6_doSwitches_39 rfl rfl ?_
        refine kx_aload_n dX6_doSwitches_40 rfl rfl ?_
        refine kx_getf dX6_doSwitches_41 fl_X6_17_X6 kN_m rfl ?_
        refine kx_iload_n dX6_doSwitches_44 rfl rfl ?_
        refine kx_iconst (v := 1) dX6_doSwitches_45 (by decide) ?_
        refine kx_iadd dX6_doSwitches_46 ?_
        refine kN_ald hd dX6_doSwitches_47 h (fun v4005 ev4005 h => ?_)
        refine kx_iconst (v := 5) dX6_doSwitches_48 (by decide) ?_
        refine kx_aload_n dX6_doSwitches_49 rfl rfl ?_
        refine kx_getf dX6_doSwitches_50 fl_X6_17_X6 kN_m rfl ?_
        refine kx_iload_n dX6_doSwitches_53 rfl rfl ?_
        refine kx_iconst (v := 2) dX6_doSwitches_54 (by decide) ?_
        refine kx_iadd dX6_doSwitches_55 ?_
        refine kN_ald hd dX6_doSwitches_56 h (fun v4006 ev4006 h => ?_)
        obtain ⟨r4007, er4007, h⟩ := bd_s h
        refine kx_callV dX6_doSwitches_57 lk_X6_274 (mM_setLoad hd er4007) rfl kN_rc rfl (Nat.le_of_ble_eq_true rfl) (Nat.le_of_ble_eq_true rfl) (Nat.le_of_ble_eq_true rfl) (Nat.le_of_ble_eq_true rfl) (Nat.le_of_ble_eq_true rfl) (fun _ _ _ h => h.elim) (fun w_ σ_ hq => ?_)
        obtain ⟨rfl, rfl⟩ := hq
        refine kx_goto (tgt := 105) dX6_doSwitches_60 (by decide) ?_
        refine kx_iinc2 (v := 1) dX6_doSwitches_105 rfl (by decide) ?_
        refine kx_goto (tgt := 4) dX6_doSwitches_108 (by decide) ?_
        exact kx_lwF [(0, .ref m), (1, .int (a1)), (2, .int ((a2 + (1 : Int32))))] ⟨rfl, rfl, rfl, trivial⟩ (kI (r4007) (a1) ((a2 + (1 : Int32))) (Option.some.inj h).symm)
set_option maxHeartbeats 4000000 in
theorem mM_doSwitches {G : KG} {τ : KHp} {m : Nat} {ad : Nat → Nat} {s : TS}  {z : TS} (hd : Md m ad) (h : P_doSwitches s  = some z) : kx_c G yX6_doSwitches (ws_ yX6_doSwitches cX6_doSwitches 5 (Option.none : Option Jvm.ClassFile.FieldType)) 2 0 0 [.ref m] (MP τ m ad s) (fun rv σ' => rv = none ∧ σ' = MP τ m ad z) kx_n := by
  refine kx_mk3 (ini := false) rfl (Nat.le_of_ble_eq_true rfl) (fun h => by cases h) (fun Q X hQ hX => ?_)
  unfold P_doSwitches at h
  refine kx_iconst (v := 0) dX6_doSwitches_0 (by decide) ?_
  refine kx_istore_n dX6_doSwitches_1 rfl (Nat.le_of_ble_eq_true rfl) ?_
  refine kx_iconst (v := 0) dX6_doSwitches_2 (by decide) ?_
  refine kx_istore_n dX6_doSwitches_3 rfl (Nat.le_of_ble_eq_true rfl) ?_
  obtain ⟨b1, eb1, h⟩ := bd_s h
  refine kx_lwF [(0, .ref m), (1, .int ((0 : Int32))), (2, .int ((0 : Int32)))] ⟨rfl, rfl, rfl, trivial⟩ (mL_doSwitches_4 hd (a0 := (s, (0 : Int32), (0 : Int32))) eb1 ?_)
  refine kx_aload_n dX6_doSwitches_111 rfl rfl ?_
  refine kx_getf dX6_doSwitches_112 fl_X6_17_X6 kN_m rfl ?_
  refine kx_bipush (v := 7) dX6_doSwitches_115 (by decide) ?_
  refine kx_iload_n dX6_doSwitches_117 rfl rfl ?_
  refine kN_ast hd dX6_doSwitches_118 h (fun s2 es2 h => ?_)
  exact kx_vret dX6_doSwitches_119 rfl (hQ _ _ (rtV (Option.some.inj h)))
set_option maxHeartbeats 4000000 in
theorem mM_isClosed {G : KG} {τ : KHp} {m : Nat} {ad : Nat → Nat} {s : TS} {x1 : Int32} {z : TS × Int32} (hd : Md m ad) (h : P_isClosed s x1 = some z) : kx_c G yX6_isClosed (ws_ yX6_isClosed cX6_isClosed 2 (Option.some Jvm.ClassFile.FieldType.boolean)) 2 0 0 [.ref m, .int (x1)] (MP τ m ad s) (fun rv σ' => rv = some (.int z.2) ∧ σ' = MP τ m ad z.1) kx_n := by
  refine kx_mk3 (ini := false) rfl (Nat.le_of_ble_eq_true rfl) (fun h => by cases h) (fun Q X hQ hX => ?_)
  unfold P_isClosed at h
  refine kx_aload_n dX6_isClosed_0 rfl rfl ?_
  refine kx_iload_n dX6_isClosed_1 rfl rfl ?_
  refine kx_iconst (v := 1) dX6_isClosed_2 (by decide) ?_
  obtain ⟨r1, er1, h⟩ := bd_s h
  refine kx_callV dX6_isClosed_3 lk_X6_70 (mM_ofBranch hd er1) rfl kN_rc rfl (Nat.le_of_ble_eq_true rfl) (Nat.le_of_ble_eq_true rfl) (Nat.le_of_ble_eq_true rfl) (Nat.le_of_ble_eq_true rfl) (Nat.le_of_ble_eq_true rfl) (fun _ _ _ h => h.elim) (fun w_ σ_ hq => ?_)
  obtain ⟨rfl, rfl⟩ := hq
  obtain ⟨r2, er2, h⟩ := bd_s h
  refine kN_j (MP τ m ad r2.1) 14 [.int (r2.2)] ?_ (fun jr2 => ?_)
  · skip
    refine kN_zret dX6_isClosed_14 rfl h (fun v3 ev3 h => hQ _ _ (by subst ev3; exact rtI (Option.some.inj h)))
  · have h := er2
    refine kx_if_ne (tgt := 13) dX6_isClosed_6 (by decide) (fun c => ?_) (fun c => ?_)
    · have h := if_f c h
      refine kx_iconst (v := 0) dX6_isClosed_13 (by decide) ?_
      exact jnI h jr2
    · have h := if_t c h
      refine kx_iconst (v := 1) dX6_isClosed_9 (by decide) ?_
      refine kx_goto (tgt := 14) dX6_isClosed_10 (by decide) ?_
      exact jnI h jr2
set_option maxHeartbeats 4000000 in
theorem mM_draw {G : KG} {τ : KHp} {m : Nat} {ad : Nat → Nat} {s : TS}  {z : TS × Int32} (hd : Md m ad) (h : P_draw s  = some z) : kx_c G yX6_draw (ws_ yX6_draw cX6_draw 1 (Option.some Jvm.ClassFile.FieldType.int)) 1 0 0 [.ref m] (MP τ m ad s) (fun rv σ' => rv = some (.int z.2) ∧ σ' = MP τ m ad z.1) kx_n := by
  refine kx_mk3 (ini := false) rfl (Nat.le_of_ble_eq_true rfl) (fun h => by cases h) (fun Q X hQ hX => ?_)
  unfold P_draw at h
  refine kx_aload_n dX6_draw_0 rfl rfl ?_
  refine kx_getf dX6_draw_1 fl_X6_17_X6 kN_m rfl ?_
  refine kx_bipush (v := 9) dX6_draw_4 (by decide) ?_
  refine kx_aload_n dX6_draw_6 rfl rfl ?_
  refine kx_getf dX6_draw_7 fl_X6_17_X6 kN_m rfl ?_
  refine kx_bipush (v := 9) dX6_draw_10 (by decide) ?_
  refine kN_ald hd dX6_draw_12 h (fun v1 ev1 h => ?_)
  refine kx_i2l dX6_draw_13 rfl ?_
  refine kx_ldc2 dX6_draw_14 q3163 ?_
  refine kx_lmul dX6_draw_17 ?_
  refine kx_ldc2 dX6_draw_18 q3164 ?_
  refine kx_ladd dX6_draw_21 ?_
  refine kx_ldc2 dX6_draw_22 q3165 ?_
  refine kN_lrem dX6_draw_25 h (fun v2 ev2 h => ?_)
  refine kx_l2i dX6_draw_26 rfl ?_
  refine kN_ast hd dX6_draw_27 h (fun s3 es3 h => ?_)
  refine kx_aload_n dX6_draw_28 rfl rfl ?_
  refine kx_getf dX6_draw_29 fl_X6_17_X6 kN_m rfl ?_
  refine kx_bipush (v := 9) dX6_draw_32 (by decide) ?_
  refine kN_ald hd dX6_draw_34 h (fun v4 ev4 h => ?_)
  refine kx_ldcwi dX6_draw_35 q3166 ?_
  refine kN_div dX6_draw_38 h (fun v5 ev5 h => ?_)
  refine kx_bipush (v := 100) dX6_draw_39 (by decide) ?_
  refine kN_rem dX6_draw_41 h (fun v6 ev6 h => ?_)
  exact kx_iret dX6_draw_42 rfl (hQ _ _ (rtI (Option.some.inj h)))
set_option maxHeartbeats 4000000 in
theorem mM_shape {G : KG} {τ : KHp} {m : Nat} {ad : Nat → Nat} {s : TS} {x1 : Int32} {z : TS × UInt32} (hd : Md m ad) (h : P_shape s x1 = some z) : kx_c G yX6_shape (ws_ yX6_shape cX6_shape 3 (Option.some Jvm.ClassFile.FieldType.float)) 1 0 0 [.ref m, .int (x1)] (MP τ m ad s) (fun rv σ' => rv = some (.float z.2) ∧ σ' = MP τ m ad z.1) kx_n := by
  refine kx_mk3 (ini := false) rfl (Nat.le_of_ble_eq_true rfl) (fun h => by cases h) (fun Q X hQ hX => ?_)
  unfold P_shape at h
  refine kx_iconst (v := 2) dX6_shape_0 (by decide) ?_
  refine kx_iload_n dX6_shape_1 rfl rfl ?_
  refine kx_imul dX6_shape_2 ?_
  refine kx_iconst (v := 1) dX6_shape_3 (by decide) ?_
  refine kx_iadd dX6_shape_4 ?_
  refine kx_i2f dX6_shape_5 ?_
  refine kx_iconst (v := 2) dX6_shape_6 (by decide) ?_
  refine kx_aload_n dX6_shape_7 rfl rfl ?_
  refine kx_getf dX6_shape_8 fl_X6_17_X6 kN_m rfl ?_
  refine kx_iconst (v := 0) dX6_shape_11 (by decide) ?_
  refine kN_ald hd dX6_shape_12 h (fun v1 ev1 h => ?_)
  refine kx_imul dX6_shape_13 ?_
  refine kx_i2f dX6_shape_14 ?_
  refine kN_fdiv dX6_shape_15 h (fun v2 ev2 h => ?_)
  refine kx_fstore_n dX6_shape_16 rfl (Nat.le_of_ble_eq_true rfl) ?_
  refine kx_ldcwf dX6_shape_17 q3188 ?_
  refine kx_fload_n dX6_shape_20 rfl rfl ?_
  refine kN_fmul dX6_shape_21 h (fun v3 ev3 h => ?_)
  refine kx_fconst1 dX6_shape_22 ?_
  refine kx_fload_n dX6_shape_23 rfl rfl ?_
  refine kN_fsub dX6_shape_24 h (fun v4 ev4 h => ?_)
  refine kN_fmul dX6_shape_25 h (fun v5 ev5 h => ?_)
  exact kx_fret dX6_shape_26 rfl (hQ _ _ (rtF (Option.some.inj h)))
set_option maxHeartbeats 4000000 in
theorem mM_arcAt {G : KG} {τ : KHp} {m : Nat} {ad : Nat → Nat} {s : TS} {x1 : Int32} {x2 : Int32} {x3 : Int32} {x4 : UInt32} {z : TS × UInt32} (hd : Md m ad) (h : P_arcAt s x1 x2 x3 x4 = some z) : kx_c G yX6_arcAt (ws_ yX6_arcAt cX6_arcAt 5 (Option.some Jvm.ClassFile.FieldType.float)) 2 0 0 [.ref m, .int (x1), .int (x2), .int (x3), .float (x4)] (MP τ m ad s) (fun rv σ' => rv = some (.float z.2) ∧ σ' = MP τ m ad z.1) kx_n := by
  refine kx_mk3 (ini := false) rfl (Nat.le_of_ble_eq_true rfl) (fun h => by cases h) (fun Q X hQ hX => ?_)
  unfold P_arcAt at h
  refine kx_iload_n dX6_arcAt_0 rfl rfl ?_
  refine kx_iload_n dX6_arcAt_1 rfl rfl ?_
  obtain ⟨r1, er1, h⟩ := bd_s h
  refine kN_j (MP τ m ad r1.1) 25 [.float (r1.2)] ?_ (fun jr1 => ?_)
  · skip
    exact kx_fret dX6_arcAt_25 rfl (hQ _ _ (rtF (Option.some.inj h)))
  · have h := er1
    refine kx_icmp_ge (tgt := 9) dX6_arcAt_2 (by decide) (fun c => ?_) (fun c => ?_)
    · have h := if_t c h
      refine kx_aload_n dX6_arcAt_9 rfl rfl ?_
      refine kx_iload_n dX6_arcAt_10 rfl rfl ?_
      refine kx_iconst (v := 2) dX6_arcAt_11 (by decide) ?_
      obtain ⟨r2, er2, h⟩ := bd_s h
      refine kx_callV dX6_arcAt_12 lk_X6_342 (mM_ofLoad hd er2) rfl kN_rc rfl (Nat.le_of_ble_eq_true rfl) (Nat.le_of_ble_eq_true rfl) (Nat.le_of_ble_eq_true rfl) (Nat.le_of_ble_eq_true rfl) (Nat.le_of_ble_eq_true rfl) (fun _ _ _ h => h.elim) (fun w_ σ_ hq => ?_)
      obtain ⟨rfl, rfl⟩ := hq
      refine kx_i2f dX6_arcAt_15 ?_
      refine kx_aload_n dX6_arcAt_16 rfl rfl ?_
      refine kx_iload_n dX6_arcAt_17 rfl rfl ?_
      obtain ⟨r3, er3, h⟩ := bd_s h
      refine kx_callV dX6_arcAt_18 lk_X6_366 (mM_shape hd er3) rfl kN_rc rfl (Nat.le_of_ble_eq_true rfl) (Nat.le_of_ble_eq_true rfl) (Nat.le_of_ble_eq_true rfl) (Nat.le_of_ble_eq_true rfl) (Nat.le_of_ble_eq_true rfl) (fun _ _ _ h => h.elim) (fun w_ σ_ hq => ?_)
      obtain ⟨rfl, rfl⟩ := hq
      refine kN_fmul dX6_arcAt_21 h (fun v4 ev4 h => ?_)
      refine kx_fload dX6_arcAt_22 rfl ?_
      refine kN_fmul dX6_arcAt_24 h (fun v5 ev5 h => ?_)
      exact jnF h jr1
    · have h := if_f c h
      refine kx_fconst0 dX6_arcAt_5 ?_
      refine kx_goto (tgt := 25) dX6_arcAt_6 (by decide) ?_
      exact jnF h jr1
set_option maxHeartbeats 4000000 in
theorem mM_size {G : KG} {τ : KHp} {m : Nat} {ad : Nat → Nat} {s : TS} {x0 : UInt32} {z : TS × UInt32} (hd : Md m ad) (h : P_size s x0 = some z) : kx_c G yX6_size (ws_ yX6_size cX6_size 1 (Option.some Jvm.ClassFile.FieldType.float)) 1 0 0 [.float (x0)] (MP τ m ad s) (fun rv σ' => rv = some (.float z.2) ∧ σ' = MP τ m ad z.1) kx_n := by
  refine kx_mk3 (ini := false) rfl (Nat.le_of_ble_eq_true rfl) (fun h => by cases h) (fun Q X hQ hX => ?_)
  unfold P_size at h
  refine kx_fload_n dX6_size_0 rfl rfl ?_
  refine kx_fconst0 dX6_size_1 ?_
  refine kx_fcmp dX6_size_2 ?_
  obtain ⟨r1, er1, h⟩ := bd_s h
  refine kN_j (MP τ m ad r1.1) 13 [.float (r1.2)] ?_ (fun jr1 => ?_)
  · skip
    exact kx_fret dX6_size_13 rfl (hQ _ _ (rtF (Option.some.inj h)))
  · have h := er1
    refine kx_if_ge (tgt := 12) dX6_size_3 (by decide) (fun c => ?_) (fun c => ?_)
    · have h := if_t c h
      refine kx_fload_n dX6_size_12 rfl rfl ?_
      exact jnF h jr1
    · have h := if_f c h
      refine kx_fconst0 dX6_size_6 ?_
      refine kx_fload_n dX6_size_7 rfl rfl ?_
      refine kN_fsub dX6_size_8 h (fun v2 ev2 h => ?_)
      refine kx_goto (tgt := 13) dX6_size_9 (by decide) ?_
      exact jnF h jr1
set_option maxHeartbeats 4000000 in
theorem mM_featureOf {G : KG} {τ : KHp} {m : Nat} {ad : Nat → Nat} {s : TS} {x1 : Int32} {x2 : Int32} {z : TS × UInt32} (hd : Md m ad) (h : P_featureOf s x1 x2 = some z) : kx_c G yX6_featureOf (ws_ yX6_featureOf cX6_featureOf 3 (Option.some Jvm.ClassFile.FieldType.float)) 1 0 0 [.ref m, .int (x1), .int (x2)] (MP τ m ad s) (fun rv σ' => rv = some (.float z.2) ∧ σ' = MP τ m ad z.1) kx_n := by
  refine kx_mk3 (ini := false) rfl (Nat.le_of_ble_eq_true rfl) (fun h => by cases h) (fun Q X hQ hX => ?_)
  unfold P_featureOf at h
  refine kx_aload_n dX6_featureOf_0 rfl rfl ?_
  refine kx_getf dX6_featureOf_1 fl_X6_27_X6 kN_m rfl ?_
  refine kx_bipush (v := 38) dX6_featureOf_4 (by decide) ?_
  refine kx_iload_n dX6_featureOf_6 rfl rfl ?_
  refine kx_imul dX6_featureOf_7 ?_
  refine kx_bipush (v := 32) dX6_featureOf_8 (by decide) ?_
  refine kx_iadd dX6_featureOf_10 ?_
  refine kx_iload_n dX6_featureOf_11 rfl rfl ?_
  refine kx_iadd dX6_featureOf_12 ?_
  refine kN_fld hd dX6_featureOf_13 h (fun v1 ev1 h => ?_)
  exact kx_fret dX6_featureOf_14 rfl (hQ _ _ (rtF (Option.some.inj h)))
set_option maxHeartbeats 4000000 in
theorem mL_holds_4 {G : KG} {τ : KHp} {m : Nat} {ad : Nat → Nat} {Q : KQ} {X : KX} {y1 : Int32} {a0 : TS × Int32 × Int32} {z : TS × Int32} (hd : Md m ad) (h : loopN (fun w : TS × Int32 × Int32 => B_holds_4 y1 w.1 w.2.1 w.2.2) 9000 a0 = some z) (kk : kx G (yX6_holds.cls, cX6_holds, 6, (Option.some Jvm.ClassFile.FieldType.boolean), false, []) (1, 0, 0, Q, X) 0 0 (MP τ m ad z.1) 109 (kF [(2, .int (z.2))]) []) : kx G (yX6_holds.cls, cX6_holds, 6, (Option.some Jvm.ClassFile.FieldType.boolean), false, []) (1, 0, 0, Q, X) 0 0 (MP τ m ad a0.1) 4 (kF [(0, .ref m), (1, .int (y1)), (2, .int (a0.2.1)), (3, .int (a0.2.2))]) [] := by
  refine loopK_2_1 (B := B_holds_4 y1) (fun (a : TS) (a2 : Int32) (a3 : Int32) => kx G (yX6_holds.cls, cX6_holds, 6, (Option.some Jvm.ClassFile.FieldType.boolean), false, []) (1, 0, 0, Q, X) 0 0 (MP τ m ad a) 4 (kF [(0, .ref m), (1, .int (y1)), (2, .int (a2)), (3, .int (a3))]) []) (fun (b : TS) (b2 : Int32) => kx G (yX6_holds.cls, cX6_holds, 6, (Option.some Jvm.ClassFile.FieldType.boolean), false, []) (1, 0, 0, Q, X) 0 0 (MP τ m ad b) 109 (kF [(2, .int (b2))]) []) (fun a a2 a3 r h kI kE => ?_) _ _ _ h kk
  · unfold B_holds_4 at h
    refine kx_iload_n dX6_holds_4 rfl rfl ?_
    refine kx_aload_n dX6_holds_5 rfl rfl ?_
    refine kx_getf dX6_holds_6 fl_X6_24_X6 kN_m rfl ?_
    refine kx_iload_n dX6_holds_9 rfl rfl ?_
    refine kx_iconst (v := 1) dX6_holds_10 (by decide) ?_
    refine kx_iadd dX6_holds_11 ?_
    refine kN_ald hd dX6_holds_12 h (fun v4001 ev4001 h => ?_)
    refine kx_icmp_ge (tgt := 109) dX6_holds_13 (by decide) (fun c => ?_) (fun c => ?_)
    · have h := if_t c h
      exact kx_lwF [(2, .int (a2))] ⟨rfl, trivial⟩ (kE (a) (a2) (Option.some.inj h).symm)
    · have h := if_f c h
      refine kx_aload_n dX6_holds_16 rfl rfl ?_
      refine kx_getf dX6_holds_17 fl_X6_48_X6 kN_m rfl ?_
      refine kx_aload_n dX6_holds_20 rfl rfl ?_
      refine kx_getf dX6_holds_21 fl_X6_24_X6 kN_m rfl ?_
      refine kx_iload_n dX6_holds_24 rfl rfl ?_
      refine kx_bipush (v := 9) dX6_holds_25 (by decide) ?_
      refine kx_iadd dX6_holds_27 ?_
      refine kx_iconst (v := 3) dX6_holds_28 (by decide) ?_
      refine kx_iload_n dX6_holds_29 rfl rfl ?_
      refine kx_imul dX6_holds_30 ?_
      refine kx_iadd dX6_holds_31 ?_
      refine kN_ald hd dX6_holds_32 h (fun v4002 ev4002 h => ?_)
      refine kN_fld hd dX6_holds_33 h (fun v4003 ev4003 h => ?_)
      refine kx_fstore dX6_holds_34 (Nat.le_of_ble_eq_true rfl) ?_
      refine kx_aload_n dX6_holds_36 rfl rfl ?_
      refine kx_getf dX6_holds_37 fl_X6_24_X6 kN_m rfl ?_
      refine kx_iload_n dX6_holds_40 rfl rfl ?_
      refine kx_bipush (v := 9) dX6_holds_41 (by decide) ?_
      refine kx_iadd dX6_holds_43 ?_
      refine kx_iconst (v := 3) dX6_holds_44 (by decide) ?_
      refine kx_iload_n dX6_holds_45 rfl rfl ?_
      refine kx_imul dX6_holds_46 ?_
      refine kx_iadd dX6_holds_47 ?_
      refine kx_iconst (v := 2) dX6_holds_48 (by decide) ?_
      refine kx_iadd dX6_holds_49 ?_
      refine kN_ald hd dX6_holds_50 h (fun v4004 ev4004 h => ?_)
      refine kx_i2f dX6_holds_51 ?_
      refine kx_fstore dX6_holds_52 (Nat.le_of_ble_eq_true rfl) ?_
      refine kx_iload_n dX6_holds_54 rfl rfl ?_
      obtain ⟨r4005, er4005, h⟩ := bd_s h
      refine kN_j (MP τ m ad r4005.1) 102 [.int (r4005.2)] ?_ (fun jr4005 => ?_)
      · skip
        refine kx_istore_n dX6_holds_102 rfl (Nat.le_of_ble_eq_true rfl) ?_
        refine kx_iinc2 (v := 1) dX6_holds_103 rfl (by decide) ?_
        refine kx_goto (tgt := 4) dX6_holds_106 (by decide) ?_
        exact kx_lwF [(0, .ref m), (1, .int (y1)), (2, .int (r4005.2)), (3, .int ((a3 + (1 : Int32))))] ⟨rfl, rfl, rfl, rfl, trivial⟩ (kI (r4005.1) (r4005.2) ((a3 + (1 : Int32))) (Option.some.inj h).symm)
      · have h := er4005
        refine kx_if_eq (tgt := 101) dX6_holds_55 (by decide) (fun c => ?_) (fun c => ?_)
        · have h := if_t c h
          refine kx_iconst (v := 0) dX6_holds_101 (by decide) ?_
          exact jnI h jr4005
        · have h := if_f c h
          refine kx_aload_n dX6_holds_58 rfl rfl ?_
          refine kx_getf dX6_holds_59 fl_X6_24_X6 kN_m rfl ?_
          refine kx_iload_n dX6_holds_62 rfl rfl ?_
          refine kx_bipush (v := 9) dX6_holds_63 (by decide) ?_
          refine kx_iadd dX6_holds_65 ?_
          refine kx_iconst (v := 3) dX6_holds_66 (by decide) ?_
          refine kx_iload_n dX6_holds_67 rfl rfl ?_
          refine kx_imul dX6_holds_68 ?_
          refine kx_iadd dX6_holds_69 ?_
          refine kx_iconst (v := 1) dX6_holds_70 (by decide) ?_
          refine kx_iadd dX6_holds_71 ?_
          refine kN_ald hd dX6_holds_72 h (fun v4006 ev4006 h => ?_)
          refine kx_bipush (v := 60) dX6_holds_73 (by decide) ?_
          refine kx_icmp_ne (tgt := 89) dX6_holds_75 (by decide) (fun c => ?_) (fun c => ?_)
          · have h := if_f c h
            refine kx_fload dX6_holds_89 rfl ?_
            refine kx_fload dX6_holds_91 rfl ?_
            refine kx_fcmp dX6_holds_93 ?_
            refine kx_if_le (tgt := 101) dX6_holds_94 (by decide) (fun c => ?_) (fun c => ?_)
            · have h := if_t c h
              refine kx_iconst (v := 0) dX6_holds_101 (by decide) ?_
              exact jnI h jr4005
            · have h := if_f c h
              refine kx_iconst (v := 1) dX6_holds_97 (by decide) ?_
              refine kx_goto (tgt := 102) dX6_holds_98 (by decide) ?_
              exact jnI h jr4005
          · have h := if_t c h
            refine kx_fload dX6_holds_78 rfl ?_
            refine kx_fload dX6_holds_80 rfl ?_
            refine kx_fcmp dX6_holds_82 ?_
            refine kx_if_ge (tgt := 101) dX6_holds_83 (by decide) (fun c => ?_) (fun c => ?_)
            · have h := if_t c h
              refine kx_iconst (v := 0) dX6_holds_101 (by decide) ?_
              exact jnI h jr4005
            · have h := if_f c h
              refine kx_goto (tgt := 97) dX6_holds_86 (by decide) ?_
              refine kx_iconst (v := 1) dX6_holds_97 (by decide) ?_
              refine kx_goto (tgt := 102) dX6_holds_98 (by decide) ?_
              exact jnI h jr4005
set_option maxHeartbeats 4000000 in
theorem mM_holds {G : KG} {τ : KHp} {m : Nat} {ad : Nat → Nat} {s : TS} {x1 : Int32} {z : TS × Int32} (hd : Md m ad) (h : P_holds s x1 = some z) : kx_c G yX6_holds (ws_ yX6_holds cX6_holds 6 (Option.some Jvm.ClassFile.FieldType.boolean)) 1 0 0 [.ref m, .int (x1)] (MP τ m ad s) (fun rv σ' => rv = some (.int z.2) ∧ σ' = MP τ m ad z.1) kx_n := by
  refine kx_mk3 (ini := false) rfl (Nat.le_of_ble_eq_true rfl) (fun h => by cases h) (fun Q X hQ hX => ?_)
  unfold P_holds at h
  refine kx_iconst (v := 1) dX6_holds_0 (by decide) ?_
  refine kx_istore_n dX6_holds_1 rfl (Nat.le_of_ble_eq_true rfl) ?_
  refine kx_iconst (v := 0) dX6_holds_2 (by decide) ?_
  refine kx_istore_n dX6_holds_3 rfl (Nat.le_of_ble_eq_true rfl) ?_
  obtain ⟨b1, eb1, h⟩ := bd_s h
  refine kx_lwF [(0, .ref m), (1, .int (x1)), (2, .int ((1 : Int32))), (3, .int ((0 : Int32)))] ⟨rfl, rfl, rfl, rfl, trivial⟩ (mL_holds_4 hd (a0 := (s, (1 : Int32), (0 : Int32))) eb1 ?_)
  refine kx_iload_n dX6_holds_109 rfl rfl ?_
  refine kN_zret dX6_holds_110 rfl h (fun v2 ev2 h => hQ _ _ (by subst ev2; exact rtI (Option.some.inj h)))
set_option maxHeartbeats 4000000 in
theorem mM_isAlwaysOne {G : KG} {τ : KHp} {m : Nat} {ad : Nat → Nat} {s : TS} {x1 : Int32} {z : TS × Int32} (hd : Md m ad) (h : P_isAlwaysOne s x1 = some z) : kx_c G yX6_isAlwaysOne (ws_ yX6_isAlwaysOne cX6_isAlwaysOne 2 (Option.some Jvm.ClassFile.FieldType.boolean)) 1 0 0 [.ref m, .int (x1)] (MP τ m ad s) (fun rv σ' => rv = some (.int z.2) ∧ σ' = MP τ m ad z.1) kx_n := by
  refine kx_mk3 (ini := false) rfl (Nat.le_of_ble_eq_true rfl) (fun h => by cases h) (fun Q X hQ hX => ?_)
  unfold P_isAlwaysOne at h
  refine kx_aload_n dX6_isAlwaysOne_0 rfl rfl ?_
  refine kx_getf dX6_isAlwaysOne_1 fl_X6_24_X6 kN_m rfl ?_
  refine kx_sipush (v := 475) dX6_isAlwaysOne_4 (by decide) ?_
  refine kx_bipush (v := 27) dX6_isAlwaysOne_7 (by decide) ?_
  refine kx_iload_n dX6_isAlwaysOne_9 rfl rfl ?_
  refine kx_imul dX6_isAlwaysOne_10 ?_
  refine kx_iadd dX6_isAlwaysOne_11 ?_
  refine kx_iconst (v := 0) dX6_isAlwaysOne_12 (by decide) ?_
  refine kx_iadd dX6_isAlwaysOne_13 ?_
  refine kN_ald hd dX6_isAlwaysOne_14 h (fun v1 ev1 h => ?_)
  refine kx_iconst (v := 1) dX6_isAlwaysOne_15 (by decide) ?_
  obtain ⟨r2, er2, h⟩ := bd_s h
  refine kN_j (MP τ m ad r2.1) 24 [.int (r2.2)] ?_ (fun jr2 => ?_)
  · skip
    refine kN_zret dX6_isAlwaysOne_24 rfl h (fun v3 ev3 h => hQ _ _ (by subst ev3; exact rtI (Option.some.inj h)))
  · have h := er2
    refine kx_icmp_ne (tgt := 23) dX6_isAlwaysOne_16 (by decide) (fun c => ?_) (fun c => ?_)
    · have h := if_f c h
      refine kx_iconst (v := 0) dX6_isAlwaysOne_23 (by decide) ?_
      exact jnI h jr2
    · have h := if_t c h
      refine kx_iconst (v := 1) dX6_isAlwaysOne_19 (by decide) ?_
      refine kx_goto (tgt := 24) dX6_isAlwaysOne_20 (by decide) ?_
      exact jnI h jr2
set_option maxHeartbeats 4000000 in
theorem mL_pushFlag_3 {G : KG} {τ : KHp} {m : Nat} {ad : Nat → Nat} {Q : KQ} {X : KX} {y1 : Int32} {y2 : Int32} {a0 : TS × Int32} {z : TS} (hd : Md m ad) (h : loopN (fun w : TS × Int32 => B_pushFlag_3 y1 y2 w.1 w.2) 9000 a0 = some z) (kk : kx G (yX6_pushFlag.cls, cX6_pushFlag, 4, (Option.none : Option Jvm.ClassFile.FieldType), false, []) (2, 0, 0, Q, X) 0 0 (MP τ m ad z) 33 (kF [(0, .ref m), (1, .int (y1)), (2, .int (y2))]) []) : kx G (yX6_pushFlag.cls, cX6_pushFlag, 4, (Option.none : Option Jvm.ClassFile.FieldType), false, []) (2, 0, 0, Q, X) 0 0 (MP τ m ad a0.1) 3 (kF [(0, .ref m), (1, .int (y1)), (2, .int (y2)), (3, .int (a0.2))]) [] := by
  refine loopK_1_0 (B := B_pushFlag_3 y1 y2) (fun (a : TS) (a3 : Int32) => kx G (yX6_pushFlag.cls, cX6_pushFlag, 4, (Option.none : Option Jvm.ClassFile.FieldType), false, []) (2, 0, 0, Q, X) 0 0 (MP τ m ad a) 3 (kF [(0, .ref m), (1, .int (y1)), (2, .int (y2)), (3, .int (a3))]) []) (fun (b : TS) => kx G (yX6_pushFlag.cls, cX6_pushFlag, 4, (Option.none : Option Jvm.ClassFile.FieldType), false, []) (2, 0, 0, Q, X) 0 0 (MP τ m ad b) 33 (kF [(0, .ref m), (1, .int (y1)), (2, .int (y2))]) []) (fun a a3 r h kI kE => ?_) _ _ _ h kk
  · unfold B_pushFlag_3 at h
    refine kx_iload_n dX6_pushFlag_3 rfl rfl ?_
    refine kx_if_le (tgt := 33) dX6_pushFlag_4 (by decide) (fun c => ?_) (fun c => ?_)
    · have h := if_t c h
      exact kx_lwF [(0, .ref m), (1, .int (y1)), (2, .int (y2))] ⟨rfl, rfl, rfl, trivial⟩ (kE (a) (Option.some.inj h).symm)
    · have h := if_f c h
      refine kx_aload_n dX6_pushFlag_7 rfl rfl ?_
      refine kx_iload_n dX6_pushFlag_8 rfl rfl ?_
      refine kx_bipush (v := 16) dX6_pushFlag_9 (by decide) ?_
      refine kx_iload_n dX6_pushFlag_11 rfl rfl ?_
      refine kx_iadd dX6_pushFlag_12 ?_
      refine kx_aload_n dX6_pushFlag_13 rfl rfl ?_
      refine kx_iload_n dX6_pushFlag_14 rfl rfl ?_
      refine kx_bipush (v := 16) dX6_pushFlag_15 (by decide) ?_
      refine kx_iload_n dX6_pushFlag_17 rfl rfl ?_
      refine kx_iadd dX6_pushFlag_18 ?_
      refine kx_iconst (v := 1) dX6_pushFlag_19 (by decide) ?_
      refine kx_isub dX6_pushFlag_20 ?_
      obtain ⟨r3001, er3001, h⟩ := bd_s h
      refine kx_callV dX6_pushFlag_21 lk_X6_70 (mM_ofBranch hd er3001) rfl kN_rc rfl (Nat.le_of_ble_eq_true rfl) (Nat.le_of_ble_eq_true rfl) (Nat.le_of_ble_eq_true rfl) (Nat.le_of_ble_eq_true rfl) (Nat.le_of_ble_eq_true rfl) (fun _ _ _ h => h.elim) (fun w_ σ_ hq => ?_)
      obtain ⟨rfl, rfl⟩ := hq
      obtain ⟨r3002, er3002, h⟩ := bd_s h
      refine kx_callV dX6_pushFlag_24 lk_X6_270 (mM_setBranch hd er3002) rfl kN_rc rfl (Nat.le_of_ble_eq_true rfl) (Nat.le_of_ble_eq_true rfl) (Nat.le_of_ble_eq_true rfl) (Nat.le_of_ble_eq_true rfl) (Nat.le_of_ble_eq_true rfl) (fun _ _ _ h => h.elim) (fun w_ σ_ hq => ?_)
      obtain ⟨rfl, rfl⟩ := hq
      refine kx_iinc2 (v := -1) dX6_pushFlag_27 rfl (by decide) ?_
      refine kx_goto (tgt := 3) dX6_pushFlag_30 (by decide) ?_
      exact kx_lwF [(0, .ref m), (1, .int (y1)), (2, .int (y2)), (3, .int ((a3 + (-1 : Int32))))] ⟨rfl, rfl, rfl, rfl, trivial⟩ (kI (r3002) ((a3 + (-1 : Int32))) (Option.some.inj h).symm)
set_option maxHeartbeats 4000000 in
theorem mM_pushFlag {G : KG} {τ : KHp} {m : Nat} {ad : Nat → Nat} {s : TS} {x1 : Int32} {x2 : Int32} {z : TS} (hd : Md m ad) (h : P_pushFlag s x1 x2 = some z) : kx_c G yX6_pushFlag (ws_ yX6_pushFlag cX6_pushFlag 4 (Option.none : Option Jvm.ClassFile.FieldType)) 2 0 0 [.ref m, .int (x1), .int (x2)] (MP τ m ad s) (fun rv σ' => rv = none ∧ σ' = MP τ m ad z) kx_n := by
  refine kx_mk3 (ini := false) rfl (Nat.le_of_ble_eq_true rfl) (fun h => by cases h) (fun Q X hQ hX => ?_)
  unfold P_pushFlag at h
  refine kx_bipush (v := 63) dX6_pushFlag_0 (by decide) ?_
  refine kx_istore_n dX6_pushFlag_2 rfl (Nat.le_of_ble_eq_true rfl) ?_
  obtain ⟨b1, eb1, h⟩ := bd_s h
  refine kx_lwF [(0, .ref m), (1, .int (x1)), (2, .int (x2)), (3, .int ((63 : Int32)))] ⟨rfl, rfl, rfl, rfl, trivial⟩ (mL_pushFlag_3 hd (a0 := (s, (63 : Int32))) eb1 ?_)
  refine kx_aload_n dX6_pushFlag_33 rfl rfl ?_
  refine kx_iload_n dX6_pushFlag_34 rfl rfl ?_
  refine kx_bipush (v := 16) dX6_pushFlag_35 (by decide) ?_
  refine kx_iload_n dX6_pushFlag_37 rfl rfl ?_
  obtain ⟨r2, er2, h⟩ := bd_s h
  refine kN_j (MP τ m ad r2.1) 46 [.int (r2.2), .int ((16 : Int32)), .int (x1), .ref m] ?_ (fun jr2 => ?_)
  · skip
    obtain ⟨r3, er3, h⟩ := bd_s h
    refine kx_callV dX6_pushFlag_46 lk_X6_270 (mM_setBranch hd er3) rfl kN_rc rfl (Nat.le_of_ble_eq_true rfl) (Nat.le_of_ble_eq_true rfl) (Nat.le_of_ble_eq_true rfl) (Nat.le_of_ble_eq_true rfl) (Nat.le_of_ble_eq_true rfl) (fun _ _ _ h => h.elim) (fun w_ σ_ hq => ?_)
    obtain ⟨rfl, rfl⟩ := hq
    refine kx_aload_n dX6_pushFlag_49 rfl rfl ?_
    refine kx_iload_n dX6_pushFlag_50 rfl rfl ?_
    refine kx_iconst (v := 5) dX6_pushFlag_51 (by decide) ?_
    refine kx_bipush (v := 64) dX6_pushFlag_52 (by decide) ?_
    refine kx_aload_n dX6_pushFlag_54 rfl rfl ?_
    refine kx_iload_n dX6_pushFlag_55 rfl rfl ?_
    refine kx_iconst (v := 5) dX6_pushFlag_56 (by decide) ?_
    obtain ⟨r4, er4, h⟩ := bd_s h
    refine kx_callV dX6_pushFlag_57 lk_X6_70 (mM_ofBranch hd er4) rfl kN_rc rfl (Nat.le_of_ble_eq_true rfl) (Nat.le_of_ble_eq_true rfl) (Nat.le_of_ble_eq_true rfl) (Nat.le_of_ble_eq_true rfl) (Nat.le_of_ble_eq_true rfl) (fun _ _ _ h => h.elim) (fun w_ σ_ hq => ?_)
    obtain ⟨rfl, rfl⟩ := hq
    refine kx_iconst (v := 1) dX6_pushFlag_60 (by decide) ?_
    refine kx_iadd dX6_pushFlag_61 ?_
    refine kx_callS dX6_pushFlag_62 lk_X6_120 mJ_min rfl rfl (Nat.le_of_ble_eq_true rfl) (Nat.le_of_ble_eq_true rfl) (Nat.le_of_ble_eq_true rfl) (Nat.le_of_ble_eq_true rfl) (Nat.le_of_ble_eq_true rfl) (fun _ _ _ h => h.elim) (fun w_ σ_ hq => ?_)
    obtain ⟨rfl, rfl⟩ := hq
    obtain ⟨r5, er5, h⟩ := bd_s h
    refine kx_callV dX6_pushFlag_65 lk_X6_270 (mM_setBranch hd er5) rfl kN_rc rfl (Nat.le_of_ble_eq_true rfl) (Nat.le_of_ble_eq_true rfl) (Nat.le_of_ble_eq_true rfl) (Nat.le_of_ble_eq_true rfl) (Nat.le_of_ble_eq_true rfl) (fun _ _ _ h => h.elim) (fun w_ σ_ hq => ?_)
    obtain ⟨rfl, rfl⟩ := hq
    refine kx_aload_n dX6_pushFlag_68 rfl rfl ?_
    refine kx_iload_n dX6_pushFlag_69 rfl rfl ?_
    refine kx_bipush (v := 8) dX6_pushFlag_70 (by decide) ?_
    refine kx_iload_n dX6_pushFlag_72 rfl rfl ?_
    obtain ⟨r6, er6, h⟩ := bd_s h
    refine kN_j (MP τ m ad r6.1) 81 [.int (r6.2), .int ((8 : Int32)), .int (x1), .ref m] ?_ (fun jr6 => ?_)
    · skip
      obtain ⟨r7, er7, h⟩ := bd_s h
      refine kx_callV dX6_pushFlag_81 lk_X6_270 (mM_setBranch hd er7) rfl kN_rc rfl (Nat.le_of_ble_eq_true rfl) (Nat.le_of_ble_eq_true rfl) (Nat.le_of_ble_eq_true rfl) (Nat.le_of_ble_eq_true rfl) (Nat.le_of_ble_eq_true rfl) (fun _ _ _ h => h.elim) (fun w_ σ_ hq => ?_)
      obtain ⟨rfl, rfl⟩ := hq
      exact kx_vret dX6_pushFlag_84 rfl (hQ _ _ (rtV (Option.some.inj h)))
    · have h := er6
      refine kx_if_eq (tgt := 80) dX6_pushFlag_73 (by decide) (fun c => ?_) (fun c => ?_)
      · have h := if_t c h
        refine kx_iconst (v := 0) dX6_pushFlag_80 (by decide) ?_
        exact jnI h jr6
      · have h := if_f c h
        refine kx_iconst (v := 1) dX6_pushFlag_76 (by decide) ?_
        refine kx_goto (tgt := 81) dX6_pushFlag_77 (by decide) ?_
        exact jnI h jr6
  · have h := er2
    refine kx_if_eq (tgt := 45) dX6_pushFlag_38 (by decide) (fun c => ?_) (fun c => ?_)
    · have h := if_t c h
      refine kx_iconst (v := 0) dX6_pushFlag_45 (by decide) ?_
      exact jnI h jr2
    · have h := if_f c h
      refine kx_iconst (v := 1) dX6_pushFlag_41 (by decide) ?_
      refine kx_goto (tgt := 46) dX6_pushFlag_42 (by decide) ?_
      exact jnI h jr2
set_option maxHeartbeats 4000000 in
theorem mM_windowOf {G : KG} {τ : KHp} {m : Nat} {ad : Nat → Nat} {s : TS} {x1 : Int32} {z : TS × Int32} (hd : Md m ad) (h : P_windowOf s x1 = some z) : kx_c G yX6_windowOf (ws_ yX6_windowOf cX6_windowOf 2 (Option.some Jvm.ClassFile.FieldType.int)) 2 0 0 [.ref m, .int (x1)] (MP τ m ad s) (fun rv σ' => rv = some (.int z.2) ∧ σ' = MP τ m ad z.1) kx_n := by
  refine kx_mk3 (ini := false) rfl (Nat.le_of_ble_eq_true rfl) (fun h => by cases h) (fun Q X hQ hX => ?_)
  unfold P_windowOf at h
  refine kx_aload_n dX6_windowOf_0 rfl rfl ?_
  refine kx_getf dX6_windowOf_1 fl_X6_17_X6 kN_m rfl ?_
  refine kx_iconst (v := 1) dX6_windowOf_4 (by decide) ?_
  refine kN_ald hd dX6_windowOf_5 h (fun v1 ev1 h => ?_)
  refine kx_aload_n dX6_windowOf_6 rfl rfl ?_
  refine kx_iload_n dX6_windowOf_7 rfl rfl ?_
  refine kx_iconst (v := 5) dX6_windowOf_8 (by decide) ?_
  obtain ⟨r2, er2, h⟩ := bd_s h
  refine kx_callV dX6_windowOf_9 lk_X6_70 (mM_ofBranch hd er2) rfl kN_rc rfl (Nat.le_of_ble_eq_true rfl) (Nat.le_of_ble_eq_true rfl) (Nat.le_of_ble_eq_true rfl) (Nat.le_of_ble_eq_true rfl) (Nat.le_of_ble_eq_true rfl) (fun _ _ _ h => h.elim) (fun w_ σ_ hq => ?_)
  obtain ⟨rfl, rfl⟩ := hq
  refine kx_callS dX6_windowOf_12 lk_X6_120 mJ_min rfl rfl (Nat.le_of_ble_eq_true rfl) (Nat.le_of_ble_eq_true rfl) (Nat.le_of_ble_eq_true rfl) (Nat.le_of_ble_eq_true rfl) (Nat.le_of_ble_eq_true rfl) (fun _ _ _ h => h.elim) (fun w_ σ_ hq => ?_)
  obtain ⟨rfl, rfl⟩ := hq
  exact kx_iret dX6_windowOf_15 rfl (hQ _ _ (rtI (Option.some.inj h)))
set_option maxHeartbeats 4000000 in
theorem mL_suspectsOf_5 {G : KG} {τ : KHp} {m : Nat} {ad : Nat → Nat} {Q : KQ} {X : KX} {y1 : Int32} {y2 : Int32} {a0 : TS × Int32 × Int32} {z : TS × Int32} (hd : Md m ad) (h : loopN (fun w : TS × Int32 × Int32 => B_suspectsOf_5 y1 y2 w.1 w.2.1 w.2.2) 9000 a0 = some z) (kk : kx G (yX6_suspectsOf.cls, cX6_suspectsOf, 5, (Option.some Jvm.ClassFile.FieldType.int), false, []) (2, 0, 0, Q, X) 0 0 (MP τ m ad z.1) 30 (kF [(3, .int (z.2))]) []) : kx G (yX6_suspectsOf.cls, cX6_suspectsOf, 5, (Option.some Jvm.ClassFile.FieldType.int), false, []) (2, 0, 0, Q, X) 0 0 (MP τ m ad a0.1) 5 (kF [(0, .ref m), (1, .int (y1)), (2, .int (y2)), (3, .int (a0.2.1)), (4, .int (a0.2.2))]) [] := by
  refine loopK_2_1 (B := B_suspectsOf_5 y1 y2) (fun (a : TS) (a3 : Int32) (a4 : Int32) => kx G (yX6_suspectsOf.cls, cX6_suspectsOf, 5, (Option.some Jvm.ClassFile.FieldType.int), false, []) (2, 0, 0, Q, X) 0 0 (MP τ m ad a) 5 (kF [(0, .ref m), (1, .int (y1)), (2, .int (y2)), (3, .int (a3)), (4, .int (a4))]) []) (fun (b : TS) (b3 : Int32) => kx G (yX6_suspectsOf.cls, cX6_suspectsOf, 5, (Option.some Jvm.ClassFile.FieldType.int), false, []) (2, 0, 0, Q, X) 0 0 (MP τ m ad b) 30 (kF [(3, .int (b3))]) []) (fun a a3 a4 r h kI kE => ?_) _ _ _ h kk
  · unfold B_suspectsOf_5 at h
    refine kx_iload dX6_suspectsOf_5 rfl ?_
    refine kx_iload_n dX6_suspectsOf_7 rfl rfl ?_
    refine kx_icmp_ge (tgt := 30) dX6_suspectsOf_8 (by decide) (fun c => ?_) (fun c => ?_)
    · have h := if_t c h
      exact kx_lwF [(3, .int (a3))] ⟨rfl, trivial⟩ (kE (a) (a3) (Option.some.inj h).symm)
    · have h := if_f c h
      refine kx_iload_n dX6_suspectsOf_11 rfl rfl ?_
      refine kx_aload_n dX6_suspectsOf_12 rfl rfl ?_
      refine kx_iload_n dX6_suspectsOf_13 rfl rfl ?_
      refine kx_bipush (v := 16) dX6_suspectsOf_14 (by decide) ?_
      refine kx_iload dX6_suspectsOf_16 rfl ?_
      refine kx_iadd dX6_suspectsOf_18 ?_
      obtain ⟨r5001, er5001, h⟩ := bd_s h
      refine kx_callV dX6_suspectsOf_19 lk_X6_70 (mM_ofBranch hd er5001) rfl kN_rc rfl (Nat.le_of_ble_eq_true rfl) (Nat.le_of_ble_eq_true rfl) (Nat.le_of_ble_eq_true rfl) (Nat.le_of_ble_eq_true rfl) (Nat.le_of_ble_eq_true rfl) (fun _ _ _ h => h.elim) (fun w_ σ_ hq => ?_)
      obtain ⟨rfl, rfl⟩ := hq
      refine kx_iadd dX6_suspectsOf_22 ?_
      refine kx_istore_n dX6_suspectsOf_23 rfl (Nat.le_of_ble_eq_true rfl) ?_
      refine kx_iinc2 (v := 1) dX6_suspectsOf_24 rfl (by decide) ?_
      refine kx_goto (tgt := 5) dX6_suspectsOf_27 (by decide) ?_
      exact kx_lwF [(0, .ref m), (1, .int (y1)), (2, .int (y2)), (3, .int ((a3 + r5001.2))), (4, .int ((a4 + (1 : Int32))))] ⟨rfl, rfl, rfl, rfl, rfl, trivial⟩ (kI (r5001.1) ((a3 + r5001.2)) ((a4 + (1 : Int32))) (Option.some.inj h).symm)
set_option maxHeartbeats 4000000 in
theorem mM_suspectsOf {G : KG} {τ : KHp} {m : Nat} {ad : Nat → Nat} {s : TS} {x1 : Int32} {x2 : Int32} {z : TS × Int32} (hd : Md m ad) (h : P_suspectsOf s x1 x2 = some z) : kx_c G yX6_suspectsOf (ws_ yX6_suspectsOf cX6_suspectsOf 5 (Option.some Jvm.ClassFile.FieldType.int)) 2 0 0 [.ref m, .int (x1), .int (x2)] (MP τ m ad s) (fun rv σ' => rv = some (.int z.2) ∧ σ' = MP τ m ad z.1) kx_n := by
  refine kx_mk3 (ini := false) rfl (Nat.le_of_ble_eq_true rfl) (fun h => by cases h) (fun Q X hQ hX => ?_)
  unfold P_suspectsOf at h
  refine kx_iconst (v := 0) dX6_suspectsOf_0 (by decide) ?_
  refine kx_istore_n dX6_suspectsOf_1 rfl (Nat.le_of_ble_eq_true rfl) ?_
  refine kx_iconst (v := 0) dX6_suspectsOf_2 (by decide) ?_
  refine kx_istore dX6_suspectsOf_3 (Nat.le_of_ble_eq_true rfl) ?_
  obtain ⟨b1, eb1, h⟩ := bd_s h
  refine kx_lwF [(0, .ref m), (1, .int (x1)), (2, .int (x2)), (3, .int ((0 : Int32))), (4, .int ((0 : Int32)))] ⟨rfl, rfl, rfl, rfl, rfl, trivial⟩ (mL_suspectsOf_5 hd (a0 := (s, (0 : Int32), (0 : Int32))) eb1 ?_)
  refine kx_iload_n dX6_suspectsOf_30 rfl rfl ?_
  exact kx_iret dX6_suspectsOf_31 rfl (hQ _ _ (rtI (Option.some.inj h)))
set_option maxHeartbeats 4000000 in
theorem mL_bitCount_4 {G : KG} {τ : KHp} {m : Nat} {ad : Nat → Nat} {Q : KQ} {X : KX} {y0 : Int32} {a0 : TS × Int32 × Int32} {z : TS × Int32} (hd : Md m ad) (h : loopN (fun w : TS × Int32 × Int32 => B_bitCount_4 y0 w.1 w.2.1 w.2.2) 9000 a0 = some z) (kk : kx G (yX6_bitCount.cls, cX6_bitCount, 3, (Option.some Jvm.ClassFile.FieldType.int), false, []) (1, 0, 0, Q, X) 0 0 (MP τ m ad z.1) 23 (kF [(1, .int (z.2))]) []) : kx G (yX6_bitCount.cls, cX6_bitCount, 3, (Option.some Jvm.ClassFile.FieldType.int), false, []) (1, 0, 0, Q, X) 0 0 (MP τ m ad a0.1) 4 (kF [(0, .int (y0)), (1, .int (a0.2.1)), (2, .int (a0.2.2))]) [] := by
  refine loopK_2_1 (B := B_bitCount_4 y0) (fun (a : TS) (a1 : Int32) (a2 : Int32) => kx G (yX6_bitCount.cls, cX6_bitCount, 3, (Option.some Jvm.ClassFile.FieldType.int), false, []) (1, 0, 0, Q, X) 0 0 (MP τ m ad a) 4 (kF [(0, .int (y0)), (1, .int (a1)), (2, .int (a2))]) []) (fun (b : TS) (b1 : Int32) => kx G (yX6_bitCount.cls, cX6_bitCount, 3, (Option.some Jvm.ClassFile.FieldType.int), false, []) (1, 0, 0, Q, X) 0 0 (MP τ m ad b) 23 (kF [(1, .int (b1))]) []) (fun a a1 a2 r h kI kE => ?_) _ _ _ h kk
  · unfold B_bitCount_4 at h
    refine kx_iload_n dX6_bitCount_4 rfl rfl ?_
    refine kx_iconst (v := 4) dX6_bitCount_5 (by decide) ?_
    refine kx_icmp_ge (tgt := 23) dX6_bitCount_6 (by decide) (fun c => ?_) (fun c => ?_)
    · have h := if_t c h
      exact kx_lwF [(1, .int (a1))] ⟨rfl, trivial⟩ (kE (a) (a1) (Option.some.inj h).symm)
    · have h := if_f c h
      refine kx_iload_n dX6_bitCount_9 rfl rfl ?_
      refine kx_iload_n dX6_bitCount_10 rfl rfl ?_
      refine kx_iload_n dX6_bitCount_11 rfl rfl ?_
      refine kx_ishr dX6_bitCount_12 ?_
      refine kx_iconst (v := 1) dX6_bitCount_13 (by decide) ?_
      refine kx_iand dX6_bitCount_14 ?_
      refine kx_iadd dX6_bitCount_15 ?_
      refine kx_istore_n dX6_bitCount_16 rfl (Nat.le_of_ble_eq_true rfl) ?_
      refine kx_iinc2 (v := 1) dX6_bitCount_17 rfl (by decide) ?_
      refine kx_goto (tgt := 4) dX6_bitCount_20 (by decide) ?_
      exact kx_lwF [(0, .int (y0)), (1, .int ((a1 + ((y0 >>> (a2 &&& 31)) &&& (1 : Int32))))), (2, .int ((a2 + (1 : Int32))))] ⟨rfl, rfl, rfl, trivial⟩ (kI (a) ((a1 + ((y0 >>> (a2 &&& 31)) &&& (1 : Int32)))) ((a2 + (1 : Int32))) (Option.some.inj h).symm)
set_option maxHeartbeats 4000000 in
theorem mM_bitCount {G : KG} {τ : KHp} {m : Nat} {ad : Nat → Nat} {s : TS} {x0 : Int32} {z : TS × Int32} (hd : Md m ad) (h : P_bitCount s x0 = some z) : kx_c G yX6_bitCount (ws_ yX6_bitCount cX6_bitCount 3 (Option.some Jvm.ClassFile.FieldType.int)) 1 0 0 [.int (x0)] (MP τ m ad s) (fun rv σ' => rv = some (.int z.2) ∧ σ' = MP τ m ad z.1) kx_n := by
  refine kx_mk3 (ini := false) rfl (Nat.le_of_ble_eq_true rfl) (fun h => by cases h) (fun Q X hQ hX => ?_)
  unfold P_bitCount at h
  refine kx_iconst (v := 0) dX6_bitCount_0 (by decide) ?_
  refine kx_istore_n dX6_bitCount_1 rfl (Nat.le_of_ble_eq_true rfl) ?_
  refine kx_iconst (v := 0) dX6_bitCount_2 (by decide) ?_
  refine kx_istore_n dX6_bitCount_3 rfl (Nat.le_of_ble_eq_true rfl) ?_
  obtain ⟨b1, eb1, h⟩ := bd_s h
  refine kx_lwF [(0, .int (x0)), (1, .int ((0 : Int32))), (2, .int ((0 : Int32)))] ⟨rfl, rfl, rfl, trivial⟩ (mL_bitCount_4 hd (a0 := (s, (0 : Int32), (0 : Int32))) eb1 ?_)
  refine kx_iload_n dX6_bitCount_23 rfl rfl ?_
  exact kx_iret dX6_bitCount_24 rfl (hQ _ _ (rtI (Option.some.inj h)))
set_option maxHeartbeats 4000000 in
theorem mM_hasHad {G : KG} {τ : KHp} {m : Nat} {ad : Nat → Nat} {s : TS} {x1 : Int32} {z : TS × Int32} (hd : Md m ad) (h : P_hasHad s x1 = some z) : kx_c G yX6_hasHad (ws_ yX6_hasHad cX6_hasHad 2 (Option.some Jvm.ClassFile.FieldType.boolean)) 2 0 0 [.ref m, .int (x1)] (MP τ m ad s) (fun rv σ' => rv = some (.int z.2) ∧ σ' = MP τ m ad z.1) kx_n := by
  refine kx_mk3 (ini := false) rfl (Nat.le_of_ble_eq_true rfl) (fun h => by cases h) (fun Q X hQ hX => ?_)
  unfold P_hasHad at h
  refine kx_aload_n dX6_hasHad_0 rfl rfl ?_
  refine kx_iload_n dX6_hasHad_1 rfl rfl ?_
  refine kx_iconst (v := 4) dX6_hasHad_2 (by decide) ?_
  obtain ⟨r1, er1, h⟩ := bd_s h
  refine kx_callV dX6_hasHad_3 lk_X6_70 (mM_ofBranch hd er1) rfl kN_rc rfl (Nat.le_of_ble_eq_true rfl) (Nat.le_of_ble_eq_true rfl) (Nat.le_of_ble_eq_true rfl) (Nat.le_of_ble_eq_true rfl) (Nat.le_of_ble_eq_true rfl) (fun _ _ _ h => h.elim) (fun w_ σ_ hq => ?_)
  obtain ⟨rfl, rfl⟩ := hq
  refine kx_iconst (v := 1) dX6_hasHad_6 (by decide) ?_
  obtain ⟨r2, er2, h⟩ := bd_s h
  refine kN_j (MP τ m ad r2.1) 15 [.int (r2.2)] ?_ (fun jr2 => ?_)
  · skip
    refine kN_zret dX6_hasHad_15 rfl h (fun v3 ev3 h => hQ _ _ (by subst ev3; exact rtI (Option.some.inj h)))
  · have h := er2
    refine kx_icmp_ne (tgt := 14) dX6_hasHad_7 (by decide) (fun c => ?_) (fun c => ?_)
    · have h := if_f c h
      refine kx_iconst (v := 0) dX6_hasHad_14 (by decide) ?_
      exact jnI h jr2
    · have h := if_t c h
      refine kx_iconst (v := 1) dX6_hasHad_10 (by decide) ?_
      refine kx_goto (tgt := 15) dX6_hasHad_11 (by decide) ?_
      exact jnI h jr2
set_option maxHeartbeats 4000000 in
theorem mM_isFeature {G : KG} {τ : KHp} {m : Nat} {ad : Nat → Nat} {s : TS} {x0 : Int32} {z : TS × Int32} (hd : Md m ad) (h : P_isFeature s x0 = some z) : kx_c G yX6_isFeature (ws_ yX6_isFeature cX6_isFeature 1 (Option.some Jvm.ClassFile.FieldType.boolean)) 2 0 0 [.int (x0)] (MP τ m ad s) (fun rv σ' => rv = some (.int z.2) ∧ σ' = MP τ m ad z.1) kx_n := by
  refine kx_mk3 (ini := false) rfl (Nat.le_of_ble_eq_true rfl) (fun h => by cases h) (fun Q X hQ hX => ?_)
  unfold P_isFeature at h
  refine kx_iload_n dX6_isFeature_0 rfl rfl ?_
  refine kx_i2l dX6_isFeature_1 rfl ?_
  refine kx_lconst (v := 0) dX6_isFeature_2 (by decide) ?_
  refine kx_ldc2 dX6_isFeature_3 q3260 ?_
  obtain ⟨r1, er1, h⟩ := bd_s h
  refine kx_callS dX6_isFeature_6 lk_X6_66 (mM_in hd er1) rfl rfl (Nat.le_of_ble_eq_true rfl) (Nat.le_of_ble_eq_true rfl) (Nat.le_of_ble_eq_true rfl) (Nat.le_of_ble_eq_true rfl) (Nat.le_of_ble_eq_true rfl) (fun _ _ _ h => h.elim) (fun w_ σ_ hq => ?_)
  obtain ⟨rfl, rfl⟩ := hq
  refine kN_zret dX6_isFeature_9 rfl h (fun v2 ev2 h => hQ _ _ (by subst ev2; exact rtI (Option.some.inj h)))
set_option maxHeartbeats 4000000 in
theorem mM_wasSuspect {G : KG} {τ : KHp} {m : Nat} {ad : Nat → Nat} {s : TS} {x1 : Int32} {x2 : Int32} {z : TS × Int32} (hd : Md m ad) (h : P_wasSuspect s x1 x2 = some z) : kx_c G yX6_wasSuspect (ws_ yX6_wasSuspect cX6_wasSuspect 3 (Option.some Jvm.ClassFile.FieldType.boolean)) 3 0 0 [.ref m, .int (x1), .int (x2)] (MP τ m ad s) (fun rv σ' => rv = some (.int z.2) ∧ σ' = MP τ m ad z.1) kx_n := by
  refine kx_mk3 (ini := false) rfl (Nat.le_of_ble_eq_true rfl) (fun h => by cases h) (fun Q X hQ hX => ?_)
  unfold P_wasSuspect at h
  refine kx_aload_n dX6_wasSuspect_0 rfl rfl ?_
  refine kx_aload_n dX6_wasSuspect_1 rfl rfl ?_
  refine kx_iload_n dX6_wasSuspect_2 rfl rfl ?_
  obtain ⟨r1, er1, h⟩ := bd_s h
  refine kx_callV dX6_wasSuspect_3 lk_X6_329 (mM_isBranch hd er1) rfl kN_rc rfl (Nat.le_of_ble_eq_true rfl) (Nat.le_of_ble_eq_true rfl) (Nat.le_of_ble_eq_true rfl) (Nat.le_of_ble_eq_true rfl) (Nat.le_of_ble_eq_true rfl) (fun _ _ _ h => h.elim) (fun w_ σ_ hq => ?_)
  obtain ⟨rfl, rfl⟩ := hq
  refine kx_iload_n dX6_wasSuspect_6 rfl rfl ?_
  refine kx_i2l dX6_wasSuspect_7 rfl ?_
  refine kx_lconst (v := 0) dX6_wasSuspect_8 (by decide) ?_
  refine kx_ldc2 dX6_wasSuspect_9 q3281 ?_
  obtain ⟨r2, er2, h⟩ := bd_s h
  refine kx_callS dX6_wasSuspect_12 lk_X6_66 (mM_in hd er2) rfl rfl (Nat.le_of_ble_eq_true rfl) (Nat.le_of_ble_eq_true rfl) (Nat.le_of_ble_eq_true rfl) (Nat.le_of_ble_eq_true rfl) (Nat.le_of_ble_eq_true rfl) (fun _ _ _ h => h.elim) (fun w_ σ_ hq => ?_)
  obtain ⟨rfl, rfl⟩ := hq
  obtain ⟨r3, er3, h⟩ := bd_s h
  refine kx_callV dX6_wasSuspect_15 lk_X6_338 (mM_passes2 hd er3) rfl kN_rc rfl (Nat.le_of_ble_eq_true rfl) (Nat.le_of_ble_eq_true rfl) (Nat.le_of_ble_eq_true rfl) (Nat.le_of_ble_eq_true rfl) (Nat.le_of_ble_eq_true rfl) (fun _ _ _ h => h.elim) (fun w_ σ_ hq => ?_)
  obtain ⟨rfl, rfl⟩ := hq
  obtain ⟨r4, er4, h⟩ := bd_s h
  refine kN_j (MP τ m ad r4.1) 48 [.int (r4.2)] ?_ (fun jr4 => ?_)
  · skip
    refine kN_zret dX6_wasSuspect_48 rfl h (fun v7 ev7 h => hQ _ _ (by subst ev7; exact rtI (Option.some.inj h)))
  · have h := er4
    refine kx_if_eq (tgt := 47) dX6_wasSuspect_18 (by decide) (fun c => ?_) (fun c => ?_)
    · have h := if_t c h
      refine kx_iconst (v := 0) dX6_wasSuspect_47 (by decide) ?_
      exact jnI h jr4
    · have h := if_f c h
      refine kx_iload_n dX6_wasSuspect_21 rfl rfl ?_
      refine kx_aload_n dX6_wasSuspect_22 rfl rfl ?_
      refine kx_iload_n dX6_wasSuspect_23 rfl rfl ?_
      obtain ⟨r5, er5, h⟩ := bd_s h
      refine kx_callV dX6_wasSuspect_24 lk_X6_405 (mM_windowOf hd er5) rfl kN_rc rfl (Nat.le_of_ble_eq_true rfl) (Nat.le_of_ble_eq_true rfl) (Nat.le_of_ble_eq_true rfl) (Nat.le_of_ble_eq_true rfl) (Nat.le_of_ble_eq_true rfl) (fun _ _ _ h => h.elim) (fun w_ σ_ hq => ?_)
      obtain ⟨rfl, rfl⟩ := hq
      refine kx_icmp_ge (tgt := 47) dX6_wasSuspect_27 (by decide) (fun c => ?_) (fun c => ?_)
      · have h := if_t c h
        refine kx_iconst (v := 0) dX6_wasSuspect_47 (by decide) ?_
        exact jnI h jr4
      · have h := if_f c h
        refine kx_aload_n dX6_wasSuspect_30 rfl rfl ?_
        refine kx_iload_n dX6_wasSuspect_31 rfl rfl ?_
        refine kx_bipush (v := 16) dX6_wasSuspect_32 (by decide) ?_
        refine kx_iload_n dX6_wasSuspect_34 rfl rfl ?_
        refine kx_iadd dX6_wasSuspect_35 ?_
        obtain ⟨r6, er6, h⟩ := bd_s h
        refine kx_callV dX6_wasSuspect_36 lk_X6_70 (mM_ofBranch hd er6) rfl kN_rc rfl (Nat.le_of_ble_eq_true rfl) (Nat.le_of_ble_eq_true rfl) (Nat.le_of_ble_eq_true rfl) (Nat.le_of_ble_eq_true rfl) (Nat.le_of_ble_eq_true rfl) (fun _ _ _ h => h.elim) (fun w_ σ_ hq => ?_)
        obtain ⟨rfl, rfl⟩ := hq
        refine kx_iconst (v := 1) dX6_wasSuspect_39 (by decide) ?_
        refine kx_icmp_ne (tgt := 47) dX6_wasSuspect_40 (by decide) (fun c => ?_) (fun c => ?_)
        · have h := if_f c h
          refine kx_iconst (v := 0) dX6_wasSuspect_47 (by decide) ?_
          exact jnI h jr4
        · have h := if_t c h
          refine kx_iconst (v := 1) dX6_wasSuspect_43 (by decide) ?_
          refine kx_goto (tgt := 48) dX6_wasSuspect_44 (by decide) ?_
          exact jnI h jr4
set_option maxHeartbeats 4000000 in
theorem mL_marginOf_12 {G : KG} {τ : KHp} {m : Nat} {ad : Nat → Nat} {Q : KQ} {X : KX} {y1 : Int32} {a0 : TS × Int32} {z : TS × Int32} (hd : Md m ad) (h : loopN (fun w : TS × Int32 => B_marginOf_12 y1 w.1 w.2) 9000 a0 = some z) (kk : kx G (yX6_marginOf.cls, cX6_marginOf, 3, (Option.some Jvm.ClassFile.FieldType.int), false, []) (3, 0, 0, Q, X) 0 0 (MP τ m ad z.1) 51 (kF [(2, .int (z.2))]) []) : kx G (yX6_marginOf.cls, cX6_marginOf, 3, (Option.some Jvm.ClassFile.FieldType.int), false, []) (3, 0, 0, Q, X) 0 0 (MP τ m ad a0.1) 12 (kF [(0, .ref m), (1, .int (y1)), (2, .int (a0.2))]) [] := by
  refine loopK_1_1 (B := B_marginOf_12 y1) (fun (a : TS) (a2 : Int32) => kx G (yX6_marginOf.cls, cX6_marginOf, 3, (Option.some Jvm.ClassFile.FieldType.int), false, []) (3, 0, 0, Q, X) 0 0 (MP τ m ad a) 12 (kF [(0, .ref m), (1, .int (y1)), (2, .int (a2))]) []) (fun (b : TS) (b2 : Int32) => kx G (yX6_marginOf.cls, cX6_marginOf, 3, (Option.some Jvm.ClassFile.FieldType.int), false, []) (3, 0, 0, Q, X) 0 0 (MP τ m ad b) 51 (kF [(2, .int (b2))]) []) (fun a a2 r h kI kE => ?_) _ _ _ h kk
  · unfold B_marginOf_12 at h
    refine kx_iload_n dX6_marginOf_12 rfl rfl ?_
    refine kx_aload_n dX6_marginOf_13 rfl rfl ?_
    refine kx_iload_n dX6_marginOf_14 rfl rfl ?_
    refine kx_aload_n dX6_marginOf_15 rfl rfl ?_
    refine kx_getf dX6_marginOf_16 fl_X6_17_X6 kN_m rfl ?_
    refine kx_iconst (v := 1) dX6_marginOf_19 (by decide) ?_
    refine kN_ald hd dX6_marginOf_20 h (fun v12001 ev12001 h => ?_)
    refine kx_iload_n dX6_marginOf_21 rfl rfl ?_
    refine kx_isub dX6_marginOf_22 ?_
    refine kx_aload_n dX6_marginOf_23 rfl rfl ?_
    refine kx_iload_n dX6_marginOf_24 rfl rfl ?_
    refine kx_iconst (v := 5) dX6_marginOf_25 (by decide) ?_
    obtain ⟨r12002, er12002, h⟩ := bd_s h
    refine kx_callV dX6_marginOf_26 lk_X6_70 (mM_ofBranch hd er12002) rfl kN_rc rfl (Nat.le_of_ble_eq_true rfl) (Nat.le_of_ble_eq_true rfl) (Nat.le_of_ble_eq_true rfl) (Nat.le_of_ble_eq_true rfl) (Nat.le_of_ble_eq_true rfl) (fun _ _ _ h => h.elim) (fun w_ σ_ hq => ?_)
    obtain ⟨rfl, rfl⟩ := hq
    refine kx_callS dX6_marginOf_29 lk_X6_120 mJ_min rfl rfl (Nat.le_of_ble_eq_true rfl) (Nat.le_of_ble_eq_true rfl) (Nat.le_of_ble_eq_true rfl) (Nat.le_of_ble_eq_true rfl) (Nat.le_of_ble_eq_true rfl) (fun _ _ _ h => h.elim) (fun w_ σ_ hq => ?_)
    obtain ⟨rfl, rfl⟩ := hq
    obtain ⟨r12003, er12003, h⟩ := bd_s h
    refine kx_callV dX6_marginOf_32 lk_X6_422 (mM_suspectsOf hd er12003) rfl kN_rc rfl (Nat.le_of_ble_eq_true rfl) (Nat.le_of_ble_eq_true rfl) (Nat.le_of_ble_eq_true rfl) (Nat.le_of_ble_eq_true rfl) (Nat.le_of_ble_eq_true rfl) (fun _ _ _ h => h.elim) (fun w_ σ_ hq => ?_)
    obtain ⟨rfl, rfl⟩ := hq
    refine kx_iadd dX6_marginOf_35 ?_
    refine kx_aload_n dX6_marginOf_36 rfl rfl ?_
    refine kx_getf dX6_marginOf_37 fl_X6_17_X6 kN_m rfl ?_
    refine kx_iconst (v := 2) dX6_marginOf_40 (by decide) ?_
    refine kN_ald hd dX6_marginOf_41 h (fun v12004 ev12004 h => ?_)
    refine kx_icmp_ge (tgt := 51) dX6_marginOf_42 (by decide) (fun c => ?_) (fun c => ?_)
    · have h := if_t c h
      exact kx_lwF [(2, .int (a2))] ⟨rfl, trivial⟩ (kE (r12003.1) (a2) (Option.some.inj h).symm)
    · have h := if_f c h
      refine kx_iinc2 (v := 1) dX6_marginOf_45 rfl (by decide) ?_
      refine kx_goto (tgt := 12) dX6_marginOf_48 (by decide) ?_
      exact kx_lwF [(0, .ref m), (1, .int (y1)), (2, .int ((a2 + (1 : Int32))))] ⟨rfl, rfl, rfl, trivial⟩ (kI (r12003.1) ((a2 + (1 : Int32))) (Option.some.inj h).symm)
set_option maxHeartbeats 4000000 in
theorem mM_marginOf {G : KG} {τ : KHp} {m : Nat} {ad : Nat → Nat} {s : TS} {x1 : Int32} {z : TS × Int32} (hd : Md m ad) (h : P_marginOf s x1 = some z) : kx_c G yX6_marginOf (ws_ yX6_marginOf cX6_marginOf 3 (Option.some Jvm.ClassFile.FieldType.int)) 3 0 0 [.ref m, .int (x1)] (MP τ m ad s) (fun rv σ' => rv = some (.int z.2) ∧ σ' = MP τ m ad z.1) kx_n := by
  refine kx_mk3 (ini := false) rfl (Nat.le_of_ble_eq_true rfl) (fun h => by cases h) (fun Q X hQ hX => ?_)
  unfold P_marginOf at h
  refine kx_aload_n dX6_marginOf_0 rfl rfl ?_
  refine kx_iload_n dX6_marginOf_1 rfl rfl ?_
  obtain ⟨r1, er1, h⟩ := bd_s h
  refine kx_callV dX6_marginOf_2 lk_X6_358 (mM_isClosed hd er1) rfl kN_rc rfl (Nat.le_of_ble_eq_true rfl) (Nat.le_of_ble_eq_true rfl) (Nat.le_of_ble_eq_true rfl) (Nat.le_of_ble_eq_true rfl) (Nat.le_of_ble_eq_true rfl) (fun _ _ _ h => h.elim) (fun w_ σ_ hq => ?_)
  obtain ⟨rfl, rfl⟩ := hq
  refine kx_if_ne (tgt := 10) dX6_marginOf_5 (by decide) (fun c => ?_) (fun c => ?_)
  · have h := if_f c h
    refine kx_iconst (v := 1) dX6_marginOf_10 (by decide) ?_
    refine kx_istore_n dX6_marginOf_11 rfl (Nat.le_of_ble_eq_true rfl) ?_
    obtain ⟨b2, eb2, h⟩ := bd_s h
    refine kx_lwF [(0, .ref m), (1, .int (x1)), (2, .int ((1 : Int32)))] ⟨rfl, rfl, rfl, trivial⟩ (mL_marginOf_12 hd (a0 := (r1.1, (1 : Int32))) eb2 ?_)
    refine kx_iload_n dX6_marginOf_51 rfl rfl ?_
    exact kx_iret dX6_marginOf_52 rfl (hQ _ _ (rtI (Option.some.inj h)))
  · have h := if_t c h
    refine kx_iconst (v := -1) dX6_marginOf_8 (by decide) ?_
    exact kx_iret dX6_marginOf_9 rfl (hQ _ _ (rtI (Option.some.inj h)))
set_option maxHeartbeats 4000000 in
theorem mM_isSignature {G : KG} {τ : KHp} {m : Nat} {ad : Nat → Nat} {s : TS} {x1 : Int32} {z : TS × Int32} (hd : Md m ad) (h : P_isSignature s x1 = some z) : kx_c G yX6_isSignature (ws_ yX6_isSignature cX6_isSignature 2 (Option.some Jvm.ClassFile.FieldType.boolean)) 2 0 0 [.ref m, .int (x1)] (MP τ m ad s) (fun rv σ' => rv = some (.int z.2) ∧ σ' = MP τ m ad z.1) kx_n := by
  refine kx_mk3 (ini := false) rfl (Nat.le_of_ble_eq_true rfl) (fun h => by cases h) (fun Q X hQ hX => ?_)
  unfold P_isSignature at h
  refine kx_iload_n dX6_isSignature_0 rfl rfl ?_
  refine kx_i2l dX6_isSignature_1 rfl ?_
  refine kx_lconst (v := 0) dX6_isSignature_2 (by decide) ?_
  refine kx_aload_n dX6_isSignature_3 rfl rfl ?_
  refine kx_getf dX6_isSignature_4 fl_X6_24_X6 kN_m rfl ?_
  refine kx_iconst (v := 5) dX6_isSignature_7 (by decide) ?_
  refine kN_ald hd dX6_isSignature_8 h (fun v1 ev1 h => ?_)
  refine kx_iconst (v := 1) dX6_isSignature_9 (by decide) ?_
  refine kx_isub dX6_isSignature_10 ?_
  refine kx_i2l dX6_isSignature_11 rfl ?_
  obtain ⟨r2, er2, h⟩ := bd_s h
  refine kx_callS dX6_isSignature_12 lk_X6_66 (mM_in hd er2) rfl rfl (Nat.le_of_ble_eq_true rfl) (Nat.le_of_ble_eq_true rfl) (Nat.le_of_ble_eq_true rfl) (Nat.le_of_ble_eq_true rfl) (Nat.le_of_ble_eq_true rfl) (fun _ _ _ h => h.elim) (fun w_ σ_ hq => ?_)
  obtain ⟨rfl, rfl⟩ := hq
  refine kN_zret dX6_isSignature_15 rfl h (fun v3 ev3 h => hQ _ _ (by subst ev3; exact rtI (Option.some.inj h)))
set_option maxHeartbeats 4000000 in
theorem mM_isNuisance {G : KG} {τ : KHp} {m : Nat} {ad : Nat → Nat} {s : TS} {x1 : Int32} {z : TS × Int32} (hd : Md m ad) (h : P_isNuisance s x1 = some z) : kx_c G yX6_isNuisance (ws_ yX6_isNuisance cX6_isNuisance 2 (Option.some Jvm.ClassFile.FieldType.boolean)) 2 0 0 [.ref m, .int (x1)] (MP τ m ad s) (fun rv σ' => rv = some (.int z.2) ∧ σ' = MP τ m ad z.1) kx_n := by
  refine kx_mk3 (ini := false) rfl (Nat.le_of_ble_eq_true rfl) (fun h => by cases h) (fun Q X hQ hX => ?_)
  unfold P_isNuisance at h
  refine kx_iload_n dX6_isNuisance_0 rfl rfl ?_
  refine kx_i2l dX6_isNuisance_1 rfl ?_
  refine kx_lconst (v := 0) dX6_isNuisance_2 (by decide) ?_
  refine kx_aload_n dX6_isNuisance_3 rfl rfl ?_
  refine kx_getf dX6_isNuisance_4 fl_X6_24_X6 kN_m rfl ?_
  refine kx_bipush (v := 6) dX6_isNuisance_7 (by decide) ?_
  refine kN_ald hd dX6_isNuisance_9 h (fun v1 ev1 h => ?_)
  refine kx_iconst (v := 1) dX6_isNuisance_10 (by decide) ?_
  refine kx_isub dX6_isNuisance_11 ?_
  refine kx_i2l dX6_isNuisance_12 rfl ?_
  obtain ⟨r2, er2, h⟩ := bd_s h
  refine kx_callS dX6_isNuisance_13 lk_X6_66 (mM_in hd er2) rfl rfl (Nat.le_of_ble_eq_true rfl) (Nat.le_of_ble_eq_true rfl) (Nat.le_of_ble_eq_true rfl) (Nat.le_of_ble_eq_true rfl) (Nat.le_of_ble_eq_true rfl) (fun _ _ _ h => h.elim) (fun w_ σ_ hq => ?_)
  obtain ⟨rfl, rfl⟩ := hq
  refine kN_zret dX6_isNuisance_16 rfl h (fun v3 ev3 h => hQ _ _ (by subst ev3; exact rtI (Option.some.inj h)))
set_option maxHeartbeats 4000000 in
theorem mM_layTest {G : KG} {τ : KHp} {m : Nat} {ad : Nat → Nat} {s : TS} {x1 : Int32} {x2 : Int32} {x3 : Int32} {x4 : Int32} {x5 : Int32} {z : TS} (hd : Md m ad) (h : P_layTest s x1 x2 x3 x4 x5 = some z) : kx_c G yX6_layTest (ws_ yX6_layTest cX6_layTest 6 (Option.none : Option Jvm.ClassFile.FieldType)) 1 0 0 [.ref m, .int (x1), .int (x2), .int (x3), .int (x4), .int (x5)] (MP τ m ad s) (fun rv σ' => rv = none ∧ σ' = MP τ m ad z) kx_n := by
  refine kx_mk3 (ini := false) rfl (Nat.le_of_ble_eq_true rfl) (fun h => by cases h) (fun Q X hQ hX => ?_)
  unfold P_layTest at h
  refine kx_aload_n dX6_layTest_0 rfl rfl ?_
  refine kx_getf dX6_layTest_1 fl_X6_17_X6 kN_m rfl ?_
  refine kx_iload_n dX6_layTest_4 rfl rfl ?_
  refine kx_bipush (v := 9) dX6_layTest_5 (by decide) ?_
  refine kx_iadd dX6_layTest_7 ?_
  refine kx_iconst (v := 3) dX6_layTest_8 (by decide) ?_
  refine kx_iload_n dX6_layTest_9 rfl rfl ?_
  refine kx_imul dX6_layTest_10 ?_
  refine kx_iadd dX6_layTest_11 ?_
  refine kx_iload_n dX6_layTest_12 rfl rfl ?_
  refine kN_ast hd dX6_layTest_13 h (fun s1 es1 h => ?_)
  refine kx_aload_n dX6_layTest_14 rfl rfl ?_
  refine kx_getf dX6_layTest_15 fl_X6_17_X6 kN_m rfl ?_
  refine kx_iload_n dX6_layTest_18 rfl rfl ?_
  refine kx_bipush (v := 9) dX6_layTest_19 (by decide) ?_
  refine kx_iadd dX6_layTest_21 ?_
  refine kx_iconst (v := 3) dX6_layTest_22 (by decide) ?_
  refine kx_iload_n dX6_layTest_23 rfl rfl ?_
  refine kx_imul dX6_layTest_24 ?_
  refine kx_iadd dX6_layTest_25 ?_
  refine kx_iconst (v := 1) dX6_layTest_26 (by decide) ?_
  refine kx_iadd dX6_layTest_27 ?_
  refine kx_iload dX6_layTest_28 rfl ?_
  refine kN_ast hd dX6_layTest_30 h (fun s2 es2 h => ?_)
  refine kx_aload_n dX6_layTest_31 rfl rfl ?_
  refine kx_getf dX6_layTest_32 fl_X6_17_X6 kN_m rfl ?_
  refine kx_iload_n dX6_layTest_35 rfl rfl ?_
  refine kx_bipush (v := 9) dX6_layTest_36 (by decide) ?_
  refine kx_iadd dX6_layTest_38 ?_
  refine kx_iconst (v := 3) dX6_layTest_39 (by decide) ?_
  refine kx_iload_n dX6_layTest_40 rfl rfl ?_
  refine kx_imul dX6_layTest_41 ?_
  refine kx_iadd dX6_layTest_42 ?_
  refine kx_iconst (v := 2) dX6_layTest_43 (by decide) ?_
  refine kx_iadd dX6_layTest_44 ?_
  refine kx_iload dX6_layTest_45 rfl ?_
  refine kN_ast hd dX6_layTest_47 h (fun s3 es3 h => ?_)
  exact kx_vret dX6_layTest_48 rfl (hQ _ _ (rtV (Option.some.inj h)))
set_option maxHeartbeats 4000000 in
theorem mM_reset {G : KG} {τ : KHp} {m : Nat} {ad : Nat → Nat} {s : TS} {x1 : Int32} {z : TS × Int32} (hd : Md m ad) (h : P_reset s x1 = some z) : kx_c G yX6_reset (ws_ yX6_reset cX6_reset 2 (Option.some Jvm.ClassFile.FieldType.int)) 3 0 0 [.ref m, .int (x1)] (MP τ m ad s) (fun rv σ' => rv = some (.int z.2) ∧ σ' = MP τ m ad z.1) kx_n := by
  refine kx_mk3 (ini := false) rfl (Nat.le_of_ble_eq_true rfl) (fun h => by cases h) (fun Q X hQ hX => ?_)
  unfold P_reset at h
  refine kx_aload_n dX6_reset_0 rfl rfl ?_
  refine kx_aload_n dX6_reset_1 rfl rfl ?_
  refine kx_iload_n dX6_reset_2 rfl rfl ?_
  obtain ⟨r1, er1, h⟩ := bd_s h
  refine kx_callV dX6_reset_3 lk_X6_329 (mM_isBranch hd er1) rfl kN_rc rfl (Nat.le_of_ble_eq_true rfl) (Nat.le_of_ble_eq_true rfl) (Nat.le_of_ble_eq_true rfl) (Nat.le_of_ble_eq_true rfl) (Nat.le_of_ble_eq_true rfl) (fun _ _ _ h => h.elim) (fun w_ σ_ hq => ?_)
  obtain ⟨rfl, rfl⟩ := hq
  refine kx_aload_n dX6_reset_6 rfl rfl ?_
  refine kx_iload_n dX6_reset_7 rfl rfl ?_
  obtain ⟨r2, er2, h⟩ := bd_s h
  refine kx_callV dX6_reset_8 lk_X6_329 (mM_isBranch hd er2) rfl kN_rc rfl (Nat.le_of_ble_eq_true rfl) (Nat.le_of_ble_eq_true rfl) (Nat.le_of_ble_eq_true rfl) (Nat.le_of_ble_eq_true rfl) (Nat.le_of_ble_eq_true rfl) (fun _ _ _ h => h.elim) (fun w_ σ_ hq => ?_)
  obtain ⟨rfl, rfl⟩ := hq
  obtain ⟨r3, er3, h⟩ := bd_s h
  refine kN_j (MP τ m ad r3.1) 29 [.int (r3.2), .int (r1.2), .ref m] ?_ (fun jr3 => ?_)
  · skip
    obtain ⟨r5, er5, h⟩ := bd_s h
    refine kx_callV dX6_reset_29 lk_X6_338 (mM_passes2 hd er5) rfl kN_rc rfl (Nat.le_of_ble_eq_true rfl) (Nat.le_of_ble_eq_true rfl) (Nat.le_of_ble_eq_true rfl) (Nat.le_of_ble_eq_true rfl) (Nat.le_of_ble_eq_true rfl) (fun _ _ _ h => h.elim) (fun w_ σ_ hq => ?_)
    obtain ⟨rfl, rfl⟩ := hq
    refine kx_if_ne (tgt := 37) dX6_reset_32 (by decide) (fun c => ?_) (fun c => ?_)
    · have h := if_f c h
      refine kx_aload_n dX6_reset_37 rfl rfl ?_
      obtain ⟨r6, er6, h⟩ := bd_s h
      refine kx_callV dX6_reset_38 lk_X6_321 (mM_remember hd er6) rfl kN_rc rfl (Nat.le_of_ble_eq_true rfl) (Nat.le_of_ble_eq_true rfl) (Nat.le_of_ble_eq_true rfl) (Nat.le_of_ble_eq_true rfl) (Nat.le_of_ble_eq_true rfl) (fun _ _ _ h => h.elim) (fun w_ σ_ hq => ?_)
      obtain ⟨rfl, rfl⟩ := hq
      refine kx_aload_n dX6_reset_41 rfl rfl ?_
      refine kx_iload_n dX6_reset_42 rfl rfl ?_
      refine kx_iconst (v := 1) dX6_reset_43 (by decide) ?_
      refine kx_iconst (v := 0) dX6_reset_44 (by decide) ?_
      obtain ⟨r7, er7, h⟩ := bd_s h
      refine kx_callV dX6_reset_45 lk_X6_270 (mM_setBranch hd er7) rfl kN_rc rfl (Nat.le_of_ble_eq_true rfl) (Nat.le_of_ble_eq_true rfl) (Nat.le_of_ble_eq_true rfl) (Nat.le_of_ble_eq_true rfl) (Nat.le_of_ble_eq_true rfl) (fun _ _ _ h => h.elim) (fun w_ σ_ hq => ?_)
      obtain ⟨rfl, rfl⟩ := hq
      refine kx_aload_n dX6_reset_48 rfl rfl ?_
      refine kx_iload_n dX6_reset_49 rfl rfl ?_
      refine kx_iconst (v := 5) dX6_reset_50 (by decide) ?_
      refine kx_iconst (v := 0) dX6_reset_51 (by decide) ?_
      obtain ⟨r8, er8, h⟩ := bd_s h
      refine kx_callV dX6_reset_52 lk_X6_270 (mM_setBranch hd er8) rfl kN_rc rfl (Nat.le_of_ble_eq_true rfl) (Nat.le_of_ble_eq_true rfl) (Nat.le_of_ble_eq_true rfl) (Nat.le_of_ble_eq_true rfl) (Nat.le_of_ble_eq_true rfl) (fun _ _ _ h => h.elim) (fun w_ σ_ hq => ?_)
      obtain ⟨rfl, rfl⟩ := hq
      refine kx_aload_n dX6_reset_55 rfl rfl ?_
      refine kx_iload_n dX6_reset_56 rfl rfl ?_
      refine kx_iconst (v := 2) dX6_reset_57 (by decide) ?_
      obtain ⟨r9, er9, h⟩ := bd_s h
      refine kx_callV dX6_reset_58 lk_X6_70 (mM_ofBranch hd er9) rfl kN_rc rfl (Nat.le_of_ble_eq_true rfl) (Nat.le_of_ble_eq_true rfl) (Nat.le_of_ble_eq_true rfl) (Nat.le_of_ble_eq_true rfl) (Nat.le_of_ble_eq_true rfl) (fun _ _ _ h => h.elim) (fun w_ σ_ hq => ?_)
      obtain ⟨rfl, rfl⟩ := hq
      exact kx_iret dX6_reset_61 rfl (hQ _ _ (rtI (Option.some.inj h)))
    · have h := if_t c h
      refine kx_iconst (v := 0) dX6_reset_35 (by decide) ?_
      exact kx_iret dX6_reset_36 rfl (hQ _ _ (rtI (Option.some.inj h)))
  · have h := er3
    refine kx_if_eq (tgt := 24) dX6_reset_11 (by decide) (fun c => ?_) (fun c => ?_)
    · have h := if_t c h
      refine kx_iconst (v := 1) dX6_reset_24 (by decide) ?_
      refine kx_goto (tgt := 29) dX6_reset_25 (by decide) ?_
      exact jnI h jr3
    · have h := if_f c h
      refine kx_aload_n dX6_reset_14 rfl rfl ?_
      refine kx_iload_n dX6_reset_15 rfl rfl ?_
      refine kx_iconst (v := 1) dX6_reset_16 (by decide) ?_
      obtain ⟨r4, er4, h⟩ := bd_s h
      refine kx_callV dX6_reset_17 lk_X6_70 (mM_ofBranch hd er4) rfl kN_rc rfl (Nat.le_of_ble_eq_true rfl) (Nat.le_of_ble_eq_true rfl) (Nat.le_of_ble_eq_true rfl) (Nat.le_of_ble_eq_true rfl) (Nat.le_of_ble_eq_true rfl) (fun _ _ _ h => h.elim) (fun w_ σ_ hq => ?_)
      obtain ⟨rfl, rfl⟩ := hq
      refine kx_iconst (v := 1) dX6_reset_20 (by decide) ?_
      refine kx_icmp_ne (tgt := 28) dX6_reset_21 (by decide) (fun c => ?_) (fun c => ?_)
      · have h := if_f c h
        refine kx_iconst (v := 0) dX6_reset_28 (by decide) ?_
        exact jnI h jr3
      · have h := if_t c h
        refine kx_iconst (v := 1) dX6_reset_24 (by decide) ?_
        refine kx_goto (tgt := 29) dX6_reset_25 (by decide) ?_
        exact jnI h jr3
set_option maxHeartbeats 4000000 in
theorem mM_test {G : KG} {τ : KHp} {m : Nat} {ad : Nat → Nat} {s : TS} {x1 : Int32} {z : TS × Int32} (hd : Md m ad) (h : P_test s x1 = some z) : kx_c G yX6_test (ws_ yX6_test cX6_test 2 (Option.some Jvm.ClassFile.FieldType.int)) 4 0 0 [.ref m, .int (x1)] (MP τ m ad s) (fun rv σ' => rv = some (.int z.2) ∧ σ' = MP τ m ad z.1) kx_n := by
  refine kx_mk3 (ini := false) rfl (Nat.le_of_ble_eq_true rfl) (fun h => by cases h) (fun Q X hQ hX => ?_)
  unfold P_test at h
  refine kx_aload_n dX6_test_0 rfl rfl ?_
  refine kx_aload_n dX6_test_1 rfl rfl ?_
  refine kx_iload_n dX6_test_2 rfl rfl ?_
  obtain ⟨r1, er1, h⟩ := bd_s h
  refine kx_callV dX6_test_3 lk_X6_329 (mM_isBranch hd er1) rfl kN_rc rfl (Nat.le_of_ble_eq_true rfl) (Nat.le_of_ble_eq_true rfl) (Nat.le_of_ble_eq_true rfl) (Nat.le_of_ble_eq_true rfl) (Nat.le_of_ble_eq_true rfl) (fun _ _ _ h => h.elim) (fun w_ σ_ hq => ?_)
  obtain ⟨rfl, rfl⟩ := hq
  refine kx_aload_n dX6_test_6 rfl rfl ?_
  refine kx_iload_n dX6_test_7 rfl rfl ?_
  obtain ⟨r2, er2, h⟩ := bd_s h
  refine kx_callV dX6_test_8 lk_X6_329 (mM_isBranch hd er2) rfl kN_rc rfl (Nat.le_of_ble_eq_true rfl) (Nat.le_of_ble_eq_true rfl) (Nat.le_of_ble_eq_true rfl) (Nat.le_of_ble_eq_true rfl) (Nat.le_of_ble_eq_true rfl) (fun _ _ _ h => h.elim) (fun w_ σ_ hq => ?_)
  obtain ⟨rfl, rfl⟩ := hq
  obtain ⟨r3, er3, h⟩ := bd_s h
  refine kN_j (MP τ m ad r3.1) 36 [.int (r3.2), .int (r1.2), .ref m] ?_ (fun jr3 => ?_)
  · skip
    obtain ⟨r6, er6, h⟩ := bd_s h
    refine kx_callV dX6_test_36 lk_X6_338 (mM_passes2 hd er6) rfl kN_rc rfl (Nat.le_of_ble_eq_true rfl) (Nat.le_of_ble_eq_true rfl) (Nat.le_of_ble_eq_true rfl) (Nat.le_of_ble_eq_true rfl) (Nat.le_of_ble_eq_true rfl) (fun _ _ _ h => h.elim) (fun w_ σ_ hq => ?_)
    obtain ⟨rfl, rfl⟩ := hq
    refine kx_if_ne (tgt := 44) dX6_test_39 (by decide) (fun c => ?_) (fun c => ?_)
    · have h := if_f c h
      refine kx_aload_n dX6_test_44 rfl rfl ?_
      obtain ⟨r7, er7, h⟩ := bd_s h
      refine kx_callV dX6_test_45 lk_X6_321 (mM_remember hd er7) rfl kN_rc rfl (Nat.le_of_ble_eq_true rfl) (Nat.le_of_ble_eq_true rfl) (Nat.le_of_ble_eq_true rfl) (Nat.le_of_ble_eq_true rfl) (Nat.le_of_ble_eq_true rfl) (fun _ _ _ h => h.elim) (fun w_ σ_ hq => ?_)
      obtain ⟨rfl, rfl⟩ := hq
      refine kx_aload_n dX6_test_48 rfl rfl ?_
      refine kx_iload_n dX6_test_49 rfl rfl ?_
      refine kx_iconst (v := 3) dX6_test_50 (by decide) ?_
      refine kx_iconst (v := 1) dX6_test_51 (by decide) ?_
      obtain ⟨r8, er8, h⟩ := bd_s h
      refine kx_callV dX6_test_52 lk_X6_270 (mM_setBranch hd er8) rfl kN_rc rfl (Nat.le_of_ble_eq_true rfl) (Nat.le_of_ble_eq_true rfl) (Nat.le_of_ble_eq_true rfl) (Nat.le_of_ble_eq_true rfl) (Nat.le_of_ble_eq_true rfl) (fun _ _ _ h => h.elim) (fun w_ σ_ hq => ?_)
      obtain ⟨rfl, rfl⟩ := hq
      refine kx_aload_n dX6_test_55 rfl rfl ?_
      refine kx_iload_n dX6_test_56 rfl rfl ?_
      obtain ⟨r9, er9, h⟩ := bd_s h
      refine kx_callV dX6_test_57 lk_X6_453 (mM_marginOf hd er9) rfl kN_rc rfl (Nat.le_of_ble_eq_true rfl) (Nat.le_of_ble_eq_true rfl) (Nat.le_of_ble_eq_true rfl) (Nat.le_of_ble_eq_true rfl) (Nat.le_of_ble_eq_true rfl) (fun _ _ _ h => h.elim) (fun w_ σ_ hq => ?_)
      obtain ⟨rfl, rfl⟩ := hq
      exact kx_iret dX6_test_60 rfl (hQ _ _ (rtI (Option.some.inj h)))
    · have h := if_t c h
      refine kx_iconst (v := 0) dX6_test_42 (by decide) ?_
      exact kx_iret dX6_test_43 rfl (hQ _ _ (rtI (Option.some.inj h)))
  · have h := er3
    refine kx_if_eq (tgt := 31) dX6_test_11 (by decide) (fun c => ?_) (fun c => ?_)
    · have h := if_t c h
      refine kx_iconst (v := 1) dX6_test_31 (by decide) ?_
      refine kx_goto (tgt := 36) dX6_test_32 (by decide) ?_
      exact jnI h jr3
    · have h := if_f c h
      refine kx_aload_n dX6_test_14 rfl rfl ?_
      refine kx_iload_n dX6_test_15 rfl rfl ?_
      obtain ⟨r4, er4, h⟩ := bd_s h
      refine kx_callV dX6_test_16 lk_X6_358 (mM_isClosed hd er4) rfl kN_rc rfl (Nat.le_of_ble_eq_true rfl) (Nat.le_of_ble_eq_true rfl) (Nat.le_of_ble_eq_true rfl) (Nat.le_of_ble_eq_true rfl) (Nat.le_of_ble_eq_true rfl) (fun _ _ _ h => h.elim) (fun w_ σ_ hq => ?_)
      obtain ⟨rfl, rfl⟩ := hq
      refine kx_if_eq (tgt := 35) dX6_test_19 (by decide) (fun c => ?_) (fun c => ?_)
      · have h := if_t c h
        refine kx_iconst (v := 0) dX6_test_35 (by decide) ?_
        exact jnI h jr3
      · have h := if_f c h
        refine kx_aload_n dX6_test_22 rfl rfl ?_
        refine kx_iload_n dX6_test_23 rfl rfl ?_
        refine kx_iconst (v := 3) dX6_test_24 (by decide) ?_
        obtain ⟨r5, er5, h⟩ := bd_s h
        refine kx_callV dX6_test_25 lk_X6_70 (mM_ofBranch hd er5) rfl kN_rc rfl (Nat.le_of_ble_eq_true rfl) (Nat.le_of_ble_eq_true rfl) (Nat.le_of_ble_eq_true rfl) (Nat.le_of_ble_eq_true rfl) (Nat.le_of_ble_eq_true rfl) (fun _ _ _ h => h.elim) (fun w_ σ_ hq => ?_)
        obtain ⟨rfl, rfl⟩ := hq
        refine kx_if_ne (tgt := 35) dX6_test_28 (by decide) (fun c => ?_) (fun c => ?_)
        · have h := if_f c h
          refine kx_iconst (v := 0) dX6_test_35 (by decide) ?_
          exact jnI h jr3
        · have h := if_t c h
          refine kx_iconst (v := 1) dX6_test_31 (by decide) ?_
          refine kx_goto (tgt := 36) dX6_test_32 (by decide) ?_
          exact jnI h jr3
set_option maxHeartbeats 4000000 in
theorem mL_losePower_11 {G : KG} {τ : KHp} {m : Nat} {ad : Nat → Nat} {Q : KQ} {X : KX}  {a0 : TS × Int32} {z : TS} (hd : Md m ad) (h : loopN (fun w : TS × Int32 => B_losePower_11  w.1 w.2) 9000 a0 = some z) (kk : kx G (yX6_losePower.cls, cX6_losePower, 2, (Option.some Jvm.ClassFile.FieldType.int), false, []) (2, 0, 0, Q, X) 0 0 (MP τ m ad z) 41 (kF [(0, .ref m)]) []) : kx G (yX6_losePower.cls, cX6_losePower, 2, (Option.some Jvm.ClassFile.FieldType.int), false, []) (2, 0, 0, Q, X) 0 0 (MP τ m ad a0.1) 11 (kF [(0, .ref m), (1, .int (a0.2))]) [] := by
  refine loopK_1_0 (B := B_losePower_11 ) (fun (a : TS) (a1 : Int32) => kx G (yX6_losePower.cls, cX6_losePower, 2, (Option.some Jvm.ClassFile.FieldType.int), false, []) (2, 0, 0, Q, X) 0 0 (MP τ m ad a) 11 (kF [(0, .ref m), (1, .int (a1))]) []) (fun (b : TS) => kx G (yX6_losePower.cls, cX6_losePower, 2, (Option.some Jvm.ClassFile.FieldType.int), false, []) (2, 0, 0, Q, X) 0 0 (MP τ m ad b) 41 (kF [(0, .ref m)]) []) (fun a a1 r h kI kE => ?_) _ _ _ h kk
  · unfold B_losePower_11 at h
    refine kx_iload_n dX6_losePower_11 rfl rfl ?_
    refine kx_aload_n dX6_losePower_12 rfl rfl ?_
    refine kx_getf dX6_losePower_13 fl_X6_17_X6 kN_m rfl ?_
    refine kx_iconst (v := 3) dX6_losePower_16 (by decide) ?_
    refine kN_ald hd dX6_losePower_17 h (fun v11001 ev11001 h => ?_)
    refine kx_icmp_ge (tgt := 41) dX6_losePower_18 (by decide) (fun c => ?_) (fun c => ?_)
    · have h := if_t c h
      exact kx_lwF [(0, .ref m)] ⟨rfl, trivial⟩ (kE (a) (Option.some.inj h).symm)
    · have h := if_f c h
      refine kx_aload_n dX6_losePower_21 rfl rfl ?_
      refine kx_iload_n dX6_losePower_22 rfl rfl ?_
      refine kx_iconst (v := 5) dX6_losePower_23 (by decide) ?_
      refine kx_iconst (v := 0) dX6_losePower_24 (by decide) ?_
      obtain ⟨r11002, er11002, h⟩ := bd_s h
      refine kx_callV dX6_losePower_25 lk_X6_270 (mM_setBranch hd er11002) rfl kN_rc rfl (Nat.le_of_ble_eq_true rfl) (Nat.le_of_ble_eq_true rfl) (Nat.le_of_ble_eq_true rfl) (Nat.le_of_ble_eq_true rfl) (Nat.le_of_ble_eq_true rfl) (fun _ _ _ h => h.elim) (fun w_ σ_ hq => ?_)
      obtain ⟨rfl, rfl⟩ := hq
      refine kx_aload_n dX6_losePower_28 rfl rfl ?_
      refine kx_iload_n dX6_losePower_29 rfl rfl ?_
      refine kx_iconst (v := 3) dX6_losePower_30 (by decide) ?_
      refine kx_iconst (v := 0) dX6_losePower_31 (by decide) ?_
      obtain ⟨r11003, er11003, h⟩ := bd_s h
      refine kx_callV dX6_losePower_32 lk_X6_270 (mM_setBranch hd er11003) rfl kN_rc rfl (Nat.le_of_ble_eq_true rfl) (Nat.le_of_ble_eq_true rfl) (Nat.le_of_ble_eq_true rfl) (Nat.le_of_ble_eq_true rfl) (Nat.le_of_ble_eq_true rfl) (fun _ _ _ h => h.elim) (fun w_ σ_ hq => ?_)
      obtain ⟨rfl, rfl⟩ := hq
      refine kx_iinc2 (v := 1) dX6_losePower_35 rfl (by decide) ?_
      refine kx_goto (tgt := 11) dX6_losePower_38 (by decide) ?_
      exact kx_lwF [(0, .ref m), (1, .int ((a1 + (1 : Int32))))] ⟨rfl, rfl, trivial⟩ (kI (r11003) ((a1 + (1 : Int32))) (Option.some.inj h).symm)
set_option maxHeartbeats 4000000 in
theorem mM_losePower {G : KG} {τ : KHp} {m : Nat} {ad : Nat → Nat} {s : TS}  {z : TS × Int32} (hd : Md m ad) (h : P_losePower s  = some z) : kx_c G yX6_losePower (ws_ yX6_losePower cX6_losePower 2 (Option.some Jvm.ClassFile.FieldType.int)) 2 0 0 [.ref m] (MP τ m ad s) (fun rv σ' => rv = some (.int z.2) ∧ σ' = MP τ m ad z.1) kx_n := by
  refine kx_mk3 (ini := false) rfl (Nat.le_of_ble_eq_true rfl) (fun h => by cases h) (fun Q X hQ hX => ?_)
  unfold P_losePower at h
  refine kx_aload_n dX6_losePower_0 rfl rfl ?_
  refine kx_iconst (v := 0) dX6_losePower_1 (by decide) ?_
  refine kN_put dX6_losePower_2 fl_X6_3_X6 (Or.inl rfl) rfl h rfl (fun s1 es1 h => ?_)
  refine kx_aload_n dX6_losePower_5 rfl rfl ?_
  obtain ⟨r2, er2, h⟩ := bd_s h
  refine kx_callV dX6_losePower_6 lk_X6_321 (mM_remember hd er2) rfl kN_rc rfl (Nat.le_of_ble_eq_true rfl) (Nat.le_of_ble_eq_true rfl) (Nat.le_of_ble_eq_true rfl) (Nat.le_of_ble_eq_true rfl) (Nat.le_of_ble_eq_true rfl) (fun _ _ _ h => h.elim) (fun w_ σ_ hq => ?_)
  obtain ⟨rfl, rfl⟩ := hq
  refine kx_iconst (v := 0) dX6_losePower_9 (by decide) ?_
  refine kx_istore_n dX6_losePower_10 rfl (Nat.le_of_ble_eq_true rfl) ?_
  obtain ⟨b3, eb3, h⟩ := bd_s h
  refine kx_lwF [(0, .ref m), (1, .int ((0 : Int32)))] ⟨rfl, rfl, trivial⟩ (mL_losePower_11 hd (a0 := (r2, (0 : Int32))) eb3 ?_)
  refine kx_aload_n dX6_losePower_41 rfl rfl ?_
  refine kx_getf dX6_losePower_42 fl_X6_17_X6 kN_m rfl ?_
  refine kx_bipush (v := 10) dX6_losePower_45 (by decide) ?_
  refine kN_ald hd dX6_losePower_47 h (fun v4 ev4 h => ?_)
  exact kx_iret dX6_losePower_48 rfl (hQ _ _ (rtI (Option.some.inj h)))
set_option maxHeartbeats 4000000 in
theorem mM_memoryCount {G : KG} {τ : KHp} {m : Nat} {ad : Nat → Nat} {s : TS}  {z : TS × Int32} (hd : Md m ad) (h : P_memoryCount s  = some z) : kx_c G yX6_memoryCount (ws_ yX6_memoryCount cX6_memoryCount 1 (Option.some Jvm.ClassFile.FieldType.int)) 1 0 0 [.ref m] (MP τ m ad s) (fun rv σ' => rv = some (.int z.2) ∧ σ' = MP τ m ad z.1) kx_n := by
  refine kx_mk3 (ini := false) rfl (Nat.le_of_ble_eq_true rfl) (fun h => by cases h) (fun Q X hQ hX => ?_)
  unfold P_memoryCount at h
  refine kx_aload_n dX6_memoryCount_0 rfl rfl ?_
  refine kx_iconst (v := 0) dX6_memoryCount_1 (by decide) ?_
  refine kN_put dX6_memoryCount_2 fl_X6_3_X6 (Or.inl rfl) rfl h rfl (fun s1 es1 h => ?_)
  refine kx_aload_n dX6_memoryCount_5 rfl rfl ?_
  refine kx_getf dX6_memoryCount_6 fl_X6_17_X6 kN_m rfl ?_
  refine kx_bipush (v := 10) dX6_memoryCount_9 (by decide) ?_
  refine kN_ald hd dX6_memoryCount_11 h (fun v2 ev2 h => ?_)
  exact kx_iret dX6_memoryCount_12 rfl (hQ _ _ (rtI (Option.some.inj h)))
set_option maxHeartbeats 4000000 in
theorem mM_isTrip {G : KG} {τ : KHp} {m : Nat} {ad : Nat → Nat} {s : TS} {x1 : Int32} {z : TS × Int32} (hd : Md m ad) (h : P_isTrip s x1 = some z) : kx_c G yX6_isTrip (ws_ yX6_isTrip cX6_isTrip 2 (Option.some Jvm.ClassFile.FieldType.boolean)) 2 0 0 [.ref m, .int (x1)] (MP τ m ad s) (fun rv σ' => rv = some (.int z.2) ∧ σ' = MP τ m ad z.1) kx_n := by
  refine kx_mk3 (ini := false) rfl (Nat.le_of_ble_eq_true rfl) (fun h => by cases h) (fun Q X hQ hX => ?_)
  unfold P_isTrip at h
  refine kx_iload_n dX6_isTrip_0 rfl rfl ?_
  refine kx_i2l dX6_isTrip_1 rfl ?_
  refine kx_lconst (v := 0) dX6_isTrip_2 (by decide) ?_
  refine kx_aload_n dX6_isTrip_3 rfl rfl ?_
  refine kx_getf dX6_isTrip_4 fl_X6_24_X6 kN_m rfl ?_
  refine kx_bipush (v := 10) dX6_isTrip_7 (by decide) ?_
  refine kN_ald hd dX6_isTrip_9 h (fun v1 ev1 h => ?_)
  refine kx_iconst (v := 1) dX6_isTrip_10 (by decide) ?_
  refine kx_isub dX6_isTrip_11 ?_
  refine kx_i2l dX6_isTrip_12 rfl ?_
  obtain ⟨r2, er2, h⟩ := bd_s h
  refine kx_callS dX6_isTrip_13 lk_X6_66 (mM_in hd er2) rfl rfl (Nat.le_of_ble_eq_true rfl) (Nat.le_of_ble_eq_true rfl) (Nat.le_of_ble_eq_true rfl) (Nat.le_of_ble_eq_true rfl) (Nat.le_of_ble_eq_true rfl) (fun _ _ _ h => h.elim) (fun w_ σ_ hq => ?_)
  obtain ⟨rfl, rfl⟩ := hq
  refine kN_zret dX6_isTrip_16 rfl h (fun v3 ev3 h => hQ _ _ (by subst ev3; exact rtI (Option.some.inj h)))
set_option maxHeartbeats 4000000 in
theorem mM_ofTrip {G : KG} {τ : KHp} {m : Nat} {ad : Nat → Nat} {s : TS} {x1 : Int32} {x2 : Int32} {z : TS × Int32} (hd : Md m ad) (h : P_ofTrip s x1 x2 = some z) : kx_c G yX6_ofTrip (ws_ yX6_ofTrip cX6_ofTrip 3 (Option.some Jvm.ClassFile.FieldType.int)) 1 0 0 [.ref m, .int (x1), .int (x2)] (MP τ m ad s) (fun rv σ' => rv = some (.int z.2) ∧ σ' = MP τ m ad z.1) kx_n := by
  refine kx_mk3 (ini := false) rfl (Nat.le_of_ble_eq_true rfl) (fun h => by cases h) (fun Q X hQ hX => ?_)
  unfold P_ofTrip at h
  refine kx_aload_n dX6_ofTrip_0 rfl rfl ?_
  refine kx_getf dX6_ofTrip_1 fl_X6_17_X6 kN_m rfl ?_
  refine kx_sipush (v := 913) dX6_ofTrip_4 (by decide) ?_
  refine kx_bipush (v := 69) dX6_ofTrip_7 (by decide) ?_
  refine kx_iload_n dX6_ofTrip_9 rfl rfl ?_
  refine kx_imul dX6_ofTrip_10 ?_
  refine kx_iadd dX6_ofTrip_11 ?_
  refine kx_iload_n dX6_ofTrip_12 rfl rfl ?_
  refine kx_iadd dX6_ofTrip_13 ?_
  refine kN_ald hd dX6_ofTrip_14 h (fun v1 ev1 h => ?_)
  exact kx_iret dX6_ofTrip_15 rfl (hQ _ _ (rtI (Option.some.inj h)))
set_option maxHeartbeats 4000000 in
theorem mM_named {G : KG} {τ : KHp} {m : Nat} {ad : Nat → Nat} {s : TS} {x1 : Int32} {x2 : Int32} {z : TS × Int32} (hd : Md m ad) (h : P_named s x1 x2 = some z) : kx_c G yX6_named (ws_ yX6_named cX6_named 3 (Option.some Jvm.ClassFile.FieldType.int)) 3 0 0 [.ref m, .int (x1), .int (x2)] (MP τ m ad s) (fun rv σ' => rv = some (.int z.2) ∧ σ' = MP τ m ad z.1) kx_n := by
  refine kx_mk3 (ini := false) rfl (Nat.le_of_ble_eq_true rfl) (fun h => by cases h) (fun Q X hQ hX => ?_)
  unfold P_named at h
  refine kx_aload_n dX6_named_0 rfl rfl ?_
  refine kx_aload_n dX6_named_1 rfl rfl ?_
  refine kx_iload_n dX6_named_2 rfl rfl ?_
  obtain ⟨r1, er1, h⟩ := bd_s h
  refine kx_callV dX6_named_3 lk_X6_468 (mM_isTrip hd er1) rfl kN_rc rfl (Nat.le_of_ble_eq_true rfl) (Nat.le_of_ble_eq_true rfl) (Nat.le_of_ble_eq_true rfl) (Nat.le_of_ble_eq_true rfl) (Nat.le_of_ble_eq_true rfl) (fun _ _ _ h => h.elim) (fun w_ σ_ hq => ?_)
  obtain ⟨rfl, rfl⟩ := hq
  refine kx_aload_n dX6_named_6 rfl rfl ?_
  refine kx_iload_n dX6_named_7 rfl rfl ?_
  obtain ⟨r2, er2, h⟩ := bd_s h
  refine kx_callV dX6_named_8 lk_X6_468 (mM_isTrip hd er2) rfl kN_rc rfl (Nat.le_of_ble_eq_true rfl) (Nat.le_of_ble_eq_true rfl) (Nat.le_of_ble_eq_true rfl) (Nat.le_of_ble_eq_true rfl) (Nat.le_of_ble_eq_true rfl) (fun _ _ _ h => h.elim) (fun w_ σ_ hq => ?_)
  obtain ⟨rfl, rfl⟩ := hq
  obtain ⟨r3, er3, h⟩ := bd_s h
  refine kN_j (MP τ m ad r3.1) 37 [.int (r3.2), .int (r1.2), .ref m] ?_ (fun jr3 => ?_)
  · skip
    obtain ⟨r6, er6, h⟩ := bd_s h
    refine kx_callV dX6_named_37 lk_X6_338 (mM_passes2 hd er6) rfl kN_rc rfl (Nat.le_of_ble_eq_true rfl) (Nat.le_of_ble_eq_true rfl) (Nat.le_of_ble_eq_true rfl) (Nat.le_of_ble_eq_true rfl) (Nat.le_of_ble_eq_true rfl) (fun _ _ _ h => h.elim) (fun w_ σ_ hq => ?_)
    obtain ⟨rfl, rfl⟩ := hq
    obtain ⟨r7, er7, h⟩ := bd_s h
    refine kN_j (MP τ m ad r7.1) 55 [.int (r7.2)] ?_ (fun jr7 => ?_)
    · skip
      exact kx_iret dX6_named_55 rfl (hQ _ _ (rtI (Option.some.inj h)))
    · have h := er7
      refine kx_if_eq (tgt := 54) dX6_named_40 (by decide) (fun c => ?_) (fun c => ?_)
      · have h := if_t c h
        refine kx_iconst (v := 0) dX6_named_54 (by decide) ?_
        exact jnI h jr7
      · have h := if_f c h
        refine kx_aload_n dX6_named_43 rfl rfl ?_
        refine kx_iload_n dX6_named_44 rfl rfl ?_
        refine kx_iconst (v := 5) dX6_named_45 (by decide) ?_
        refine kx_iload_n dX6_named_46 rfl rfl ?_
        refine kx_iadd dX6_named_47 ?_
        obtain ⟨r8, er8, h⟩ := bd_s h
        refine kx_callV dX6_named_48 lk_X6_471 (mM_ofTrip hd er8) rfl kN_rc rfl (Nat.le_of_ble_eq_true rfl) (Nat.le_of_ble_eq_true rfl) (Nat.le_of_ble_eq_true rfl) (Nat.le_of_ble_eq_true rfl) (Nat.le_of_ble_eq_true rfl) (fun _ _ _ h => h.elim) (fun w_ σ_ hq => ?_)
        obtain ⟨rfl, rfl⟩ := hq
        refine kx_goto (tgt := 55) dX6_named_51 (by decide) ?_
        exact jnI h jr7
  · have h := er3
    refine kx_if_eq (tgt := 32) dX6_named_11 (by decide) (fun c => ?_) (fun c => ?_)
    · have h := if_t c h
      refine kx_iconst (v := 1) dX6_named_32 (by decide) ?_
      refine kx_goto (tgt := 37) dX6_named_33 (by decide) ?_
      exact jnI h jr3
    · have h := if_f c h
      refine kx_iload_n dX6_named_14 rfl rfl ?_
      refine kx_i2l dX6_named_15 rfl ?_
      refine kx_lconst (v := 0) dX6_named_16 (by decide) ?_
      refine kx_aload_n dX6_named_17 rfl rfl ?_
      refine kx_iload_n dX6_named_18 rfl rfl ?_
      refine kx_iconst (v := 4) dX6_named_19 (by decide) ?_
      obtain ⟨r4, er4, h⟩ := bd_s h
      refine kx_callV dX6_named_20 lk_X6_471 (mM_ofTrip hd er4) rfl kN_rc rfl (Nat.le_of_ble_eq_true rfl) (Nat.le_of_ble_eq_true rfl) (Nat.le_of_ble_eq_true rfl) (Nat.le_of_ble_eq_true rfl) (Nat.le_of_ble_eq_true rfl) (fun _ _ _ h => h.elim) (fun w_ σ_ hq => ?_)
      obtain ⟨rfl, rfl⟩ := hq
      refine kx_iconst (v := 1) dX6_named_23 (by decide) ?_
      refine kx_isub dX6_named_24 ?_
      refine kx_i2l dX6_named_25 rfl ?_
      obtain ⟨r5, er5, h⟩ := bd_s h
      refine kx_callS dX6_named_26 lk_X6_66 (mM_in hd er5) rfl rfl (Nat.le_of_ble_eq_true rfl) (Nat.le_of_ble_eq_true rfl) (Nat.le_of_ble_eq_true rfl) (Nat.le_of_ble_eq_true rfl) (Nat.le_of_ble_eq_true rfl) (fun _ _ _ h => h.elim) (fun w_ σ_ hq => ?_)
      obtain ⟨rfl, rfl⟩ := hq
      refine kx_if_eq (tgt := 36) dX6_named_29 (by decide) (fun c => ?_) (fun c => ?_)
      · have h := if_t c h
        refine kx_iconst (v := 0) dX6_named_36 (by decide) ?_
        exact jnI h jr3
      · have h := if_f c h
        refine kx_iconst (v := 1) dX6_named_32 (by decide) ?_
        refine kx_goto (tgt := 37) dX6_named_33 (by decide) ?_
        exact jnI h jr3
set_option maxHeartbeats 4000000 in
theorem mM_clearMemory {G : KG} {τ : KHp} {m : Nat} {ad : Nat → Nat} {s : TS}  {z : TS × Int32} (hd : Md m ad) (h : P_clearMemory s  = some z) : kx_c G yX6_clearMemory (ws_ yX6_clearMemory cX6_clearMemory 2 (Option.some Jvm.ClassFile.FieldType.int)) 2 0 0 [.ref m] (MP τ m ad s) (fun rv σ' => rv = some (.int z.2) ∧ σ' = MP τ m ad z.1) kx_n := by
  refine kx_mk3 (ini := false) rfl (Nat.le_of_ble_eq_true rfl) (fun h => by cases h) (fun Q X hQ hX => ?_)
  unfold P_clearMemory at h
  refine kx_aload_n dX6_clearMemory_0 rfl rfl ?_
  refine kx_iconst (v := 0) dX6_clearMemory_1 (by decide) ?_
  refine kN_put dX6_clearMemory_2 fl_X6_3_X6 (Or.inl rfl) rfl h rfl (fun s1 es1 h => ?_)
  refine kx_aload_n dX6_clearMemory_5 rfl rfl ?_
  obtain ⟨r2, er2, h⟩ := bd_s h
  refine kx_callV dX6_clearMemory_6 lk_X6_321 (mM_remember hd er2) rfl kN_rc rfl (Nat.le_of_ble_eq_true rfl) (Nat.le_of_ble_eq_true rfl) (Nat.le_of_ble_eq_true rfl) (Nat.le_of_ble_eq_true rfl) (Nat.le_of_ble_eq_true rfl) (fun _ _ _ h => h.elim) (fun w_ σ_ hq => ?_)
  obtain ⟨rfl, rfl⟩ := hq
  refine kx_aload_n dX6_clearMemory_9 rfl rfl ?_
  refine kx_getf dX6_clearMemory_10 fl_X6_17_X6 kN_m rfl ?_
  refine kx_bipush (v := 10) dX6_clearMemory_13 (by decide) ?_
  refine kN_ald hd dX6_clearMemory_15 h (fun v3 ev3 h => ?_)
  refine kx_istore_n dX6_clearMemory_16 rfl (Nat.le_of_ble_eq_true rfl) ?_
  refine kx_aload_n dX6_clearMemory_17 rfl rfl ?_
  refine kx_getf dX6_clearMemory_18 fl_X6_17_X6 kN_m rfl ?_
  refine kx_bipush (v := 10) dX6_clearMemory_21 (by decide) ?_
  refine kx_iconst (v := 0) dX6_clearMemory_23 (by decide) ?_
  refine kN_ast hd dX6_clearMemory_24 h (fun s4 es4 h => ?_)
  refine kx_iload_n dX6_clearMemory_25 rfl rfl ?_
  exact kx_iret dX6_clearMemory_26 rfl (hQ _ _ (rtI (Option.some.inj h)))
set_option maxHeartbeats 4000000 in
theorem mL_beginThought_2 {G : KG} {τ : KHp} {m : Nat} {ad : Nat → Nat} {Q : KQ} {X : KX}  {a0 : TS × Int32} {z : TS} (hd : Md m ad) (h : loopN (fun w : TS × Int32 => B_beginThought_2  w.1 w.2) 9000 a0 = some z) (kk : kx G (yX6_beginThought.cls, cX6_beginThought, 2, (Option.none : Option Jvm.ClassFile.FieldType), false, []) (1, 0, 0, Q, X) 0 0 (MP τ m ad z) 27 (kF [(0, .ref m)]) []) : kx G (yX6_beginThought.cls, cX6_beginThought, 2, (Option.none : Option Jvm.ClassFile.FieldType), false, []) (1, 0, 0, Q, X) 0 0 (MP τ m ad a0.1) 2 (kF [(0, .ref m), (1, .int (a0.2))]) [] := by
  refine loopK_1_0 (B := B_beginThought_2 ) (fun (a : TS) (a1 : Int32) => kx G (yX6_beginThought.cls, cX6_beginThought, 2, (Option.none : Option Jvm.ClassFile.FieldType), false, []) (1, 0, 0, Q, X) 0 0 (MP τ m ad a) 2 (kF [(0, .ref m), (1, .int (a1))]) []) (fun (b : TS) => kx G (yX6_beginThought.cls, cX6_beginThought, 2, (Option.none : Option Jvm.ClassFile.FieldType), false, []) (1, 0, 0, Q, X) 0 0 (MP τ m ad b) 27 (kF [(0, .ref m)]) []) (fun a a1 r h kI kE => ?_) _ _ _ h kk
  · unfold B_beginThought_2 at h
    refine kx_iload_n dX6_beginThought_2 rfl rfl ?_
    refine kx_sipush (v := 1465) dX6_beginThought_3 (by decide) ?_
    refine kx_icmp_ge (tgt := 27) dX6_beginThought_6 (by decide) (fun c => ?_) (fun c => ?_)
    · have h := if_t c h
      exact kx_lwF [(0, .ref m)] ⟨rfl, trivial⟩ (kE (a) (Option.some.inj h).symm)
    · have h := if_f c h
      refine kx_aload_n dX6_beginThought_9 rfl rfl ?_
      refine kx_getf dX6_beginThought_10 fl_X6_51_X6 kN_m rfl ?_
      refine kx_iload_n dX6_beginThought_13 rfl rfl ?_
      refine kx_aload_n dX6_beginThought_14 rfl rfl ?_
      refine kx_getf dX6_beginThought_15 fl_X6_17_X6 kN_m rfl ?_
      refine kx_iload_n dX6_beginThought_18 rfl rfl ?_
      refine kN_ald hd dX6_beginThought_19 h (fun v2001 ev2001 h => ?_)
      refine kN_ast hd dX6_beginThought_20 h (fun s2002 es2002 h => ?_)
      refine kx_iinc2 (v := 1) dX6_beginThought_21 rfl (by decide) ?_
      refine kx_goto (tgt := 2) dX6_beginThought_24 (by decide) ?_
      exact kx_lwF [(0, .ref m), (1, .int ((a1 + (1 : Int32))))] ⟨rfl, rfl, trivial⟩ (kI (s2002) ((a1 + (1 : Int32))) (Option.some.inj h).symm)
set_option maxHeartbeats 4000000 in
theorem mL_beginThought_29 {G : KG} {τ : KHp} {m : Nat} {ad : Nat → Nat} {Q : KQ} {X : KX}  {a0 : TS × Int32} {z : TS} (hd : Md m ad) (h : loopN (fun w : TS × Int32 => B_beginThought_29  w.1 w.2) 9000 a0 = some z) (kk : kx G (yX6_beginThought.cls, cX6_beginThought, 2, (Option.none : Option Jvm.ClassFile.FieldType), false, []) (1, 0, 0, Q, X) 0 0 (MP τ m ad z) 54 (kF []) []) : kx G (yX6_beginThought.cls, cX6_beginThought, 2, (Option.none : Option Jvm.ClassFile.FieldType), false, []) (1, 0, 0, Q, X) 0 0 (MP τ m ad a0.1) 29 (kF [(0, .ref m), (1, .int (a0.2))]) [] := by
  refine loopK_1_0 (B := B_beginThought_29 ) (fun (a : TS) (a1 : Int32) => kx G (yX6_beginThought.cls, cX6_beginThought, 2, (Option.none : Option Jvm.ClassFile.FieldType), false, []) (1, 0, 0, Q, X) 0 0 (MP τ m ad a) 29 (kF [(0, .ref m), (1, .int (a1))]) []) (fun (b : TS) => kx G (yX6_beginThought.cls, cX6_beginThought, 2, (Option.none : Option Jvm.ClassFile.FieldType), false, []) (1, 0, 0, Q, X) 0 0 (MP τ m ad b) 54 (kF []) []) (fun a a1 r h kI kE => ?_) _ _ _ h kk
  · unfold B_beginThought_29 at h
    refine kx_iload_n dX6_beginThought_29 rfl rfl ?_
    refine kx_sipush (v := 160) dX6_beginThought_30 (by decide) ?_
    refine kx_icmp_ge (tgt := 54) dX6_beginThought_33 (by decide) (fun c => ?_) (fun c => ?_)
    · have h := if_t c h
      exact kx_lwF [] trivial (kE (a) (Option.some.inj h).symm)
    · have h := if_f c h
      refine kx_aload_n dX6_beginThought_36 rfl rfl ?_
      refine kx_getf dX6_beginThought_37 fl_X6_54_X6 kN_m rfl ?_
      refine kx_iload_n dX6_beginThought_40 rfl rfl ?_
      refine kx_aload_n dX6_beginThought_41 rfl rfl ?_
      refine kx_getf dX6_beginThought_42 fl_X6_27_X6 kN_m rfl ?_
      refine kx_iload_n dX6_beginThought_45 rfl rfl ?_
      refine kN_fld hd dX6_beginThought_46 h (fun v29001 ev29001 h => ?_)
      refine kN_fst hd dX6_beginThought_47 h (fun s29002 es29002 h => ?_)
      refine kx_iinc2 (v := 1) dX6_beginThought_48 rfl (by decide) ?_
      refine kx_goto (tgt := 29) dX6_beginThought_51 (by decide) ?_
      exact kx_lwF [(0, .ref m), (1, .int ((a1 + (1 : Int32))))] ⟨rfl, rfl, trivial⟩ (kI (s29002) ((a1 + (1 : Int32))) (Option.some.inj h).symm)
set_option maxHeartbeats 4000000 in
theorem mM_beginThought {G : KG} {τ : KHp} {m : Nat} {ad : Nat → Nat} {s : TS}  {z : TS} (hd : Md m ad) (h : P_beginThought s  = some z) : kx_c G yX6_beginThought (ws_ yX6_beginThought cX6_beginThought 2 (Option.none : Option Jvm.ClassFile.FieldType)) 1 0 0 [.ref m] (MP τ m ad s) (fun rv σ' => rv = none ∧ σ' = MP τ m ad z) kx_n := by
  refine kx_mk3 (ini := false) rfl (Nat.le_of_ble_eq_true rfl) (fun h => by cases h) (fun Q X hQ hX => ?_)
  unfold P_beginThought at h
  refine kx_iconst (v := 0) dX6_beginThought_0 (by decide) ?_
  refine kx_istore_n dX6_beginThought_1 rfl (Nat.le_of_ble_eq_true rfl) ?_
  obtain ⟨b1, eb1, h⟩ := bd_s h
  refine kx_lwF [(0, .ref m), (1, .int ((0 : Int32)))] ⟨rfl, rfl, trivial⟩ (mL_beginThought_2 hd (a0 := (s, (0 : Int32))) eb1 ?_)
  refine kx_iconst (v := 0) dX6_beginThought_27 (by decide) ?_
  refine kx_istore_n dX6_beginThought_28 rfl (Nat.le_of_ble_eq_true rfl) ?_
  obtain ⟨b2, eb2, h⟩ := bd_s h
  refine kx_lwF [(0, .ref m), (1, .int ((0 : Int32)))] ⟨rfl, rfl, trivial⟩ (mL_beginThought_29 hd (a0 := (b1, (0 : Int32))) eb2 ?_)
  exact kx_vret dX6_beginThought_54 rfl (hQ _ _ (rtV (Option.some.inj h)))
set_option maxHeartbeats 4000000 in
theorem mL_endThought_2 {G : KG} {τ : KHp} {m : Nat} {ad : Nat → Nat} {Q : KQ} {X : KX}  {a0 : TS × Int32} {z : TS} (hd : Md m ad) (h : loopN (fun w : TS × Int32 => B_endThought_2  w.1 w.2) 9000 a0 = some z) (kk : kx G (yX6_endThought.cls, cX6_endThought, 2, (Option.none : Option Jvm.ClassFile.FieldType), false, []) (1, 0, 0, Q, X) 0 0 (MP τ m ad z) 27 (kF [(0, .ref m)]) []) : kx G (yX6_endThought.cls, cX6_endThought, 2, (Option.none : Option Jvm.ClassFile.FieldType), false, []) (1, 0, 0, Q, X) 0 0 (MP τ m ad a0.1) 2 (kF [(0, .ref m), (1, .int (a0.2))]) [] := by
  refine loopK_1_0 (B := B_endThought_2 ) (fun (a : TS) (a1 : Int32) => kx G (yX6_endThought.cls, cX6_endThought, 2, (Option.none : Option Jvm.ClassFile.FieldType), false, []) (1, 0, 0, Q, X) 0 0 (MP τ m ad a) 2 (kF [(0, .ref m), (1, .int (a1))]) []) (fun (b : TS) => kx G (yX6_endThought.cls, cX6_endThought, 2, (Option.none : Option Jvm.ClassFile.FieldType), false, []) (1, 0, 0, Q, X) 0 0 (MP τ m ad b) 27 (kF [(0, .ref m)]) []) (fun a a1 r h kI kE => ?_) _ _ _ h kk
  · unfold B_endThought_2 at h
    refine kx_iload_n dX6_endThought_2 rfl rfl ?_
    refine kx_sipush (v := 1465) dX6_endThought_3 (by decide) ?_
    refine kx_icmp_ge (tgt := 27) dX6_endThought_6 (by decide) (fun c => ?_) (fun c => ?_)
    · have h := if_t c h
      exact kx_lwF [(0, .ref m)] ⟨rfl, trivial⟩ (kE (a) (Option.some.inj h).symm)
    · have h := if_f c h
      refine kx_aload_n dX6_endThought_9 rfl rfl ?_
      refine kx_getf dX6_endThought_10 fl_X6_17_X6 kN_m rfl ?_
      refine kx_iload_n dX6_endThought_13 rfl rfl ?_
      refine kx_aload_n dX6_endThought_14 rfl rfl ?_
      refine kx_getf dX6_endThought_15 fl_X6_51_X6 kN_m rfl ?_
      refine kx_iload_n dX6_endThought_18 rfl rfl ?_
      refine kN_ald hd dX6_endThought_19 h (fun v2001 ev2001 h => ?_)
      refine kN_ast hd dX6_endThought_20 h (fun s2002 es2002 h => ?_)
      refine kx_iinc2 (v := 1) dX6_endThought_21 rfl (by decide) ?_
      refine kx_goto (tgt := 2) dX6_endThought_24 (by decide) ?_
      exact kx_lwF [(0, .ref m), (1, .int ((a1 + (1 : Int32))))] ⟨rfl, rfl, trivial⟩ (kI (s2002) ((a1 + (1 : Int32))) (Option.some.inj h).symm)
set_option maxHeartbeats 4000000 in
theorem mL_endThought_29 {G : KG} {τ : KHp} {m : Nat} {ad : Nat → Nat} {Q : KQ} {X : KX}  {a0 : TS × Int32} {z : TS} (hd : Md m ad) (h : loopN (fun w : TS × Int32 => B_endThought_29  w.1 w.2) 9000 a0 = some z) (kk : kx G (yX6_endThought.cls, cX6_endThought, 2, (Option.none : Option Jvm.ClassFile.FieldType), false, []) (1, 0, 0, Q, X) 0 0 (MP τ m ad z) 54 (kF []) []) : kx G (yX6_endThought.cls, cX6_endThought, 2, (Option.none : Option Jvm.ClassFile.FieldType), false, []) (1, 0, 0, Q, X) 0 0 (MP τ m ad a0.1) 29 (kF [(0, .ref m), (1, .int (a0.2))]) [] := by
  refine loopK_1_0 (B := B_endThought_29 ) (fun (a : TS) (a1 : Int32) => kx G (yX6_endThought.cls, cX6_endThought, 2, (Option.none : Option Jvm.ClassFile.FieldType), false, []) (1, 0, 0, Q, X) 0 0 (MP τ m ad a) 29 (kF [(0, .ref m), (1, .int (a1))]) []) (fun (b : TS) => kx G (yX6_endThought.cls, cX6_endThought, 2, (Option.none : Option Jvm.ClassFile.FieldType), false, []) (1, 0, 0, Q, X) 0 0 (MP τ m ad b) 54 (kF []) []) (fun a a1 r h kI kE => ?_) _ _ _ h kk
  · unfold B_endThought_29 at h
    refine kx_iload_n dX6_endThought_29 rfl rfl ?_
    refine kx_sipush (v := 160) dX6_endThought_30 (by decide) ?_
    refine kx_icmp_ge (tgt := 54) dX6_endThought_33 (by decide) (fun c => ?_) (fun c => ?_)
    · have h := if_t c h
      exact kx_lwF [] trivial (kE (a) (Option.some.inj h).symm)
    · have h := if_f c h
      refine kx_aload_n dX6_endThought_36 rfl rfl ?_
      refine kx_getf dX6_endThought_37 fl_X6_27_X6 kN_m rfl ?_
      refine kx_iload_n dX6_endThought_40 rfl rfl ?_
      refine kx_aload_n dX6_endThought_41 rfl rfl ?_
      refine kx_getf dX6_endThought_42 fl_X6_54_X6 kN_m rfl ?_
      refine kx_iload_n dX6_endThought_45 rfl rfl ?_
      refine kN_fld hd dX6_endThought_46 h (fun v29001 ev29001 h => ?_)
      refine kN_fst hd dX6_endThought_47 h (fun s29002 es29002 h => ?_)
      refine kx_iinc2 (v := 1) dX6_endThought_48 rfl (by decide) ?_
      refine kx_goto (tgt := 29) dX6_endThought_51 (by decide) ?_
      exact kx_lwF [(0, .ref m), (1, .int ((a1 + (1 : Int32))))] ⟨rfl, rfl, trivial⟩ (kI (s29002) ((a1 + (1 : Int32))) (Option.some.inj h).symm)
set_option maxHeartbeats 4000000 in
theorem mM_endThought {G : KG} {τ : KHp} {m : Nat} {ad : Nat → Nat} {s : TS}  {z : TS} (hd : Md m ad) (h : P_endThought s  = some z) : kx_c G yX6_endThought (ws_ yX6_endThought cX6_endThought 2 (Option.none : Option Jvm.ClassFile.FieldType)) 1 0 0 [.ref m] (MP τ m ad s) (fun rv σ' => rv = none ∧ σ' = MP τ m ad z) kx_n := by
  refine kx_mk3 (ini := false) rfl (Nat.le_of_ble_eq_true rfl) (fun h => by cases h) (fun Q X hQ hX => ?_)
  unfold P_endThought at h
  refine kx_iconst (v := 0) dX6_endThought_0 (by decide) ?_
  refine kx_istore_n dX6_endThought_1 rfl (Nat.le_of_ble_eq_true rfl) ?_
  obtain ⟨b1, eb1, h⟩ := bd_s h
  refine kx_lwF [(0, .ref m), (1, .int ((0 : Int32)))] ⟨rfl, rfl, trivial⟩ (mL_endThought_2 hd (a0 := (s, (0 : Int32))) eb1 ?_)
  refine kx_iconst (v := 0) dX6_endThought_27 (by decide) ?_
  refine kx_istore_n dX6_endThought_28 rfl (Nat.le_of_ble_eq_true rfl) ?_
  obtain ⟨b2, eb2, h⟩ := bd_s h
  refine kx_lwF [(0, .ref m), (1, .int ((0 : Int32)))] ⟨rfl, rfl, trivial⟩ (mL_endThought_29 hd (a0 := (b1, (0 : Int32))) eb2 ?_)
  exact kx_vret dX6_endThought_54 rfl (hQ _ _ (rtV (Option.some.inj h)))
set_option maxHeartbeats 4000000 in
theorem mL_totalMean_9 {G : KG} {τ : KHp} {m : Nat} {ad : Nat → Nat} {Q : KQ} {X : KX}  {a0 : TS × UInt32 × Int32} {z : TS × UInt32} (hd : Md m ad) (h : loopN (fun w : TS × UInt32 × Int32 => B_totalMean_9  w.1 w.2.1 w.2.2) 9000 a0 = some z) (kk : kx G (yX6_totalMean.cls, cX6_totalMean, 3, (Option.some Jvm.ClassFile.FieldType.float), false, []) (3, 0, 0, Q, X) 0 0 (MP τ m ad z.1) 50 (kF [(1, .float (z.2))]) []) : kx G (yX6_totalMean.cls, cX6_totalMean, 3, (Option.some Jvm.ClassFile.FieldType.float), false, []) (3, 0, 0, Q, X) 0 0 (MP τ m ad a0.1) 9 (kF [(0, .ref m), (1, .float (a0.2.1)), (2, .int (a0.2.2))]) [] := by
  refine loopK_2_1 (B := B_totalMean_9 ) (fun (a : TS) (a1 : UInt32) (a2 : Int32) => kx G (yX6_totalMean.cls, cX6_totalMean, 3, (Option.some Jvm.ClassFile.FieldType.float), false, []) (3, 0, 0, Q, X) 0 0 (MP τ m ad a) 9 (kF [(0, .ref m), (1, .float (a1)), (2, .int (a2))]) []) (fun (b : TS) (b1 : UInt32) => kx G (yX6_totalMean.cls, cX6_totalMean, 3, (Option.some Jvm.ClassFile.FieldType.float), false, []) (3, 0, 0, Q, X) 0 0 (MP τ m ad b) 50 (kF [(1, .float (b1))]) []) (fun a a1 a2 r h kI kE => ?_) _ _ _ h kk
  · unfold B_totalMean_9 at h
    refine kx_iload_n dX6_totalMean_9 rfl rfl ?_
    refine kx_aload_n dX6_totalMean_10 rfl rfl ?_
    refine kx_getf dX6_totalMean_11 fl_X6_17_X6 kN_m rfl ?_
    refine kx_iconst (v := 3) dX6_totalMean_14 (by decide) ?_
    refine kN_ald hd dX6_totalMean_15 h (fun v9001 ev9001 h => ?_)
    refine kx_icmp_ge (tgt := 50) dX6_totalMean_16 (by decide) (fun c => ?_) (fun c => ?_)
    · have h := if_t c h
      exact kx_lwF [(1, .float (a1))] ⟨rfl, trivial⟩ (kE (a) (a1) (Option.some.inj h).symm)
    · have h := if_f c h
      refine kx_aload_n dX6_totalMean_19 rfl rfl ?_
      refine kx_iload_n dX6_totalMean_20 rfl rfl ?_
      obtain ⟨r9002, er9002, h⟩ := bd_s h
      refine kx_callV dX6_totalMean_21 lk_X6_358 (mM_isClosed hd er9002) rfl kN_rc rfl (Nat.le_of_ble_eq_true rfl) (Nat.le_of_ble_eq_true rfl) (Nat.le_of_ble_eq_true rfl) (Nat.le_of_ble_eq_true rfl) (Nat.le_of_ble_eq_true rfl) (fun _ _ _ h => h.elim) (fun w_ σ_ hq => ?_)
      obtain ⟨rfl, rfl⟩ := hq
      refine kx_if_eq (tgt := 44) dX6_totalMean_24 (by decide) (fun c => ?_) (fun c => ?_)
      · have h := if_t c h
        refine kx_iinc2 (v := 1) dX6_totalMean_44 rfl (by decide) ?_
        refine kx_goto (tgt := 9) dX6_totalMean_47 (by decide) ?_
        exact kx_lwF [(0, .ref m), (1, .float (a1)), (2, .int ((a2 + (1 : Int32))))] ⟨rfl, rfl, rfl, trivial⟩ (kI (r9002.1) (a1) ((a2 + (1 : Int32))) (Option.some.inj h).symm)
      · have h := if_f c h
        refine kx_aload_n dX6_totalMean_27 rfl rfl ?_
        refine kx_iload_n dX6_totalMean_28 rfl rfl ?_
        obtain ⟨r9003, er9003, h⟩ := bd_s h
        refine kx_callV dX6_totalMean_29 lk_X6_443 (mM_hasHad hd er9003) rfl kN_rc rfl (Nat.le_of_ble_eq_true rfl) (Nat.le_of_ble_eq_true rfl) (Nat.le_of_ble_eq_true rfl) (Nat.le_of_ble_eq_true rfl) (Nat.le_of_ble_eq_true rfl) (fun _ _ _ h => h.elim) (fun w_ σ_ hq => ?_)
        obtain ⟨rfl, rfl⟩ := hq
        refine kx_if_eq (tgt := 44) dX6_totalMean_32 (by decide) (fun c => ?_) (fun c => ?_)
        · have h := if_t c h
          refine kx_iinc2 (v := 1) dX6_totalMean_44 rfl (by decide) ?_
          refine kx_goto (tgt := 9) dX6_totalMean_47 (by decide) ?_
          exact kx_lwF [(0, .ref m), (1, .float (a1)), (2, .int ((a2 + (1 : Int32))))] ⟨rfl, rfl, rfl, trivial⟩ (kI (r9003.1) (a1) ((a2 + (1 : Int32))) (Option.some.inj h).symm)
        · have h := if_f c h
          refine kx_fload_n dX6_totalMean_35 rfl rfl ?_
          refine kx_aload_n dX6_totalMean_36 rfl rfl ?_
          refine kx_iload_n dX6_totalMean_37 rfl rfl ?_
          refine kx_iconst (v := 1) dX6_totalMean_38 (by decide) ?_
          obtain ⟨r9004, er9004, h⟩ := bd_s h
          refine kx_callV dX6_totalMean_39 lk_X6_391 (mM_featureOf hd er9004) rfl kN_rc rfl (Nat.le_of_ble_eq_true rfl) (Nat.le_of_ble_eq_true rfl) (Nat.le_of_ble_eq_true rfl) (Nat.le_of_ble_eq_true rfl) (Nat.le_of_ble_eq_true rfl) (fun _ _ _ h => h.elim) (fun w_ σ_ hq => ?_)
          obtain ⟨rfl, rfl⟩ := hq
          refine kN_fadd dX6_totalMean_42 h (fun v9005 ev9005 h => ?_)
          refine kx_fstore_n dX6_totalMean_43 rfl (Nat.le_of_ble_eq_true rfl) ?_
          refine kx_iinc2 (v := 1) dX6_totalMean_44 rfl (by decide) ?_
          refine kx_goto (tgt := 9) dX6_totalMean_47 (by decide) ?_
          exact kx_lwF [(0, .ref m), (1, .float (v9005)), (2, .int ((a2 + (1 : Int32))))] ⟨rfl, rfl, rfl, trivial⟩ (kI (r9004.1) (v9005) ((a2 + (1 : Int32))) (Option.some.inj h).symm)
set_option maxHeartbeats 4000000 in
theorem mM_totalMean {G : KG} {τ : KHp} {m : Nat} {ad : Nat → Nat} {s : TS}  {z : TS × UInt32} (hd : Md m ad) (h : P_totalMean s  = some z) : kx_c G yX6_totalMean (ws_ yX6_totalMean cX6_totalMean 3 (Option.some Jvm.ClassFile.FieldType.float)) 3 0 0 [.ref m] (MP τ m ad s) (fun rv σ' => rv = some (.float z.2) ∧ σ' = MP τ m ad z.1) kx_n := by
  refine kx_mk3 (ini := false) rfl (Nat.le_of_ble_eq_true rfl) (fun h => by cases h) (fun Q X hQ hX => ?_)
  unfold P_totalMean at h
  refine kx_aload_n dX6_totalMean_0 rfl rfl ?_
  refine kx_iconst (v := 0) dX6_totalMean_1 (by decide) ?_
  refine kN_put dX6_totalMean_2 fl_X6_3_X6 (Or.inl rfl) rfl h rfl (fun s1 es1 h => ?_)
  refine kx_fconst0 dX6_totalMean_5 ?_
  refine kx_fstore_n dX6_totalMean_6 rfl (Nat.le_of_ble_eq_true rfl) ?_
  refine kx_iconst (v := 0) dX6_totalMean_7 (by decide) ?_
  refine kx_istore_n dX6_totalMean_8 rfl (Nat.le_of_ble_eq_true rfl) ?_
  obtain ⟨b2, eb2, h⟩ := bd_s h
  refine kx_lwF [(0, .ref m), (1, .float (FP.fconst0)), (2, .int ((0 : Int32)))] ⟨rfl, rfl, rfl, trivial⟩ (mL_totalMean_9 hd (a0 := (s1, FP.fconst0, (0 : Int32))) eb2 ?_)
  refine kx_fload_n dX6_totalMean_50 rfl rfl ?_
  exact kx_fret dX6_totalMean_51 rfl (hQ _ _ (rtF (Option.some.inj h)))
set_option maxHeartbeats 4000000 in
theorem mM_undoCount {G : KG} {τ : KHp} {m : Nat} {ad : Nat → Nat} {s : TS}  {z : TS × Int32} (hd : Md m ad) (h : P_undoCount s  = some z) : kx_c G yX6_undoCount (ws_ yX6_undoCount cX6_undoCount 1 (Option.some Jvm.ClassFile.FieldType.int)) 1 0 0 [.ref m] (MP τ m ad s) (fun rv σ' => rv = some (.int z.2) ∧ σ' = MP τ m ad z.1) kx_n := by
  refine kx_mk3 (ini := false) rfl (Nat.le_of_ble_eq_true rfl) (fun h => by cases h) (fun Q X hQ hX => ?_)
  unfold P_undoCount at h
  refine kx_aload_n dX6_undoCount_0 rfl rfl ?_
  refine kx_iconst (v := 0) dX6_undoCount_1 (by decide) ?_
  refine kN_put dX6_undoCount_2 fl_X6_3_X6 (Or.inl rfl) rfl h rfl (fun s1 es1 h => ?_)
  refine kx_aload_n dX6_undoCount_5 rfl rfl ?_
  refine kx_getf dX6_undoCount_6 fl_X6_483_X6 kN_m rfl ?_
  exact kx_iret dX6_undoCount_9 rfl (hQ _ _ (rtI (Option.some.inj h)))
set_option maxHeartbeats 4000000 in
theorem mM_write {G : KG} {τ : KHp} {m : Nat} {ad : Nat → Nat} {s : TS} {x1 : Int32} {z : TS} (hd : Md m ad) (h : P_write s x1 = some z) : kx_c G yX6_write (ws_ yX6_write cX6_write 2 (Option.none : Option Jvm.ClassFile.FieldType)) 1 0 0 [.ref m, .int (x1)] (MP τ m ad s) (fun rv σ' => rv = none ∧ σ' = MP τ m ad z) kx_n := by
  refine kx_mk3 (ini := false) rfl (Nat.le_of_ble_eq_true rfl) (fun h => by cases h) (fun Q X hQ hX => ?_)
  unfold P_write at h
  refine kx_aload_n dX6_write_0 rfl rfl ?_
  refine kx_getf dX6_write_1 fl_X6_63_X6 kN_m rfl ?_
  refine kx_aload_n dX6_write_4 rfl rfl ?_
  refine kx_getf dX6_write_5 fl_X6_486_X6 kN_m rfl ?_
  refine kx_iload_n dX6_write_8 rfl rfl ?_
  refine kx_i2b dX6_write_9 rfl ?_
  refine kN_bst hd dX6_write_10 h (fun s1 es1 h => ?_)
  refine kx_aload_n dX6_write_11 rfl rfl ?_
  refine kx_dup dX6_write_12 rfl ?_
  refine kx_getf dX6_write_13 fl_X6_486_X6 kN_m rfl ?_
  refine kx_iconst (v := 1) dX6_write_16 (by decide) ?_
  refine kx_iadd dX6_write_17 ?_
  refine kN_put dX6_write_18 fl_X6_486_X6 (Or.inl rfl) rfl h rfl (fun s2 es2 h => ?_)
  exact kx_vret dX6_write_21 rfl (hQ _ _ (rtV (Option.some.inj h)))
set_option maxHeartbeats 4000000 in
theorem mL_writeNumber_2 {G : KG} {τ : KHp} {m : Nat} {ad : Nat → Nat} {Q : KQ} {X : KX} {y1 : Int32} {a0 : TS × Int32} {z : TS × Int32} (hd : Md m ad) (h : loopN (fun w : TS × Int32 => B_writeNumber_2 y1 w.1 w.2) 9000 a0 = some z) (kk : kx G (yX6_writeNumber.cls, cX6_writeNumber, 4, (Option.none : Option Jvm.ClassFile.FieldType), false, []) (2, 0, 0, Q, X) 0 0 (MP τ m ad z.1) 18 (kF [(0, .ref m), (1, .int (y1)), (2, .int (z.2))]) []) : kx G (yX6_writeNumber.cls, cX6_writeNumber, 4, (Option.none : Option Jvm.ClassFile.FieldType), false, []) (2, 0, 0, Q, X) 0 0 (MP τ m ad a0.1) 2 (kF [(0, .ref m), (1, .int (y1)), (2, .int (a0.2))]) [] := by
  refine loopK_1_1 (B := B_writeNumber_2 y1) (fun (a : TS) (a2 : Int32) => kx G (yX6_writeNumber.cls, cX6_writeNumber, 4, (Option.none : Option Jvm.ClassFile.FieldType), false, []) (2, 0, 0, Q, X) 0 0 (MP τ m ad a) 2 (kF [(0, .ref m), (1, .int (y1)), (2, .int (a2))]) []) (fun (b : TS) (b2 : Int32) => kx G (yX6_writeNumber.cls, cX6_writeNumber, 4, (Option.none : Option Jvm.ClassFile.FieldType), false, []) (2, 0, 0, Q, X) 0 0 (MP τ m ad b) 18 (kF [(0, .ref m), (1, .int (y1)), (2, .int (b2))]) []) (fun a a2 r h kI kE => ?_) _ _ _ h kk
  · unfold B_writeNumber_2 at h
    refine kx_iload_n dX6_writeNumber_2 rfl rfl ?_
    refine kx_iload_n dX6_writeNumber_3 rfl rfl ?_
    refine kN_div dX6_writeNumber_4 h (fun v2001 ev2001 h => ?_)
    refine kx_bipush (v := 10) dX6_writeNumber_5 (by decide) ?_
    refine kx_icmp_lt (tgt := 18) dX6_writeNumber_7 (by decide) (fun c => ?_) (fun c => ?_)
    · have h := if_t c h
      exact kx_lwF [(0, .ref m), (1, .int (y1)), (2, .int (a2))] ⟨rfl, rfl, rfl, trivial⟩ (kE (a) (a2) (Option.some.inj h).symm)
    · have h := if_f c h
      refine kx_iload_n dX6_writeNumber_10 rfl rfl ?_
      refine kx_bipush (v := 10) dX6_writeNumber_11 (by decide) ?_
      refine kx_imul dX6_writeNumber_13 ?_
      refine kx_istore_n dX6_writeNumber_14 rfl (Nat.le_of_ble_eq_true rfl) ?_
      refine kx_goto (tgt := 2) dX6_writeNumber_15 (by decide) ?_
      exact kx_lwF [(0, .ref m), (1, .int (y1)), (2, .int ((a2 * (10 : Int32))))] ⟨rfl, rfl, rfl, trivial⟩ (kI (a) ((a2 * (10 : Int32))) (Option.some.inj h).symm)
set_option maxHeartbeats 4000000 in
theorem mL_writeNumber_20 {G : KG} {τ : KHp} {m : Nat} {ad : Nat → Nat} {Q : KQ} {X : KX} {y1 : Int32} {a0 : TS × Int32} {z : TS} (hd : Md m ad) (h : loopN (fun w : TS × Int32 => B_writeNumber_20 y1 w.1 w.2) 9000 a0 = some z) (kk : kx G (yX6_writeNumber.cls, cX6_writeNumber, 4, (Option.none : Option Jvm.ClassFile.FieldType), false, []) (2, 0, 0, Q, X) 0 0 (MP τ m ad z) 45 (kF []) []) : kx G (yX6_writeNumber.cls, cX6_writeNumber, 4, (Option.none : Option Jvm.ClassFile.FieldType), false, []) (2, 0, 0, Q, X) 0 0 (MP τ m ad a0.1) 20 (kF [(0, .ref m), (1, .int (y1)), (3, .int (a0.2))]) [] := by
  refine loopK_1_0 (B := B_writeNumber_20 y1) (fun (a : TS) (a3 : Int32) => kx G (yX6_writeNumber.cls, cX6_writeNumber, 4, (Option.none : Option Jvm.ClassFile.FieldType), false, []) (2, 0, 0, Q, X) 0 0 (MP τ m ad a) 20 (kF [(0, .ref m), (1, .int (y1)), (3, .int (a3))]) []) (fun (b : TS) => kx G (yX6_writeNumber.cls, cX6_writeNumber, 4, (Option.none : Option Jvm.ClassFile.FieldType), false, []) (2, 0, 0, Q, X) 0 0 (MP τ m ad b) 45 (kF []) []) (fun a a3 r h kI kE => ?_) _ _ _ h kk
  · unfold B_writeNumber_20 at h
    refine kx_iload_n dX6_writeNumber_20 rfl rfl ?_
    refine kx_if_le (tgt := 45) dX6_writeNumber_21 (by decide) (fun c => ?_) (fun c => ?_)
    · have h := if_t c h
      exact kx_lwF [] trivial (kE (a) (Option.some.inj h).symm)
    · have h := if_f c h
      refine kx_aload_n dX6_writeNumber_24 rfl rfl ?_
      refine kx_bipush (v := 48) dX6_writeNumber_25 (by decide) ?_
      refine kx_iload_n dX6_writeNumber_27 rfl rfl ?_
      refine kx_iload_n dX6_writeNumber_28 rfl rfl ?_
      refine kN_div dX6_writeNumber_29 h (fun v20001 ev20001 h => ?_)
      refine kx_bipush (v := 10) dX6_writeNumber_30 (by decide) ?_
      refine kN_rem dX6_writeNumber_32 h (fun v20002 ev20002 h => ?_)
      refine kx_iadd dX6_writeNumber_33 ?_
      obtain ⟨r20003, er20003, h⟩ := bd_s h
      refine kx_callV dX6_writeNumber_34 lk_X6_489 (mM_write hd er20003) rfl kN_rc rfl (Nat.le_of_ble_eq_true rfl) (Nat.le_of_ble_eq_true rfl) (Nat.le_of_ble_eq_true rfl) (Nat.le_of_ble_eq_true rfl) (Nat.le_of_ble_eq_true rfl) (fun _ _ _ h => h.elim) (fun w_ σ_ hq => ?_)
      obtain ⟨rfl, rfl⟩ := hq
      refine kx_iload_n dX6_writeNumber_37 rfl rfl ?_
      refine kx_bipush (v := 10) dX6_writeNumber_38 (by decide) ?_
      refine kN_div dX6_writeNumber_40 h (fun v20004 ev20004 h => ?_)
      refine kx_istore_n dX6_writeNumber_41 rfl (Nat.le_of_ble_eq_true rfl) ?_
      refine kx_goto (tgt := 20) dX6_writeNumber_42 (by decide) ?_
      exact kx_lwF [(0, .ref m), (1, .int (y1)), (3, .int (v20004))] ⟨rfl, rfl, rfl, trivial⟩ (kI (r20003) (v20004) (Option.some.inj h).symm)
set_option maxHeartbeats 4000000 in
theorem mM_writeNumber {G : KG} {τ : KHp} {m : Nat} {ad : Nat → Nat} {s : TS} {x1 : Int32} {z : TS} (hd : Md m ad) (h : P_writeNumber s x1 = some z) : kx_c G yX6_writeNumber (ws_ yX6_writeNumber cX6_writeNumber 4 (Option.none : Option Jvm.ClassFile.FieldType)) 2 0 0 [.ref m, .int (x1)] (MP τ m ad s) (fun rv σ' => rv = none ∧ σ' = MP τ m ad z) kx_n := by
  refine kx_mk3 (ini := false) rfl (Nat.le_of_ble_eq_true rfl) (fun h => by cases h) (fun Q X hQ hX => ?_)
  unfold P_writeNumber at h
  refine kx_iconst (v := 1) dX6_writeNumber_0 (by decide) ?_
  refine kx_istore_n dX6_writeNumber_1 rfl (Nat.le_of_ble_eq_true rfl) ?_
  obtain ⟨b1, eb1, h⟩ := bd_s h
  refine kx_lwF [(0, .ref m), (1, .int (x1)), (2, .int ((1 : Int32)))] ⟨rfl, rfl, rfl, trivial⟩ (mL_writeNumber_2 hd (a0 := (s, (1 : Int32))) eb1 ?_)
  refine kx_iload_n dX6_writeNumber_18 rfl rfl ?_
  refine kx_istore_n dX6_writeNumber_19 rfl (Nat.le_of_ble_eq_true rfl) ?_
  obtain ⟨b2, eb2, h⟩ := bd_s h
  refine kx_lwF [(0, .ref m), (1, .int (x1)), (3, .int (b1.2))] ⟨rfl, rfl, rfl, trivial⟩ (mL_writeNumber_20 hd (a0 := (b1.1, b1.2)) eb2 ?_)
  exact kx_vret dX6_writeNumber_45 rfl (hQ _ _ (rtV (Option.some.inj h)))
set_option maxHeartbeats 4000000 in
theorem mM_passes {G : KG} {τ : KHp} {m : Nat} {ad : Nat → Nat} {s : TS} {x1 : Int32} {z : TS × Int32} (hd : Md m ad) (h : P_passes s x1 = some z) : kx_c G yX6_passes (ws_ yX6_passes cX6_passes 2 (Option.some Jvm.ClassFile.FieldType.boolean)) 2 0 0 [.ref m, .int (x1)] (MP τ m ad s) (fun rv σ' => rv = some (.int z.2) ∧ σ' = MP τ m ad z.1) kx_n := by
  refine kx_mk3 (ini := false) rfl (Nat.le_of_ble_eq_true rfl) (fun h => by cases h) (fun Q X hQ hX => ?_)
  unfold P_passes at h
  refine kx_aload_n dX6_passes_0 rfl rfl ?_
  refine kx_iload_n dX6_passes_1 rfl rfl ?_
  refine kx_iconst (v := 1) dX6_passes_2 (by decide) ?_
  refine kx_iconst (v := 1) dX6_passes_3 (by decide) ?_
  refine kx_iconst (v := 1) dX6_passes_4 (by decide) ?_
  obtain ⟨r1, er1, h⟩ := bd_s h
  refine kx_callV dX6_passes_5 lk_X6_7 (mM_passes4 hd er1) rfl kN_rc rfl (Nat.le_of_ble_eq_true rfl) (Nat.le_of_ble_eq_true rfl) (Nat.le_of_ble_eq_true rfl) (Nat.le_of_ble_eq_true rfl) (Nat.le_of_ble_eq_true rfl) (fun _ _ _ h => h.elim) (fun w_ σ_ hq => ?_)
  obtain ⟨rfl, rfl⟩ := hq
  refine kN_zret dX6_passes_8 rfl h (fun v2 ev2 h => hQ _ _ (by subst ev2; exact rtI (Option.some.inj h)))
set_option maxHeartbeats 4000000 in
theorem mM_truncate {G : KG} {τ : KHp} {m : Nat} {ad : Nat → Nat} {s : TS} {x1 : Int32} {z : TS} (hd : Md m ad) (h : P_truncate s x1 = some z) : kx_c G yX6_truncate (ws_ yX6_truncate cX6_truncate 2 (Option.none : Option Jvm.ClassFile.FieldType)) 3 0 0 [.ref m, .int (x1)] (MP τ m ad s) (fun rv σ' => rv = none ∧ σ' = MP τ m ad z) kx_n := by
  refine kx_mk3 (ini := false) rfl (Nat.le_of_ble_eq_true rfl) (fun h => by cases h) (fun Q X hQ hX => ?_)
  unfold P_truncate at h
  refine kx_aload_n dX6_truncate_0 rfl rfl ?_
  refine kx_iload_n dX6_truncate_1 rfl rfl ?_
  refine kx_i2l dX6_truncate_2 rfl ?_
  refine kx_lconst (v := 0) dX6_truncate_3 (by decide) ?_
  refine kx_aload_n dX6_truncate_4 rfl rfl ?_
  refine kx_getf dX6_truncate_5 fl_X6_74_X6 kN_m rfl ?_
  refine kx_i2l dX6_truncate_8 rfl ?_
  obtain ⟨r1, er1, h⟩ := bd_s h
  refine kx_callS dX6_truncate_9 lk_X6_66 (mM_in hd er1) rfl rfl (Nat.le_of_ble_eq_true rfl) (Nat.le_of_ble_eq_true rfl) (Nat.le_of_ble_eq_true rfl) (Nat.le_of_ble_eq_true rfl) (Nat.le_of_ble_eq_true rfl) (fun _ _ _ h => h.elim) (fun w_ σ_ hq => ?_)
  obtain ⟨rfl, rfl⟩ := hq
  obtain ⟨r2, er2, h⟩ := bd_s h
  refine kx_callV dX6_truncate_12 lk_X6_77 (mM_passes hd er2) rfl kN_rc rfl (Nat.le_of_ble_eq_true rfl) (Nat.le_of_ble_eq_true rfl) (Nat.le_of_ble_eq_true rfl) (Nat.le_of_ble_eq_true rfl) (Nat.le_of_ble_eq_true rfl) (fun _ _ _ h => h.elim) (fun w_ σ_ hq => ?_)
  obtain ⟨rfl, rfl⟩ := hq
  refine kx_if_eq (tgt := 23) dX6_truncate_15 (by decide) (fun c => ?_) (fun c => ?_)
  · have h := if_t c h
    exact kx_vret dX6_truncate_23 rfl (hQ _ _ (rtV (Option.some.inj h)))
  · have h := if_f c h
    refine kx_aload_n dX6_truncate_18 rfl rfl ?_
    refine kx_iload_n dX6_truncate_19 rfl rfl ?_
    refine kN_put dX6_truncate_20 fl_X6_74_X6 (Or.inl rfl) rfl h rfl (fun s3 es3 h => ?_)
    exact kx_vret dX6_truncate_23 rfl (hQ _ _ (rtV (Option.some.inj h)))
set_option maxHeartbeats 4000000 in
theorem mL_scan_0 {G : KG} {τ : KHp} {m : Nat} {ad : Nat → Nat} {Q : KQ} {X : KX}  {a0 : TS} {z : TS} (hd : Md m ad) (h : loopN (fun w : TS => B_scan_0  w) 9000 a0 = some z) (kk : kx G (yX6_scan.cls, cX6_scan, 2, (Option.none : Option Jvm.ClassFile.FieldType), false, []) (2, 0, 0, Q, X) 0 0 (MP τ m ad z) 39 (kF [(0, .ref m)]) []) : kx G (yX6_scan.cls, cX6_scan, 2, (Option.none : Option Jvm.ClassFile.FieldType), false, []) (2, 0, 0, Q, X) 0 0 (MP τ m ad a0) 0 (kF [(0, .ref m)]) [] := by
  refine loopK_0_0 (B := B_scan_0 ) (fun (a : TS) => kx G (yX6_scan.cls, cX6_scan, 2, (Option.none : Option Jvm.ClassFile.FieldType), false, []) (2, 0, 0, Q, X) 0 0 (MP τ m ad a) 0 (kF [(0, .ref m)]) []) (fun (b : TS) => kx G (yX6_scan.cls, cX6_scan, 2, (Option.none : Option Jvm.ClassFile.FieldType), false, []) (2, 0, 0, Q, X) 0 0 (MP τ m ad b) 39 (kF [(0, .ref m)]) []) (fun a r h kI kE => ?_) _ _ _ h kk
  · unfold B_scan_0 at h
    refine kx_aload_n dX6_scan_0 rfl rfl ?_
    refine kx_aload_n dX6_scan_1 rfl rfl ?_
    refine kx_getf dX6_scan_2 fl_X6_98_X6 kN_m rfl ?_
    obtain ⟨r1, er1, h⟩ := bd_s h
    refine kx_callV dX6_scan_5 lk_X6_101 (mM_byteAt hd er1) rfl kN_rc rfl (Nat.le_of_ble_eq_true rfl) (Nat.le_of_ble_eq_true rfl) (Nat.le_of_ble_eq_true rfl) (Nat.le_of_ble_eq_true rfl) (Nat.le_of_ble_eq_true rfl) (fun _ _ _ h => h.elim) (fun w_ σ_ hq => ?_)
    obtain ⟨rfl, rfl⟩ := hq
    refine kx_bipush (v := 32) dX6_scan_8 (by decide) ?_
    refine kx_icmp_eq (tgt := 26) dX6_scan_10 (by decide) (fun c => ?_) (fun c => ?_)
    · have h := if_t c h
      refine kx_aload_n dX6_scan_26 rfl rfl ?_
      refine kx_dup dX6_scan_27 rfl ?_
      refine kx_getf dX6_scan_28 fl_X6_98_X6 kN_m rfl ?_
      refine kx_iconst (v := 1) dX6_scan_31 (by decide) ?_
      refine kx_iadd dX6_scan_32 ?_
      refine kN_put dX6_scan_33 fl_X6_98_X6 (Or.inl rfl) rfl h rfl (fun s2 es2 h => ?_)
      refine kx_goto (tgt := 0) dX6_scan_36 (by decide) ?_
      exact kx_lwF [(0, .ref m)] ⟨rfl, trivial⟩ (kI (s2) (Option.some.inj h).symm)
    · have h := if_f c h
      refine kx_aload_n dX6_scan_13 rfl rfl ?_
      refine kx_aload_n dX6_scan_14 rfl rfl ?_
      refine kx_getf dX6_scan_15 fl_X6_98_X6 kN_m rfl ?_
      obtain ⟨r3, er3, h⟩ := bd_s h
      refine kx_callV dX6_scan_18 lk_X6_101 (mM_byteAt hd er3) rfl kN_rc rfl (Nat.le_of_ble_eq_true rfl) (Nat.le_of_ble_eq_true rfl) (Nat.le_of_ble_eq_true rfl) (Nat.le_of_ble_eq_true rfl) (Nat.le_of_ble_eq_true rfl) (fun _ _ _ h => h.elim) (fun w_ σ_ hq => ?_)
      obtain ⟨rfl, rfl⟩ := hq
      refine kx_bipush (v := 10) dX6_scan_21 (by decide) ?_
      refine kx_icmp_ne (tgt := 39) dX6_scan_23 (by decide) (fun c => ?_) (fun c => ?_)
      · have h := if_f c h
        exact kx_lwF [(0, .ref m)] ⟨rfl, trivial⟩ (kE (r3.1) (Option.some.inj h).symm)
      · have h := if_t c h
        refine kx_aload_n dX6_scan_26 rfl rfl ?_
        refine kx_dup dX6_scan_27 rfl ?_
        refine kx_getf dX6_scan_28 fl_X6_98_X6 kN_m rfl ?_
        refine kx_iconst (v := 1) dX6_scan_31 (by decide) ?_
        refine kx_iadd dX6_scan_32 ?_
        refine kN_put dX6_scan_33 fl_X6_98_X6 (Or.inl rfl) rfl h rfl (fun s4 es4 h => ?_)
        refine kx_goto (tgt := 0) dX6_scan_36 (by decide) ?_
        exact kx_lwF [(0, .ref m)] ⟨rfl, trivial⟩ (kI (s4) (Option.some.inj h).symm)
set_option maxHeartbeats 4000000 in
theorem mL_scan_144 {G : KG} {τ : KHp} {m : Nat} {ad : Nat → Nat} {Q : KQ} {X : KX}  {a0 : TS} {z : TS} (hd : Md m ad) (h : loopN (fun w : TS => B_scan_144  w) 9000 a0 = some z) (kk : kx G (yX6_scan.cls, cX6_scan, 2, (Option.none : Option Jvm.ClassFile.FieldType), false, []) (2, 0, 0, Q, X) 0 0 (MP τ m ad z) 206 (kF [(0, .ref m)]) []) : kx G (yX6_scan.cls, cX6_scan, 2, (Option.none : Option Jvm.ClassFile.FieldType), false, []) (2, 0, 0, Q, X) 0 0 (MP τ m ad a0) 144 (kF [(0, .ref m)]) [] := by
  refine loopK_0_0 (B := B_scan_144 ) (fun (a : TS) => kx G (yX6_scan.cls, cX6_scan, 2, (Option.none : Option Jvm.ClassFile.FieldType), false, []) (2, 0, 0, Q, X) 0 0 (MP τ m ad a) 144 (kF [(0, .ref m)]) []) (fun (b : TS) => kx G (yX6_scan.cls, cX6_scan, 2, (Option.none : Option Jvm.ClassFile.FieldType), false, []) (2, 0, 0, Q, X) 0 0 (MP τ m ad b) 206 (kF [(0, .ref m)]) []) (fun a r h kI kE => ?_) _ _ _ h kk
  · unfold B_scan_144 at h
    refine kx_aload_n dX6_scan_144 rfl rfl ?_
    refine kx_aload_n dX6_scan_145 rfl rfl ?_
    refine kx_getf dX6_scan_146 fl_X6_98_X6 kN_m rfl ?_
    obtain ⟨r144001, er144001, h⟩ := bd_s h
    refine kx_callV dX6_scan_149 lk_X6_101 (mM_byteAt hd er144001) rfl kN_rc rfl (Nat.le_of_ble_eq_true rfl) (Nat.le_of_ble_eq_true rfl) (Nat.le_of_ble_eq_true rfl) (Nat.le_of_ble_eq_true rfl) (Nat.le_of_ble_eq_true rfl) (fun _ _ _ h => h.elim) (fun w_ σ_ hq => ?_)
    obtain ⟨rfl, rfl⟩ := hq
    refine kx_i2l dX6_scan_152 rfl ?_
    refine kx_ldc2 dX6_scan_153 q2865 ?_
    refine kx_ldc2 dX6_scan_156 q2866 ?_
    obtain ⟨r144002, er144002, h⟩ := bd_s h
    refine kx_callS dX6_scan_159 lk_X6_66 (mM_in hd er144002) rfl rfl (Nat.le_of_ble_eq_true rfl) (Nat.le_of_ble_eq_true rfl) (Nat.le_of_ble_eq_true rfl) (Nat.le_of_ble_eq_true rfl) (Nat.le_of_ble_eq_true rfl) (fun _ _ _ h => h.elim) (fun w_ σ_ hq => ?_)
    obtain ⟨rfl, rfl⟩ := hq
    refine kx_if_eq (tgt := 206) dX6_scan_162 (by decide) (fun c => ?_) (fun c => ?_)
    · have h := if_t c h
      exact kx_lwF [(0, .ref m)] ⟨rfl, trivial⟩ (kE (r144002.1) (Option.some.inj h).symm)
    · have h := if_f c h
      refine kx_aload_n dX6_scan_165 rfl rfl ?_
      refine kx_ldci dX6_scan_166 q2867 ?_
      refine kx_bipush (v := 10) dX6_scan_168 (by decide) ?_
      refine kx_aload_n dX6_scan_170 rfl rfl ?_
      refine kx_getf dX6_scan_171 fl_X6_116_X6 kN_m rfl ?_
      refine kx_imul dX6_scan_174 ?_
      refine kx_aload_n dX6_scan_175 rfl rfl ?_
      refine kx_aload_n dX6_scan_176 rfl rfl ?_
      refine kx_getf dX6_scan_177 fl_X6_98_X6 kN_m rfl ?_
      obtain ⟨r144003, er144003, h⟩ := bd_s h
      refine kx_callV dX6_scan_180 lk_X6_101 (mM_byteAt hd er144003) rfl kN_rc rfl (Nat.le_of_ble_eq_true rfl) (Nat.le_of_ble_eq_true rfl) (Nat.le_of_ble_eq_true rfl) (Nat.le_of_ble_eq_true rfl) (Nat.le_of_ble_eq_true rfl) (fun _ _ _ h => h.elim) (fun w_ σ_ hq => ?_)
      obtain ⟨rfl, rfl⟩ := hq
      refine kx_iadd dX6_scan_183 ?_
      refine kx_bipush (v := 48) dX6_scan_184 (by decide) ?_
      refine kx_isub dX6_scan_186 ?_
      refine kx_callS dX6_scan_187 lk_X6_120 mJ_min rfl rfl (Nat.le_of_ble_eq_true rfl) (Nat.le_of_ble_eq_true rfl) (Nat.le_of_ble_eq_true rfl) (Nat.le_of_ble_eq_true rfl) (Nat.le_of_ble_eq_true rfl) (fun _ _ _ h => h.elim) (fun w_ σ_ hq => ?_)
      obtain ⟨rfl, rfl⟩ := hq
      refine kN_put dX6_scan_190 fl_X6_116_X6 (Or.inl rfl) rfl h rfl (fun s144004 es144004 h => ?_)
      refine kx_aload_n dX6_scan_193 rfl rfl ?_
      refine kx_dup dX6_scan_194 rfl ?_
      refine kx_getf dX6_scan_195 fl_X6_98_X6 kN_m rfl ?_
      refine kx_iconst (v := 1) dX6_scan_198 (by decide) ?_
      refine kx_iadd dX6_scan_199 ?_
      refine kN_put dX6_scan_200 fl_X6_98_X6 (Or.inl rfl) rfl h rfl (fun s144005 es144005 h => ?_)
      refine kx_goto (tgt := 144) dX6_scan_203 (by decide) ?_
      exact kx_lwF [(0, .ref m)] ⟨rfl, trivial⟩ (kI (s144005) (Option.some.inj h).symm)
set_option maxHeartbeats 4000000 in
theorem mL_scan_83 {G : KG} {τ : KHp} {m : Nat} {ad : Nat → Nat} {Q : KQ} {X : KX}  {a0 : TS} {z : TS} (hd : Md m ad) (h : loopN (fun w : TS => B_scan_83  w) 9000 a0 = some z) (kk : kx G (yX6_scan.cls, cX6_scan, 2, (Option.none : Option Jvm.ClassFile.FieldType), false, []) (2, 0, 0, Q, X) 0 0 (MP τ m ad z) 117 (kF [(0, .ref m)]) []) : kx G (yX6_scan.cls, cX6_scan, 2, (Option.none : Option Jvm.ClassFile.FieldType), false, []) (2, 0, 0, Q, X) 0 0 (MP τ m ad a0) 83 (kF [(0, .ref m)]) [] := by
  refine loopK_0_0 (B := B_scan_83 ) (fun (a : TS) => kx G (yX6_scan.cls, cX6_scan, 2, (Option.none : Option Jvm.ClassFile.FieldType), false, []) (2, 0, 0, Q, X) 0 0 (MP τ m ad a) 83 (kF [(0, .ref m)]) []) (fun (b : TS) => kx G (yX6_scan.cls, cX6_scan, 2, (Option.none : Option Jvm.ClassFile.FieldType), false, []) (2, 0, 0, Q, X) 0 0 (MP τ m ad b) 117 (kF [(0, .ref m)]) []) (fun a r h kI kE => ?_) _ _ _ h kk
  · unfold B_scan_83 at h
    refine kx_aload_n dX6_scan_83 rfl rfl ?_
    refine kx_aload_n dX6_scan_84 rfl rfl ?_
    refine kx_getf dX6_scan_85 fl_X6_98_X6 kN_m rfl ?_
    obtain ⟨r83001, er83001, h⟩ := bd_s h
    refine kx_callV dX6_scan_88 lk_X6_101 (mM_byteAt hd er83001) rfl kN_rc rfl (Nat.le_of_ble_eq_true rfl) (Nat.le_of_ble_eq_true rfl) (Nat.le_of_ble_eq_true rfl) (Nat.le_of_ble_eq_true rfl) (Nat.le_of_ble_eq_true rfl) (fun _ _ _ h => h.elim) (fun w_ σ_ hq => ?_)
    obtain ⟨rfl, rfl⟩ := hq
    refine kx_i2l dX6_scan_91 rfl ?_
    refine kx_ldc2 dX6_scan_92 q2863 ?_
    refine kx_ldc2 dX6_scan_95 q2864 ?_
    obtain ⟨r83002, er83002, h⟩ := bd_s h
    refine kx_callS dX6_scan_98 lk_X6_66 (mM_in hd er83002) rfl rfl (Nat.le_of_ble_eq_true rfl) (Nat.le_of_ble_eq_true rfl) (Nat.le_of_ble_eq_true rfl) (Nat.le_of_ble_eq_true rfl) (Nat.le_of_ble_eq_true rfl) (fun _ _ _ h => h.elim) (fun w_ σ_ hq => ?_)
    obtain ⟨rfl, rfl⟩ := hq
    refine kx_if_eq (tgt := 117) dX6_scan_101 (by decide) (fun c => ?_) (fun c => ?_)
    · have h := if_t c h
      exact kx_lwF [(0, .ref m)] ⟨rfl, trivial⟩ (kE (r83002.1) (Option.some.inj h).symm)
    · have h := if_f c h
      refine kx_aload_n dX6_scan_104 rfl rfl ?_
      refine kx_dup dX6_scan_105 rfl ?_
      refine kx_getf dX6_scan_106 fl_X6_98_X6 kN_m rfl ?_
      refine kx_iconst (v := 1) dX6_scan_109 (by decide) ?_
      refine kx_iadd dX6_scan_110 ?_
      refine kN_put dX6_scan_111 fl_X6_98_X6 (Or.inl rfl) rfl h rfl (fun s83003 es83003 h => ?_)
      refine kx_goto (tgt := 83) dX6_scan_114 (by decide) ?_
      exact kx_lwF [(0, .ref m)] ⟨rfl, trivial⟩ (kI (s83003) (Option.some.inj h).symm)
set_option maxHeartbeats 4000000 in
theorem mM_scan {G : KG} {τ : KHp} {m : Nat} {ad : Nat → Nat} {s : TS}  {z : TS} (hd : Md m ad) (h : P_scan s  = some z) : kx_c G yX6_scan (ws_ yX6_scan cX6_scan 2 (Option.none : Option Jvm.ClassFile.FieldType)) 2 0 0 [.ref m] (MP τ m ad s) (fun rv σ' => rv = none ∧ σ' = MP τ m ad z) kx_n := by
  refine kx_mk3 (ini := false) rfl (Nat.le_of_ble_eq_true rfl) (fun h => by cases h) (fun Q X hQ hX => ?_)
  unfold P_scan at h
  obtain ⟨b1, eb1, h⟩ := bd_s h
  refine kx_lwF [(0, .ref m)] ⟨rfl, trivial⟩ (mL_scan_0 hd (a0 := (s)) eb1 ?_)
  refine kx_aload_n dX6_scan_39 rfl rfl ?_
  refine kx_aload_n dX6_scan_40 rfl rfl ?_
  refine kx_getf dX6_scan_41 fl_X6_98_X6 kN_m rfl ?_
  refine kN_put dX6_scan_44 fl_X6_92_X6 (Or.inl rfl) rfl h rfl (fun s2 es2 h => ?_)
  refine kx_aload_n dX6_scan_47 rfl rfl ?_
  refine kx_aload_n dX6_scan_48 rfl rfl ?_
  refine kx_getf dX6_scan_49 fl_X6_98_X6 kN_m rfl ?_
  obtain ⟨r3, er3, h⟩ := bd_s h
  refine kx_callV dX6_scan_52 lk_X6_101 (mM_byteAt hd er3) rfl kN_rc rfl (Nat.le_of_ble_eq_true rfl) (Nat.le_of_ble_eq_true rfl) (Nat.le_of_ble_eq_true rfl) (Nat.le_of_ble_eq_true rfl) (Nat.le_of_ble_eq_true rfl) (fun _ _ _ h => h.elim) (fun w_ σ_ hq => ?_)
  obtain ⟨rfl, rfl⟩ := hq
  refine kx_istore_n dX6_scan_55 rfl (Nat.le_of_ble_eq_true rfl) ?_
  refine kx_iload_n dX6_scan_56 rfl rfl ?_
  refine kx_iconst (v := -1) dX6_scan_57 (by decide) ?_
  refine kx_icmp_ne (tgt := 69) dX6_scan_58 (by decide) (fun c => ?_) (fun c => ?_)
  · have h := if_f c h
    refine kx_iload_n dX6_scan_69 rfl rfl ?_
    refine kx_i2l dX6_scan_70 rfl ?_
    refine kx_ldc2 dX6_scan_71 q2863 ?_
    refine kx_ldc2 dX6_scan_74 q2864 ?_
    obtain ⟨r4, er4, h⟩ := bd_s h
    refine kx_callS dX6_scan_77 lk_X6_66 (mM_in hd er4) rfl rfl (Nat.le_of_ble_eq_true rfl) (Nat.le_of_ble_eq_true rfl) (Nat.le_of_ble_eq_true rfl) (Nat.le_of_ble_eq_true rfl) (Nat.le_of_ble_eq_true rfl) (fun _ _ _ h => h.elim) (fun w_ σ_ hq => ?_)
    obtain ⟨rfl, rfl⟩ := hq
    refine kx_if_eq (tgt := 125) dX6_scan_80 (by decide) (fun c => ?_) (fun c => ?_)
    · have h := if_t c h
      refine kx_iload_n dX6_scan_125 rfl rfl ?_
      refine kx_i2l dX6_scan_126 rfl ?_
      refine kx_ldc2 dX6_scan_127 q2865 ?_
      refine kx_ldc2 dX6_scan_130 q2866 ?_
      obtain ⟨r5, er5, h⟩ := bd_s h
      refine kx_callS dX6_scan_133 lk_X6_66 (mM_in hd er5) rfl rfl (Nat.le_of_ble_eq_true rfl) (Nat.le_of_ble_eq_true rfl) (Nat.le_of_ble_eq_true rfl) (Nat.le_of_ble_eq_true rfl) (Nat.le_of_ble_eq_true rfl) (fun _ _ _ h => h.elim) (fun w_ σ_ hq => ?_)
      obtain ⟨rfl, rfl⟩ := hq
      refine kx_if_eq (tgt := 214) dX6_scan_136 (by decide) (fun c => ?_) (fun c => ?_)
      · have h := if_t c h
        refine kx_aload_n dX6_scan_214 rfl rfl ?_
        refine kx_iconst (v := 3) dX6_scan_215 (by decide) ?_
        refine kN_put dX6_scan_216 fl_X6_105_X6 (Or.inl rfl) rfl h rfl (fun s6 es6 h => ?_)
        refine kx_aload_n dX6_scan_219 rfl rfl ?_
        refine kx_iload_n dX6_scan_220 rfl rfl ?_
        refine kN_put dX6_scan_221 fl_X6_116_X6 (Or.inl rfl) rfl h rfl (fun s7 es7 h => ?_)
        refine kx_aload_n dX6_scan_224 rfl rfl ?_
        refine kx_dup dX6_scan_225 rfl ?_
        refine kx_getf dX6_scan_226 fl_X6_98_X6 kN_m rfl ?_
        refine kx_iconst (v := 1) dX6_scan_229 (by decide) ?_
        refine kx_iadd dX6_scan_230 ?_
        refine kN_put dX6_scan_231 fl_X6_98_X6 (Or.inl rfl) rfl h rfl (fun s8 es8 h => ?_)
        exact kx_vret dX6_scan_234 rfl (hQ _ _ (rtV (Option.some.inj h)))
      · have h := if_f c h
        refine kx_aload_n dX6_scan_139 rfl rfl ?_
        refine kx_iconst (v := 0) dX6_scan_140 (by decide) ?_
        refine kN_put dX6_scan_141 fl_X6_116_X6 (Or.inl rfl) rfl h rfl (fun s9 es9 h => ?_)
        obtain ⟨b10, eb10, h⟩ := bd_s h
        refine kx_lwF [(0, .ref m)] ⟨rfl, trivial⟩ (mL_scan_144 hd (a0 := (s9)) eb10 ?_)
        refine kx_aload_n dX6_scan_206 rfl rfl ?_
        refine kx_iconst (v := 2) dX6_scan_207 (by decide) ?_
        refine kN_put dX6_scan_208 fl_X6_105_X6 (Or.inl rfl) rfl h rfl (fun s11 es11 h => ?_)
        refine kx_goto (tgt := 234) dX6_scan_211 (by decide) ?_
        exact kx_vret dX6_scan_234 rfl (hQ _ _ (rtV (Option.some.inj h)))
    · have h := if_f c h
      obtain ⟨b12, eb12, h⟩ := bd_s h
      refine kx_lwF [(0, .ref m)] ⟨rfl, trivial⟩ (mL_scan_83 hd (a0 := (r4.1)) eb12 ?_)
      refine kx_aload_n dX6_scan_117 rfl rfl ?_
      refine kx_iconst (v := 1) dX6_scan_118 (by decide) ?_
      refine kN_put dX6_scan_119 fl_X6_105_X6 (Or.inl rfl) rfl h rfl (fun s13 es13 h => ?_)
      refine kx_goto (tgt := 234) dX6_scan_122 (by decide) ?_
      exact kx_vret dX6_scan_234 rfl (hQ _ _ (rtV (Option.some.inj h)))
  · have h := if_t c h
    refine kx_aload_n dX6_scan_61 rfl rfl ?_
    refine kx_iconst (v := 0) dX6_scan_62 (by decide) ?_
    refine kN_put dX6_scan_63 fl_X6_105_X6 (Or.inl rfl) rfl h rfl (fun s14 es14 h => ?_)
    refine kx_goto (tgt := 234) dX6_scan_66 (by decide) ?_
    exact kx_vret dX6_scan_234 rfl (hQ _ _ (rtV (Option.some.inj h)))
set_option maxHeartbeats 4000000 in
theorem mM_isText {G : KG} {τ : KHp} {m : Nat} {ad : Nat → Nat} {s : TS} {x1 : Nat} {z : TS × Int32} (hd : Md m ad) (h : P_isText s x1 = some z) : kx_c G yX6_isText (ws_ yX6_isText cX6_isText 2 (Option.some Jvm.ClassFile.FieldType.boolean)) 6 0 0 [.ref m, .ref (kx_K G (x1))] (MP τ m ad s) (fun rv σ' => rv = some (.int z.2) ∧ σ' = MP τ m ad z.1) kx_n := by
  refine kx_mk3 (ini := false) rfl (Nat.le_of_ble_eq_true rfl) (fun h => by cases h) (fun Q X hQ hX => ?_)
  unfold P_isText at h
  refine kx_aload_n dX6_isText_0 rfl rfl ?_
  obtain ⟨r1, er1, h⟩ := bd_s h
  refine kx_callV dX6_isText_1 lk_X6_88 (mM_good hd er1) rfl kN_rc rfl (Nat.le_of_ble_eq_true rfl) (Nat.le_of_ble_eq_true rfl) (Nat.le_of_ble_eq_true rfl) (Nat.le_of_ble_eq_true rfl) (Nat.le_of_ble_eq_true rfl) (fun _ _ _ h => h.elim) (fun w_ σ_ hq => ?_)
  obtain ⟨rfl, rfl⟩ := hq
  obtain ⟨r2, er2, h⟩ := bd_s h
  refine kN_j (MP τ m ad r2.1) 28 [.int (r2.2)] ?_ (fun jr2 => ?_)
  · skip
    refine kN_zret dX6_isText_28 rfl h (fun v4 ev4 h => hQ _ _ (by subst ev4; exact rtI (Option.some.inj h)))
  · have h := er2
    refine kx_if_eq (tgt := 27) dX6_isText_4 (by decide) (fun c => ?_) (fun c => ?_)
    · have h := if_t c h
      refine kx_iconst (v := 0) dX6_isText_27 (by decide) ?_
      exact jnI h jr2
    · have h := if_f c h
      refine kx_aload_n dX6_isText_7 rfl rfl ?_
      refine kx_getf dX6_isText_8 fl_X6_105_X6 kN_m rfl ?_
      refine kx_iconst (v := 1) dX6_isText_11 (by decide) ?_
      refine kx_icmp_ne (tgt := 27) dX6_isText_12 (by decide) (fun c => ?_) (fun c => ?_)
      · have h := if_f c h
        refine kx_iconst (v := 0) dX6_isText_27 (by decide) ?_
        exact jnI h jr2
      · have h := if_t c h
        refine kx_aload_n dX6_isText_15 rfl rfl ?_
        refine kx_aload_n dX6_isText_16 rfl rfl ?_
        obtain ⟨r3, er3, h⟩ := bd_s h
        refine kx_callV dX6_isText_17 lk_X6_138 (mM_isWord hd er3) rfl kN_rc rfl (Nat.le_of_ble_eq_true rfl) (Nat.le_of_ble_eq_true rfl) (Nat.le_of_ble_eq_true rfl) (Nat.le_of_ble_eq_true rfl) (Nat.le_of_ble_eq_true rfl) (fun _ _ _ h => h.elim) (fun w_ σ_ hq => ?_)
        obtain ⟨rfl, rfl⟩ := hq
        refine kx_if_eq (tgt := 27) dX6_isText_20 (by decide) (fun c => ?_) (fun c => ?_)
        · have h := if_t c h
          refine kx_iconst (v := 0) dX6_isText_27 (by decide) ?_
          exact jnI h jr2
        · have h := if_f c h
          refine kx_iconst (v := 1) dX6_isText_23 (by decide) ?_
          refine kx_goto (tgt := 28) dX6_isText_24 (by decide) ?_
          exact jnI h jr2
set_option maxHeartbeats 4000000 in
theorem mM_goOn {G : KG} {τ : KHp} {m : Nat} {ad : Nat → Nat} {s : TS}  {z : TS} (hd : Md m ad) (h : P_goOn s  = some z) : kx_c G yX6_goOn (ws_ yX6_goOn cX6_goOn 1 (Option.none : Option Jvm.ClassFile.FieldType)) 3 0 0 [.ref m] (MP τ m ad s) (fun rv σ' => rv = none ∧ σ' = MP τ m ad z) kx_n := by
  refine kx_mk3 (ini := false) rfl (Nat.le_of_ble_eq_true rfl) (fun h => by cases h) (fun Q X hQ hX => ?_)
  unfold P_goOn at h
  refine kx_aload_n dX6_goOn_0 rfl rfl ?_
  obtain ⟨r1, er1, h⟩ := bd_s h
  refine kx_callV dX6_goOn_1 lk_X6_88 (mM_good hd er1) rfl kN_rc rfl (Nat.le_of_ble_eq_true rfl) (Nat.le_of_ble_eq_true rfl) (Nat.le_of_ble_eq_true rfl) (Nat.le_of_ble_eq_true rfl) (Nat.le_of_ble_eq_true rfl) (fun _ _ _ h => h.elim) (fun w_ σ_ hq => ?_)
  obtain ⟨rfl, rfl⟩ := hq
  refine kx_if_eq (tgt := 11) dX6_goOn_4 (by decide) (fun c => ?_) (fun c => ?_)
  · have h := if_t c h
    exact kx_vret dX6_goOn_11 rfl (hQ _ _ (rtV (Option.some.inj h)))
  · have h := if_f c h
    refine kx_aload_n dX6_goOn_7 rfl rfl ?_
    obtain ⟨r2, er2, h⟩ := bd_s h
    refine kx_callV dX6_goOn_8 lk_X6_125 (mM_scan hd er2) rfl kN_rc rfl (Nat.le_of_ble_eq_true rfl) (Nat.le_of_ble_eq_true rfl) (Nat.le_of_ble_eq_true rfl) (Nat.le_of_ble_eq_true rfl) (Nat.le_of_ble_eq_true rfl) (fun _ _ _ h => h.elim) (fun w_ σ_ hq => ?_)
    obtain ⟨rfl, rfl⟩ := hq
    exact kx_vret dX6_goOn_11 rfl (hQ _ _ (rtV (Option.some.inj h)))
set_option maxHeartbeats 4000000 in
theorem mM_number {G : KG} {τ : KHp} {m : Nat} {ad : Nat → Nat} {s : TS} {x1 : Int32} {x2 : Int32} {z : TS × Int32} (hd : Md m ad) (h : P_number s x1 x2 = some z) : kx_c G yX6_number (ws_ yX6_number cX6_number 4 (Option.some Jvm.ClassFile.FieldType.int)) 4 0 0 [.ref m, .int (x1), .int (x2)] (MP τ m ad s) (fun rv σ' => rv = some (.int z.2) ∧ σ' = MP τ m ad z.1) kx_n := by
  refine kx_mk3 (ini := false) rfl (Nat.le_of_ble_eq_true rfl) (fun h => by cases h) (fun Q X hQ hX => ?_)
  unfold P_number at h
  refine kx_aload_n dX6_number_0 rfl rfl ?_
  obtain ⟨r1, er1, h⟩ := bd_s h
  refine kx_callV dX6_number_1 lk_X6_88 (mM_good hd er1) rfl kN_rc rfl (Nat.le_of_ble_eq_true rfl) (Nat.le_of_ble_eq_true rfl) (Nat.le_of_ble_eq_true rfl) (Nat.le_of_ble_eq_true rfl) (Nat.le_of_ble_eq_true rfl) (fun _ _ _ h => h.elim) (fun w_ σ_ hq => ?_)
  obtain ⟨rfl, rfl⟩ := hq
  obtain ⟨r2, er2, h⟩ := bd_s h
  refine kN_j (MP τ m ad r2) 20 [] ?_ (fun jr2 => ?_)
  · skip
    refine kx_aload_n dX6_number_20 rfl rfl ?_
    obtain ⟨r4, er4, h⟩ := bd_s h
    refine kx_callV dX6_number_21 lk_X6_88 (mM_good hd er4) rfl kN_rc rfl (Nat.le_of_ble_eq_true rfl) (Nat.le_of_ble_eq_true rfl) (Nat.le_of_ble_eq_true rfl) (Nat.le_of_ble_eq_true rfl) (Nat.le_of_ble_eq_true rfl) (fun _ _ _ h => h.elim) (fun w_ σ_ hq => ?_)
    obtain ⟨rfl, rfl⟩ := hq
    obtain ⟨r5, er5, h⟩ := bd_s h
    refine kN_j (MP τ m ad r5) 47 [] ?_ (fun jr5 => ?_)
    · skip
      refine kx_aload_n dX6_number_47 rfl rfl ?_
      obtain ⟨r8, er8, h⟩ := bd_s h
      refine kx_callV dX6_number_48 lk_X6_88 (mM_good hd er8) rfl kN_rc rfl (Nat.le_of_ble_eq_true rfl) (Nat.le_of_ble_eq_true rfl) (Nat.le_of_ble_eq_true rfl) (Nat.le_of_ble_eq_true rfl) (Nat.le_of_ble_eq_true rfl) (fun _ _ _ h => h.elim) (fun w_ σ_ hq => ?_)
      obtain ⟨rfl, rfl⟩ := hq
      obtain ⟨r9, er9, h⟩ := bd_s h
      refine kN_j (MP τ m ad r9.1) 62 [.int (r9.2)] ?_ (fun jr9 => ?_)
      · skip
        refine kx_istore_n dX6_number_62 rfl (Nat.le_of_ble_eq_true rfl) ?_
        refine kx_aload_n dX6_number_63 rfl rfl ?_
        obtain ⟨r10, er10, h⟩ := bd_s h
        refine kx_callV dX6_number_64 lk_X6_214 (mM_goOn hd er10) rfl kN_rc rfl (Nat.le_of_ble_eq_true rfl) (Nat.le_of_ble_eq_true rfl) (Nat.le_of_ble_eq_true rfl) (Nat.le_of_ble_eq_true rfl) (Nat.le_of_ble_eq_true rfl) (fun _ _ _ h => h.elim) (fun w_ σ_ hq => ?_)
        obtain ⟨rfl, rfl⟩ := hq
        refine kx_iload_n dX6_number_67 rfl rfl ?_
        exact kx_iret dX6_number_68 rfl (hQ _ _ (rtI (Option.some.inj h)))
      · have h := er9
        refine kx_if_eq (tgt := 61) dX6_number_51 (by decide) (fun c => ?_) (fun c => ?_)
        · have h := if_t c h
          refine kx_iload_n dX6_number_61 rfl rfl ?_
          exact jnI h jr9
        · have h := if_f c h
          refine kx_aload_n dX6_number_54 rfl rfl ?_
          refine kx_getf dX6_number_55 fl_X6_116_X6 kN_m rfl ?_
          refine kx_goto (tgt := 62) dX6_number_58 (by decide) ?_
          exact jnI h jr9
    · have h := er5
      refine kx_if_eq (tgt := 47) dX6_number_24 (by decide) (fun c => ?_) (fun c => ?_)
      · have h := if_t c h
        exact jnS h jr5
      · have h := if_f c h
        refine kx_aload_n dX6_number_27 rfl rfl ?_
        refine kx_getf dX6_number_28 fl_X6_116_X6 kN_m rfl ?_
        refine kx_i2l dX6_number_31 rfl ?_
        refine kx_iload_n dX6_number_32 rfl rfl ?_
        refine kx_i2l dX6_number_33 rfl ?_
        refine kx_iload_n dX6_number_34 rfl rfl ?_
        refine kx_i2l dX6_number_35 rfl ?_
        obtain ⟨r6, er6, h⟩ := bd_s h
        refine kx_callS dX6_number_36 lk_X6_66 (mM_in hd er6) rfl rfl (Nat.le_of_ble_eq_true rfl) (Nat.le_of_ble_eq_true rfl) (Nat.le_of_ble_eq_true rfl) (Nat.le_of_ble_eq_true rfl) (Nat.le_of_ble_eq_true rfl) (fun _ _ _ h => h.elim) (fun w_ σ_ hq => ?_)
        obtain ⟨rfl, rfl⟩ := hq
        refine kx_if_ne (tgt := 47) dX6_number_39 (by decide) (fun c => ?_) (fun c => ?_)
        · have h := if_f c h
          exact jnS h jr5
        · have h := if_t c h
          refine kx_aload_n dX6_number_42 rfl rfl ?_
          refine kx_iconst (v := 2) dX6_number_43 (by decide) ?_
          obtain ⟨r7, er7, h⟩ := bd_s h
          refine kx_callV dX6_number_44 lk_X6_211 (mM_errs hd er7) rfl kN_rc rfl (Nat.le_of_ble_eq_true rfl) (Nat.le_of_ble_eq_true rfl) (Nat.le_of_ble_eq_true rfl) (Nat.le_of_ble_eq_true rfl) (Nat.le_of_ble_eq_true rfl) (fun _ _ _ h => h.elim) (fun w_ σ_ hq => ?_)
          obtain ⟨rfl, rfl⟩ := hq
          exact jnS h jr5
  · have h := er2
    refine kx_if_eq (tgt := 20) dX6_number_4 (by decide) (fun c => ?_) (fun c => ?_)
    · have h := if_t c h
      exact jnS h jr2
    · have h := if_f c h
      refine kx_aload_n dX6_number_7 rfl rfl ?_
      refine kx_getf dX6_number_8 fl_X6_105_X6 kN_m rfl ?_
      refine kx_iconst (v := 2) dX6_number_11 (by decide) ?_
      refine kx_icmp_eq (tgt := 20) dX6_number_12 (by decide) (fun c => ?_) (fun c => ?_)
      · have h := if_t c h
        exact jnS h jr2
      · have h := if_f c h
        refine kx_aload_n dX6_number_15 rfl rfl ?_
        refine kx_iconst (v := 1) dX6_number_16 (by decide) ?_
        obtain ⟨r3, er3, h⟩ := bd_s h
        refine kx_callV dX6_number_17 lk_X6_211 (mM_errs hd er3) rfl kN_rc rfl (Nat.le_of_ble_eq_true rfl) (Nat.le_of_ble_eq_true rfl) (Nat.le_of_ble_eq_true rfl) (Nat.le_of_ble_eq_true rfl) (Nat.le_of_ble_eq_true rfl) (fun _ _ _ h => h.elim) (fun w_ σ_ hq => ?_)
        obtain ⟨rfl, rfl⟩ := hq
        exact jnS h jr2
set_option maxHeartbeats 4000000 in
theorem mM_semicolon {G : KG} {τ : KHp} {m : Nat} {ad : Nat → Nat} {s : TS}  {z : TS} (hd : Md m ad) (h : P_semicolon s  = some z) : kx_c G yX6_semicolon (ws_ yX6_semicolon cX6_semicolon 1 (Option.none : Option Jvm.ClassFile.FieldType)) 4 0 0 [.ref m] (MP τ m ad s) (fun rv σ' => rv = none ∧ σ' = MP τ m ad z) kx_n := by
  refine kx_mk3 (ini := false) rfl (Nat.le_of_ble_eq_true rfl) (fun h => by cases h) (fun Q X hQ hX => ?_)
  unfold P_semicolon at h
  refine kx_aload_n dX6_semicolon_0 rfl rfl ?_
  refine kx_bipush (v := 59) dX6_semicolon_1 (by decide) ?_
  obtain ⟨r1, er1, h⟩ := bd_s h
  refine kx_callV dX6_semicolon_3 lk_X6_255 (mM_isSymbol hd er1) rfl kN_rc rfl (Nat.le_of_ble_eq_true rfl) (Nat.le_of_ble_eq_true rfl) (Nat.le_of_ble_eq_true rfl) (Nat.le_of_ble_eq_true rfl) (Nat.le_of_ble_eq_true rfl) (fun _ _ _ h => h.elim) (fun w_ σ_ hq => ?_)
  obtain ⟨rfl, rfl⟩ := hq
  refine kx_if_ne (tgt := 14) dX6_semicolon_6 (by decide) (fun c => ?_) (fun c => ?_)
  · have h := if_f c h
    refine kx_aload_n dX6_semicolon_14 rfl rfl ?_
    obtain ⟨r2, er2, h⟩ := bd_s h
    refine kx_callV dX6_semicolon_15 lk_X6_214 (mM_goOn hd er2) rfl kN_rc rfl (Nat.le_of_ble_eq_true rfl) (Nat.le_of_ble_eq_true rfl) (Nat.le_of_ble_eq_true rfl) (Nat.le_of_ble_eq_true rfl) (Nat.le_of_ble_eq_true rfl) (fun _ _ _ h => h.elim) (fun w_ σ_ hq => ?_)
    obtain ⟨rfl, rfl⟩ := hq
    exact kx_vret dX6_semicolon_18 rfl (hQ _ _ (rtV (Option.some.inj h)))
  · have h := if_t c h
    refine kx_aload_n dX6_semicolon_9 rfl rfl ?_
    refine kx_iconst (v := 1) dX6_semicolon_10 (by decide) ?_
    obtain ⟨r3, er3, h⟩ := bd_s h
    refine kx_callV dX6_semicolon_11 lk_X6_211 (mM_errs hd er3) rfl kN_rc rfl (Nat.le_of_ble_eq_true rfl) (Nat.le_of_ble_eq_true rfl) (Nat.le_of_ble_eq_true rfl) (Nat.le_of_ble_eq_true rfl) (Nat.le_of_ble_eq_true rfl) (fun _ _ _ h => h.elim) (fun w_ σ_ hq => ?_)
    obtain ⟨rfl, rfl⟩ := hq
    refine kx_aload_n dX6_semicolon_14 rfl rfl ?_
    obtain ⟨r4, er4, h⟩ := bd_s h
    refine kx_callV dX6_semicolon_15 lk_X6_214 (mM_goOn hd er4) rfl kN_rc rfl (Nat.le_of_ble_eq_true rfl) (Nat.le_of_ble_eq_true rfl) (Nat.le_of_ble_eq_true rfl) (Nat.le_of_ble_eq_true rfl) (Nat.le_of_ble_eq_true rfl) (fun _ _ _ h => h.elim) (fun w_ σ_ hq => ?_)
    obtain ⟨rfl, rfl⟩ := hq
    exact kx_vret dX6_semicolon_18 rfl (hQ _ _ (rtV (Option.some.inj h)))
set_option maxHeartbeats 4000000 in
theorem mM_isKeyword {G : KG} {τ : KHp} {m : Nat} {ad : Nat → Nat} {s : TS}  {z : TS × Int32} (hd : Md m ad) (h : P_isKeyword s  = some z) : kx_c G yX6_isKeyword (ws_ yX6_isKeyword cX6_isKeyword 3 (Option.some Jvm.ClassFile.FieldType.boolean)) 7 0 0 [.ref m] (MP τ m ad s) (fun rv σ' => rv = some (.int z.2) ∧ σ' = MP τ m ad z.1) kx_n := by
  refine kx_mk3 (ini := false) rfl (Nat.le_of_ble_eq_true rfl) (fun h => by cases h) (fun Q X hQ hX => ?_)
  unfold P_isKeyword at h
  refine kx_aload_n dX6_isKeyword_0 rfl rfl ?_
  refine kx_ldcS dX6_isKeyword_1 ks_ArcRecorderModel_162 ?_
  obtain ⟨r1, er1, h⟩ := bd_s h
  refine kx_callV dX6_isKeyword_3 lk_X6_138 (mM_isWord hd er1) rfl kN_rc rfl (Nat.le_of_ble_eq_true rfl) (Nat.le_of_ble_eq_true rfl) (Nat.le_of_ble_eq_true rfl) (Nat.le_of_ble_eq_true rfl) (Nat.le_of_ble_eq_true rfl) (fun _ _ _ h => h.elim) (fun w_ σ_ hq => ?_)
  obtain ⟨rfl, rfl⟩ := hq
  obtain ⟨r2, er2, h⟩ := bd_s h
  refine kN_j (MP τ m ad r2.1) 77 [.int (r2.2)] ?_ (fun jr2 => ?_)
  · skip
    refine kx_istore_n dX6_isKeyword_77 rfl (Nat.le_of_ble_eq_true rfl) ?_
    refine kx_aload_n dX6_isKeyword_78 rfl rfl ?_
    refine kx_ldcS dX6_isKeyword_79 ks_ArcRecorderModel_178 ?_
    obtain ⟨r10, er10, h⟩ := bd_s h
    refine kx_callV dX6_isKeyword_81 lk_X6_138 (mM_isWord hd er10) rfl kN_rc rfl (Nat.le_of_ble_eq_true rfl) (Nat.le_of_ble_eq_true rfl) (Nat.le_of_ble_eq_true rfl) (Nat.le_of_ble_eq_true rfl) (Nat.le_of_ble_eq_true rfl) (fun _ _ _ h => h.elim) (fun w_ σ_ hq => ?_)
    obtain ⟨rfl, rfl⟩ := hq
    obtain ⟨r11, er11, h⟩ := bd_s h
    refine kN_j (MP τ m ad r11.1) 155 [.int (r11.2)] ?_ (fun jr11 => ?_)
    · skip
      refine kx_istore_n dX6_isKeyword_155 rfl (Nat.le_of_ble_eq_true rfl) ?_
      refine kx_iload_n dX6_isKeyword_156 rfl rfl ?_
      obtain ⟨r19, er19, h⟩ := bd_s h
      refine kN_j (MP τ m ad r19.1) 221 [.int (r19.2)] ?_ (fun jr19 => ?_)
      · skip
        refine kN_zret dX6_isKeyword_221 rfl h (fun v26 ev26 h => hQ _ _ (by subst ev26; exact rtI (Option.some.inj h)))
      · have h := er19
        refine kx_if_ne (tgt := 216) dX6_isKeyword_157 (by decide) (fun c => ?_) (fun c => ?_)
        · have h := if_f c h
          refine kx_iconst (v := 1) dX6_isKeyword_216 (by decide) ?_
          refine kx_goto (tgt := 221) dX6_isKeyword_217 (by decide) ?_
          exact jnI h jr19
        · have h := if_t c h
          refine kx_iload_n dX6_isKeyword_160 rfl rfl ?_
          refine kx_if_ne (tgt := 216) dX6_isKeyword_161 (by decide) (fun c => ?_) (fun c => ?_)
          · have h := if_f c h
            refine kx_iconst (v := 1) dX6_isKeyword_216 (by decide) ?_
            refine kx_goto (tgt := 221) dX6_isKeyword_217 (by decide) ?_
            exact jnI h jr19
          · have h := if_t c h
            refine kx_aload_n dX6_isKeyword_164 rfl rfl ?_
            refine kx_ldcS dX6_isKeyword_165 ks_ArcRecorderModel_194 ?_
            obtain ⟨r20, er20, h⟩ := bd_s h
            refine kx_callV dX6_isKeyword_167 lk_X6_138 (mM_isWord hd er20) rfl kN_rc rfl (Nat.le_of_ble_eq_true rfl) (Nat.le_of_ble_eq_true rfl) (Nat.le_of_ble_eq_true rfl) (Nat.le_of_ble_eq_true rfl) (Nat.le_of_ble_eq_true rfl) (fun _ _ _ h => h.elim) (fun w_ σ_ hq => ?_)
            obtain ⟨rfl, rfl⟩ := hq
            refine kx_if_ne (tgt := 216) dX6_isKeyword_170 (by decide) (fun c => ?_) (fun c => ?_)
            · have h := if_f c h
              refine kx_iconst (v := 1) dX6_isKeyword_216 (by decide) ?_
              refine kx_goto (tgt := 221) dX6_isKeyword_217 (by decide) ?_
              exact jnI h jr19
            · have h := if_t c h
              refine kx_aload_n dX6_isKeyword_173 rfl rfl ?_
              refine kx_ldcS dX6_isKeyword_174 ks_ArcRecorderModel_196 ?_
              obtain ⟨r21, er21, h⟩ := bd_s h
              refine kx_callV dX6_isKeyword_176 lk_X6_138 (mM_isWord hd er21) rfl kN_rc rfl (Nat.le_of_ble_eq_true rfl) (Nat.le_of_ble_eq_true rfl) (Nat.le_of_ble_eq_true rfl) (Nat.le_of_ble_eq_true rfl) (Nat.le_of_ble_eq_true rfl) (fun _ _ _ h => h.elim) (fun w_ σ_ hq => ?_)
              obtain ⟨rfl, rfl⟩ := hq
              refine kx_if_ne (tgt := 216) dX6_isKeyword_179 (by decide) (fun c => ?_) (fun c => ?_)
              · have h := if_f c h
                refine kx_iconst (v := 1) dX6_isKeyword_216 (by decide) ?_
                refine kx_goto (tgt := 221) dX6_isKeyword_217 (by decide) ?_
                exact jnI h jr19
              · have h := if_t c h
                refine kx_aload_n dX6_isKeyword_182 rfl rfl ?_
                refine kx_ldcS dX6_isKeyword_183 ks_ArcRecorderModel_198 ?_
                obtain ⟨r22, er22, h⟩ := bd_s h
                refine kx_callV dX6_isKeyword_185 lk_X6_138 (mM_isWord hd er22) rfl kN_rc rfl (Nat.le_of_ble_eq_true rfl) (Nat.le_of_ble_eq_true rfl) (Nat.le_of_ble_eq_true rfl) (Nat.le_of_ble_eq_true rfl) (Nat.le_of_ble_eq_true rfl) (fun _ _ _ h => h.elim) (fun w_ σ_ hq => ?_)
                obtain ⟨rfl, rfl⟩ := hq
                refine kx_if_ne (tgt := 216) dX6_isKeyword_188 (by decide) (fun c => ?_) (fun c => ?_)
                · have h := if_f c h
                  refine kx_iconst (v := 1) dX6_isKeyword_216 (by decide) ?_
                  refine kx_goto (tgt := 221) dX6_isKeyword_217 (by decide) ?_
                  exact jnI h jr19
                · have h := if_t c h
                  refine kx_aload_n dX6_isKeyword_191 rfl rfl ?_
                  refine kx_ldcS dX6_isKeyword_192 ks_ArcRecorderModel_200 ?_
                  obtain ⟨r23, er23, h⟩ := bd_s h
                  refine kx_callV dX6_isKeyword_194 lk_X6_138 (mM_isWord hd er23) rfl kN_rc rfl (Nat.le_of_ble_eq_true rfl) (Nat.le_of_ble_eq_true rfl) (Nat.le_of_ble_eq_true rfl) (Nat.le_of_ble_eq_true rfl) (Nat.le_of_ble_eq_true rfl) (fun _ _ _ h => h.elim) (fun w_ σ_ hq => ?_)
                  obtain ⟨rfl, rfl⟩ := hq
                  refine kx_if_ne (tgt := 216) dX6_isKeyword_197 (by decide) (fun c => ?_) (fun c => ?_)
                  · have h := if_f c h
                    refine kx_iconst (v := 1) dX6_isKeyword_216 (by decide) ?_
                    refine kx_goto (tgt := 221) dX6_isKeyword_217 (by decide) ?_
                    exact jnI h jr19
                  · have h := if_t c h
                    refine kx_aload_n dX6_isKeyword_200 rfl rfl ?_
                    obtain ⟨r24, er24, h⟩ := bd_s h
                    refine kx_callV dX6_isKeyword_201 lk_X6_202 (mM_featureHere hd er24) rfl kN_rc rfl (Nat.le_of_ble_eq_true rfl) (Nat.le_of_ble_eq_true rfl) (Nat.le_of_ble_eq_true rfl) (Nat.le_of_ble_eq_true rfl) (Nat.le_of_ble_eq_true rfl) (fun _ _ _ h => h.elim) (fun w_ σ_ hq => ?_)
                    obtain ⟨rfl, rfl⟩ := hq
                    refine kx_iconst (v := -1) dX6_isKeyword_204 (by decide) ?_
                    refine kx_icmp_ne (tgt := 216) dX6_isKeyword_205 (by decide) (fun c => ?_) (fun c => ?_)
                    · have h := if_f c h
                      refine kx_iconst (v := 1) dX6_isKeyword_216 (by decide) ?_
                      refine kx_goto (tgt := 221) dX6_isKeyword_217 (by decide) ?_
                      exact jnI h jr19
                    · have h := if_t c h
                      refine kx_aload_n dX6_isKeyword_208 rfl rfl ?_
                      obtain ⟨r25, er25, h⟩ := bd_s h
                      refine kx_callV dX6_isKeyword_209 lk_X6_205 (mM_kindHere hd er25) rfl kN_rc rfl (Nat.le_of_ble_eq_true rfl) (Nat.le_of_ble_eq_true rfl) (Nat.le_of_ble_eq_true rfl) (Nat.le_of_ble_eq_true rfl) (Nat.le_of_ble_eq_true rfl) (fun _ _ _ h => h.elim) (fun w_ σ_ hq => ?_)
                      obtain ⟨rfl, rfl⟩ := hq
                      refine kx_iconst (v := -1) dX6_isKeyword_212 (by decide) ?_
                      refine kx_icmp_eq (tgt := 220) dX6_isKeyword_213 (by decide) (fun c => ?_) (fun c => ?_)
                      · have h := if_t c h
                        refine kx_iconst (v := 0) dX6_isKeyword_220 (by decide) ?_
                        exact jnI h jr19
                      · have h := if_f c h
                        refine kx_iconst (v := 1) dX6_isKeyword_216 (by decide) ?_
                        refine kx_goto (tgt := 221) dX6_isKeyword_217 (by decide) ?_
                        exact jnI h jr19
    · have h := er11
      refine kx_if_ne (tgt := 150) dX6_isKeyword_84 (by decide) (fun c => ?_) (fun c => ?_)
      · have h := if_f c h
        refine kx_iconst (v := 1) dX6_isKeyword_150 (by decide) ?_
        refine kx_goto (tgt := 155) dX6_isKeyword_151 (by decide) ?_
        exact jnI h jr11
      · have h := if_t c h
        refine kx_aload_n dX6_isKeyword_87 rfl rfl ?_
        refine kx_ldcS dX6_isKeyword_88 ks_ArcRecorderModel_180 ?_
        obtain ⟨r12, er12, h⟩ := bd_s h
        refine kx_callV dX6_isKeyword_90 lk_X6_138 (mM_isWord hd er12) rfl kN_rc rfl (Nat.le_of_ble_eq_true rfl) (Nat.le_of_ble_eq_true rfl) (Nat.le_of_ble_eq_true rfl) (Nat.le_of_ble_eq_true rfl) (Nat.le_of_ble_eq_true rfl) (fun _ _ _ h => h.elim) (fun w_ σ_ hq => ?_)
        obtain ⟨rfl, rfl⟩ := hq
        refine kx_if_ne (tgt := 150) dX6_isKeyword_93 (by decide) (fun c => ?_) (fun c => ?_)
        · have h := if_f c h
          refine kx_iconst (v := 1) dX6_isKeyword_150 (by decide) ?_
          refine kx_goto (tgt := 155) dX6_isKeyword_151 (by decide) ?_
          exact jnI h jr11
        · have h := if_t c h
          refine kx_aload_n dX6_isKeyword_96 rfl rfl ?_
          refine kx_ldcS dX6_isKeyword_97 ks_ArcRecorderModel_182 ?_
          obtain ⟨r13, er13, h⟩ := bd_s h
          refine kx_callV dX6_isKeyword_99 lk_X6_138 (mM_isWord hd er13) rfl kN_rc rfl (Nat.le_of_ble_eq_true rfl) (Nat.le_of_ble_eq_true rfl) (Nat.le_of_ble_eq_true rfl) (Nat.le_of_ble_eq_true rfl) (Nat.le_of_ble_eq_true rfl) (fun _ _ _ h => h.elim) (fun w_ σ_ hq => ?_)
          obtain ⟨rfl, rfl⟩ := hq
          refine kx_if_ne (tgt := 150) dX6_isKeyword_102 (by decide) (fun c => ?_) (fun c => ?_)
          · have h := if_f c h
            refine kx_iconst (v := 1) dX6_isKeyword_150 (by decide) ?_
            refine kx_goto (tgt := 155) dX6_isKeyword_151 (by decide) ?_
            exact jnI h jr11
          · have h := if_t c h
            refine kx_aload_n dX6_isKeyword_105 rfl rfl ?_
            refine kx_ldcS dX6_isKeyword_106 ks_ArcRecorderModel_184 ?_
            obtain ⟨r14, er14, h⟩ := bd_s h
            refine kx_callV dX6_isKeyword_108 lk_X6_138 (mM_isWord hd er14) rfl kN_rc rfl (Nat.le_of_ble_eq_true rfl) (Nat.le_of_ble_eq_true rfl) (Nat.le_of_ble_eq_true rfl) (Nat.le_of_ble_eq_true rfl) (Nat.le_of_ble_eq_true rfl) (fun _ _ _ h => h.elim) (fun w_ σ_ hq => ?_)
            obtain ⟨rfl, rfl⟩ := hq
            refine kx_if_ne (tgt := 150) dX6_isKeyword_111 (by decide) (fun c => ?_) (fun c => ?_)
            · have h := if_f c h
              refine kx_iconst (v := 1) dX6_isKeyword_150 (by decide) ?_
              refine kx_goto (tgt := 155) dX6_isKeyword_151 (by decide) ?_
              exact jnI h jr11
            · have h := if_t c h
              refine kx_aload_n dX6_isKeyword_114 rfl rfl ?_
              refine kx_ldcS dX6_isKeyword_115 ks_ArcRecorderModel_186 ?_
              obtain ⟨r15, er15, h⟩ := bd_s h
              refine kx_callV dX6_isKeyword_117 lk_X6_138 (mM_isWord hd er15) rfl kN_rc rfl (Nat.le_of_ble_eq_true rfl) (Nat.le_of_ble_eq_true rfl) (Nat.le_of_ble_eq_true rfl) (Nat.le_of_ble_eq_true rfl) (Nat.le_of_ble_eq_true rfl) (fun _ _ _ h => h.elim) (fun w_ σ_ hq => ?_)
              obtain ⟨rfl, rfl⟩ := hq
              refine kx_if_ne (tgt := 150) dX6_isKeyword_120 (by decide) (fun c => ?_) (fun c => ?_)
              · have h := if_f c h
                refine kx_iconst (v := 1) dX6_isKeyword_150 (by decide) ?_
                refine kx_goto (tgt := 155) dX6_isKeyword_151 (by decide) ?_
                exact jnI h jr11
              · have h := if_t c h
                refine kx_aload_n dX6_isKeyword_123 rfl rfl ?_
                refine kx_ldcS dX6_isKeyword_124 ks_ArcRecorderModel_188 ?_
                obtain ⟨r16, er16, h⟩ := bd_s h
                refine kx_callV dX6_isKeyword_126 lk_X6_138 (mM_isWord hd er16) rfl kN_rc rfl (Nat.le_of_ble_eq_true rfl) (Nat.le_of_ble_eq_true rfl) (Nat.le_of_ble_eq_true rfl) (Nat.le_of_ble_eq_true rfl) (Nat.le_of_ble_eq_true rfl) (fun _ _ _ h => h.elim) (fun w_ σ_ hq => ?_)
                obtain ⟨rfl, rfl⟩ := hq
                refine kx_if_ne (tgt := 150) dX6_isKeyword_129 (by decide) (fun c => ?_) (fun c => ?_)
                · have h := if_f c h
                  refine kx_iconst (v := 1) dX6_isKeyword_150 (by decide) ?_
                  refine kx_goto (tgt := 155) dX6_isKeyword_151 (by decide) ?_
                  exact jnI h jr11
                · have h := if_t c h
                  refine kx_aload_n dX6_isKeyword_132 rfl rfl ?_
                  refine kx_ldcS dX6_isKeyword_133 ks_ArcRecorderModel_190 ?_
                  obtain ⟨r17, er17, h⟩ := bd_s h
                  refine kx_callV dX6_isKeyword_135 lk_X6_138 (mM_isWord hd er17) rfl kN_rc rfl (Nat.le_of_ble_eq_true rfl) (Nat.le_of_ble_eq_true rfl) (Nat.le_of_ble_eq_true rfl) (Nat.le_of_ble_eq_true rfl) (Nat.le_of_ble_eq_true rfl) (fun _ _ _ h => h.elim) (fun w_ σ_ hq => ?_)
                  obtain ⟨rfl, rfl⟩ := hq
                  refine kx_if_ne (tgt := 150) dX6_isKeyword_138 (by decide) (fun c => ?_) (fun c => ?_)
                  · have h := if_f c h
                    refine kx_iconst (v := 1) dX6_isKeyword_150 (by decide) ?_
                    refine kx_goto (tgt := 155) dX6_isKeyword_151 (by decide) ?_
                    exact jnI h jr11
                  · have h := if_t c h
                    refine kx_aload_n dX6_isKeyword_141 rfl rfl ?_
                    refine kx_ldcS dX6_isKeyword_142 ks_ArcRecorderModel_192 ?_
                    obtain ⟨r18, er18, h⟩ := bd_s h
                    refine kx_callV dX6_isKeyword_144 lk_X6_138 (mM_isWord hd er18) rfl kN_rc rfl (Nat.le_of_ble_eq_true rfl) (Nat.le_of_ble_eq_true rfl) (Nat.le_of_ble_eq_true rfl) (Nat.le_of_ble_eq_true rfl) (Nat.le_of_ble_eq_true rfl) (fun _ _ _ h => h.elim) (fun w_ σ_ hq => ?_)
                    obtain ⟨rfl, rfl⟩ := hq
                    refine kx_if_eq (tgt := 154) dX6_isKeyword_147 (by decide) (fun c => ?_) (fun c => ?_)
                    · have h := if_t c h
                      refine kx_iconst (v := 0) dX6_isKeyword_154 (by decide) ?_
                      exact jnI h jr11
                    · have h := if_f c h
                      refine kx_iconst (v := 1) dX6_isKeyword_150 (by decide) ?_
                      refine kx_goto (tgt := 155) dX6_isKeyword_151 (by decide) ?_
                      exact jnI h jr11
  · have h := er2
    refine kx_if_ne (tgt := 72) dX6_isKeyword_6 (by decide) (fun c => ?_) (fun c => ?_)
    · have h := if_f c h
      refine kx_iconst (v := 1) dX6_isKeyword_72 (by decide) ?_
      refine kx_goto (tgt := 77) dX6_isKeyword_73 (by decide) ?_
      exact jnI h jr2
    · have h := if_t c h
      refine kx_aload_n dX6_isKeyword_9 rfl rfl ?_
      refine kx_ldcS dX6_isKeyword_10 ks_ArcRecorderModel_164 ?_
      obtain ⟨r3, er3, h⟩ := bd_s h
      refine kx_callV dX6_isKeyword_12 lk_X6_138 (mM_isWord hd er3) rfl kN_rc rfl (Nat.le_of_ble_eq_true rfl) (Nat.le_of_ble_eq_true rfl) (Nat.le_of_ble_eq_true rfl) (Nat.le_of_ble_eq_true rfl) (Nat.le_of_ble_eq_true rfl) (fun _ _ _ h => h.elim) (fun w_ σ_ hq => ?_)
      obtain ⟨rfl, rfl⟩ := hq
      refine kx_if_ne (tgt := 72) dX6_isKeyword_15 (by decide) (fun c => ?_) (fun c => ?_)
      · have h := if_f c h
        refine kx_iconst (v := 1) dX6_isKeyword_72 (by decide) ?_
        refine kx_goto (tgt := 77) dX6_isKeyword_73 (by decide) ?_
        exact jnI h jr2
      · have h := if_t c h
        refine kx_aload_n dX6_isKeyword_18 rfl rfl ?_
        refine kx_ldcS dX6_isKeyword_19 ks_ArcRecorderModel_166 ?_
        obtain ⟨r4, er4, h⟩ := bd_s h
        refine kx_callV dX6_isKeyword_21 lk_X6_138 (mM_isWord hd er4) rfl kN_rc rfl (Nat.le_of_ble_eq_true rfl) (Nat.le_of_ble_eq_true rfl) (Nat.le_of_ble_eq_true rfl) (Nat.le_of_ble_eq_true rfl) (Nat.le_of_ble_eq_true rfl) (fun _ _ _ h => h.elim) (fun w_ σ_ hq => ?_)
        obtain ⟨rfl, rfl⟩ := hq
        refine kx_if_ne (tgt := 72) dX6_isKeyword_24 (by decide) (fun c => ?_) (fun c => ?_)
        · have h := if_f c h
          refine kx_iconst (v := 1) dX6_isKeyword_72 (by decide) ?_
          refine kx_goto (tgt := 77) dX6_isKeyword_73 (by decide) ?_
          exact jnI h jr2
        · have h := if_t c h
          refine kx_aload_n dX6_isKeyword_27 rfl rfl ?_
          refine kx_ldcS dX6_isKeyword_28 ks_ArcRecorderModel_168 ?_
          obtain ⟨r5, er5, h⟩ := bd_s h
          refine kx_callV dX6_isKeyword_30 lk_X6_138 (mM_isWord hd er5) rfl kN_rc rfl (Nat.le_of_ble_eq_true rfl) (Nat.le_of_ble_eq_true rfl) (Nat.le_of_ble_eq_true rfl) (Nat.le_of_ble_eq_true rfl) (Nat.le_of_ble_eq_true rfl) (fun _ _ _ h => h.elim) (fun w_ σ_ hq => ?_)
          obtain ⟨rfl, rfl⟩ := hq
          refine kx_if_ne (tgt := 72) dX6_isKeyword_33 (by decide) (fun c => ?_) (fun c => ?_)
          · have h := if_f c h
            refine kx_iconst (v := 1) dX6_isKeyword_72 (by decide) ?_
            refine kx_goto (tgt := 77) dX6_isKeyword_73 (by decide) ?_
            exact jnI h jr2
          · have h := if_t c h
            refine kx_aload_n dX6_isKeyword_36 rfl rfl ?_
            refine kx_ldcS dX6_isKeyword_37 ks_ArcRecorderModel_170 ?_
            obtain ⟨r6, er6, h⟩ := bd_s h
            refine kx_callV dX6_isKeyword_39 lk_X6_138 (mM_isWord hd er6) rfl kN_rc rfl (Nat.le_of_ble_eq_true rfl) (Nat.le_of_ble_eq_true rfl) (Nat.le_of_ble_eq_true rfl) (Nat.le_of_ble_eq_true rfl) (Nat.le_of_ble_eq_true rfl) (fun _ _ _ h => h.elim) (fun w_ σ_ hq => ?_)
            obtain ⟨rfl, rfl⟩ := hq
            refine kx_if_ne (tgt := 72) dX6_isKeyword_42 (by decide) (fun c => ?_) (fun c => ?_)
            · have h := if_f c h
              refine kx_iconst (v := 1) dX6_isKeyword_72 (by decide) ?_
              refine kx_goto (tgt := 77) dX6_isKeyword_73 (by decide) ?_
              exact jnI h jr2
            · have h := if_t c h
              refine kx_aload_n dX6_isKeyword_45 rfl rfl ?_
              refine kx_ldcS dX6_isKeyword_46 ks_ArcRecorderModel_172 ?_
              obtain ⟨r7, er7, h⟩ := bd_s h
              refine kx_callV dX6_isKeyword_48 lk_X6_138 (mM_isWord hd er7) rfl kN_rc rfl (Nat.le_of_ble_eq_true rfl) (Nat.le_of_ble_eq_true rfl) (Nat.le_of_ble_eq_true rfl) (Nat.le_of_ble_eq_true rfl) (Nat.le_of_ble_eq_true rfl) (fun _ _ _ h => h.elim) (fun w_ σ_ hq => ?_)
              obtain ⟨rfl, rfl⟩ := hq
              refine kx_if_ne (tgt := 72) dX6_isKeyword_51 (by decide) (fun c => ?_) (fun c => ?_)
              · have h := if_f c h
                refine kx_iconst (v := 1) dX6_isKeyword_72 (by decide) ?_
                refine kx_goto (tgt := 77) dX6_isKeyword_73 (by decide) ?_
                exact jnI h jr2
              · have h := if_t c h
                refine kx_aload_n dX6_isKeyword_54 rfl rfl ?_
                refine kx_ldcS dX6_isKeyword_55 ks_ArcRecorderModel_174 ?_
                obtain ⟨r8, er8, h⟩ := bd_s h
                refine kx_callV dX6_isKeyword_57 lk_X6_138 (mM_isWord hd er8) rfl kN_rc rfl (Nat.le_of_ble_eq_true rfl) (Nat.le_of_ble_eq_true rfl) (Nat.le_of_ble_eq_true rfl) (Nat.le_of_ble_eq_true rfl) (Nat.le_of_ble_eq_true rfl) (fun _ _ _ h => h.elim) (fun w_ σ_ hq => ?_)
                obtain ⟨rfl, rfl⟩ := hq
                refine kx_if_ne (tgt := 72) dX6_isKeyword_60 (by decide) (fun c => ?_) (fun c => ?_)
                · have h := if_f c h
                  refine kx_iconst (v := 1) dX6_isKeyword_72 (by decide) ?_
                  refine kx_goto (tgt := 77) dX6_isKeyword_73 (by decide) ?_
                  exact jnI h jr2
                · have h := if_t c h
                  refine kx_aload_n dX6_isKeyword_63 rfl rfl ?_
                  refine kx_ldcS dX6_isKeyword_64 ks_ArcRecorderModel_176 ?_
                  obtain ⟨r9, er9, h⟩ := bd_s h
                  refine kx_callV dX6_isKeyword_66 lk_X6_138 (mM_isWord hd er9) rfl kN_rc rfl (Nat.le_of_ble_eq_true rfl) (Nat.le_of_ble_eq_true rfl) (Nat.le_of_ble_eq_true rfl) (Nat.le_of_ble_eq_true rfl) (Nat.le_of_ble_eq_true rfl) (fun _ _ _ h => h.elim) (fun w_ σ_ hq => ?_)
                  obtain ⟨rfl, rfl⟩ := hq
                  refine kx_if_eq (tgt := 76) dX6_isKeyword_69 (by decide) (fun c => ?_) (fun c => ?_)
                  · have h := if_t c h
                    refine kx_iconst (v := 0) dX6_isKeyword_76 (by decide) ?_
                    exact jnI h jr2
                  · have h := if_f c h
                    refine kx_iconst (v := 1) dX6_isKeyword_72 (by decide) ?_
                    refine kx_goto (tgt := 77) dX6_isKeyword_73 (by decide) ?_
                    exact jnI h jr2
set_option maxHeartbeats 4000000 in
theorem mL_thingNamed_33 {G : KG} {τ : KHp} {m : Nat} {ad : Nat → Nat} {Q : KQ} {X : KX} {y1 : Int32} {y2 : Int32} {y3 : Int32} {y4 : Int32} {a0 : TS × Int32 × Int32} {z : TS × Int32} (hd : Md m ad) (h : loopN (fun w : TS × Int32 × Int32 => B_thingNamed_33 y1 y2 y3 y4 w.1 w.2.1 w.2.2) 9000 a0 = some z) (kk : kx G (yX6_thingNamed.cls, cX6_thingNamed, 7, (Option.some Jvm.ClassFile.FieldType.int), false, []) (2, 0, 0, Q, X) 0 0 (MP τ m ad z.1) 81 (kF [(0, .ref m), (1, .int (y1)), (2, .int (y2)), (3, .int (y3)), (4, .int (y4)), (5, .int (z.2))]) []) : kx G (yX6_thingNamed.cls, cX6_thingNamed, 7, (Option.some Jvm.ClassFile.FieldType.int), false, []) (2, 0, 0, Q, X) 0 0 (MP τ m ad a0.1) 33 (kF [(0, .ref m), (1, .int (y1)), (2, .int (y2)), (3, .int (y3)), (4, .int (y4)), (5, .int (a0.2.1)), (6, .int (a0.2.2))]) [] := by
  refine loopK_2_1 (B := B_thingNamed_33 y1 y2 y3 y4) (fun (a : TS) (a5 : Int32) (a6 : Int32) => kx G (yX6_thingNamed.cls, cX6_thingNamed, 7, (Option.some Jvm.ClassFile.FieldType.int), false, []) (2, 0, 0, Q, X) 0 0 (MP τ m ad a) 33 (kF [(0, .ref m), (1, .int (y1)), (2, .int (y2)), (3, .int (y3)), (4, .int (y4)), (5, .int (a5)), (6, .int (a6))]) []) (fun (b : TS) (b5 : Int32) => kx G (yX6_thingNamed.cls, cX6_thingNamed, 7, (Option.some Jvm.ClassFile.FieldType.int), false, []) (2, 0, 0, Q, X) 0 0 (MP τ m ad b) 81 (kF [(0, .ref m), (1, .int (y1)), (2, .int (y2)), (3, .int (y3)), (4, .int (y4)), (5, .int (b5))]) []) (fun a a5 a6 r h kI kE => ?_) _ _ _ h kk
  · unfold B_thingNamed_33 at h
    refine kx_iload dX6_thingNamed_33 rfl ?_
    refine kx_bipush (v := 6) dX6_thingNamed_35 (by decide) ?_
    refine kx_icmp_ge (tgt := 81) dX6_thingNamed_37 (by decide) (fun c => ?_) (fun c => ?_)
    · have h := if_t c h
      exact kx_lwF [(0, .ref m), (1, .int (y1)), (2, .int (y2)), (3, .int (y3)), (4, .int (y4)), (5, .int (a5))] ⟨rfl, rfl, rfl, rfl, rfl, rfl, trivial⟩ (kE (a) (a5) (Option.some.inj h).symm)
    · have h := if_f c h
      refine kx_iload dX6_thingNamed_40 rfl ?_
      refine kx_if_eq (tgt := 81) dX6_thingNamed_42 (by decide) (fun c => ?_) (fun c => ?_)
      · have h := if_t c h
        exact kx_lwF [(0, .ref m), (1, .int (y1)), (2, .int (y2)), (3, .int (y3)), (4, .int (y4)), (5, .int (a5))] ⟨rfl, rfl, rfl, rfl, rfl, rfl, trivial⟩ (kE (a) (a5) (Option.some.inj h).symm)
      · have h := if_f c h
        refine kx_aload_n dX6_thingNamed_45 rfl rfl ?_
        refine kx_getf dX6_thingNamed_46 fl_X6_24_X6 kN_m rfl ?_
        refine kx_iload_n dX6_thingNamed_49 rfl rfl ?_
        refine kx_iload_n dX6_thingNamed_50 rfl rfl ?_
        refine kx_iload dX6_thingNamed_51 rfl ?_
        refine kx_imul dX6_thingNamed_53 ?_
        refine kx_iadd dX6_thingNamed_54 ?_
        refine kx_iload dX6_thingNamed_55 rfl ?_
        refine kx_iadd dX6_thingNamed_57 ?_
        refine kN_ald hd dX6_thingNamed_58 h (fun v33001 ev33001 h => ?_)
        refine kx_aload_n dX6_thingNamed_59 rfl rfl ?_
        refine kx_iload dX6_thingNamed_60 rfl ?_
        obtain ⟨r33002, er33002, h⟩ := bd_s h
        refine kx_callV dX6_thingNamed_62 lk_X6_224 (mM_letter hd er33002) rfl kN_rc rfl (Nat.le_of_ble_eq_true rfl) (Nat.le_of_ble_eq_true rfl) (Nat.le_of_ble_eq_true rfl) (Nat.le_of_ble_eq_true rfl) (Nat.le_of_ble_eq_true rfl) (fun _ _ _ h => h.elim) (fun w_ σ_ hq => ?_)
        obtain ⟨rfl, rfl⟩ := hq
        obtain ⟨r33003, er33003, h⟩ := bd_s h
        refine kN_j (MP τ m ad r33003.1) 73 [.int (r33003.2)] ?_ (fun jr33003 => ?_)
        · skip
          refine kx_istore dX6_thingNamed_73 (Nat.le_of_ble_eq_true rfl) ?_
          refine kx_iinc2 (v := 1) dX6_thingNamed_75 rfl (by decide) ?_
          refine kx_goto (tgt := 33) dX6_thingNamed_78 (by decide) ?_
          exact kx_lwF [(0, .ref m), (1, .int (y1)), (2, .int (y2)), (3, .int (y3)), (4, .int (y4)), (5, .int (r33003.2)), (6, .int ((a6 + (1 : Int32))))] ⟨rfl, rfl, rfl, rfl, rfl, rfl, rfl, trivial⟩ (kI (r33003.1) (r33003.2) ((a6 + (1 : Int32))) (Option.some.inj h).symm)
        · have h := er33003
          refine kx_icmp_ne (tgt := 72) dX6_thingNamed_65 (by decide) (fun c => ?_) (fun c => ?_)
          · have h := if_f c h
            refine kx_iconst (v := 0) dX6_thingNamed_72 (by decide) ?_
            exact jnI h jr33003
          · have h := if_t c h
            refine kx_iconst (v := 1) dX6_thingNamed_68 (by decide) ?_
            refine kx_goto (tgt := 73) dX6_thingNamed_69 (by decide) ?_
            exact jnI h jr33003
set_option maxHeartbeats 4000000 in
theorem mL_thingNamed_3 {G : KG} {τ : KHp} {m : Nat} {ad : Nat → Nat} {Q : KQ} {X : KX} {y1 : Int32} {y2 : Int32} {y3 : Int32} {a0 : TS × Int32} {z : TS × Int32} (hd : Md m ad) (h : loopN (fun w : TS × Int32 => B_thingNamed_3 y1 y2 y3 w.1 w.2) 9000 a0 = some z) (hQ : ∀ rv σ', (rv = some (.int z.2) ∧ σ' = MP τ m ad z.1) → Q rv σ') : kx G (yX6_thingNamed.cls, cX6_thingNamed, 7, (Option.some Jvm.ClassFile.FieldType.int), false, []) (2, 0, 0, Q, X) 0 0 (MP τ m ad a0.1) 3 (kF [(0, .ref m), (1, .int (y1)), (2, .int (y2)), (3, .int (y3)), (4, .int (a0.2))]) [] := by
  refine loopK_1_T (B := B_thingNamed_3 y1 y2 y3) (fun (a : TS) (a4 : Int32) => kx G (yX6_thingNamed.cls, cX6_thingNamed, 7, (Option.some Jvm.ClassFile.FieldType.int), false, []) (2, 0, 0, Q, X) 0 0 (MP τ m ad a) 3 (kF [(0, .ref m), (1, .int (y1)), (2, .int (y2)), (3, .int (y3)), (4, .int (a4))]) []) (fun b => b = z) (fun a a4 r h kI kE => ?_) _ _ _ h rfl
  · unfold B_thingNamed_3 at h
    refine kx_iload dX6_thingNamed_3 rfl ?_
    refine kx_iload_n dX6_thingNamed_5 rfl rfl ?_
    refine kx_icmp_ge (tgt := 95) dX6_thingNamed_6 (by decide) (fun c => ?_) (fun c => ?_)
    · have h := if_t c h
      refine kx_iconst (v := -1) dX6_thingNamed_95 (by decide) ?_
      exact kx_iret dX6_thingNamed_96 rfl (hQ _ _ (rtI (kE _ (Option.some.inj h).symm)))
    · have h := if_f c h
      refine kx_aload_n dX6_thingNamed_9 rfl rfl ?_
      refine kx_getf dX6_thingNamed_10 fl_X6_98_X6 kN_m rfl ?_
      refine kx_aload_n dX6_thingNamed_13 rfl rfl ?_
      refine kx_getf dX6_thingNamed_14 fl_X6_92_X6 kN_m rfl ?_
      refine kx_isub dX6_thingNamed_17 ?_
      refine kx_bipush (v := 6) dX6_thingNamed_18 (by decide) ?_
      obtain ⟨r3001, er3001, h⟩ := bd_s h
      refine kN_j (MP τ m ad r3001.1) 28 [.int (r3001.2)] ?_ (fun jr3001 => ?_)
      · skip
        refine kx_istore dX6_thingNamed_28 (Nat.le_of_ble_eq_true rfl) ?_
        refine kx_iconst (v := 0) dX6_thingNamed_30 (by decide) ?_
        refine kx_istore dX6_thingNamed_31 (Nat.le_of_ble_eq_true rfl) ?_
        obtain ⟨b3002, eb3002, h⟩ := bd_s h
        refine kx_lwF [(0, .ref m), (1, .int (y1)), (2, .int (y2)), (3, .int (y3)), (4, .int (a4)), (5, .int (r3001.2)), (6, .int ((0 : Int32)))] ⟨rfl, rfl, rfl, rfl, rfl, rfl, rfl, trivial⟩ (mL_thingNamed_33 hd (a0 := (r3001.1, r3001.2, (0 : Int32))) eb3002 ?_)
        refine kx_iload dX6_thingNamed_81 rfl ?_
        refine kx_if_eq (tgt := 89) dX6_thingNamed_83 (by decide) (fun c => ?_) (fun c => ?_)
        · have h := if_t c h
          refine kx_iinc2 (v := 1) dX6_thingNamed_89 rfl (by decide) ?_
          refine kx_goto (tgt := 3) dX6_thingNamed_92 (by decide) ?_
          exact kx_lwF [(0, .ref m), (1, .int (y1)), (2, .int (y2)), (3, .int (y3)), (4, .int ((a4 + (1 : Int32))))] ⟨rfl, rfl, rfl, rfl, rfl, trivial⟩ (kI (b3002.1) ((a4 + (1 : Int32))) (Option.some.inj h).symm)
        · have h := if_f c h
          refine kx_iload dX6_thingNamed_86 rfl ?_
          exact kx_iret dX6_thingNamed_88 rfl (hQ _ _ (rtI (kE _ (Option.some.inj h).symm)))
      · have h := er3001
        refine kx_icmp_gt (tgt := 27) dX6_thingNamed_20 (by decide) (fun c => ?_) (fun c => ?_)
        · have h := if_t c h
          refine kx_iconst (v := 0) dX6_thingNamed_27 (by decide) ?_
          exact jnI h jr3001
        · have h := if_f c h
          refine kx_iconst (v := 1) dX6_thingNamed_23 (by decide) ?_
          refine kx_goto (tgt := 28) dX6_thingNamed_24 (by decide) ?_
          exact jnI h jr3001
set_option maxHeartbeats 4000000 in
theorem mM_thingNamed {G : KG} {τ : KHp} {m : Nat} {ad : Nat → Nat} {s : TS} {x1 : Int32} {x2 : Int32} {x3 : Int32} {z : TS × Int32} (hd : Md m ad) (h : P_thingNamed s x1 x2 x3 = some z) : kx_c G yX6_thingNamed (ws_ yX6_thingNamed cX6_thingNamed 7 (Option.some Jvm.ClassFile.FieldType.int)) 2 0 0 [.ref m, .int (x1), .int (x2), .int (x3)] (MP τ m ad s) (fun rv σ' => rv = some (.int z.2) ∧ σ' = MP τ m ad z.1) kx_n := by
  refine kx_mk3 (ini := false) rfl (Nat.le_of_ble_eq_true rfl) (fun h => by cases h) (fun Q X hQ hX => ?_)
  unfold P_thingNamed at h
  refine kx_iconst (v := 0) dX6_thingNamed_0 (by decide) ?_
  refine kx_istore dX6_thingNamed_1 (Nat.le_of_ble_eq_true rfl) ?_
  exact kx_lwF [(0, .ref m), (1, .int (x1)), (2, .int (x2)), (3, .int (x3)), (4, .int ((0 : Int32)))] ⟨rfl, rfl, rfl, rfl, rfl, trivial⟩ (mL_thingNamed_3 hd (a0 := (s, (0 : Int32))) h hQ)
set_option maxHeartbeats 4000000 in
theorem mM_loadNamed {G : KG} {τ : KHp} {m : Nat} {ad : Nat → Nat} {s : TS}  {z : TS × Int32} (hd : Md m ad) (h : P_loadNamed s  = some z) : kx_c G yX6_loadNamed (ws_ yX6_loadNamed cX6_loadNamed 1 (Option.some Jvm.ClassFile.FieldType.int)) 3 0 0 [.ref m] (MP τ m ad s) (fun rv σ' => rv = some (.int z.2) ∧ σ' = MP τ m ad z.1) kx_n := by
  refine kx_mk3 (ini := false) rfl (Nat.le_of_ble_eq_true rfl) (fun h => by cases h) (fun Q X hQ hX => ?_)
  unfold P_loadNamed at h
  refine kx_aload_n dX6_loadNamed_0 rfl rfl ?_
  refine kx_sipush (v := 337) dX6_loadNamed_1 (by decide) ?_
  refine kx_bipush (v := 12) dX6_loadNamed_4 (by decide) ?_
  refine kx_aload_n dX6_loadNamed_6 rfl rfl ?_
  refine kx_getf dX6_loadNamed_7 fl_X6_24_X6 kN_m rfl ?_
  refine kx_iconst (v := 4) dX6_loadNamed_10 (by decide) ?_
  refine kN_ald hd dX6_loadNamed_11 h (fun v1 ev1 h => ?_)
  obtain ⟨r2, er2, h⟩ := bd_s h
  refine kx_callV dX6_loadNamed_12 lk_X6_227 (mM_thingNamed hd er2) rfl kN_rc rfl (Nat.le_of_ble_eq_true rfl) (Nat.le_of_ble_eq_true rfl) (Nat.le_of_ble_eq_true rfl) (Nat.le_of_ble_eq_true rfl) (Nat.le_of_ble_eq_true rfl) (fun _ _ _ h => h.elim) (fun w_ σ_ hq => ?_)
  obtain ⟨rfl, rfl⟩ := hq
  exact kx_iret dX6_loadNamed_15 rfl (hQ _ _ (rtI (Option.some.inj h)))
set_option maxHeartbeats 4000000 in
theorem mM_signatureNamed {G : KG} {τ : KHp} {m : Nat} {ad : Nat → Nat} {s : TS}  {z : TS × Int32} (hd : Md m ad) (h : P_signatureNamed s  = some z) : kx_c G yX6_signatureNamed (ws_ yX6_signatureNamed cX6_signatureNamed 1 (Option.some Jvm.ClassFile.FieldType.int)) 3 0 0 [.ref m] (MP τ m ad s) (fun rv σ' => rv = some (.int z.2) ∧ σ' = MP τ m ad z.1) kx_n := by
  refine kx_mk3 (ini := false) rfl (Nat.le_of_ble_eq_true rfl) (fun h => by cases h) (fun Q X hQ hX => ?_)
  unfold P_signatureNamed at h
  refine kx_aload_n dX6_signatureNamed_0 rfl rfl ?_
  refine kx_sipush (v := 478) dX6_signatureNamed_1 (by decide) ?_
  refine kx_bipush (v := 27) dX6_signatureNamed_4 (by decide) ?_
  refine kx_aload_n dX6_signatureNamed_6 rfl rfl ?_
  refine kx_getf dX6_signatureNamed_7 fl_X6_24_X6 kN_m rfl ?_
  refine kx_iconst (v := 5) dX6_signatureNamed_10 (by decide) ?_
  refine kN_ald hd dX6_signatureNamed_11 h (fun v1 ev1 h => ?_)
  obtain ⟨r2, er2, h⟩ := bd_s h
  refine kx_callV dX6_signatureNamed_12 lk_X6_227 (mM_thingNamed hd er2) rfl kN_rc rfl (Nat.le_of_ble_eq_true rfl) (Nat.le_of_ble_eq_true rfl) (Nat.le_of_ble_eq_true rfl) (Nat.le_of_ble_eq_true rfl) (Nat.le_of_ble_eq_true rfl) (fun _ _ _ h => h.elim) (fun w_ σ_ hq => ?_)
  obtain ⟨rfl, rfl⟩ := hq
  exact kx_iret dX6_signatureNamed_15 rfl (hQ _ _ (rtI (Option.some.inj h)))
set_option maxHeartbeats 4000000 in
theorem mM_nuisanceNamed {G : KG} {τ : KHp} {m : Nat} {ad : Nat → Nat} {s : TS}  {z : TS × Int32} (hd : Md m ad) (h : P_nuisanceNamed s  = some z) : kx_c G yX6_nuisanceNamed (ws_ yX6_nuisanceNamed cX6_nuisanceNamed 1 (Option.some Jvm.ClassFile.FieldType.int)) 3 0 0 [.ref m] (MP τ m ad s) (fun rv σ' => rv = some (.int z.2) ∧ σ' = MP τ m ad z.1) kx_n := by
  refine kx_mk3 (ini := false) rfl (Nat.le_of_ble_eq_true rfl) (fun h => by cases h) (fun Q X hQ hX => ?_)
  unfold P_nuisanceNamed at h
  refine kx_aload_n dX6_nuisanceNamed_0 rfl rfl ?_
  refine kx_sipush (v := 640) dX6_nuisanceNamed_1 (by decide) ?_
  refine kx_bipush (v := 27) dX6_nuisanceNamed_4 (by decide) ?_
  refine kx_aload_n dX6_nuisanceNamed_6 rfl rfl ?_
  refine kx_getf dX6_nuisanceNamed_7 fl_X6_24_X6 kN_m rfl ?_
  refine kx_bipush (v := 6) dX6_nuisanceNamed_10 (by decide) ?_
  refine kN_ald hd dX6_nuisanceNamed_12 h (fun v1 ev1 h => ?_)
  obtain ⟨r2, er2, h⟩ := bd_s h
  refine kx_callV dX6_nuisanceNamed_13 lk_X6_227 (mM_thingNamed hd er2) rfl kN_rc rfl (Nat.le_of_ble_eq_true rfl) (Nat.le_of_ble_eq_true rfl) (Nat.le_of_ble_eq_true rfl) (Nat.le_of_ble_eq_true rfl) (Nat.le_of_ble_eq_true rfl) (fun _ _ _ h => h.elim) (fun w_ σ_ hq => ?_)
  obtain ⟨rfl, rfl⟩ := hq
  exact kx_iret dX6_nuisanceNamed_16 rfl (hQ _ _ (rtI (Option.some.inj h)))
set_option maxHeartbeats 4000000 in
theorem mM_parseSeed {G : KG} {τ : KHp} {m : Nat} {ad : Nat → Nat} {s : TS}  {z : TS} (hd : Md m ad) (h : P_parseSeed s  = some z) : kx_c G yX6_parseSeed (ws_ yX6_parseSeed cX6_parseSeed 1 (Option.none : Option Jvm.ClassFile.FieldType)) 5 0 0 [.ref m] (MP τ m ad s) (fun rv σ' => rv = none ∧ σ' = MP τ m ad z) kx_n := by
  refine kx_mk3 (ini := false) rfl (Nat.le_of_ble_eq_true rfl) (fun h => by cases h) (fun Q X hQ hX => ?_)
  unfold P_parseSeed at h
  refine kx_aload_n dX6_parseSeed_0 rfl rfl ?_
  refine kx_getf dX6_parseSeed_1 fl_X6_293_X6 kN_m rfl ?_
  obtain ⟨r1, er1, h⟩ := bd_s h
  refine kN_j (MP τ m ad r1) 12 [] ?_ (fun jr1 => ?_)
  · skip
    refine kx_aload_n dX6_parseSeed_12 rfl rfl ?_
    refine kx_iconst (v := 1) dX6_parseSeed_13 (by decide) ?_
    refine kN_putZ dX6_parseSeed_14 fl_X6_293_X6 (Or.inl rfl) rfl rfl h rfl (fun s3 es3 h => ?_)
    refine kx_aload_n dX6_parseSeed_17 rfl rfl ?_
    obtain ⟨r4, er4, h⟩ := bd_s h
    refine kx_callV dX6_parseSeed_18 lk_X6_214 (mM_goOn hd er4) rfl kN_rc rfl (Nat.le_of_ble_eq_true rfl) (Nat.le_of_ble_eq_true rfl) (Nat.le_of_ble_eq_true rfl) (Nat.le_of_ble_eq_true rfl) (Nat.le_of_ble_eq_true rfl) (fun _ _ _ h => h.elim) (fun w_ σ_ hq => ?_)
    obtain ⟨rfl, rfl⟩ := hq
    refine kx_aload_n dX6_parseSeed_21 rfl rfl ?_
    refine kx_getf dX6_parseSeed_22 fl_X6_24_X6 kN_m rfl ?_
    refine kx_bipush (v := 9) dX6_parseSeed_25 (by decide) ?_
    refine kx_aload_n dX6_parseSeed_27 rfl rfl ?_
    refine kx_iconst (v := 0) dX6_parseSeed_28 (by decide) ?_
    refine kx_ldcwi dX6_parseSeed_29 q3025 ?_
    obtain ⟨r5, er5, h⟩ := bd_s h
    refine kx_callV dX6_parseSeed_32 lk_X6_221 (mM_number hd er5) rfl kN_rc rfl (Nat.le_of_ble_eq_true rfl) (Nat.le_of_ble_eq_true rfl) (Nat.le_of_ble_eq_true rfl) (Nat.le_of_ble_eq_true rfl) (Nat.le_of_ble_eq_true rfl) (fun _ _ _ h => h.elim) (fun w_ σ_ hq => ?_)
    obtain ⟨rfl, rfl⟩ := hq
    refine kN_ast hd dX6_parseSeed_35 h (fun s6 es6 h => ?_)
    refine kx_aload_n dX6_parseSeed_36 rfl rfl ?_
    obtain ⟨r7, er7, h⟩ := bd_s h
    refine kx_callV dX6_parseSeed_37 lk_X6_263 (mM_semicolon hd er7) rfl kN_rc rfl (Nat.le_of_ble_eq_true rfl) (Nat.le_of_ble_eq_true rfl) (Nat.le_of_ble_eq_true rfl) (Nat.le_of_ble_eq_true rfl) (Nat.le_of_ble_eq_true rfl) (fun _ _ _ h => h.elim) (fun w_ σ_ hq => ?_)
    obtain ⟨rfl, rfl⟩ := hq
    exact kx_vret dX6_parseSeed_40 rfl (hQ _ _ (rtV (Option.some.inj h)))
  · have h := er1
    refine kx_if_eq (tgt := 12) dX6_parseSeed_4 (by decide) (fun c => ?_) (fun c => ?_)
    · have h := if_t c h
      exact jnS h jr1
    · have h := if_f c h
      refine kx_aload_n dX6_parseSeed_7 rfl rfl ?_
      refine kx_iconst (v := 3) dX6_parseSeed_8 (by decide) ?_
      obtain ⟨r2, er2, h⟩ := bd_s h
      refine kx_callV dX6_parseSeed_9 lk_X6_211 (mM_errs hd er2) rfl kN_rc rfl (Nat.le_of_ble_eq_true rfl) (Nat.le_of_ble_eq_true rfl) (Nat.le_of_ble_eq_true rfl) (Nat.le_of_ble_eq_true rfl) (Nat.le_of_ble_eq_true rfl) (fun _ _ _ h => h.elim) (fun w_ σ_ hq => ?_)
      obtain ⟨rfl, rfl⟩ := hq
      exact jnS h jr1
set_option maxHeartbeats 4000000 in
theorem mM_takes {G : KG} {τ : KHp} {m : Nat} {ad : Nat → Nat} {s : TS} {x1 : Nat} {z : TS × Int32} (hd : Md m ad) (h : P_takes s x1 = some z) : kx_c G yX6_takes (ws_ yX6_takes cX6_takes 3 (Option.some Jvm.ClassFile.FieldType.boolean)) 7 0 0 [.ref m, .ref (kx_K G (x1))] (MP τ m ad s) (fun rv σ' => rv = some (.int z.2) ∧ σ' = MP τ m ad z.1) kx_n := by
  refine kx_mk3 (ini := false) rfl (Nat.le_of_ble_eq_true rfl) (fun h => by cases h) (fun Q X hQ hX => ?_)
  unfold P_takes at h
  refine kx_aload_n dX6_takes_0 rfl rfl ?_
  refine kx_aload_n dX6_takes_1 rfl rfl ?_
  obtain ⟨r1, er1, h⟩ := bd_s h
  refine kx_callV dX6_takes_2 lk_X6_208 (mM_isText hd er1) rfl kN_rc rfl (Nat.le_of_ble_eq_true rfl) (Nat.le_of_ble_eq_true rfl) (Nat.le_of_ble_eq_true rfl) (Nat.le_of_ble_eq_true rfl) (Nat.le_of_ble_eq_true rfl) (fun _ _ _ h => h.elim) (fun w_ σ_ hq => ?_)
  obtain ⟨rfl, rfl⟩ := hq
  refine kx_istore_n dX6_takes_5 rfl (Nat.le_of_ble_eq_true rfl) ?_
  refine kx_iload_n dX6_takes_6 rfl rfl ?_
  refine kx_if_eq (tgt := 14) dX6_takes_7 (by decide) (fun c => ?_) (fun c => ?_)
  · have h := if_t c h
    refine kx_iload_n dX6_takes_14 rfl rfl ?_
    refine kN_zret dX6_takes_15 rfl h (fun v2 ev2 h => hQ _ _ (by subst ev2; exact rtI (Option.some.inj h)))
  · have h := if_f c h
    refine kx_aload_n dX6_takes_10 rfl rfl ?_
    obtain ⟨r3, er3, h⟩ := bd_s h
    refine kx_callV dX6_takes_11 lk_X6_214 (mM_goOn hd er3) rfl kN_rc rfl (Nat.le_of_ble_eq_true rfl) (Nat.le_of_ble_eq_true rfl) (Nat.le_of_ble_eq_true rfl) (Nat.le_of_ble_eq_true rfl) (Nat.le_of_ble_eq_true rfl) (fun _ _ _ h => h.elim) (fun w_ σ_ hq => ?_)
    obtain ⟨rfl, rfl⟩ := hq
    refine kx_iload_n dX6_takes_14 rfl rfl ?_
    refine kN_zret dX6_takes_15 rfl h (fun v4 ev4 h => hQ _ _ (by subst ev4; exact rtI (Option.some.inj h)))
set_option maxHeartbeats 4000000 in
theorem mM_parseTest {G : KG} {τ : KHp} {m : Nat} {ad : Nat → Nat} {s : TS} {x1 : Int32} {z : TS} (hd : Md m ad) (h : P_parseTest s x1 = some z) : kx_c G yX6_parseTest (ws_ yX6_parseTest cX6_parseTest 6 (Option.none : Option Jvm.ClassFile.FieldType)) 7 0 0 [.ref m, .int (x1)] (MP τ m ad s) (fun rv σ' => rv = none ∧ σ' = MP τ m ad z) kx_n := by
  refine kx_mk3 (ini := false) rfl (Nat.le_of_ble_eq_true rfl) (fun h => by cases h) (fun Q X hQ hX => ?_)
  unfold P_parseTest at h
  refine kx_aload_n dX6_parseTest_0 rfl rfl ?_
  obtain ⟨r1, er1, h⟩ := bd_s h
  refine kx_callV dX6_parseTest_1 lk_X6_88 (mM_good hd er1) rfl kN_rc rfl (Nat.le_of_ble_eq_true rfl) (Nat.le_of_ble_eq_true rfl) (Nat.le_of_ble_eq_true rfl) (Nat.le_of_ble_eq_true rfl) (Nat.le_of_ble_eq_true rfl) (fun _ _ _ h => h.elim) (fun w_ σ_ hq => ?_)
  obtain ⟨rfl, rfl⟩ := hq
  obtain ⟨r2, er2, h⟩ := bd_s h
  refine kN_j (MP τ m ad r2.1) 23 [.int (r2.2)] ?_ (fun jr2 => ?_)
  · skip
    refine kx_istore_n dX6_parseTest_23 rfl (Nat.le_of_ble_eq_true rfl) ?_
    refine kx_iload_n dX6_parseTest_24 rfl rfl ?_
    refine kx_iconst (v := -1) dX6_parseTest_25 (by decide) ?_
    obtain ⟨r4, er4, h⟩ := bd_s h
    refine kN_j (MP τ m ad r4) 34 [] ?_ (fun jr4 => ?_)
    · skip
      refine kx_aload_n dX6_parseTest_34 rfl rfl ?_
      refine kx_getf dX6_parseTest_35 fl_X6_24_X6 kN_m rfl ?_
      refine kx_iload_n dX6_parseTest_38 rfl rfl ?_
      refine kx_iconst (v := 1) dX6_parseTest_39 (by decide) ?_
      refine kx_iadd dX6_parseTest_40 ?_
      refine kN_ald hd dX6_parseTest_41 h (fun v6 ev6 h => ?_)
      refine kx_istore_n dX6_parseTest_42 rfl (Nat.le_of_ble_eq_true rfl) ?_
      refine kx_iload_n dX6_parseTest_43 rfl rfl ?_
      refine kx_bipush (v := 6) dX6_parseTest_44 (by decide) ?_
      obtain ⟨r7, er7, h⟩ := bd_s h
      refine kN_j (MP τ m ad r7) 54 [] ?_ (fun jr7 => ?_)
      · skip
        refine kx_aload_n dX6_parseTest_54 rfl rfl ?_
        obtain ⟨r9, er9, h⟩ := bd_s h
        refine kx_callV dX6_parseTest_55 lk_X6_214 (mM_goOn hd er9) rfl kN_rc rfl (Nat.le_of_ble_eq_true rfl) (Nat.le_of_ble_eq_true rfl) (Nat.le_of_ble_eq_true rfl) (Nat.le_of_ble_eq_true rfl) (Nat.le_of_ble_eq_true rfl) (fun _ _ _ h => h.elim) (fun w_ σ_ hq => ?_)
        obtain ⟨rfl, rfl⟩ := hq
        refine kx_aload_n dX6_parseTest_58 rfl rfl ?_
        refine kx_getf dX6_parseTest_59 fl_X6_116_X6 kN_m rfl ?_
        refine kx_istore dX6_parseTest_62 (Nat.le_of_ble_eq_true rfl) ?_
        refine kx_aload_n dX6_parseTest_64 rfl rfl ?_
        refine kx_bipush (v := 60) dX6_parseTest_65 (by decide) ?_
        obtain ⟨r10, er10, h⟩ := bd_s h
        refine kx_callV dX6_parseTest_67 lk_X6_255 (mM_isSymbol hd er10) rfl kN_rc rfl (Nat.le_of_ble_eq_true rfl) (Nat.le_of_ble_eq_true rfl) (Nat.le_of_ble_eq_true rfl) (Nat.le_of_ble_eq_true rfl) (Nat.le_of_ble_eq_true rfl) (fun _ _ _ h => h.elim) (fun w_ σ_ hq => ?_)
        obtain ⟨rfl, rfl⟩ := hq
        obtain ⟨r11, er11, h⟩ := bd_s h
        refine kN_j (MP τ m ad r11) 87 [] ?_ (fun jr11 => ?_)
        · skip
          refine kx_aload_n dX6_parseTest_87 rfl rfl ?_
          obtain ⟨r14, er14, h⟩ := bd_s h
          refine kx_callV dX6_parseTest_88 lk_X6_214 (mM_goOn hd er14) rfl kN_rc rfl (Nat.le_of_ble_eq_true rfl) (Nat.le_of_ble_eq_true rfl) (Nat.le_of_ble_eq_true rfl) (Nat.le_of_ble_eq_true rfl) (Nat.le_of_ble_eq_true rfl) (fun _ _ _ h => h.elim) (fun w_ σ_ hq => ?_)
          obtain ⟨rfl, rfl⟩ := hq
          refine kx_aload_n dX6_parseTest_91 rfl rfl ?_
          refine kx_iconst (v := 0) dX6_parseTest_92 (by decide) ?_
          refine kx_ldcwi dX6_parseTest_93 q3025 ?_
          obtain ⟨r15, er15, h⟩ := bd_s h
          refine kx_callV dX6_parseTest_96 lk_X6_221 (mM_number hd er15) rfl kN_rc rfl (Nat.le_of_ble_eq_true rfl) (Nat.le_of_ble_eq_true rfl) (Nat.le_of_ble_eq_true rfl) (Nat.le_of_ble_eq_true rfl) (Nat.le_of_ble_eq_true rfl) (fun _ _ _ h => h.elim) (fun w_ σ_ hq => ?_)
          obtain ⟨rfl, rfl⟩ := hq
          refine kx_istore dX6_parseTest_99 (Nat.le_of_ble_eq_true rfl) ?_
          refine kx_aload_n dX6_parseTest_101 rfl rfl ?_
          obtain ⟨r16, er16, h⟩ := bd_s h
          refine kx_callV dX6_parseTest_102 lk_X6_88 (mM_good hd er16) rfl kN_rc rfl (Nat.le_of_ble_eq_true rfl) (Nat.le_of_ble_eq_true rfl) (Nat.le_of_ble_eq_true rfl) (Nat.le_of_ble_eq_true rfl) (Nat.le_of_ble_eq_true rfl) (fun _ _ _ h => h.elim) (fun w_ σ_ hq => ?_)
          obtain ⟨rfl, rfl⟩ := hq
          refine kx_if_ne (tgt := 109) dX6_parseTest_105 (by decide) (fun c => ?_) (fun c => ?_)
          · have h := if_f c h
            refine kx_aload_n dX6_parseTest_109 rfl rfl ?_
            refine kx_getf dX6_parseTest_110 fl_X6_24_X6 kN_m rfl ?_
            refine kx_iload_n dX6_parseTest_113 rfl rfl ?_
            refine kx_bipush (v := 9) dX6_parseTest_114 (by decide) ?_
            refine kx_iadd dX6_parseTest_116 ?_
            refine kx_iconst (v := 3) dX6_parseTest_117 (by decide) ?_
            refine kx_iload_n dX6_parseTest_118 rfl rfl ?_
            refine kx_imul dX6_parseTest_119 ?_
            refine kx_iadd dX6_parseTest_120 ?_
            refine kx_iload_n dX6_parseTest_121 rfl rfl ?_
            refine kN_ast hd dX6_parseTest_122 h (fun s17 es17 h => ?_)
            refine kx_aload_n dX6_parseTest_123 rfl rfl ?_
            refine kx_getf dX6_parseTest_124 fl_X6_24_X6 kN_m rfl ?_
            refine kx_iload_n dX6_parseTest_127 rfl rfl ?_
            refine kx_bipush (v := 9) dX6_parseTest_128 (by decide) ?_
            refine kx_iadd dX6_parseTest_130 ?_
            refine kx_iconst (v := 3) dX6_parseTest_131 (by decide) ?_
            refine kx_iload_n dX6_parseTest_132 rfl rfl ?_
            refine kx_imul dX6_parseTest_133 ?_
            refine kx_iadd dX6_parseTest_134 ?_
            refine kx_iconst (v := 1) dX6_parseTest_135 (by decide) ?_
            refine kx_iadd dX6_parseTest_136 ?_
            refine kx_iload dX6_parseTest_137 rfl ?_
            refine kN_ast hd dX6_parseTest_139 h (fun s18 es18 h => ?_)
            refine kx_aload_n dX6_parseTest_140 rfl rfl ?_
            refine kx_getf dX6_parseTest_141 fl_X6_24_X6 kN_m rfl ?_
            refine kx_iload_n dX6_parseTest_144 rfl rfl ?_
            refine kx_bipush (v := 9) dX6_parseTest_145 (by decide) ?_
            refine kx_iadd dX6_parseTest_147 ?_
            refine kx_iconst (v := 3) dX6_parseTest_148 (by decide) ?_
            refine kx_iload_n dX6_parseTest_149 rfl rfl ?_
            refine kx_imul dX6_parseTest_150 ?_
            refine kx_iadd dX6_parseTest_151 ?_
            refine kx_iconst (v := 2) dX6_parseTest_152 (by decide) ?_
            refine kx_iadd dX6_parseTest_153 ?_
            refine kx_iload dX6_parseTest_154 rfl ?_
            refine kN_ast hd dX6_parseTest_156 h (fun s19 es19 h => ?_)
            refine kx_aload_n dX6_parseTest_157 rfl rfl ?_
            refine kx_getf dX6_parseTest_158 fl_X6_24_X6 kN_m rfl ?_
            refine kx_iload_n dX6_parseTest_161 rfl rfl ?_
            refine kx_iconst (v := 1) dX6_parseTest_162 (by decide) ?_
            refine kx_iadd dX6_parseTest_163 ?_
            refine kx_dup2_11 dX6_parseTest_164 rfl rfl ?_
            refine kN_ald hd dX6_parseTest_165 h (fun v20 ev20 h => ?_)
            refine kx_iconst (v := 1) dX6_parseTest_166 (by decide) ?_
            refine kx_iadd dX6_parseTest_167 ?_
            refine kN_ast hd dX6_parseTest_168 h (fun s21 es21 h => ?_)
            exact kx_vret dX6_parseTest_169 rfl (hQ _ _ (rtV (Option.some.inj h)))
          · have h := if_t c h
            exact kx_vret dX6_parseTest_108 rfl (hQ _ _ (rtV (Option.some.inj h)))
        · have h := er11
          refine kx_if_ne (tgt := 87) dX6_parseTest_70 (by decide) (fun c => ?_) (fun c => ?_)
          · have h := if_f c h
            exact jnS h jr11
          · have h := if_t c h
            refine kx_aload_n dX6_parseTest_73 rfl rfl ?_
            refine kx_bipush (v := 62) dX6_parseTest_74 (by decide) ?_
            obtain ⟨r12, er12, h⟩ := bd_s h
            refine kx_callV dX6_parseTest_76 lk_X6_255 (mM_isSymbol hd er12) rfl kN_rc rfl (Nat.le_of_ble_eq_true rfl) (Nat.le_of_ble_eq_true rfl) (Nat.le_of_ble_eq_true rfl) (Nat.le_of_ble_eq_true rfl) (Nat.le_of_ble_eq_true rfl) (fun _ _ _ h => h.elim) (fun w_ σ_ hq => ?_)
            obtain ⟨rfl, rfl⟩ := hq
            refine kx_if_ne (tgt := 87) dX6_parseTest_79 (by decide) (fun c => ?_) (fun c => ?_)
            · have h := if_f c h
              exact jnS h jr11
            · have h := if_t c h
              refine kx_aload_n dX6_parseTest_82 rfl rfl ?_
              refine kx_iconst (v := 1) dX6_parseTest_83 (by decide) ?_
              obtain ⟨r13, er13, h⟩ := bd_s h
              refine kx_callV dX6_parseTest_84 lk_X6_211 (mM_errs hd er13) rfl kN_rc rfl (Nat.le_of_ble_eq_true rfl) (Nat.le_of_ble_eq_true rfl) (Nat.le_of_ble_eq_true rfl) (Nat.le_of_ble_eq_true rfl) (Nat.le_of_ble_eq_true rfl) (fun _ _ _ h => h.elim) (fun w_ σ_ hq => ?_)
              obtain ⟨rfl, rfl⟩ := hq
              exact jnS h jr11
      · have h := er7
        refine kx_icmp_ne (tgt := 54) dX6_parseTest_46 (by decide) (fun c => ?_) (fun c => ?_)
        · have h := if_f c h
          exact jnS h jr7
        · have h := if_t c h
          refine kx_aload_n dX6_parseTest_49 rfl rfl ?_
          refine kx_iconst (v := 4) dX6_parseTest_50 (by decide) ?_
          obtain ⟨r8, er8, h⟩ := bd_s h
          refine kx_callV dX6_parseTest_51 lk_X6_211 (mM_errs hd er8) rfl kN_rc rfl (Nat.le_of_ble_eq_true rfl) (Nat.le_of_ble_eq_true rfl) (Nat.le_of_ble_eq_true rfl) (Nat.le_of_ble_eq_true rfl) (Nat.le_of_ble_eq_true rfl) (fun _ _ _ h => h.elim) (fun w_ σ_ hq => ?_)
          obtain ⟨rfl, rfl⟩ := hq
          exact jnS h jr7
    · have h := er4
      refine kx_icmp_ne (tgt := 34) dX6_parseTest_26 (by decide) (fun c => ?_) (fun c => ?_)
      · have h := if_f c h
        exact jnS h jr4
      · have h := if_t c h
        refine kx_aload_n dX6_parseTest_29 rfl rfl ?_
        refine kx_iconst (v := 1) dX6_parseTest_30 (by decide) ?_
        obtain ⟨r5, er5, h⟩ := bd_s h
        refine kx_callV dX6_parseTest_31 lk_X6_211 (mM_errs hd er5) rfl kN_rc rfl (Nat.le_of_ble_eq_true rfl) (Nat.le_of_ble_eq_true rfl) (Nat.le_of_ble_eq_true rfl) (Nat.le_of_ble_eq_true rfl) (Nat.le_of_ble_eq_true rfl) (fun _ _ _ h => h.elim) (fun w_ σ_ hq => ?_)
        obtain ⟨rfl, rfl⟩ := hq
        exact jnS h jr4
  · have h := er2
    refine kx_if_eq (tgt := 22) dX6_parseTest_4 (by decide) (fun c => ?_) (fun c => ?_)
    · have h := if_t c h
      refine kx_iconst (v := -1) dX6_parseTest_22 (by decide) ?_
      exact jnI h jr2
    · have h := if_f c h
      refine kx_aload_n dX6_parseTest_7 rfl rfl ?_
      refine kx_getf dX6_parseTest_8 fl_X6_105_X6 kN_m rfl ?_
      refine kx_iconst (v := 1) dX6_parseTest_11 (by decide) ?_
      refine kx_icmp_ne (tgt := 22) dX6_parseTest_12 (by decide) (fun c => ?_) (fun c => ?_)
      · have h := if_f c h
        refine kx_iconst (v := -1) dX6_parseTest_22 (by decide) ?_
        exact jnI h jr2
      · have h := if_t c h
        refine kx_aload_n dX6_parseTest_15 rfl rfl ?_
        obtain ⟨r3, er3, h⟩ := bd_s h
        refine kx_callV dX6_parseTest_16 lk_X6_202 (mM_featureHere hd er3) rfl kN_rc rfl (Nat.le_of_ble_eq_true rfl) (Nat.le_of_ble_eq_true rfl) (Nat.le_of_ble_eq_true rfl) (Nat.le_of_ble_eq_true rfl) (Nat.le_of_ble_eq_true rfl) (fun _ _ _ h => h.elim) (fun w_ σ_ hq => ?_)
        obtain ⟨rfl, rfl⟩ := hq
        refine kx_goto (tgt := 23) dX6_parseTest_19 (by decide) ?_
        exact jnI h jr2
set_option maxHeartbeats 4000000 in
theorem mM_count {G : KG} {τ : KHp} {m : Nat} {ad : Nat → Nat} {s : TS} {x1 : Int32} {z : TS × Int32} (hd : Md m ad) (h : P_count s x1 = some z) : kx_c G yX6_count (ws_ yX6_count cX6_count 2 (Option.some Jvm.ClassFile.FieldType.int)) 3 0 0 [.ref m, .int (x1)] (MP τ m ad s) (fun rv σ' => rv = some (.int z.2) ∧ σ' = MP τ m ad z.1) kx_n := by
  refine kx_mk3 (ini := false) rfl (Nat.le_of_ble_eq_true rfl) (fun h => by cases h) (fun Q X hQ hX => ?_)
  unfold P_count at h
  refine kx_aload_n dX6_count_0 rfl rfl ?_
  refine kx_iload_n dX6_count_1 rfl rfl ?_
  refine kx_i2l dX6_count_2 rfl ?_
  refine kx_lconst (v := 0) dX6_count_3 (by decide) ?_
  refine kx_ldc2 dX6_count_4 q3078 ?_
  obtain ⟨r1, er1, h⟩ := bd_s h
  refine kx_callS dX6_count_7 lk_X6_66 (mM_in hd er1) rfl rfl (Nat.le_of_ble_eq_true rfl) (Nat.le_of_ble_eq_true rfl) (Nat.le_of_ble_eq_true rfl) (Nat.le_of_ble_eq_true rfl) (Nat.le_of_ble_eq_true rfl) (fun _ _ _ h => h.elim) (fun w_ σ_ hq => ?_)
  obtain ⟨rfl, rfl⟩ := hq
  obtain ⟨r2, er2, h⟩ := bd_s h
  refine kx_callV dX6_count_10 lk_X6_77 (mM_passes hd er2) rfl kN_rc rfl (Nat.le_of_ble_eq_true rfl) (Nat.le_of_ble_eq_true rfl) (Nat.le_of_ble_eq_true rfl) (Nat.le_of_ble_eq_true rfl) (Nat.le_of_ble_eq_true rfl) (fun _ _ _ h => h.elim) (fun w_ σ_ hq => ?_)
  obtain ⟨rfl, rfl⟩ := hq
  refine kx_if_ne (tgt := 18) dX6_count_13 (by decide) (fun c => ?_) (fun c => ?_)
  · have h := if_f c h
    refine kx_iload_n dX6_count_18 rfl rfl ?_
    by_cases c0 : x1 = (0 : Int32)
    · have h := if_t c0 h
      refine kx_tableIn (tgt := 60) dX6_count_19 (by rw [c0]; decide) (by rw [c0]; decide) (by rw [c0]; rfl) (by decide) ?_
      refine kx_aload_n dX6_count_60 rfl rfl ?_
      refine kx_getf dX6_count_61 fl_X6_17_X6 kN_m rfl ?_
      refine kx_iconst (v := 3) dX6_count_64 (by decide) ?_
      refine kN_ald hd dX6_count_65 h (fun v3 ev3 h => ?_)
      exact kx_iret dX6_count_66 rfl (hQ _ _ (rtI (Option.some.inj h)))
    have h := if_f c0 h
    by_cases c1 : x1 = (1 : Int32)
    · have h := if_t c1 h
      refine kx_tableIn (tgt := 67) dX6_count_19 (by rw [c1]; decide) (by rw [c1]; decide) (by rw [c1]; rfl) (by decide) ?_
      refine kx_aload_n dX6_count_67 rfl rfl ?_
      refine kx_getf dX6_count_68 fl_X6_17_X6 kN_m rfl ?_
      refine kx_iconst (v := 4) dX6_count_71 (by decide) ?_
      refine kN_ald hd dX6_count_72 h (fun v4 ev4 h => ?_)
      exact kx_iret dX6_count_73 rfl (hQ _ _ (rtI (Option.some.inj h)))
    have h := if_f c1 h
    by_cases c2 : x1 = (2 : Int32)
    · have h := if_t c2 h
      refine kx_tableIn (tgt := 74) dX6_count_19 (by rw [c2]; decide) (by rw [c2]; decide) (by rw [c2]; rfl) (by decide) ?_
      refine kx_aload_n dX6_count_74 rfl rfl ?_
      refine kx_getf dX6_count_75 fl_X6_17_X6 kN_m rfl ?_
      refine kx_iconst (v := 5) dX6_count_78 (by decide) ?_
      refine kN_ald hd dX6_count_79 h (fun v5 ev5 h => ?_)
      exact kx_iret dX6_count_80 rfl (hQ _ _ (rtI (Option.some.inj h)))
    have h := if_f c2 h
    by_cases c3 : x1 = (3 : Int32)
    · have h := if_t c3 h
      refine kx_tableIn (tgt := 81) dX6_count_19 (by rw [c3]; decide) (by rw [c3]; decide) (by rw [c3]; rfl) (by decide) ?_
      refine kx_aload_n dX6_count_81 rfl rfl ?_
      refine kx_getf dX6_count_82 fl_X6_17_X6 kN_m rfl ?_
      refine kx_bipush (v := 6) dX6_count_85 (by decide) ?_
      refine kN_ald hd dX6_count_87 h (fun v6 ev6 h => ?_)
      exact kx_iret dX6_count_88 rfl (hQ _ _ (rtI (Option.some.inj h)))
    have h := if_f c3 h
    by_cases c4 : x1 = (4 : Int32)
    · have h := if_t c4 h
      refine kx_tableIn (tgt := 89) dX6_count_19 (by rw [c4]; decide) (by rw [c4]; decide) (by rw [c4]; rfl) (by decide) ?_
      refine kx_aload_n dX6_count_89 rfl rfl ?_
      refine kx_getf dX6_count_90 fl_X6_17_X6 kN_m rfl ?_
      refine kx_bipush (v := 7) dX6_count_93 (by decide) ?_
      refine kN_ald hd dX6_count_95 h (fun v7 ev7 h => ?_)
      exact kx_iret dX6_count_96 rfl (hQ _ _ (rtI (Option.some.inj h)))
    have h := if_f c4 h
    by_cases c5 : x1 = (5 : Int32)
    · have h := if_t c5 h
      refine kx_tableIn (tgt := 97) dX6_count_19 (by rw [c5]; decide) (by rw [c5]; decide) (by rw [c5]; rfl) (by decide) ?_
      refine kx_aload_n dX6_count_97 rfl rfl ?_
      refine kx_getf dX6_count_98 fl_X6_17_X6 kN_m rfl ?_
      refine kx_iconst (v := 0) dX6_count_101 (by decide) ?_
      refine kN_ald hd dX6_count_102 h (fun v8 ev8 h => ?_)
      exact kx_iret dX6_count_103 rfl (hQ _ _ (rtI (Option.some.inj h)))
    have h := if_f c5 h
    by_cases c6 : x1 = (6 : Int32)
    · have h := if_t c6 h
      refine kx_tableIn (tgt := 104) dX6_count_19 (by rw [c6]; decide) (by rw [c6]; decide) (by rw [c6]; rfl) (by decide) ?_
      refine kx_aload_n dX6_count_104 rfl rfl ?_
      refine kx_getf dX6_count_105 fl_X6_17_X6 kN_m rfl ?_
      refine kx_iconst (v := 1) dX6_count_108 (by decide) ?_
      refine kN_ald hd dX6_count_109 h (fun v9 ev9 h => ?_)
      exact kx_iret dX6_count_110 rfl (hQ _ _ (rtI (Option.some.inj h)))
    have h := if_f c6 h
    refine kx_tableOut (tgt := 111) dX6_count_19 (tb7 c0 c1 c2 c3 c4 c5 c6) (by decide) ?_
    refine kx_aload_n dX6_count_111 rfl rfl ?_
    refine kx_getf dX6_count_112 fl_X6_17_X6 kN_m rfl ?_
    refine kx_iconst (v := 2) dX6_count_115 (by decide) ?_
    refine kN_ald hd dX6_count_116 h (fun v10 ev10 h => ?_)
    exact kx_iret dX6_count_117 rfl (hQ _ _ (rtI (Option.some.inj h)))
  · have h := if_t c h
    refine kx_iconst (v := 0) dX6_count_16 (by decide) ?_
    exact kx_iret dX6_count_17 rfl (hQ _ _ (rtI (Option.some.inj h)))
set_option maxHeartbeats 4000000 in
theorem mM_rated {G : KG} {τ : KHp} {m : Nat} {ad : Nat → Nat} {s : TS} {x1 : Int32} {z : TS × Int32} (hd : Md m ad) (h : P_rated s x1 = some z) : kx_c G yX6_rated (ws_ yX6_rated cX6_rated 2 (Option.some Jvm.ClassFile.FieldType.int)) 3 0 0 [.ref m, .int (x1)] (MP τ m ad s) (fun rv σ' => rv = some (.int z.2) ∧ σ' = MP τ m ad z.1) kx_n := by
  refine kx_mk3 (ini := false) rfl (Nat.le_of_ble_eq_true rfl) (fun h => by cases h) (fun Q X hQ hX => ?_)
  unfold P_rated at h
  refine kx_aload_n dX6_rated_0 rfl rfl ?_
  refine kx_aload_n dX6_rated_1 rfl rfl ?_
  refine kx_iload_n dX6_rated_2 rfl rfl ?_
  obtain ⟨r1, er1, h⟩ := bd_s h
  refine kx_callV dX6_rated_3 lk_X6_329 (mM_isBranch hd er1) rfl kN_rc rfl (Nat.le_of_ble_eq_true rfl) (Nat.le_of_ble_eq_true rfl) (Nat.le_of_ble_eq_true rfl) (Nat.le_of_ble_eq_true rfl) (Nat.le_of_ble_eq_true rfl) (fun _ _ _ h => h.elim) (fun w_ σ_ hq => ?_)
  obtain ⟨rfl, rfl⟩ := hq
  obtain ⟨r2, er2, h⟩ := bd_s h
  refine kx_callV dX6_rated_6 lk_X6_77 (mM_passes hd er2) rfl kN_rc rfl (Nat.le_of_ble_eq_true rfl) (Nat.le_of_ble_eq_true rfl) (Nat.le_of_ble_eq_true rfl) (Nat.le_of_ble_eq_true rfl) (Nat.le_of_ble_eq_true rfl) (fun _ _ _ h => h.elim) (fun w_ σ_ hq => ?_)
  obtain ⟨rfl, rfl⟩ := hq
  obtain ⟨r3, er3, h⟩ := bd_s h
  refine kN_j (MP τ m ad r3.1) 22 [.int (r3.2)] ?_ (fun jr3 => ?_)
  · skip
    exact kx_iret dX6_rated_22 rfl (hQ _ _ (rtI (Option.some.inj h)))
  · have h := er3
    refine kx_if_eq (tgt := 21) dX6_rated_9 (by decide) (fun c => ?_) (fun c => ?_)
    · have h := if_t c h
      refine kx_iconst (v := 0) dX6_rated_21 (by decide) ?_
      exact jnI h jr3
    · have h := if_f c h
      refine kx_aload_n dX6_rated_12 rfl rfl ?_
      refine kx_iload_n dX6_rated_13 rfl rfl ?_
      refine kx_iconst (v := 0) dX6_rated_14 (by decide) ?_
      obtain ⟨r4, er4, h⟩ := bd_s h
      refine kx_callV dX6_rated_15 lk_X6_70 (mM_ofBranch hd er4) rfl kN_rc rfl (Nat.le_of_ble_eq_true rfl) (Nat.le_of_ble_eq_true rfl) (Nat.le_of_ble_eq_true rfl) (Nat.le_of_ble_eq_true rfl) (Nat.le_of_ble_eq_true rfl) (fun _ _ _ h => h.elim) (fun w_ σ_ hq => ?_)
      obtain ⟨rfl, rfl⟩ := hq
      refine kx_goto (tgt := 22) dX6_rated_18 (by decide) ?_
      exact jnI h jr3
set_option maxHeartbeats 4000000 in
theorem mM_loadOf {G : KG} {τ : KHp} {m : Nat} {ad : Nat → Nat} {s : TS} {x1 : Int32} {x2 : Int32} {z : TS × Int32} (hd : Md m ad) (h : P_loadOf s x1 x2 = some z) : kx_c G yX6_loadOf (ws_ yX6_loadOf cX6_loadOf 3 (Option.some Jvm.ClassFile.FieldType.int)) 3 0 0 [.ref m, .int (x1), .int (x2)] (MP τ m ad s) (fun rv σ' => rv = some (.int z.2) ∧ σ' = MP τ m ad z.1) kx_n := by
  refine kx_mk3 (ini := false) rfl (Nat.le_of_ble_eq_true rfl) (fun h => by cases h) (fun Q X hQ hX => ?_)
  unfold P_loadOf at h
  refine kx_aload_n dX6_loadOf_0 rfl rfl ?_
  refine kx_aload_n dX6_loadOf_1 rfl rfl ?_
  refine kx_iload_n dX6_loadOf_2 rfl rfl ?_
  obtain ⟨r1, er1, h⟩ := bd_s h
  refine kx_callV dX6_loadOf_3 lk_X6_333 (mM_isLoad hd er1) rfl kN_rc rfl (Nat.le_of_ble_eq_true rfl) (Nat.le_of_ble_eq_true rfl) (Nat.le_of_ble_eq_true rfl) (Nat.le_of_ble_eq_true rfl) (Nat.le_of_ble_eq_true rfl) (fun _ _ _ h => h.elim) (fun w_ σ_ hq => ?_)
  obtain ⟨rfl, rfl⟩ := hq
  refine kx_iload_n dX6_loadOf_6 rfl rfl ?_
  refine kx_i2l dX6_loadOf_7 rfl ?_
  refine kx_lconst (v := 0) dX6_loadOf_8 (by decide) ?_
  refine kx_ldc2 dX6_loadOf_9 q3103 ?_
  obtain ⟨r2, er2, h⟩ := bd_s h
  refine kx_callS dX6_loadOf_12 lk_X6_66 (mM_in hd er2) rfl rfl (Nat.le_of_ble_eq_true rfl) (Nat.le_of_ble_eq_true rfl) (Nat.le_of_ble_eq_true rfl) (Nat.le_of_ble_eq_true rfl) (Nat.le_of_ble_eq_true rfl) (fun _ _ _ h => h.elim) (fun w_ σ_ hq => ?_)
  obtain ⟨rfl, rfl⟩ := hq
  obtain ⟨r3, er3, h⟩ := bd_s h
  refine kx_callV dX6_loadOf_15 lk_X6_338 (mM_passes2 hd er3) rfl kN_rc rfl (Nat.le_of_ble_eq_true rfl) (Nat.le_of_ble_eq_true rfl) (Nat.le_of_ble_eq_true rfl) (Nat.le_of_ble_eq_true rfl) (Nat.le_of_ble_eq_true rfl) (fun _ _ _ h => h.elim) (fun w_ σ_ hq => ?_)
  obtain ⟨rfl, rfl⟩ := hq
  obtain ⟨r4, er4, h⟩ := bd_s h
  refine kN_j (MP τ m ad r4.1) 31 [.int (r4.2)] ?_ (fun jr4 => ?_)
  · skip
    exact kx_iret dX6_loadOf_31 rfl (hQ _ _ (rtI (Option.some.inj h)))
  · have h := er4
    refine kx_if_eq (tgt := 30) dX6_loadOf_18 (by decide) (fun c => ?_) (fun c => ?_)
    · have h := if_t c h
      refine kx_iconst (v := 0) dX6_loadOf_30 (by decide) ?_
      exact jnI h jr4
    · have h := if_f c h
      refine kx_aload_n dX6_loadOf_21 rfl rfl ?_
      refine kx_iload_n dX6_loadOf_22 rfl rfl ?_
      refine kx_iload_n dX6_loadOf_23 rfl rfl ?_
      obtain ⟨r5, er5, h⟩ := bd_s h
      refine kx_callV dX6_loadOf_24 lk_X6_342 (mM_ofLoad hd er5) rfl kN_rc rfl (Nat.le_of_ble_eq_true rfl) (Nat.le_of_ble_eq_true rfl) (Nat.le_of_ble_eq_true rfl) (Nat.le_of_ble_eq_true rfl) (Nat.le_of_ble_eq_true rfl) (fun _ _ _ h => h.elim) (fun w_ σ_ hq => ?_)
      obtain ⟨rfl, rfl⟩ := hq
      refine kx_goto (tgt := 31) dX6_loadOf_27 (by decide) ?_
      exact jnI h jr4
set_option maxHeartbeats 4000000 in
theorem mM_isOn {G : KG} {τ : KHp} {m : Nat} {ad : Nat → Nat} {s : TS} {x1 : Int32} {z : TS × Int32} (hd : Md m ad) (h : P_isOn s x1 = some z) : kx_c G yX6_isOn (ws_ yX6_isOn cX6_isOn 2 (Option.some Jvm.ClassFile.FieldType.boolean)) 3 0 0 [.ref m, .int (x1)] (MP τ m ad s) (fun rv σ' => rv = some (.int z.2) ∧ σ' = MP τ m ad z.1) kx_n := by
  refine kx_mk3 (ini := false) rfl (Nat.le_of_ble_eq_true rfl) (fun h => by cases h) (fun Q X hQ hX => ?_)
  unfold P_isOn at h
  refine kx_aload_n dX6_isOn_0 rfl rfl ?_
  refine kx_aload_n dX6_isOn_1 rfl rfl ?_
  refine kx_iload_n dX6_isOn_2 rfl rfl ?_
  obtain ⟨r1, er1, h⟩ := bd_s h
  refine kx_callV dX6_isOn_3 lk_X6_333 (mM_isLoad hd er1) rfl kN_rc rfl (Nat.le_of_ble_eq_true rfl) (Nat.le_of_ble_eq_true rfl) (Nat.le_of_ble_eq_true rfl) (Nat.le_of_ble_eq_true rfl) (Nat.le_of_ble_eq_true rfl) (fun _ _ _ h => h.elim) (fun w_ σ_ hq => ?_)
  obtain ⟨rfl, rfl⟩ := hq
  obtain ⟨r2, er2, h⟩ := bd_s h
  refine kx_callV dX6_isOn_6 lk_X6_77 (mM_passes hd er2) rfl kN_rc rfl (Nat.le_of_ble_eq_true rfl) (Nat.le_of_ble_eq_true rfl) (Nat.le_of_ble_eq_true rfl) (Nat.le_of_ble_eq_true rfl) (Nat.le_of_ble_eq_true rfl) (fun _ _ _ h => h.elim) (fun w_ σ_ hq => ?_)
  obtain ⟨rfl, rfl⟩ := hq
  obtain ⟨r3, er3, h⟩ := bd_s h
  refine kN_j (MP τ m ad r3.1) 27 [.int (r3.2)] ?_ (fun jr3 => ?_)
  · skip
    refine kN_zret dX6_isOn_27 rfl h (fun v5 ev5 h => hQ _ _ (by subst ev5; exact rtI (Option.some.inj h)))
  · have h := er3
    refine kx_if_eq (tgt := 26) dX6_isOn_9 (by decide) (fun c => ?_) (fun c => ?_)
    · have h := if_t c h
      refine kx_iconst (v := 0) dX6_isOn_26 (by decide) ?_
      exact jnI h jr3
    · have h := if_f c h
      refine kx_aload_n dX6_isOn_12 rfl rfl ?_
      refine kx_iload_n dX6_isOn_13 rfl rfl ?_
      refine kx_iconst (v := 5) dX6_isOn_14 (by decide) ?_
      obtain ⟨r4, er4, h⟩ := bd_s h
      refine kx_callV dX6_isOn_15 lk_X6_342 (mM_ofLoad hd er4) rfl kN_rc rfl (Nat.le_of_ble_eq_true rfl) (Nat.le_of_ble_eq_true rfl) (Nat.le_of_ble_eq_true rfl) (Nat.le_of_ble_eq_true rfl) (Nat.le_of_ble_eq_true rfl) (fun _ _ _ h => h.elim) (fun w_ σ_ hq => ?_)
      obtain ⟨rfl, rfl⟩ := hq
      refine kx_iconst (v := 1) dX6_isOn_18 (by decide) ?_
      refine kx_icmp_ne (tgt := 26) dX6_isOn_19 (by decide) (fun c => ?_) (fun c => ?_)
      · have h := if_f c h
        refine kx_iconst (v := 0) dX6_isOn_26 (by decide) ?_
        exact jnI h jr3
      · have h := if_t c h
        refine kx_iconst (v := 1) dX6_isOn_22 (by decide) ?_
        refine kx_goto (tgt := 27) dX6_isOn_23 (by decide) ?_
        exact jnI h jr3
set_option maxHeartbeats 4000000 in
theorem mM_setOn {G : KG} {τ : KHp} {m : Nat} {ad : Nat → Nat} {s : TS} {x1 : Int32} {x2 : Int32} {z : TS × Int32} (hd : Md m ad) (h : P_setOn s x1 x2 = some z) : kx_c G yX6_setOn (ws_ yX6_setOn cX6_setOn 4 (Option.some Jvm.ClassFile.FieldType.boolean)) 3 0 0 [.ref m, .int (x1), .int (x2)] (MP τ m ad s) (fun rv σ' => rv = some (.int z.2) ∧ σ' = MP τ m ad z.1) kx_n := by
  refine kx_mk3 (ini := false) rfl (Nat.le_of_ble_eq_true rfl) (fun h => by cases h) (fun Q X hQ hX => ?_)
  unfold P_setOn at h
  refine kx_aload_n dX6_setOn_0 rfl rfl ?_
  refine kx_aload_n dX6_setOn_1 rfl rfl ?_
  refine kx_iload_n dX6_setOn_2 rfl rfl ?_
  obtain ⟨r1, er1, h⟩ := bd_s h
  refine kx_callV dX6_setOn_3 lk_X6_333 (mM_isLoad hd er1) rfl kN_rc rfl (Nat.le_of_ble_eq_true rfl) (Nat.le_of_ble_eq_true rfl) (Nat.le_of_ble_eq_true rfl) (Nat.le_of_ble_eq_true rfl) (Nat.le_of_ble_eq_true rfl) (fun _ _ _ h => h.elim) (fun w_ σ_ hq => ?_)
  obtain ⟨rfl, rfl⟩ := hq
  obtain ⟨r2, er2, h⟩ := bd_s h
  refine kx_callV dX6_setOn_6 lk_X6_77 (mM_passes hd er2) rfl kN_rc rfl (Nat.le_of_ble_eq_true rfl) (Nat.le_of_ble_eq_true rfl) (Nat.le_of_ble_eq_true rfl) (Nat.le_of_ble_eq_true rfl) (Nat.le_of_ble_eq_true rfl) (fun _ _ _ h => h.elim) (fun w_ σ_ hq => ?_)
  obtain ⟨rfl, rfl⟩ := hq
  refine kx_if_ne (tgt := 14) dX6_setOn_9 (by decide) (fun c => ?_) (fun c => ?_)
  · have h := if_f c h
    refine kx_aload_n dX6_setOn_14 rfl rfl ?_
    obtain ⟨r3, er3, h⟩ := bd_s h
    refine kx_callV dX6_setOn_15 lk_X6_321 (mM_remember hd er3) rfl kN_rc rfl (Nat.le_of_ble_eq_true rfl) (Nat.le_of_ble_eq_true rfl) (Nat.le_of_ble_eq_true rfl) (Nat.le_of_ble_eq_true rfl) (Nat.le_of_ble_eq_true rfl) (fun _ _ _ h => h.elim) (fun w_ σ_ hq => ?_)
    obtain ⟨rfl, rfl⟩ := hq
    refine kx_aload_n dX6_setOn_18 rfl rfl ?_
    refine kx_iload_n dX6_setOn_19 rfl rfl ?_
    refine kx_iconst (v := 5) dX6_setOn_20 (by decide) ?_
    obtain ⟨r4, er4, h⟩ := bd_s h
    refine kx_callV dX6_setOn_21 lk_X6_342 (mM_ofLoad hd er4) rfl kN_rc rfl (Nat.le_of_ble_eq_true rfl) (Nat.le_of_ble_eq_true rfl) (Nat.le_of_ble_eq_true rfl) (Nat.le_of_ble_eq_true rfl) (Nat.le_of_ble_eq_true rfl) (fun _ _ _ h => h.elim) (fun w_ σ_ hq => ?_)
    obtain ⟨rfl, rfl⟩ := hq
    refine kx_iconst (v := 1) dX6_setOn_24 (by decide) ?_
    obtain ⟨r5, er5, h⟩ := bd_s h
    refine kN_j (MP τ m ad r5.1) 33 [.int (r5.2)] ?_ (fun jr5 => ?_)
    · skip
      refine kx_istore_n dX6_setOn_33 rfl (Nat.le_of_ble_eq_true rfl) ?_
      refine kx_aload_n dX6_setOn_34 rfl rfl ?_
      refine kx_iload_n dX6_setOn_35 rfl rfl ?_
      refine kx_iconst (v := 5) dX6_setOn_36 (by decide) ?_
      refine kx_iload_n dX6_setOn_37 rfl rfl ?_
      obtain ⟨r6, er6, h⟩ := bd_s h
      refine kN_j (MP τ m ad r6.1) 46 [.int (r6.2), .int ((5 : Int32)), .int (x1), .ref m] ?_ (fun jr6 => ?_)
      · skip
        obtain ⟨r7, er7, h⟩ := bd_s h
        refine kx_callV dX6_setOn_46 lk_X6_274 (mM_setLoad hd er7) rfl kN_rc rfl (Nat.le_of_ble_eq_true rfl) (Nat.le_of_ble_eq_true rfl) (Nat.le_of_ble_eq_true rfl) (Nat.le_of_ble_eq_true rfl) (Nat.le_of_ble_eq_true rfl) (fun _ _ _ h => h.elim) (fun w_ σ_ hq => ?_)
        obtain ⟨rfl, rfl⟩ := hq
        refine kx_iload_n dX6_setOn_49 rfl rfl ?_
        refine kN_zret dX6_setOn_50 rfl h (fun v8 ev8 h => hQ _ _ (by subst ev8; exact rtI (Option.some.inj h)))
      · have h := er6
        refine kx_if_eq (tgt := 45) dX6_setOn_38 (by decide) (fun c => ?_) (fun c => ?_)
        · have h := if_t c h
          refine kx_iconst (v := 0) dX6_setOn_45 (by decide) ?_
          exact jnI h jr6
        · have h := if_f c h
          refine kx_iconst (v := 1) dX6_setOn_41 (by decide) ?_
          refine kx_goto (tgt := 46) dX6_setOn_42 (by decide) ?_
          exact jnI h jr6
    · have h := er5
      refine kx_icmp_ne (tgt := 32) dX6_setOn_25 (by decide) (fun c => ?_) (fun c => ?_)
      · have h := if_f c h
        refine kx_iconst (v := 0) dX6_setOn_32 (by decide) ?_
        exact jnI h jr5
      · have h := if_t c h
        refine kx_iconst (v := 1) dX6_setOn_28 (by decide) ?_
        refine kx_goto (tgt := 33) dX6_setOn_29 (by decide) ?_
        exact jnI h jr5
  · have h := if_t c h
    refine kx_iconst (v := 0) dX6_setOn_12 (by decide) ?_
    exact kx_zret dX6_setOn_13 rfl rfl (hQ _ _ (rtI (Option.some.inj h)))
set_option maxHeartbeats 4000000 in
theorem mM_plan {G : KG} {τ : KHp} {m : Nat} {ad : Nat → Nat} {s : TS} {x1 : Int32} {x2 : Int32} {x3 : Int32} {z : TS × Int32} (hd : Md m ad) (h : P_plan s x1 x2 x3 = some z) : kx_c G yX6_plan (ws_ yX6_plan cX6_plan 4 (Option.some Jvm.ClassFile.FieldType.int)) 3 0 0 [.ref m, .int (x1), .int (x2), .int (x3)] (MP τ m ad s) (fun rv σ' => rv = some (.int z.2) ∧ σ' = MP τ m ad z.1) kx_n := by
  refine kx_mk3 (ini := false) rfl (Nat.le_of_ble_eq_true rfl) (fun h => by cases h) (fun Q X hQ hX => ?_)
  unfold P_plan at h
  refine kx_aload_n dX6_plan_0 rfl rfl ?_
  refine kx_aload_n dX6_plan_1 rfl rfl ?_
  refine kx_iload_n dX6_plan_2 rfl rfl ?_
  obtain ⟨r1, er1, h⟩ := bd_s h
  refine kx_callV dX6_plan_3 lk_X6_333 (mM_isLoad hd er1) rfl kN_rc rfl (Nat.le_of_ble_eq_true rfl) (Nat.le_of_ble_eq_true rfl) (Nat.le_of_ble_eq_true rfl) (Nat.le_of_ble_eq_true rfl) (Nat.le_of_ble_eq_true rfl) (fun _ _ _ h => h.elim) (fun w_ σ_ hq => ?_)
  obtain ⟨rfl, rfl⟩ := hq
  refine kx_iload_n dX6_plan_6 rfl rfl ?_
  refine kx_i2l dX6_plan_7 rfl ?_
  refine kx_aload_n dX6_plan_8 rfl rfl ?_
  refine kx_getf dX6_plan_9 fl_X6_17_X6 kN_m rfl ?_
  refine kx_bipush (v := 8) dX6_plan_12 (by decide) ?_
  refine kN_ald hd dX6_plan_14 h (fun v2 ev2 h => ?_)
  refine kx_iconst (v := 1) dX6_plan_15 (by decide) ?_
  refine kx_iadd dX6_plan_16 ?_
  refine kx_i2l dX6_plan_17 rfl ?_
  refine kx_ldc2 dX6_plan_18 q3124 ?_
  obtain ⟨r3, er3, h⟩ := bd_s h
  refine kx_callS dX6_plan_21 lk_X6_66 (mM_in hd er3) rfl rfl (Nat.le_of_ble_eq_true rfl) (Nat.le_of_ble_eq_true rfl) (Nat.le_of_ble_eq_true rfl) (Nat.le_of_ble_eq_true rfl) (Nat.le_of_ble_eq_true rfl) (fun _ _ _ h => h.elim) (fun w_ σ_ hq => ?_)
  obtain ⟨rfl, rfl⟩ := hq
  refine kx_aload_n dX6_plan_24 rfl rfl ?_
  refine kx_getf dX6_plan_25 fl_X6_17_X6 kN_m rfl ?_
  refine kx_bipush (v := 7) dX6_plan_28 (by decide) ?_
  refine kN_ald hd dX6_plan_30 h (fun v4 ev4 h => ?_)
  refine kx_bipush (v := 20) dX6_plan_31 (by decide) ?_
  obtain ⟨r5, er5, h⟩ := bd_s h
  refine kN_j (MP τ m ad r5.1) 41 [.int (r5.2), .int (r3.2), .int (r1.2), .ref m] ?_ (fun jr5 => ?_)
  · skip
    obtain ⟨r6, er6, h⟩ := bd_s h
    refine kx_callV dX6_plan_41 lk_X6_347 (mM_passes3 hd er6) rfl kN_rc rfl (Nat.le_of_ble_eq_true rfl) (Nat.le_of_ble_eq_true rfl) (Nat.le_of_ble_eq_true rfl) (Nat.le_of_ble_eq_true rfl) (Nat.le_of_ble_eq_true rfl) (fun _ _ _ h => h.elim) (fun w_ σ_ hq => ?_)
    obtain ⟨rfl, rfl⟩ := hq
    refine kx_if_ne (tgt := 49) dX6_plan_44 (by decide) (fun c => ?_) (fun c => ?_)
    · have h := if_f c h
      refine kx_aload_n dX6_plan_49 rfl rfl ?_
      obtain ⟨r7, er7, h⟩ := bd_s h
      refine kx_callV dX6_plan_50 lk_X6_321 (mM_remember hd er7) rfl kN_rc rfl (Nat.le_of_ble_eq_true rfl) (Nat.le_of_ble_eq_true rfl) (Nat.le_of_ble_eq_true rfl) (Nat.le_of_ble_eq_true rfl) (Nat.le_of_ble_eq_true rfl) (fun _ _ _ h => h.elim) (fun w_ σ_ hq => ?_)
      obtain ⟨rfl, rfl⟩ := hq
      refine kx_aload_n dX6_plan_53 rfl rfl ?_
      refine kx_iload_n dX6_plan_54 rfl rfl ?_
      refine kx_iload_n dX6_plan_55 rfl rfl ?_
      refine kx_iload_n dX6_plan_56 rfl rfl ?_
      obtain ⟨r8, er8, h⟩ := bd_s h
      refine kN_j (MP τ m ad r8.1) 65 [.int (r8.2), .int (x1), .int (x2), .ref m] ?_ (fun jr8 => ?_)
      · skip
        obtain ⟨r9, er9, h⟩ := bd_s h
        refine kx_callV dX6_plan_65 lk_X6_290 (mM_layPlan hd er9) rfl kN_rc rfl (Nat.le_of_ble_eq_true rfl) (Nat.le_of_ble_eq_true rfl) (Nat.le_of_ble_eq_true rfl) (Nat.le_of_ble_eq_true rfl) (Nat.le_of_ble_eq_true rfl) (fun _ _ _ h => h.elim) (fun w_ σ_ hq => ?_)
        obtain ⟨rfl, rfl⟩ := hq
        refine kx_aload_n dX6_plan_68 rfl rfl ?_
        refine kx_getf dX6_plan_69 fl_X6_17_X6 kN_m rfl ?_
        refine kx_bipush (v := 7) dX6_plan_72 (by decide) ?_
        refine kN_ald hd dX6_plan_74 h (fun v10 ev10 h => ?_)
        exact kx_iret dX6_plan_75 rfl (hQ _ _ (rtI (Option.some.inj h)))
      · have h := er8
        refine kx_if_eq (tgt := 64) dX6_plan_57 (by decide) (fun c => ?_) (fun c => ?_)
        · have h := if_t c h
          refine kx_iconst (v := 0) dX6_plan_64 (by decide) ?_
          exact jnI h jr8
        · have h := if_f c h
          refine kx_iconst (v := 1) dX6_plan_60 (by decide) ?_
          refine kx_goto (tgt := 65) dX6_plan_61 (by decide) ?_
          exact jnI h jr8
    · have h := if_t c h
      refine kx_iconst (v := 0) dX6_plan_47 (by decide) ?_
      exact kx_iret dX6_plan_48 rfl (hQ _ _ (rtI (Option.some.inj h)))
  · have h := er5
    refine kx_icmp_ge (tgt := 40) dX6_plan_33 (by decide) (fun c => ?_) (fun c => ?_)
    · have h := if_t c h
      refine kx_iconst (v := 0) dX6_plan_40 (by decide) ?_
      exact jnI h jr5
    · have h := if_f c h
      refine kx_iconst (v := 1) dX6_plan_36 (by decide) ?_
      refine kx_goto (tgt := 41) dX6_plan_37 (by decide) ?_
      exact jnI h jr5
set_option maxHeartbeats 4000000 in
theorem mL_nextSwitch_18 {G : KG} {τ : KHp} {m : Nat} {ad : Nat → Nat} {Q : KQ} {X : KX} {y1 : Int32} {a0 : TS × Int32 × Int32} {z : TS × Int32} (hd : Md m ad) (h : loopN (fun w : TS × Int32 × Int32 => B_nextSwitch_18 y1 w.1 w.2.1 w.2.2) 9000 a0 = some z) (kk : kx G (yX6_nextSwitch.cls, cX6_nextSwitch, 5, (Option.some Jvm.ClassFile.FieldType.int), false, []) (3, 0, 0, Q, X) 0 0 (MP τ m ad z.1) 81 (kF [(2, .int (z.2))]) []) : kx G (yX6_nextSwitch.cls, cX6_nextSwitch, 5, (Option.some Jvm.ClassFile.FieldType.int), false, []) (3, 0, 0, Q, X) 0 0 (MP τ m ad a0.1) 18 (kF [(0, .ref m), (1, .int (y1)), (2, .int (a0.2.1)), (3, .int (a0.2.2))]) [] := by
  refine loopK_2_1 (B := B_nextSwitch_18 y1) (fun (a : TS) (a2 : Int32) (a3 : Int32) => kx G (yX6_nextSwitch.cls, cX6_nextSwitch, 5, (Option.some Jvm.ClassFile.FieldType.int), false, []) (3, 0, 0, Q, X) 0 0 (MP τ m ad a) 18 (kF [(0, .ref m), (1, .int (y1)), (2, .int (a2)), (3, .int (a3))]) []) (fun (b : TS) (b2 : Int32) => kx G (yX6_nextSwitch.cls, cX6_nextSwitch, 5, (Option.some Jvm.ClassFile.FieldType.int), false, []) (3, 0, 0, Q, X) 0 0 (MP τ m ad b) 81 (kF [(2, .int (b2))]) []) (fun a a2 a3 r h kI kE => ?_) _ _ _ h kk
  · unfold B_nextSwitch_18 at h
    refine kx_iload_n dX6_nextSwitch_18 rfl rfl ?_
    refine kx_aload_n dX6_nextSwitch_19 rfl rfl ?_
    refine kx_getf dX6_nextSwitch_20 fl_X6_17_X6 kN_m rfl ?_
    refine kx_bipush (v := 7) dX6_nextSwitch_23 (by decide) ?_
    refine kN_ald hd dX6_nextSwitch_25 h (fun v18001 ev18001 h => ?_)
    refine kx_icmp_ge (tgt := 81) dX6_nextSwitch_26 (by decide) (fun c => ?_) (fun c => ?_)
    · have h := if_t c h
      exact kx_lwF [(2, .int (a2))] ⟨rfl, trivial⟩ (kE (a) (a2) (Option.some.inj h).symm)
    · have h := if_f c h
      refine kx_aload_n dX6_nextSwitch_29 rfl rfl ?_
      refine kx_getf dX6_nextSwitch_30 fl_X6_17_X6 kN_m rfl ?_
      refine kx_sipush (v := 853) dX6_nextSwitch_33 (by decide) ?_
      refine kx_iconst (v := 3) dX6_nextSwitch_36 (by decide) ?_
      refine kx_iload_n dX6_nextSwitch_37 rfl rfl ?_
      refine kx_imul dX6_nextSwitch_38 ?_
      refine kx_iadd dX6_nextSwitch_39 ?_
      refine kN_ald hd dX6_nextSwitch_40 h (fun v18002 ev18002 h => ?_)
      refine kx_istore dX6_nextSwitch_41 (Nat.le_of_ble_eq_true rfl) ?_
      refine kx_aload_n dX6_nextSwitch_43 rfl rfl ?_
      refine kx_getf dX6_nextSwitch_44 fl_X6_17_X6 kN_m rfl ?_
      refine kx_sipush (v := 853) dX6_nextSwitch_47 (by decide) ?_
      refine kx_iconst (v := 3) dX6_nextSwitch_50 (by decide) ?_
      refine kx_iload_n dX6_nextSwitch_51 rfl rfl ?_
      refine kx_imul dX6_nextSwitch_52 ?_
      refine kx_iadd dX6_nextSwitch_53 ?_
      refine kx_iconst (v := 1) dX6_nextSwitch_54 (by decide) ?_
      refine kx_iadd dX6_nextSwitch_55 ?_
      refine kN_ald hd dX6_nextSwitch_56 h (fun v18003 ev18003 h => ?_)
      refine kx_iload_n dX6_nextSwitch_57 rfl rfl ?_
      refine kx_icmp_ne (tgt := 75) dX6_nextSwitch_58 (by decide) (fun c => ?_) (fun c => ?_)
      · have h := if_f c h
        refine kx_iinc2 (v := 1) dX6_nextSwitch_75 rfl (by decide) ?_
        refine kx_goto (tgt := 18) dX6_nextSwitch_78 (by decide) ?_
        exact kx_lwF [(0, .ref m), (1, .int (y1)), (2, .int (a2)), (3, .int ((a3 + (1 : Int32))))] ⟨rfl, rfl, rfl, rfl, trivial⟩ (kI (a) (a2) ((a3 + (1 : Int32))) (Option.some.inj h).symm)
      · have h := if_t c h
        refine kx_iload_n dX6_nextSwitch_61 rfl rfl ?_
        refine kx_iconst (v := -1) dX6_nextSwitch_62 (by decide) ?_
        refine kx_icmp_eq (tgt := 72) dX6_nextSwitch_63 (by decide) (fun c => ?_) (fun c => ?_)
        · have h := if_t c h
          refine kx_iload dX6_nextSwitch_72 rfl ?_
          refine kx_istore_n dX6_nextSwitch_74 rfl (Nat.le_of_ble_eq_true rfl) ?_
          refine kx_iinc2 (v := 1) dX6_nextSwitch_75 rfl (by decide) ?_
          refine kx_goto (tgt := 18) dX6_nextSwitch_78 (by decide) ?_
          exact kx_lwF [(0, .ref m), (1, .int (y1)), (2, .int (v18002)), (3, .int ((a3 + (1 : Int32))))] ⟨rfl, rfl, rfl, rfl, trivial⟩ (kI (a) (v18002) ((a3 + (1 : Int32))) (Option.some.inj h).symm)
        · have h := if_f c h
          refine kx_iload dX6_nextSwitch_66 rfl ?_
          refine kx_iload_n dX6_nextSwitch_68 rfl rfl ?_
          refine kx_icmp_ge (tgt := 75) dX6_nextSwitch_69 (by decide) (fun c => ?_) (fun c => ?_)
          · have h := if_t c h
            refine kx_iinc2 (v := 1) dX6_nextSwitch_75 rfl (by decide) ?_
            refine kx_goto (tgt := 18) dX6_nextSwitch_78 (by decide) ?_
            exact kx_lwF [(0, .ref m), (1, .int (y1)), (2, .int (a2)), (3, .int ((a3 + (1 : Int32))))] ⟨rfl, rfl, rfl, rfl, trivial⟩ (kI (a) (a2) ((a3 + (1 : Int32))) (Option.some.inj h).symm)
          · have h := if_f c h
            refine kx_iload dX6_nextSwitch_72 rfl ?_
            refine kx_istore_n dX6_nextSwitch_74 rfl (Nat.le_of_ble_eq_true rfl) ?_
            refine kx_iinc2 (v := 1) dX6_nextSwitch_75 rfl (by decide) ?_
            refine kx_goto (tgt := 18) dX6_nextSwitch_78 (by decide) ?_
            exact kx_lwF [(0, .ref m), (1, .int (y1)), (2, .int (v18002)), (3, .int ((a3 + (1 : Int32))))] ⟨rfl, rfl, rfl, rfl, trivial⟩ (kI (a) (v18002) ((a3 + (1 : Int32))) (Option.some.inj h).symm)
set_option maxHeartbeats 4000000 in
theorem mM_nextSwitch {G : KG} {τ : KHp} {m : Nat} {ad : Nat → Nat} {s : TS} {x1 : Int32} {z : TS × Int32} (hd : Md m ad) (h : P_nextSwitch s x1 = some z) : kx_c G yX6_nextSwitch (ws_ yX6_nextSwitch cX6_nextSwitch 5 (Option.some Jvm.ClassFile.FieldType.int)) 3 0 0 [.ref m, .int (x1)] (MP τ m ad s) (fun rv σ' => rv = some (.int z.2) ∧ σ' = MP τ m ad z.1) kx_n := by
  refine kx_mk3 (ini := false) rfl (Nat.le_of_ble_eq_true rfl) (fun h => by cases h) (fun Q X hQ hX => ?_)
  unfold P_nextSwitch at h
  refine kx_aload_n dX6_nextSwitch_0 rfl rfl ?_
  refine kx_aload_n dX6_nextSwitch_1 rfl rfl ?_
  refine kx_iload_n dX6_nextSwitch_2 rfl rfl ?_
  obtain ⟨r1, er1, h⟩ := bd_s h
  refine kx_callV dX6_nextSwitch_3 lk_X6_333 (mM_isLoad hd er1) rfl kN_rc rfl (Nat.le_of_ble_eq_true rfl) (Nat.le_of_ble_eq_true rfl) (Nat.le_of_ble_eq_true rfl) (Nat.le_of_ble_eq_true rfl) (Nat.le_of_ble_eq_true rfl) (fun _ _ _ h => h.elim) (fun w_ σ_ hq => ?_)
  obtain ⟨rfl, rfl⟩ := hq
  obtain ⟨r2, er2, h⟩ := bd_s h
  refine kx_callV dX6_nextSwitch_6 lk_X6_77 (mM_passes hd er2) rfl kN_rc rfl (Nat.le_of_ble_eq_true rfl) (Nat.le_of_ble_eq_true rfl) (Nat.le_of_ble_eq_true rfl) (Nat.le_of_ble_eq_true rfl) (Nat.le_of_ble_eq_true rfl) (fun _ _ _ h => h.elim) (fun w_ σ_ hq => ?_)
  obtain ⟨rfl, rfl⟩ := hq
  refine kx_if_ne (tgt := 14) dX6_nextSwitch_9 (by decide) (fun c => ?_) (fun c => ?_)
  · have h := if_f c h
    refine kx_iconst (v := -1) dX6_nextSwitch_14 (by decide) ?_
    refine kx_istore_n dX6_nextSwitch_15 rfl (Nat.le_of_ble_eq_true rfl) ?_
    refine kx_iconst (v := 0) dX6_nextSwitch_16 (by decide) ?_
    refine kx_istore_n dX6_nextSwitch_17 rfl (Nat.le_of_ble_eq_true rfl) ?_
    obtain ⟨b3, eb3, h⟩ := bd_s h
    refine kx_lwF [(0, .ref m), (1, .int (x1)), (2, .int ((-1 : Int32))), (3, .int ((0 : Int32)))] ⟨rfl, rfl, rfl, rfl, trivial⟩ (mL_nextSwitch_18 hd (a0 := (r2.1, (-1 : Int32), (0 : Int32))) eb3 ?_)
    refine kx_iload_n dX6_nextSwitch_81 rfl rfl ?_
    exact kx_iret dX6_nextSwitch_82 rfl (hQ _ _ (rtI (Option.some.inj h)))
  · have h := if_t c h
    refine kx_iconst (v := 0) dX6_nextSwitch_12 (by decide) ?_
    exact kx_iret dX6_nextSwitch_13 rfl (hQ _ _ (rtI (Option.some.inj h)))
set_option maxHeartbeats 4000000 in
theorem mM_state {G : KG} {τ : KHp} {m : Nat} {ad : Nat → Nat} {s : TS} {x1 : Int32} {z : TS × Int32} (hd : Md m ad) (h : P_state s x1 = some z) : kx_c G yX6_state (ws_ yX6_state cX6_state 2 (Option.some Jvm.ClassFile.FieldType.int)) 3 0 0 [.ref m, .int (x1)] (MP τ m ad s) (fun rv σ' => rv = some (.int z.2) ∧ σ' = MP τ m ad z.1) kx_n := by
  refine kx_mk3 (ini := false) rfl (Nat.le_of_ble_eq_true rfl) (fun h => by cases h) (fun Q X hQ hX => ?_)
  unfold P_state at h
  refine kx_aload_n dX6_state_0 rfl rfl ?_
  refine kx_aload_n dX6_state_1 rfl rfl ?_
  refine kx_iload_n dX6_state_2 rfl rfl ?_
  obtain ⟨r1, er1, h⟩ := bd_s h
  refine kx_callV dX6_state_3 lk_X6_329 (mM_isBranch hd er1) rfl kN_rc rfl (Nat.le_of_ble_eq_true rfl) (Nat.le_of_ble_eq_true rfl) (Nat.le_of_ble_eq_true rfl) (Nat.le_of_ble_eq_true rfl) (Nat.le_of_ble_eq_true rfl) (fun _ _ _ h => h.elim) (fun w_ σ_ hq => ?_)
  obtain ⟨rfl, rfl⟩ := hq
  obtain ⟨r2, er2, h⟩ := bd_s h
  refine kx_callV dX6_state_6 lk_X6_77 (mM_passes hd er2) rfl kN_rc rfl (Nat.le_of_ble_eq_true rfl) (Nat.le_of_ble_eq_true rfl) (Nat.le_of_ble_eq_true rfl) (Nat.le_of_ble_eq_true rfl) (Nat.le_of_ble_eq_true rfl) (fun _ _ _ h => h.elim) (fun w_ σ_ hq => ?_)
  obtain ⟨rfl, rfl⟩ := hq
  obtain ⟨r3, er3, h⟩ := bd_s h
  refine kN_j (MP τ m ad r3.1) 22 [.int (r3.2)] ?_ (fun jr3 => ?_)
  · skip
    exact kx_iret dX6_state_22 rfl (hQ _ _ (rtI (Option.some.inj h)))
  · have h := er3
    refine kx_if_eq (tgt := 21) dX6_state_9 (by decide) (fun c => ?_) (fun c => ?_)
    · have h := if_t c h
      refine kx_iconst (v := 0) dX6_state_21 (by decide) ?_
      exact jnI h jr3
    · have h := if_f c h
      refine kx_aload_n dX6_state_12 rfl rfl ?_
      refine kx_iload_n dX6_state_13 rfl rfl ?_
      refine kx_iconst (v := 1) dX6_state_14 (by decide) ?_
      obtain ⟨r4, er4, h⟩ := bd_s h
      refine kx_callV dX6_state_15 lk_X6_70 (mM_ofBranch hd er4) rfl kN_rc rfl (Nat.le_of_ble_eq_true rfl) (Nat.le_of_ble_eq_true rfl) (Nat.le_of_ble_eq_true rfl) (Nat.le_of_ble_eq_true rfl) (Nat.le_of_ble_eq_true rfl) (fun _ _ _ h => h.elim) (fun w_ σ_ hq => ?_)
      obtain ⟨rfl, rfl⟩ := hq
      refine kx_goto (tgt := 22) dX6_state_18 (by decide) ?_
      exact jnI h jr3
set_option maxHeartbeats 4000000 in
theorem mL_drawArcs_2 {G : KG} {τ : KHp} {m : Nat} {ad : Nat → Nat} {Q : KQ} {X : KX}  {a0 : TS × Int32} {z : TS} (hd : Md m ad) (h : loopN (fun w : TS × Int32 => B_drawArcs_2  w.1 w.2) 9000 a0 = some z) (kk : kx G (yX6_drawArcs.cls, cX6_drawArcs, 2, (Option.none : Option Jvm.ClassFile.FieldType), false, []) (3, 0, 0, Q, X) 0 0 (MP τ m ad z) 117 (kF []) []) : kx G (yX6_drawArcs.cls, cX6_drawArcs, 2, (Option.none : Option Jvm.ClassFile.FieldType), false, []) (3, 0, 0, Q, X) 0 0 (MP τ m ad a0.1) 2 (kF [(0, .ref m), (1, .int (a0.2))]) [] := by
  refine loopK_1_0 (B := B_drawArcs_2 ) (fun (a : TS) (a1 : Int32) => kx G (yX6_drawArcs.cls, cX6_drawArcs, 2, (Option.none : Option Jvm.ClassFile.FieldType), false, []) (3, 0, 0, Q, X) 0 0 (MP τ m ad a) 2 (kF [(0, .ref m), (1, .int (a1))]) []) (fun (b : TS) => kx G (yX6_drawArcs.cls, cX6_drawArcs, 2, (Option.none : Option Jvm.ClassFile.FieldType), false, []) (3, 0, 0, Q, X) 0 0 (MP τ m ad b) 117 (kF []) []) (fun a a1 r h kI kE => ?_) _ _ _ h kk
  · unfold B_drawArcs_2 at h
    refine kx_iload_n dX6_drawArcs_2 rfl rfl ?_
    refine kx_aload_n dX6_drawArcs_3 rfl rfl ?_
    refine kx_getf dX6_drawArcs_4 fl_X6_17_X6 kN_m rfl ?_
    refine kx_iconst (v := 4) dX6_drawArcs_7 (by decide) ?_
    refine kN_ald hd dX6_drawArcs_8 h (fun v2001 ev2001 h => ?_)
    refine kx_icmp_ge (tgt := 117) dX6_drawArcs_9 (by decide) (fun c => ?_) (fun c => ?_)
    · have h := if_t c h
      exact kx_lwF [] trivial (kE (a) (Option.some.inj h).symm)
    · have h := if_f c h
      refine kx_aload_n dX6_drawArcs_12 rfl rfl ?_
      refine kx_iload_n dX6_drawArcs_13 rfl rfl ?_
      refine kx_iconst (v := 0) dX6_drawArcs_14 (by decide) ?_
      obtain ⟨r2002, er2002, h⟩ := bd_s h
      refine kx_callV dX6_drawArcs_15 lk_X6_342 (mM_ofLoad hd er2002) rfl kN_rc rfl (Nat.le_of_ble_eq_true rfl) (Nat.le_of_ble_eq_true rfl) (Nat.le_of_ble_eq_true rfl) (Nat.le_of_ble_eq_true rfl) (Nat.le_of_ble_eq_true rfl) (fun _ _ _ h => h.elim) (fun w_ σ_ hq => ?_)
      obtain ⟨rfl, rfl⟩ := hq
      refine kx_iconst (v := 3) dX6_drawArcs_18 (by decide) ?_
      obtain ⟨r2003, er2003, h⟩ := bd_s h
      refine kN_j (MP τ m ad r2003) 111 [] ?_ (fun jr2003 => ?_)
      · skip
        refine kx_iinc2 (v := 1) dX6_drawArcs_111 rfl (by decide) ?_
        refine kx_goto (tgt := 2) dX6_drawArcs_114 (by decide) ?_
        exact kx_lwF [(0, .ref m), (1, .int ((a1 + (1 : Int32))))] ⟨rfl, rfl, trivial⟩ (kI (r2003) ((a1 + (1 : Int32))) (Option.some.inj h).symm)
      · have h := er2003
        refine kx_icmp_ne (tgt := 111) dX6_drawArcs_19 (by decide) (fun c => ?_) (fun c => ?_)
        · have h := if_f c h
          exact jnS h jr2003
        · have h := if_t c h
          refine kx_aload_n dX6_drawArcs_22 rfl rfl ?_
          refine kx_iload_n dX6_drawArcs_23 rfl rfl ?_
          refine kx_iconst (v := 5) dX6_drawArcs_24 (by decide) ?_
          obtain ⟨r2004, er2004, h⟩ := bd_s h
          refine kx_callV dX6_drawArcs_25 lk_X6_342 (mM_ofLoad hd er2004) rfl kN_rc rfl (Nat.le_of_ble_eq_true rfl) (Nat.le_of_ble_eq_true rfl) (Nat.le_of_ble_eq_true rfl) (Nat.le_of_ble_eq_true rfl) (Nat.le_of_ble_eq_true rfl) (fun _ _ _ h => h.elim) (fun w_ σ_ hq => ?_)
          obtain ⟨rfl, rfl⟩ := hq
          refine kx_if_eq (tgt := 111) dX6_drawArcs_28 (by decide) (fun c => ?_) (fun c => ?_)
          · have h := if_t c h
            exact jnS h jr2003
          · have h := if_f c h
            refine kx_aload_n dX6_drawArcs_31 rfl rfl ?_
            refine kx_aload_n dX6_drawArcs_32 rfl rfl ?_
            refine kx_iload_n dX6_drawArcs_33 rfl rfl ?_
            refine kx_iconst (v := 1) dX6_drawArcs_34 (by decide) ?_
            obtain ⟨r2005, er2005, h⟩ := bd_s h
            refine kx_callV dX6_drawArcs_35 lk_X6_342 (mM_ofLoad hd er2005) rfl kN_rc rfl (Nat.le_of_ble_eq_true rfl) (Nat.le_of_ble_eq_true rfl) (Nat.le_of_ble_eq_true rfl) (Nat.le_of_ble_eq_true rfl) (Nat.le_of_ble_eq_true rfl) (fun _ _ _ h => h.elim) (fun w_ σ_ hq => ?_)
            obtain ⟨rfl, rfl⟩ := hq
            obtain ⟨r2006, er2006, h⟩ := bd_s h
            refine kx_callV dX6_drawArcs_38 lk_X6_358 (mM_isClosed hd er2006) rfl kN_rc rfl (Nat.le_of_ble_eq_true rfl) (Nat.le_of_ble_eq_true rfl) (Nat.le_of_ble_eq_true rfl) (Nat.le_of_ble_eq_true rfl) (Nat.le_of_ble_eq_true rfl) (fun _ _ _ h => h.elim) (fun w_ σ_ hq => ?_)
            obtain ⟨rfl, rfl⟩ := hq
            refine kx_if_ne (tgt := 47) dX6_drawArcs_41 (by decide) (fun c => ?_) (fun c => ?_)
            · have h := if_f c h
              refine kx_aload_n dX6_drawArcs_47 rfl rfl ?_
              refine kx_getf dX6_drawArcs_48 fl_X6_38_X6 kN_m rfl ?_
              refine kx_iload_n dX6_drawArcs_51 rfl rfl ?_
              refine kx_aload_n dX6_drawArcs_52 rfl rfl ?_
              obtain ⟨r2007, er2007, h⟩ := bd_s h
              refine kx_callV dX6_drawArcs_53 lk_X6_361 (mM_draw hd er2007) rfl kN_rc rfl (Nat.le_of_ble_eq_true rfl) (Nat.le_of_ble_eq_true rfl) (Nat.le_of_ble_eq_true rfl) (Nat.le_of_ble_eq_true rfl) (Nat.le_of_ble_eq_true rfl) (fun _ _ _ h => h.elim) (fun w_ σ_ hq => ?_)
              obtain ⟨rfl, rfl⟩ := hq
              refine kx_aload_n dX6_drawArcs_56 rfl rfl ?_
              refine kx_iload_n dX6_drawArcs_57 rfl rfl ?_
              refine kx_iconst (v := 4) dX6_drawArcs_58 (by decide) ?_
              obtain ⟨r2008, er2008, h⟩ := bd_s h
              refine kx_callV dX6_drawArcs_59 lk_X6_342 (mM_ofLoad hd er2008) rfl kN_rc rfl (Nat.le_of_ble_eq_true rfl) (Nat.le_of_ble_eq_true rfl) (Nat.le_of_ble_eq_true rfl) (Nat.le_of_ble_eq_true rfl) (Nat.le_of_ble_eq_true rfl) (fun _ _ _ h => h.elim) (fun w_ σ_ hq => ?_)
              obtain ⟨rfl, rfl⟩ := hq
              obtain ⟨r2009, er2009, h⟩ := bd_s h
              refine kN_j (MP τ m ad r2009.1) 70 [.int (r2009.2), .int (a1), .ref (ad (15))] ?_ (fun jr2009 => ?_)
              · skip
                refine kN_bst hd dX6_drawArcs_70 h (fun s2010 es2010 h => ?_)
                refine kx_aload_n dX6_drawArcs_71 rfl rfl ?_
                refine kx_getf dX6_drawArcs_72 fl_X6_42_X6 kN_m rfl ?_
                refine kx_iload_n dX6_drawArcs_75 rfl rfl ?_
                refine kx_aload_n dX6_drawArcs_76 rfl rfl ?_
                refine kx_iload_n dX6_drawArcs_77 rfl rfl ?_
                refine kx_iconst (v := 3) dX6_drawArcs_78 (by decide) ?_
                obtain ⟨r2011, er2011, h⟩ := bd_s h
                refine kx_callV dX6_drawArcs_79 lk_X6_342 (mM_ofLoad hd er2011) rfl kN_rc rfl (Nat.le_of_ble_eq_true rfl) (Nat.le_of_ble_eq_true rfl) (Nat.le_of_ble_eq_true rfl) (Nat.le_of_ble_eq_true rfl) (Nat.le_of_ble_eq_true rfl) (fun _ _ _ h => h.elim) (fun w_ σ_ hq => ?_)
                obtain ⟨rfl, rfl⟩ := hq
                refine kx_aload_n dX6_drawArcs_82 rfl rfl ?_
                obtain ⟨r2012, er2012, h⟩ := bd_s h
                refine kx_callV dX6_drawArcs_83 lk_X6_361 (mM_draw hd er2012) rfl kN_rc rfl (Nat.le_of_ble_eq_true rfl) (Nat.le_of_ble_eq_true rfl) (Nat.le_of_ble_eq_true rfl) (Nat.le_of_ble_eq_true rfl) (Nat.le_of_ble_eq_true rfl) (fun _ _ _ h => h.elim) (fun w_ σ_ hq => ?_)
                obtain ⟨rfl, rfl⟩ := hq
                refine kx_iconst (v := 3) dX6_drawArcs_86 (by decide) ?_
                refine kN_rem dX6_drawArcs_87 h (fun v2013 ev2013 h => ?_)
                refine kx_iadd dX6_drawArcs_88 ?_
                refine kN_ast hd dX6_drawArcs_89 h (fun s2014 es2014 h => ?_)
                refine kx_aload_n dX6_drawArcs_90 rfl rfl ?_
                refine kx_getf dX6_drawArcs_91 fl_X6_45_X6 kN_m rfl ?_
                refine kx_iload_n dX6_drawArcs_94 rfl rfl ?_
                refine kx_bipush (v := 80) dX6_drawArcs_95 (by decide) ?_
                refine kx_aload_n dX6_drawArcs_97 rfl rfl ?_
                obtain ⟨r2015, er2015, h⟩ := bd_s h
                refine kx_callV dX6_drawArcs_98 lk_X6_361 (mM_draw hd er2015) rfl kN_rc rfl (Nat.le_of_ble_eq_true rfl) (Nat.le_of_ble_eq_true rfl) (Nat.le_of_ble_eq_true rfl) (Nat.le_of_ble_eq_true rfl) (Nat.le_of_ble_eq_true rfl) (fun _ _ _ h => h.elim) (fun w_ σ_ hq => ?_)
                obtain ⟨rfl, rfl⟩ := hq
                refine kx_bipush (v := 21) dX6_drawArcs_101 (by decide) ?_
                refine kN_rem dX6_drawArcs_103 h (fun v2016 ev2016 h => ?_)
                refine kx_iadd dX6_drawArcs_104 ?_
                refine kx_i2f dX6_drawArcs_105 ?_
                refine kx_ldcwf dX6_drawArcs_106 q3167 ?_
                refine kN_fdiv dX6_drawArcs_109 h (fun v2017 ev2017 h => ?_)
                refine kN_fst hd dX6_drawArcs_110 h (fun s2018 es2018 h => ?_)
                exact jnS h jr2003
              · have h := er2009
                refine kx_icmp_ge (tgt := 69) dX6_drawArcs_62 (by decide) (fun c => ?_) (fun c => ?_)
                · have h := if_t c h
                  refine kx_iconst (v := 0) dX6_drawArcs_69 (by decide) ?_
                  exact jnI h jr2009
                · have h := if_f c h
                  refine kx_iconst (v := 1) dX6_drawArcs_65 (by decide) ?_
                  refine kx_goto (tgt := 70) dX6_drawArcs_66 (by decide) ?_
                  exact jnI h jr2009
            · have h := if_t c h
              refine kx_goto (tgt := 111) dX6_drawArcs_44 (by decide) ?_
              exact jnS h jr2003
set_option maxHeartbeats 4000000 in
theorem mM_drawArcs {G : KG} {τ : KHp} {m : Nat} {ad : Nat → Nat} {s : TS}  {z : TS} (hd : Md m ad) (h : P_drawArcs s  = some z) : kx_c G yX6_drawArcs (ws_ yX6_drawArcs cX6_drawArcs 2 (Option.none : Option Jvm.ClassFile.FieldType)) 3 0 0 [.ref m] (MP τ m ad s) (fun rv σ' => rv = none ∧ σ' = MP τ m ad z) kx_n := by
  refine kx_mk3 (ini := false) rfl (Nat.le_of_ble_eq_true rfl) (fun h => by cases h) (fun Q X hQ hX => ?_)
  unfold P_drawArcs at h
  refine kx_iconst (v := 0) dX6_drawArcs_0 (by decide) ?_
  refine kx_istore_n dX6_drawArcs_1 rfl (Nat.le_of_ble_eq_true rfl) ?_
  obtain ⟨b1, eb1, h⟩ := bd_s h
  refine kx_lwF [(0, .ref m), (1, .int ((0 : Int32)))] ⟨rfl, rfl, trivial⟩ (mL_drawArcs_2 hd (a0 := (s, (0 : Int32))) eb1 ?_)
  exact kx_vret dX6_drawArcs_117 rfl (hQ _ _ (rtV (Option.some.inj h)))
set_option maxHeartbeats 4000000 in
theorem mM_plainAt {G : KG} {τ : KHp} {m : Nat} {ad : Nat → Nat} {s : TS} {x1 : Int32} {x2 : Int32} {z : TS × UInt32} (hd : Md m ad) (h : P_plainAt s x1 x2 = some z) : kx_c G yX6_plainAt (ws_ yX6_plainAt cX6_plainAt 5 (Option.some Jvm.ClassFile.FieldType.float)) 3 0 0 [.ref m, .int (x1), .int (x2)] (MP τ m ad s) (fun rv σ' => rv = some (.float z.2) ∧ σ' = MP τ m ad z.1) kx_n := by
  refine kx_mk3 (ini := false) rfl (Nat.le_of_ble_eq_true rfl) (fun h => by cases h) (fun Q X hQ hX => ?_)
  unfold P_plainAt at h
  refine kx_aload_n dX6_plainAt_0 rfl rfl ?_
  refine kx_iload_n dX6_plainAt_1 rfl rfl ?_
  refine kx_iconst (v := 2) dX6_plainAt_2 (by decide) ?_
  obtain ⟨r1, er1, h⟩ := bd_s h
  refine kx_callV dX6_plainAt_3 lk_X6_342 (mM_ofLoad hd er1) rfl kN_rc rfl (Nat.le_of_ble_eq_true rfl) (Nat.le_of_ble_eq_true rfl) (Nat.le_of_ble_eq_true rfl) (Nat.le_of_ble_eq_true rfl) (Nat.le_of_ble_eq_true rfl) (fun _ _ _ h => h.elim) (fun w_ σ_ hq => ?_)
  obtain ⟨rfl, rfl⟩ := hq
  refine kx_i2f dX6_plainAt_6 ?_
  refine kx_fstore_n dX6_plainAt_7 rfl (Nat.le_of_ble_eq_true rfl) ?_
  refine kx_aload_n dX6_plainAt_8 rfl rfl ?_
  refine kx_iload_n dX6_plainAt_9 rfl rfl ?_
  refine kx_iconst (v := 3) dX6_plainAt_10 (by decide) ?_
  obtain ⟨r2, er2, h⟩ := bd_s h
  refine kx_callV dX6_plainAt_11 lk_X6_342 (mM_ofLoad hd er2) rfl kN_rc rfl (Nat.le_of_ble_eq_true rfl) (Nat.le_of_ble_eq_true rfl) (Nat.le_of_ble_eq_true rfl) (Nat.le_of_ble_eq_true rfl) (Nat.le_of_ble_eq_true rfl) (fun _ _ _ h => h.elim) (fun w_ σ_ hq => ?_)
  obtain ⟨rfl, rfl⟩ := hq
  refine kx_istore dX6_plainAt_14 (Nat.le_of_ble_eq_true rfl) ?_
  refine kx_aload_n dX6_plainAt_16 rfl rfl ?_
  refine kx_iload_n dX6_plainAt_17 rfl rfl ?_
  refine kx_iconst (v := 0) dX6_plainAt_18 (by decide) ?_
  obtain ⟨r3, er3, h⟩ := bd_s h
  refine kx_callV dX6_plainAt_19 lk_X6_342 (mM_ofLoad hd er3) rfl kN_rc rfl (Nat.le_of_ble_eq_true rfl) (Nat.le_of_ble_eq_true rfl) (Nat.le_of_ble_eq_true rfl) (Nat.le_of_ble_eq_true rfl) (Nat.le_of_ble_eq_true rfl) (fun _ _ _ h => h.elim) (fun w_ σ_ hq => ?_)
  obtain ⟨rfl, rfl⟩ := hq
  by_cases c0 : r3.2 = (0 : Int32)
  · have h := if_t c0 h
    refine kx_tableIn (tgt := 48) dX6_plainAt_22 (by rw [c0]; decide) (by rw [c0]; decide) (by rw [c0]; rfl) (by decide) ?_
    refine kx_fload_n dX6_plainAt_48 rfl rfl ?_
    refine kx_aload_n dX6_plainAt_49 rfl rfl ?_
    refine kx_iload_n dX6_plainAt_50 rfl rfl ?_
    obtain ⟨r4, er4, h⟩ := bd_s h
    refine kx_callV dX6_plainAt_51 lk_X6_366 (mM_shape hd er4) rfl kN_rc rfl (Nat.le_of_ble_eq_true rfl) (Nat.le_of_ble_eq_true rfl) (Nat.le_of_ble_eq_true rfl) (Nat.le_of_ble_eq_true rfl) (Nat.le_of_ble_eq_true rfl) (fun _ _ _ h => h.elim) (fun w_ σ_ hq => ?_)
    obtain ⟨rfl, rfl⟩ := hq
    refine kN_fmul dX6_plainAt_54 h (fun v5 ev5 h => ?_)
    exact kx_fret dX6_plainAt_55 rfl (hQ _ _ (rtF (Option.some.inj h)))
  have h := if_f c0 h
  by_cases c1 : r3.2 = (1 : Int32)
  · have h := if_t c1 h
    refine kx_tableIn (tgt := 56) dX6_plainAt_22 (by rw [c1]; decide) (by rw [c1]; decide) (by rw [c1]; rfl) (by decide) ?_
    refine kx_iload_n dX6_plainAt_56 rfl rfl ?_
    refine kx_iload dX6_plainAt_57 rfl ?_
    obtain ⟨r6, er6, h⟩ := bd_s h
    refine kN_j (MP τ m ad r6.1) 94 [.float (r6.2)] ?_ (fun jr6 => ?_)
    · skip
      exact kx_fret dX6_plainAt_94 rfl (hQ _ _ (rtF (Option.some.inj h)))
    · have h := er6
      refine kx_icmp_lt (tgt := 75) dX6_plainAt_59 (by decide) (fun c => ?_) (fun c => ?_)
      · have h := if_t c h
        refine kx_fconst0 dX6_plainAt_75 ?_
        refine kx_fload_n dX6_plainAt_76 rfl rfl ?_
        refine kx_aload_n dX6_plainAt_77 rfl rfl ?_
        refine kx_iload_n dX6_plainAt_78 rfl rfl ?_
        refine kx_iload dX6_plainAt_79 rfl ?_
        refine kx_isub dX6_plainAt_81 ?_
        refine kx_aload_n dX6_plainAt_82 rfl rfl ?_
        refine kx_getf dX6_plainAt_83 fl_X6_17_X6 kN_m rfl ?_
        refine kx_iconst (v := 0) dX6_plainAt_86 (by decide) ?_
        refine kN_ald hd dX6_plainAt_87 h (fun v7 ev7 h => ?_)
        refine kx_iadd dX6_plainAt_88 ?_
        obtain ⟨r8, er8, h⟩ := bd_s h
        refine kx_callV dX6_plainAt_89 lk_X6_366 (mM_shape hd er8) rfl kN_rc rfl (Nat.le_of_ble_eq_true rfl) (Nat.le_of_ble_eq_true rfl) (Nat.le_of_ble_eq_true rfl) (Nat.le_of_ble_eq_true rfl) (Nat.le_of_ble_eq_true rfl) (fun _ _ _ h => h.elim) (fun w_ σ_ hq => ?_)
        obtain ⟨rfl, rfl⟩ := hq
        refine kN_fmul dX6_plainAt_92 h (fun v9 ev9 h => ?_)
        refine kN_fsub dX6_plainAt_93 h (fun v10 ev10 h => ?_)
        exact jnF h jr6
      · have h := if_f c h
        refine kx_fload_n dX6_plainAt_62 rfl rfl ?_
        refine kx_aload_n dX6_plainAt_63 rfl rfl ?_
        refine kx_iload_n dX6_plainAt_64 rfl rfl ?_
        refine kx_iload dX6_plainAt_65 rfl ?_
        refine kx_isub dX6_plainAt_67 ?_
        obtain ⟨r11, er11, h⟩ := bd_s h
        refine kx_callV dX6_plainAt_68 lk_X6_366 (mM_shape hd er11) rfl kN_rc rfl (Nat.le_of_ble_eq_true rfl) (Nat.le_of_ble_eq_true rfl) (Nat.le_of_ble_eq_true rfl) (Nat.le_of_ble_eq_true rfl) (Nat.le_of_ble_eq_true rfl) (fun _ _ _ h => h.elim) (fun w_ σ_ hq => ?_)
        obtain ⟨rfl, rfl⟩ := hq
        refine kN_fmul dX6_plainAt_71 h (fun v12 ev12 h => ?_)
        refine kx_goto (tgt := 94) dX6_plainAt_72 (by decide) ?_
        exact jnF h jr6
  have h := if_f c1 h
  by_cases c2 : r3.2 = (2 : Int32)
  · have h := if_t c2 h
    refine kx_tableIn (tgt := 95) dX6_plainAt_22 (by rw [c2]; decide) (by rw [c2]; decide) (by rw [c2]; rfl) (by decide) ?_
    refine kx_iload_n dX6_plainAt_95 rfl rfl ?_
    refine kx_iload dX6_plainAt_96 rfl ?_
    obtain ⟨r13, er13, h⟩ := bd_s h
    refine kN_j (MP τ m ad r13.1) 112 [.float (r13.2)] ?_ (fun jr13 => ?_)
    · skip
      exact kx_fret dX6_plainAt_112 rfl (hQ _ _ (rtF (Option.some.inj h)))
    · have h := er13
      refine kx_icmp_ge (tgt := 105) dX6_plainAt_98 (by decide) (fun c => ?_) (fun c => ?_)
      · have h := if_t c h
        refine kx_fload_n dX6_plainAt_105 rfl rfl ?_
        refine kx_aload_n dX6_plainAt_106 rfl rfl ?_
        refine kx_iload_n dX6_plainAt_107 rfl rfl ?_
        obtain ⟨r14, er14, h⟩ := bd_s h
        refine kx_callV dX6_plainAt_108 lk_X6_366 (mM_shape hd er14) rfl kN_rc rfl (Nat.le_of_ble_eq_true rfl) (Nat.le_of_ble_eq_true rfl) (Nat.le_of_ble_eq_true rfl) (Nat.le_of_ble_eq_true rfl) (Nat.le_of_ble_eq_true rfl) (fun _ _ _ h => h.elim) (fun w_ σ_ hq => ?_)
        obtain ⟨rfl, rfl⟩ := hq
        refine kN_fmul dX6_plainAt_111 h (fun v15 ev15 h => ?_)
        exact jnF h jr13
      · have h := if_f c h
        refine kx_fconst0 dX6_plainAt_101 ?_
        refine kx_goto (tgt := 112) dX6_plainAt_102 (by decide) ?_
        exact jnF h jr13
  have h := if_f c2 h
  refine kx_tableOut (tgt := 113) dX6_plainAt_22 (tb3 c0 c1 c2) (by decide) ?_
  refine kx_aload_n dX6_plainAt_113 rfl rfl ?_
  refine kx_iload_n dX6_plainAt_114 rfl rfl ?_
  refine kx_iload_n dX6_plainAt_115 rfl rfl ?_
  refine kx_iload dX6_plainAt_116 rfl ?_
  refine kx_fconst1 dX6_plainAt_118 ?_
  obtain ⟨r16, er16, h⟩ := bd_s h
  refine kx_callV dX6_plainAt_119 lk_X6_370 (mM_arcAt hd er16) rfl kN_rc rfl (Nat.le_of_ble_eq_true rfl) (Nat.le_of_ble_eq_true rfl) (Nat.le_of_ble_eq_true rfl) (Nat.le_of_ble_eq_true rfl) (Nat.le_of_ble_eq_true rfl) (fun _ _ _ h => h.elim) (fun w_ σ_ hq => ?_)
  obtain ⟨rfl, rfl⟩ := hq
  exact kx_fret dX6_plainAt_122 rfl (hQ _ _ (rtF (Option.some.inj h)))
set_option maxHeartbeats 4000000 in
theorem mL_layFeatures_43 {G : KG} {τ : KHp} {m : Nat} {ad : Nat → Nat} {Q : KQ} {X : KX} {y1 : Int32} {y2 : Int32} {y3 : Int32} {y4 : UInt32} {a0 : TS × UInt32 × UInt32 × UInt32 × UInt32 × UInt32 × Int32} {z : TS × UInt32 × UInt32 × UInt32 × UInt32} (hd : Md m ad) (h : loopN (fun w : TS × UInt32 × UInt32 × UInt32 × UInt32 × UInt32 × Int32 => B_layFeatures_43 y1 y2 y3 y4 w.1 w.2.1 w.2.2.1 w.2.2.2.1 w.2.2.2.2.1 w.2.2.2.2.2.1 w.2.2.2.2.2.2) 9000 a0 = some z) (kk : kx G (yX6_layFeatures.cls, cX6_layFeatures, 12, (Option.none : Option Jvm.ClassFile.FieldType), false, []) (2, 0, 0, Q, X) 0 0 (MP τ m ad z.1) 142 (kF [(0, .ref m), (1, .int (y1)), (2, .int (y2)), (3, .int (y3)), (4, .float (y4)), (5, .float (z.2.1)), (6, .float (z.2.2.1)), (7, .float (z.2.2.2.1)), (8, .float (z.2.2.2.2))]) []) : kx G (yX6_layFeatures.cls, cX6_layFeatures, 12, (Option.none : Option Jvm.ClassFile.FieldType), false, []) (2, 0, 0, Q, X) 0 0 (MP τ m ad a0.1) 43 (kF [(0, .ref m), (1, .int (y1)), (2, .int (y2)), (3, .int (y3)), (4, .float (y4)), (5, .float (a0.2.1)), (6, .float (a0.2.2.1)), (7, .float (a0.2.2.2.1)), (8, .float (a0.2.2.2.2.1)), (9, .float (a0.2.2.2.2.2.1)), (10, .int (a0.2.2.2.2.2.2))]) [] := by
  refine loopK_6_4 (B := B_layFeatures_43 y1 y2 y3 y4) (fun (a : TS) (a5 : UInt32) (a6 : UInt32) (a7 : UInt32) (a8 : UInt32) (a9 : UInt32) (a10 : Int32) => kx G (yX6_layFeatures.cls, cX6_layFeatures, 12, (Option.none : Option Jvm.ClassFile.FieldType), false, []) (2, 0, 0, Q, X) 0 0 (MP τ m ad a) 43 (kF [(0, .ref m), (1, .int (y1)), (2, .int (y2)), (3, .int (y3)), (4, .float (y4)), (5, .float (a5)), (6, .float (a6)), (7, .float (a7)), (8, .float (a8)), (9, .float (a9)), (10, .int (a10))]) []) (fun (b : TS) (b5 : UInt32) (b6 : UInt32) (b7 : UInt32) (b8 : UInt32) => kx G (yX6_layFeatures.cls, cX6_layFeatures, 12, (Option.none : Option Jvm.ClassFile.FieldType), false, []) (2, 0, 0, Q, X) 0 0 (MP τ m ad b) 142 (kF [(0, .ref m), (1, .int (y1)), (2, .int (y2)), (3, .int (y3)), (4, .float (y4)), (5, .float (b5)), (6, .float (b6)), (7, .float (b7)), (8, .float (b8))]) []) (fun a a5 a6 a7 a8 a9 a10 r h kI kE => ?_) _ _ _ h kk
  · unfold B_layFeatures_43 at h
    refine kx_iload dX6_layFeatures_43 rfl ?_
    refine kx_iload_n dX6_layFeatures_45 rfl rfl ?_
    refine kx_icmp_ge (tgt := 142) dX6_layFeatures_46 (by decide) (fun c => ?_) (fun c => ?_)
    · have h := if_t c h
      exact kx_lwF [(0, .ref m), (1, .int (y1)), (2, .int (y2)), (3, .int (y3)), (4, .float (y4)), (5, .float (a5)), (6, .float (a6)), (7, .float (a7)), (8, .float (a8))] ⟨rfl, rfl, rfl, rfl, rfl, rfl, rfl, rfl, rfl, trivial⟩ (kE (a) (a5) (a6) (a7) (a8) (Option.some.inj h).symm)
    · have h := if_f c h
      refine kx_aload_n dX6_layFeatures_49 rfl rfl ?_
      refine kx_getf dX6_layFeatures_50 fl_X6_27_X6 kN_m rfl ?_
      refine kx_iload_n dX6_layFeatures_53 rfl rfl ?_
      refine kx_iload dX6_layFeatures_54 rfl ?_
      refine kx_iadd dX6_layFeatures_56 ?_
      refine kN_fld hd dX6_layFeatures_57 h (fun v43001 ev43001 h => ?_)
      refine kx_fstore dX6_layFeatures_58 (Nat.le_of_ble_eq_true rfl) ?_
      refine kx_fload dX6_layFeatures_60 rfl ?_
      obtain ⟨r43002, er43002, h⟩ := bd_s h
      refine kx_callS dX6_layFeatures_62 lk_X6_381 (mM_size hd er43002) rfl rfl (Nat.le_of_ble_eq_true rfl) (Nat.le_of_ble_eq_true rfl) (Nat.le_of_ble_eq_true rfl) (Nat.le_of_ble_eq_true rfl) (Nat.le_of_ble_eq_true rfl) (fun _ _ _ h => h.elim) (fun w_ σ_ hq => ?_)
      obtain ⟨rfl, rfl⟩ := hq
      refine kx_fload dX6_layFeatures_65 rfl ?_
      refine kx_fcmp dX6_layFeatures_67 ?_
      obtain ⟨r43003, er43003, h⟩ := bd_s h
      refine kN_j (MP τ m ad r43003.1) 81 [.float (r43003.2)] ?_ (fun jr43003 => ?_)
      · skip
        refine kx_fstore dX6_layFeatures_81 (Nat.le_of_ble_eq_true rfl) ?_
        refine kx_fload dX6_layFeatures_83 rfl ?_
        refine kx_fload dX6_layFeatures_85 rfl ?_
        refine kN_fsub dX6_layFeatures_87 h (fun v43005 ev43005 h => ?_)
        obtain ⟨r43006, er43006, h⟩ := bd_s h
        refine kx_callS dX6_layFeatures_88 lk_X6_381 (mM_size hd er43006) rfl rfl (Nat.le_of_ble_eq_true rfl) (Nat.le_of_ble_eq_true rfl) (Nat.le_of_ble_eq_true rfl) (Nat.le_of_ble_eq_true rfl) (Nat.le_of_ble_eq_true rfl) (fun _ _ _ h => h.elim) (fun w_ σ_ hq => ?_)
        obtain ⟨rfl, rfl⟩ := hq
        refine kx_fload dX6_layFeatures_91 rfl ?_
        refine kx_fcmp dX6_layFeatures_93 ?_
        obtain ⟨r43007, er43007, h⟩ := bd_s h
        refine kN_j (MP τ m ad r43007.1) 110 [.float (r43007.2)] ?_ (fun jr43007 => ?_)
        · skip
          refine kx_fstore dX6_layFeatures_110 (Nat.le_of_ble_eq_true rfl) ?_
          refine kx_fload dX6_layFeatures_112 rfl ?_
          refine kx_fload dX6_layFeatures_114 rfl ?_
          obtain ⟨r43010, er43010, h⟩ := bd_s h
          refine kx_callS dX6_layFeatures_116 lk_X6_381 (mM_size hd er43010) rfl rfl (Nat.le_of_ble_eq_true rfl) (Nat.le_of_ble_eq_true rfl) (Nat.le_of_ble_eq_true rfl) (Nat.le_of_ble_eq_true rfl) (Nat.le_of_ble_eq_true rfl) (fun _ _ _ h => h.elim) (fun w_ σ_ hq => ?_)
          obtain ⟨rfl, rfl⟩ := hq
          refine kN_fadd dX6_layFeatures_119 h (fun v43011 ev43011 h => ?_)
          refine kx_fstore dX6_layFeatures_120 (Nat.le_of_ble_eq_true rfl) ?_
          refine kx_fload dX6_layFeatures_122 rfl ?_
          refine kx_fload dX6_layFeatures_124 rfl ?_
          refine kx_fload dX6_layFeatures_126 rfl ?_
          refine kN_fmul dX6_layFeatures_128 h (fun v43012 ev43012 h => ?_)
          refine kN_fadd dX6_layFeatures_129 h (fun v43013 ev43013 h => ?_)
          refine kx_fstore dX6_layFeatures_130 (Nat.le_of_ble_eq_true rfl) ?_
          refine kx_fload dX6_layFeatures_132 rfl ?_
          refine kx_fstore dX6_layFeatures_134 (Nat.le_of_ble_eq_true rfl) ?_
          refine kx_iinc2 (v := 1) dX6_layFeatures_136 rfl (by decide) ?_
          refine kx_goto (tgt := 43) dX6_layFeatures_139 (by decide) ?_
          exact kx_lwF [(0, .ref m), (1, .int (y1)), (2, .int (y2)), (3, .int (y3)), (4, .float (y4)), (5, .float (r43003.2)), (6, .float (v43011)), (7, .float (v43013)), (8, .float (r43007.2)), (9, .float (v43001)), (10, .int ((a10 + (1 : Int32))))] ⟨rfl, rfl, rfl, rfl, rfl, rfl, rfl, rfl, rfl, rfl, rfl, trivial⟩ (kI (r43010.1) (r43003.2) (v43011) (v43013) (r43007.2) (v43001) ((a10 + (1 : Int32))) (Option.some.inj h).symm)
        · have h := er43007
          refine kx_if_le (tgt := 108) dX6_layFeatures_94 (by decide) (fun c => ?_) (fun c => ?_)
          · have h := if_t c h
            refine kx_fload dX6_layFeatures_108 rfl ?_
            exact jnF h jr43007
          · have h := if_f c h
            refine kx_fload dX6_layFeatures_97 rfl ?_
            refine kx_fload dX6_layFeatures_99 rfl ?_
            refine kN_fsub dX6_layFeatures_101 h (fun v43008 ev43008 h => ?_)
            obtain ⟨r43009, er43009, h⟩ := bd_s h
            refine kx_callS dX6_layFeatures_102 lk_X6_381 (mM_size hd er43009) rfl rfl (Nat.le_of_ble_eq_true rfl) (Nat.le_of_ble_eq_true rfl) (Nat.le_of_ble_eq_true rfl) (Nat.le_of_ble_eq_true rfl) (Nat.le_of_ble_eq_true rfl) (fun _ _ _ h => h.elim) (fun w_ σ_ hq => ?_)
            obtain ⟨rfl, rfl⟩ := hq
            refine kx_goto (tgt := 110) dX6_layFeatures_105 (by decide) ?_
            exact jnF h jr43007
      · have h := er43003
        refine kx_if_le (tgt := 79) dX6_layFeatures_68 (by decide) (fun c => ?_) (fun c => ?_)
        · have h := if_t c h
          refine kx_fload dX6_layFeatures_79 rfl ?_
          exact jnF h jr43003
        · have h := if_f c h
          refine kx_fload dX6_layFeatures_71 rfl ?_
          obtain ⟨r43004, er43004, h⟩ := bd_s h
          refine kx_callS dX6_layFeatures_73 lk_X6_381 (mM_size hd er43004) rfl rfl (Nat.le_of_ble_eq_true rfl) (Nat.le_of_ble_eq_true rfl) (Nat.le_of_ble_eq_true rfl) (Nat.le_of_ble_eq_true rfl) (Nat.le_of_ble_eq_true rfl) (fun _ _ _ h => h.elim) (fun w_ σ_ hq => ?_)
          obtain ⟨rfl, rfl⟩ := hq
          refine kx_goto (tgt := 81) dX6_layFeatures_76 (by decide) ?_
          exact jnF h jr43003
set_option maxHeartbeats 4000000 in
theorem mL_layFeatures_148 {G : KG} {τ : KHp} {m : Nat} {ad : Nat → Nat} {Q : KQ} {X : KX} {y1 : Int32} {y2 : Int32} {y3 : Int32} {y4 : UInt32} {y5 : UInt32} {y6 : UInt32} {y7 : UInt32} {y8 : UInt32} {a0 : TS × Int32 × Int32} {z : TS × Int32} (hd : Md m ad) (h : loopN (fun w : TS × Int32 × Int32 => B_layFeatures_148 y1 y2 y3 y4 y5 y6 y7 y8 w.1 w.2.1 w.2.2) 9000 a0 = some z) (kk : kx G (yX6_layFeatures.cls, cX6_layFeatures, 12, (Option.none : Option Jvm.ClassFile.FieldType), false, []) (2, 0, 0, Q, X) 0 0 (MP τ m ad z.1) 192 (kF [(0, .ref m), (1, .int (y1)), (2, .int (y2)), (3, .int (y3)), (4, .float (y4)), (5, .float (y5)), (6, .float (y6)), (7, .float (y7)), (8, .float (y8)), (10, .int (z.2))]) []) : kx G (yX6_layFeatures.cls, cX6_layFeatures, 12, (Option.none : Option Jvm.ClassFile.FieldType), false, []) (2, 0, 0, Q, X) 0 0 (MP τ m ad a0.1) 148 (kF [(0, .ref m), (1, .int (y1)), (2, .int (y2)), (3, .int (y3)), (4, .float (y4)), (5, .float (y5)), (6, .float (y6)), (7, .float (y7)), (8, .float (y8)), (10, .int (a0.2.1)), (11, .int (a0.2.2))]) [] := by
  refine loopK_2_1 (B := B_layFeatures_148 y1 y2 y3 y4 y5 y6 y7 y8) (fun (a : TS) (a10 : Int32) (a11 : Int32) => kx G (yX6_layFeatures.cls, cX6_layFeatures, 12, (Option.none : Option Jvm.ClassFile.FieldType), false, []) (2, 0, 0, Q, X) 0 0 (MP τ m ad a) 148 (kF [(0, .ref m), (1, .int (y1)), (2, .int (y2)), (3, .int (y3)), (4, .float (y4)), (5, .float (y5)), (6, .float (y6)), (7, .float (y7)), (8, .float (y8)), (10, .int (a10)), (11, .int (a11))]) []) (fun (b : TS) (b10 : Int32) => kx G (yX6_layFeatures.cls, cX6_layFeatures, 12, (Option.none : Option Jvm.ClassFile.FieldType), false, []) (2, 0, 0, Q, X) 0 0 (MP τ m ad b) 192 (kF [(0, .ref m), (1, .int (y1)), (2, .int (y2)), (3, .int (y3)), (4, .float (y4)), (5, .float (y5)), (6, .float (y6)), (7, .float (y7)), (8, .float (y8)), (10, .int (b10))]) []) (fun a a10 a11 r h kI kE => ?_) _ _ _ h kk
  · unfold B_layFeatures_148 at h
    refine kx_iload dX6_layFeatures_148 rfl ?_
    refine kx_iload_n dX6_layFeatures_150 rfl rfl ?_
    refine kx_icmp_ge (tgt := 192) dX6_layFeatures_151 (by decide) (fun c => ?_) (fun c => ?_)
    · have h := if_t c h
      exact kx_lwF [(0, .ref m), (1, .int (y1)), (2, .int (y2)), (3, .int (y3)), (4, .float (y4)), (5, .float (y5)), (6, .float (y6)), (7, .float (y7)), (8, .float (y8)), (10, .int (a10))] ⟨rfl, rfl, rfl, rfl, rfl, rfl, rfl, rfl, rfl, rfl, trivial⟩ (kE (a) (a10) (Option.some.inj h).symm)
    · have h := if_f c h
      refine kx_iload dX6_layFeatures_154 rfl ?_
      refine kx_aload_n dX6_layFeatures_156 rfl rfl ?_
      refine kx_getf dX6_layFeatures_157 fl_X6_27_X6 kN_m rfl ?_
      refine kx_iload_n dX6_layFeatures_160 rfl rfl ?_
      refine kx_iload dX6_layFeatures_161 rfl ?_
      refine kx_iadd dX6_layFeatures_163 ?_
      refine kN_fld hd dX6_layFeatures_164 h (fun v148001 ev148001 h => ?_)
      obtain ⟨r148002, er148002, h⟩ := bd_s h
      refine kx_callS dX6_layFeatures_165 lk_X6_381 (mM_size hd er148002) rfl rfl (Nat.le_of_ble_eq_true rfl) (Nat.le_of_ble_eq_true rfl) (Nat.le_of_ble_eq_true rfl) (Nat.le_of_ble_eq_true rfl) (Nat.le_of_ble_eq_true rfl) (fun _ _ _ h => h.elim) (fun w_ σ_ hq => ?_)
      obtain ⟨rfl, rfl⟩ := hq
      refine kx_fload dX6_layFeatures_168 rfl ?_
      refine kx_ldcwf dX6_layFeatures_170 q3200 ?_
      refine kN_fmul dX6_layFeatures_173 h (fun v148003 ev148003 h => ?_)
      refine kx_fcmp dX6_layFeatures_174 ?_
      obtain ⟨r148004, er148004, h⟩ := bd_s h
      refine kN_j (MP τ m ad r148004.1) 183 [.int (r148004.2), .int (a10)] ?_ (fun jr148004 => ?_)
      · skip
        refine kx_iadd dX6_layFeatures_183 ?_
        refine kx_istore dX6_layFeatures_184 (Nat.le_of_ble_eq_true rfl) ?_
        refine kx_iinc2 (v := 1) dX6_layFeatures_186 rfl (by decide) ?_
        refine kx_goto (tgt := 148) dX6_layFeatures_189 (by decide) ?_
        exact kx_lwF [(0, .ref m), (1, .int (y1)), (2, .int (y2)), (3, .int (y3)), (4, .float (y4)), (5, .float (y5)), (6, .float (y6)), (7, .float (y7)), (8, .float (y8)), (10, .int ((a10 + r148004.2))), (11, .int ((a11 + (1 : Int32))))] ⟨rfl, rfl, rfl, rfl, rfl, rfl, rfl, rfl, rfl, rfl, rfl, trivial⟩ (kI (r148004.1) ((a10 + r148004.2)) ((a11 + (1 : Int32))) (Option.some.inj h).symm)
      · have h := er148004
        refine kx_if_gt (tgt := 182) dX6_layFeatures_175 (by decide) (fun c => ?_) (fun c => ?_)
        · have h := if_t c h
          refine kx_iconst (v := 0) dX6_layFeatures_182 (by decide) ?_
          exact jnI h jr148004
        · have h := if_f c h
          refine kx_iconst (v := 1) dX6_layFeatures_178 (by decide) ?_
          refine kx_goto (tgt := 183) dX6_layFeatures_179 (by decide) ?_
          exact jnI h jr148004
set_option maxHeartbeats 4000000 in
theorem mM_layFeatures {G : KG} {τ : KHp} {m : Nat} {ad : Nat → Nat} {s : TS} {x1 : Int32} {z : TS} (hd : Md m ad) (h : P_layFeatures s x1 = some z) : kx_c G yX6_layFeatures (ws_ yX6_layFeatures cX6_layFeatures 12 (Option.none : Option Jvm.ClassFile.FieldType)) 2 0 0 [.ref m, .int (x1)] (MP τ m ad s) (fun rv σ' => rv = none ∧ σ' = MP τ m ad z) kx_n := by
  refine kx_mk3 (ini := false) rfl (Nat.le_of_ble_eq_true rfl) (fun h => by cases h) (fun Q X hQ hX => ?_)
  unfold P_layFeatures at h
  refine kx_bipush (v := 38) dX6_layFeatures_0 (by decide) ?_
  refine kx_iload_n dX6_layFeatures_2 rfl rfl ?_
  refine kx_imul dX6_layFeatures_3 ?_
  refine kx_istore_n dX6_layFeatures_4 rfl (Nat.le_of_ble_eq_true rfl) ?_
  refine kx_aload_n dX6_layFeatures_5 rfl rfl ?_
  refine kx_getf dX6_layFeatures_6 fl_X6_17_X6 kN_m rfl ?_
  refine kx_iconst (v := 0) dX6_layFeatures_9 (by decide) ?_
  refine kN_ald hd dX6_layFeatures_10 h (fun v1 ev1 h => ?_)
  refine kx_istore_n dX6_layFeatures_11 rfl (Nat.le_of_ble_eq_true rfl) ?_
  refine kx_aload_n dX6_layFeatures_12 rfl rfl ?_
  refine kx_getf dX6_layFeatures_13 fl_X6_27_X6 kN_m rfl ?_
  refine kx_iload_n dX6_layFeatures_16 rfl rfl ?_
  refine kx_bipush (v := 32) dX6_layFeatures_17 (by decide) ?_
  refine kx_iadd dX6_layFeatures_19 ?_
  refine kx_iconst (v := 1) dX6_layFeatures_20 (by decide) ?_
  refine kx_iadd dX6_layFeatures_21 ?_
  refine kN_fld hd dX6_layFeatures_22 h (fun v2 ev2 h => ?_)
  refine kx_fstore dX6_layFeatures_23 (Nat.le_of_ble_eq_true rfl) ?_
  refine kx_fconst0 dX6_layFeatures_25 ?_
  refine kx_fstore dX6_layFeatures_26 (Nat.le_of_ble_eq_true rfl) ?_
  refine kx_fconst0 dX6_layFeatures_28 ?_
  refine kx_fstore dX6_layFeatures_29 (Nat.le_of_ble_eq_true rfl) ?_
  refine kx_fconst0 dX6_layFeatures_31 ?_
  refine kx_fstore dX6_layFeatures_32 (Nat.le_of_ble_eq_true rfl) ?_
  refine kx_fconst0 dX6_layFeatures_34 ?_
  refine kx_fstore dX6_layFeatures_35 (Nat.le_of_ble_eq_true rfl) ?_
  refine kx_fconst0 dX6_layFeatures_37 ?_
  refine kx_fstore dX6_layFeatures_38 (Nat.le_of_ble_eq_true rfl) ?_
  refine kx_iconst (v := 0) dX6_layFeatures_40 (by decide) ?_
  refine kx_istore dX6_layFeatures_41 (Nat.le_of_ble_eq_true rfl) ?_
  obtain ⟨b3, eb3, h⟩ := bd_s h
  refine kx_lwF [(0, .ref m), (1, .int (x1)), (2, .int (((38 : Int32) * x1))), (3, .int (v1)), (4, .float (v2)), (5, .float (FP.fconst0)), (6, .float (FP.fconst0)), (7, .float (FP.fconst0)), (8, .float (FP.fconst0)), (9, .float (FP.fconst0)), (10, .int ((0 : Int32)))] ⟨rfl, rfl, rfl, rfl, rfl, rfl, rfl, rfl, rfl, rfl, rfl, trivial⟩ (mL_layFeatures_43 hd (a0 := (s, FP.fconst0, FP.fconst0, FP.fconst0, FP.fconst0, FP.fconst0, (0 : Int32))) eb3 ?_)
  refine kx_iconst (v := 0) dX6_layFeatures_142 (by decide) ?_
  refine kx_istore dX6_layFeatures_143 (Nat.le_of_ble_eq_true rfl) ?_
  refine kx_iconst (v := 0) dX6_layFeatures_145 (by decide) ?_
  refine kx_istore dX6_layFeatures_146 (Nat.le_of_ble_eq_true rfl) ?_
  obtain ⟨b4, eb4, h⟩ := bd_s h
  refine kx_lwF [(0, .ref m), (1, .int (x1)), (2, .int (((38 : Int32) * x1))), (3, .int (v1)), (4, .float (v2)), (5, .float (b3.2.1)), (6, .float (b3.2.2.1)), (7, .float (b3.2.2.2.1)), (8, .float (b3.2.2.2.2)), (10, .int ((0 : Int32))), (11, .int ((0 : Int32)))] ⟨rfl, rfl, rfl, rfl, rfl, rfl, rfl, rfl, rfl, rfl, rfl, trivial⟩ (mL_layFeatures_148 hd (a0 := (b3.1, (0 : Int32), (0 : Int32))) eb4 ?_)
  refine kx_fload dX6_layFeatures_192 rfl ?_
  refine kx_iload_n dX6_layFeatures_194 rfl rfl ?_
  refine kx_i2f dX6_layFeatures_195 ?_
  refine kN_fdiv dX6_layFeatures_196 h (fun v5 ev5 h => ?_)
  refine kx_fstore dX6_layFeatures_197 (Nat.le_of_ble_eq_true rfl) ?_
  refine kx_aload_n dX6_layFeatures_199 rfl rfl ?_
  refine kx_getf dX6_layFeatures_200 fl_X6_27_X6 kN_m rfl ?_
  refine kx_iload_n dX6_layFeatures_203 rfl rfl ?_
  refine kx_bipush (v := 32) dX6_layFeatures_204 (by decide) ?_
  refine kx_iadd dX6_layFeatures_206 ?_
  refine kx_iconst (v := 0) dX6_layFeatures_207 (by decide) ?_
  refine kx_iadd dX6_layFeatures_208 ?_
  refine kx_fload dX6_layFeatures_209 rfl ?_
  refine kN_fst hd dX6_layFeatures_211 h (fun s6 es6 h => ?_)
  refine kx_aload_n dX6_layFeatures_212 rfl rfl ?_
  refine kx_getf dX6_layFeatures_213 fl_X6_27_X6 kN_m rfl ?_
  refine kx_iload_n dX6_layFeatures_216 rfl rfl ?_
  refine kx_bipush (v := 32) dX6_layFeatures_217 (by decide) ?_
  refine kx_iadd dX6_layFeatures_219 ?_
  refine kx_iconst (v := 1) dX6_layFeatures_220 (by decide) ?_
  refine kx_iadd dX6_layFeatures_221 ?_
  refine kx_fload dX6_layFeatures_222 rfl ?_
  refine kN_fst hd dX6_layFeatures_224 h (fun s7 es7 h => ?_)
  refine kx_aload_n dX6_layFeatures_225 rfl rfl ?_
  refine kx_getf dX6_layFeatures_226 fl_X6_27_X6 kN_m rfl ?_
  refine kx_iload_n dX6_layFeatures_229 rfl rfl ?_
  refine kx_bipush (v := 32) dX6_layFeatures_230 (by decide) ?_
  refine kx_iadd dX6_layFeatures_232 ?_
  refine kx_iconst (v := 2) dX6_layFeatures_233 (by decide) ?_
  refine kx_iadd dX6_layFeatures_234 ?_
  refine kx_iload dX6_layFeatures_235 rfl ?_
  refine kx_i2f dX6_layFeatures_237 ?_
  refine kN_fst hd dX6_layFeatures_238 h (fun s8 es8 h => ?_)
  refine kx_aload_n dX6_layFeatures_239 rfl rfl ?_
  refine kx_getf dX6_layFeatures_240 fl_X6_27_X6 kN_m rfl ?_
  refine kx_iload_n dX6_layFeatures_243 rfl rfl ?_
  refine kx_bipush (v := 32) dX6_layFeatures_244 (by decide) ?_
  refine kx_iadd dX6_layFeatures_246 ?_
  refine kx_iconst (v := 3) dX6_layFeatures_247 (by decide) ?_
  refine kx_iadd dX6_layFeatures_248 ?_
  refine kx_fload dX6_layFeatures_249 rfl ?_
  refine kN_fst hd dX6_layFeatures_251 h (fun s9 es9 h => ?_)
  refine kx_aload_n dX6_layFeatures_252 rfl rfl ?_
  refine kx_getf dX6_layFeatures_253 fl_X6_27_X6 kN_m rfl ?_
  refine kx_iload_n dX6_layFeatures_256 rfl rfl ?_
  refine kx_bipush (v := 32) dX6_layFeatures_257 (by decide) ?_
  refine kx_iadd dX6_layFeatures_259 ?_
  refine kx_iconst (v := 4) dX6_layFeatures_260 (by decide) ?_
  refine kx_iadd dX6_layFeatures_261 ?_
  refine kx_aload_n dX6_layFeatures_262 rfl rfl ?_
  refine kx_iload_n dX6_layFeatures_263 rfl rfl ?_
  refine kx_iconst (v := 5) dX6_layFeatures_264 (by decide) ?_
  obtain ⟨r10, er10, h⟩ := bd_s h
  refine kx_callV dX6_layFeatures_265 lk_X6_70 (mM_ofBranch hd er10) rfl kN_rc rfl (Nat.le_of_ble_eq_true rfl) (Nat.le_of_ble_eq_true rfl) (Nat.le_of_ble_eq_true rfl) (Nat.le_of_ble_eq_true rfl) (Nat.le_of_ble_eq_true rfl) (fun _ _ _ h => h.elim) (fun w_ σ_ hq => ?_)
  obtain ⟨rfl, rfl⟩ := hq
  obtain ⟨r11, er11, h⟩ := bd_s h
  refine kN_j (MP τ m ad r11.1) 283 [.float (r11.2), .int (((((38 : Int32) * x1) + (32 : Int32)) + (4 : Int32))), .ref (ad (4))] ?_ (fun jr11 => ?_)
  · skip
    refine kN_fst hd dX6_layFeatures_283 h (fun s14 es14 h => ?_)
    refine kx_aload_n dX6_layFeatures_284 rfl rfl ?_
    refine kx_getf dX6_layFeatures_285 fl_X6_27_X6 kN_m rfl ?_
    refine kx_iload_n dX6_layFeatures_288 rfl rfl ?_
    refine kx_bipush (v := 32) dX6_layFeatures_289 (by decide) ?_
    refine kx_iadd dX6_layFeatures_291 ?_
    refine kx_iconst (v := 5) dX6_layFeatures_292 (by decide) ?_
    refine kx_iadd dX6_layFeatures_293 ?_
    refine kx_fload dX6_layFeatures_294 rfl ?_
    refine kx_iload_n dX6_layFeatures_296 rfl rfl ?_
    refine kx_i2f dX6_layFeatures_297 ?_
    refine kN_fdiv dX6_layFeatures_298 h (fun v15 ev15 h => ?_)
    refine kN_fst hd dX6_layFeatures_299 h (fun s16 es16 h => ?_)
    exact kx_vret dX6_layFeatures_300 rfl (hQ _ _ (rtV (Option.some.inj h)))
  · have h := er11
    refine kx_if_ne (tgt := 275) dX6_layFeatures_268 (by decide) (fun c => ?_) (fun c => ?_)
    · have h := if_f c h
      refine kx_fload dX6_layFeatures_275 rfl ?_
      refine kx_fload dX6_layFeatures_277 rfl ?_
      refine kN_fsub dX6_layFeatures_279 h (fun v12 ev12 h => ?_)
      obtain ⟨r13, er13, h⟩ := bd_s h
      refine kx_callS dX6_layFeatures_280 lk_X6_381 (mM_size hd er13) rfl rfl (Nat.le_of_ble_eq_true rfl) (Nat.le_of_ble_eq_true rfl) (Nat.le_of_ble_eq_true rfl) (Nat.le_of_ble_eq_true rfl) (Nat.le_of_ble_eq_true rfl) (fun _ _ _ h => h.elim) (fun w_ σ_ hq => ?_)
      obtain ⟨rfl, rfl⟩ := hq
      exact jnF h jr11
    · have h := if_t c h
      refine kx_fconst0 dX6_layFeatures_271 ?_
      refine kx_goto (tgt := 283) dX6_layFeatures_272 (by decide) ?_
      exact jnF h jr11
